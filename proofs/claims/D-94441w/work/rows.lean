section
/-! DECODE ROWS BY BYTES: one lemma an opcode; a method's code is cut into short pieces once, and a row reads its own piece alone. -/
set_option maxRecDepth 100000
/-- the code has just these bytes from pc on -/
def DkAt (code : ByteArray) (pc : Nat) (bs : List UInt8) : Prop := ∀ (j : Nat) (b : UInt8), bs[j]? = some b → code.data.toList[pc + j]? = some b
/-- the piece W has the bytes bs from its place j on -/
def dkIn (W : List UInt8) (j : Nat) (bs : List UInt8) : Bool := decide ((W.drop j).take bs.length = bs)
theorem dk_seg {l W T : List UInt8} {o o2 : Nat} (h : l.drop o = W ++ T) (n : Nat) (hn : W.length = n) (ho : o + n = o2) : l.drop o2 = T := by
  subst ho
  rw [← List.drop_drop, h, List.drop_left' hn]
theorem dk_at {code : ByteArray} {W T bs : List UInt8} {o pc : Nat} (h : code.data.toList.drop o = W ++ T) (j : Nat) (hp : o + j = pc) (hw : dkIn W j bs = true) : DkAt code pc bs := by
  subst hp
  intro i b e
  have h1 := of_decide_eq_true hw
  have h2 : i < bs.length := (List.getElem?_eq_some_iff.mp e).1
  have h3 : W[j + i]? = some b := by
    rw [← h1, List.getElem?_take, if_pos h2, List.getElem?_drop] at e
    exact e
  have h4 : j + i < W.length := (List.getElem?_eq_some_iff.mp h3).1
  have h5 : (code.data.toList.drop o)[j + i]? = some b := by
    rw [h, List.getElem?_append_left h4]
    exact h3
  rw [List.getElem?_drop, ← Nat.add_assoc] at h5
  exact h5
theorem dk_u1 {A : ByteArray} {p : Nat} {b : UInt8} (h : A.data.toList[p]? = some b) : (Reader.u1 : Reader DecodeError Nat) A p = .ok (b.toNat, p + 1) := by
  obtain ⟨h1, h2⟩ := List.getElem?_eq_some_iff.mp h
  have h3 : p < A.size := by simpa using h1
  have h4 : A[p]'h3 = b := h2
  have e : (Reader.u1 : Reader DecodeError Nat) A p = (if h : p < A.size then .ok (A[p].toNat, p + 1) else .error (HasTruncated.truncated p)) := by
    show (do if h : p < A.size then do set (p + 1); Pure.pure A[p].toNat else MonadExcept.throw (HasTruncated.truncated p) : Reader DecodeError Nat) A p = _
    by_cases hi : p < A.size
    · rw [dif_pos hi, dif_pos hi]; rfl
    · rw [dif_neg hi, dif_neg hi]; rfl
  rw [e, dif_pos h3, h4]
theorem dk_bind {α β : Type} {r : Reader DecodeError α} {f : α → Reader DecodeError β} {A : ByteArray} {p s : Nat} {a : α} (h : r A p = .ok (a, s)) : (r >>= f) A p = f a A s := by
  show (do let (a, s) ← r A p; f a A s : Except DecodeError (β × Nat)) = _
  rw [h]
  rfl
theorem dk_map {α β : Type} {r : Reader DecodeError α} {g : α → β} {A : ByteArray} {p s : Nat} {a : α} (h : r A p = .ok (a, s)) : (g <$> r) A p = .ok (g a, s) := by
  show (do let (a, s) ← r A p; .ok (g a, s) : Except DecodeError (β × Nat)) = _
  rw [h]
  rfl
theorem dk_u2 {A : ByteArray} {p : Nat} {a b : UInt8} (h : A.data.toList[p]? = some a) (h2 : A.data.toList[p + 1]? = some b) : (Reader.u2 : Reader DecodeError Nat) A p = .ok (a.toNat * 256 + b.toNat, p + 2) := by
  show (Reader.u1 >>= fun hi => Reader.u1 >>= fun lo => Pure.pure (hi * 256 + lo) : Reader DecodeError Nat) A p = _
  rw [dk_bind (dk_u1 h), dk_bind (dk_u1 h2)]
  rfl
theorem dk_of {code : ByteArray} {pc n : Nat} {i : Instr} (h : Decoder.instr pc code pc = .ok (i, pc + n)) : decode code pc = .ok (i, n) := by
  have e : decode code pc = (match Decoder.instr pc code pc with | .error x => .error x | .ok (j, s) => .ok (j, s - pc)) := by
    show (do let (j, s) ← Decoder.instr pc code pc; Pure.pure (j, s - pc) : Except DecodeError (Instr × Nat)) = _
    cases Decoder.instr pc code pc <;> rfl
  rw [e, h]
  show Except.ok (i, pc + n - pc) = _
  rw [Nat.add_sub_cancel_left]
theorem dk_1 {code : ByteArray} {pc : Nat} (h : DkAt code pc [1]) : decode code pc = .ok (.aconst_null, 1) := dk_of ((dk_bind (dk_u1 (h 0 _ rfl))).trans rfl)
theorem dk_2 {code : ByteArray} {pc : Nat} (h : DkAt code pc [2]) : decode code pc = .ok (.iconst (-1), 1) := dk_of ((dk_bind (dk_u1 (h 0 _ rfl))).trans rfl)
theorem dk_3 {code : ByteArray} {pc : Nat} (h : DkAt code pc [3]) : decode code pc = .ok (.iconst 0, 1) := dk_of ((dk_bind (dk_u1 (h 0 _ rfl))).trans rfl)
theorem dk_4 {code : ByteArray} {pc : Nat} (h : DkAt code pc [4]) : decode code pc = .ok (.iconst 1, 1) := dk_of ((dk_bind (dk_u1 (h 0 _ rfl))).trans rfl)
theorem dk_5 {code : ByteArray} {pc : Nat} (h : DkAt code pc [5]) : decode code pc = .ok (.iconst 2, 1) := dk_of ((dk_bind (dk_u1 (h 0 _ rfl))).trans rfl)
theorem dk_6 {code : ByteArray} {pc : Nat} (h : DkAt code pc [6]) : decode code pc = .ok (.iconst 3, 1) := dk_of ((dk_bind (dk_u1 (h 0 _ rfl))).trans rfl)
theorem dk_7 {code : ByteArray} {pc : Nat} (h : DkAt code pc [7]) : decode code pc = .ok (.iconst 4, 1) := dk_of ((dk_bind (dk_u1 (h 0 _ rfl))).trans rfl)
theorem dk_8 {code : ByteArray} {pc : Nat} (h : DkAt code pc [8]) : decode code pc = .ok (.iconst 5, 1) := dk_of ((dk_bind (dk_u1 (h 0 _ rfl))).trans rfl)
theorem dk_9 {code : ByteArray} {pc : Nat} (h : DkAt code pc [9]) : decode code pc = .ok (.lconst 0, 1) := dk_of ((dk_bind (dk_u1 (h 0 _ rfl))).trans rfl)
theorem dk_10 {code : ByteArray} {pc : Nat} (h : DkAt code pc [10]) : decode code pc = .ok (.lconst 1, 1) := dk_of ((dk_bind (dk_u1 (h 0 _ rfl))).trans rfl)
theorem dk_16 {code : ByteArray} {pc : Nat} (a : UInt8) (h : DkAt code pc [16, a]) : decode code pc = .ok (.bipush (Reader.signed 8 a.toNat), 2) := dk_of ((dk_bind (dk_u1 (h 0 _ rfl))).trans ((dk_bind (dk_map (dk_u1 (h 1 _ rfl)))).trans rfl))
theorem dk_17 {code : ByteArray} {pc : Nat} (a b : UInt8) (h : DkAt code pc [17, a, b]) : decode code pc = .ok (.sipush (Reader.signed 16 (a.toNat * 256 + b.toNat)), 3) := dk_of ((dk_bind (dk_u1 (h 0 _ rfl))).trans ((dk_bind (dk_map (dk_u2 (h 1 _ rfl) (h 2 _ rfl)))).trans rfl))
theorem dk_18 {code : ByteArray} {pc : Nat} (a : UInt8) (h : DkAt code pc [18, a]) : decode code pc = .ok (.ldc a.toNat, 2) := dk_of ((dk_bind (dk_u1 (h 0 _ rfl))).trans ((dk_bind (dk_u1 (h 1 _ rfl))).trans rfl))
theorem dk_19 {code : ByteArray} {pc : Nat} (a b : UInt8) (h : DkAt code pc [19, a, b]) : decode code pc = .ok (.ldc_w (a.toNat * 256 + b.toNat), 3) := dk_of ((dk_bind (dk_u1 (h 0 _ rfl))).trans ((dk_bind (dk_u2 (h 1 _ rfl) (h 2 _ rfl))).trans rfl))
theorem dk_20 {code : ByteArray} {pc : Nat} (a b : UInt8) (h : DkAt code pc [20, a, b]) : decode code pc = .ok (.ldc2_w (a.toNat * 256 + b.toNat), 3) := dk_of ((dk_bind (dk_u1 (h 0 _ rfl))).trans ((dk_bind (dk_u2 (h 1 _ rfl) (h 2 _ rfl))).trans rfl))
theorem dk_21 {code : ByteArray} {pc : Nat} (a : UInt8) (h : DkAt code pc [21, a]) : decode code pc = .ok (.iload a.toNat, 2) := dk_of ((dk_bind (dk_u1 (h 0 _ rfl))).trans ((dk_bind (dk_u1 (h 1 _ rfl))).trans rfl))
theorem dk_22 {code : ByteArray} {pc : Nat} (a : UInt8) (h : DkAt code pc [22, a]) : decode code pc = .ok (.lload a.toNat, 2) := dk_of ((dk_bind (dk_u1 (h 0 _ rfl))).trans ((dk_bind (dk_u1 (h 1 _ rfl))).trans rfl))
theorem dk_25 {code : ByteArray} {pc : Nat} (a : UInt8) (h : DkAt code pc [25, a]) : decode code pc = .ok (.aload a.toNat, 2) := dk_of ((dk_bind (dk_u1 (h 0 _ rfl))).trans ((dk_bind (dk_u1 (h 1 _ rfl))).trans rfl))
theorem dk_26 {code : ByteArray} {pc : Nat} (h : DkAt code pc [26]) : decode code pc = .ok (.iload_n 0, 1) := dk_of ((dk_bind (dk_u1 (h 0 _ rfl))).trans rfl)
theorem dk_27 {code : ByteArray} {pc : Nat} (h : DkAt code pc [27]) : decode code pc = .ok (.iload_n 1, 1) := dk_of ((dk_bind (dk_u1 (h 0 _ rfl))).trans rfl)
theorem dk_28 {code : ByteArray} {pc : Nat} (h : DkAt code pc [28]) : decode code pc = .ok (.iload_n 2, 1) := dk_of ((dk_bind (dk_u1 (h 0 _ rfl))).trans rfl)
theorem dk_29 {code : ByteArray} {pc : Nat} (h : DkAt code pc [29]) : decode code pc = .ok (.iload_n 3, 1) := dk_of ((dk_bind (dk_u1 (h 0 _ rfl))).trans rfl)
theorem dk_30 {code : ByteArray} {pc : Nat} (h : DkAt code pc [30]) : decode code pc = .ok (.lload_n 0, 1) := dk_of ((dk_bind (dk_u1 (h 0 _ rfl))).trans rfl)
theorem dk_31 {code : ByteArray} {pc : Nat} (h : DkAt code pc [31]) : decode code pc = .ok (.lload_n 1, 1) := dk_of ((dk_bind (dk_u1 (h 0 _ rfl))).trans rfl)
theorem dk_32 {code : ByteArray} {pc : Nat} (h : DkAt code pc [32]) : decode code pc = .ok (.lload_n 2, 1) := dk_of ((dk_bind (dk_u1 (h 0 _ rfl))).trans rfl)
theorem dk_42 {code : ByteArray} {pc : Nat} (h : DkAt code pc [42]) : decode code pc = .ok (.aload_n 0, 1) := dk_of ((dk_bind (dk_u1 (h 0 _ rfl))).trans rfl)
theorem dk_43 {code : ByteArray} {pc : Nat} (h : DkAt code pc [43]) : decode code pc = .ok (.aload_n 1, 1) := dk_of ((dk_bind (dk_u1 (h 0 _ rfl))).trans rfl)
theorem dk_44 {code : ByteArray} {pc : Nat} (h : DkAt code pc [44]) : decode code pc = .ok (.aload_n 2, 1) := dk_of ((dk_bind (dk_u1 (h 0 _ rfl))).trans rfl)
theorem dk_45 {code : ByteArray} {pc : Nat} (h : DkAt code pc [45]) : decode code pc = .ok (.aload_n 3, 1) := dk_of ((dk_bind (dk_u1 (h 0 _ rfl))).trans rfl)
theorem dk_46 {code : ByteArray} {pc : Nat} (h : DkAt code pc [46]) : decode code pc = .ok (.iaload, 1) := dk_of ((dk_bind (dk_u1 (h 0 _ rfl))).trans rfl)
theorem dk_47 {code : ByteArray} {pc : Nat} (h : DkAt code pc [47]) : decode code pc = .ok (.laload, 1) := dk_of ((dk_bind (dk_u1 (h 0 _ rfl))).trans rfl)
theorem dk_50 {code : ByteArray} {pc : Nat} (h : DkAt code pc [50]) : decode code pc = .ok (.aaload, 1) := dk_of ((dk_bind (dk_u1 (h 0 _ rfl))).trans rfl)
theorem dk_51 {code : ByteArray} {pc : Nat} (h : DkAt code pc [51]) : decode code pc = .ok (.baload, 1) := dk_of ((dk_bind (dk_u1 (h 0 _ rfl))).trans rfl)
theorem dk_54 {code : ByteArray} {pc : Nat} (a : UInt8) (h : DkAt code pc [54, a]) : decode code pc = .ok (.istore a.toNat, 2) := dk_of ((dk_bind (dk_u1 (h 0 _ rfl))).trans ((dk_bind (dk_u1 (h 1 _ rfl))).trans rfl))
theorem dk_55 {code : ByteArray} {pc : Nat} (a : UInt8) (h : DkAt code pc [55, a]) : decode code pc = .ok (.lstore a.toNat, 2) := dk_of ((dk_bind (dk_u1 (h 0 _ rfl))).trans ((dk_bind (dk_u1 (h 1 _ rfl))).trans rfl))
theorem dk_58 {code : ByteArray} {pc : Nat} (a : UInt8) (h : DkAt code pc [58, a]) : decode code pc = .ok (.astore a.toNat, 2) := dk_of ((dk_bind (dk_u1 (h 0 _ rfl))).trans ((dk_bind (dk_u1 (h 1 _ rfl))).trans rfl))
theorem dk_59 {code : ByteArray} {pc : Nat} (h : DkAt code pc [59]) : decode code pc = .ok (.istore_n 0, 1) := dk_of ((dk_bind (dk_u1 (h 0 _ rfl))).trans rfl)
theorem dk_60 {code : ByteArray} {pc : Nat} (h : DkAt code pc [60]) : decode code pc = .ok (.istore_n 1, 1) := dk_of ((dk_bind (dk_u1 (h 0 _ rfl))).trans rfl)
theorem dk_61 {code : ByteArray} {pc : Nat} (h : DkAt code pc [61]) : decode code pc = .ok (.istore_n 2, 1) := dk_of ((dk_bind (dk_u1 (h 0 _ rfl))).trans rfl)
theorem dk_62 {code : ByteArray} {pc : Nat} (h : DkAt code pc [62]) : decode code pc = .ok (.istore_n 3, 1) := dk_of ((dk_bind (dk_u1 (h 0 _ rfl))).trans rfl)
theorem dk_63 {code : ByteArray} {pc : Nat} (h : DkAt code pc [63]) : decode code pc = .ok (.lstore_n 0, 1) := dk_of ((dk_bind (dk_u1 (h 0 _ rfl))).trans rfl)
theorem dk_65 {code : ByteArray} {pc : Nat} (h : DkAt code pc [65]) : decode code pc = .ok (.lstore_n 2, 1) := dk_of ((dk_bind (dk_u1 (h 0 _ rfl))).trans rfl)
theorem dk_76 {code : ByteArray} {pc : Nat} (h : DkAt code pc [76]) : decode code pc = .ok (.astore_n 1, 1) := dk_of ((dk_bind (dk_u1 (h 0 _ rfl))).trans rfl)
theorem dk_77 {code : ByteArray} {pc : Nat} (h : DkAt code pc [77]) : decode code pc = .ok (.astore_n 2, 1) := dk_of ((dk_bind (dk_u1 (h 0 _ rfl))).trans rfl)
theorem dk_78 {code : ByteArray} {pc : Nat} (h : DkAt code pc [78]) : decode code pc = .ok (.astore_n 3, 1) := dk_of ((dk_bind (dk_u1 (h 0 _ rfl))).trans rfl)
theorem dk_79 {code : ByteArray} {pc : Nat} (h : DkAt code pc [79]) : decode code pc = .ok (.iastore, 1) := dk_of ((dk_bind (dk_u1 (h 0 _ rfl))).trans rfl)
theorem dk_80 {code : ByteArray} {pc : Nat} (h : DkAt code pc [80]) : decode code pc = .ok (.lastore, 1) := dk_of ((dk_bind (dk_u1 (h 0 _ rfl))).trans rfl)
theorem dk_83 {code : ByteArray} {pc : Nat} (h : DkAt code pc [83]) : decode code pc = .ok (.aastore, 1) := dk_of ((dk_bind (dk_u1 (h 0 _ rfl))).trans rfl)
theorem dk_84 {code : ByteArray} {pc : Nat} (h : DkAt code pc [84]) : decode code pc = .ok (.bastore, 1) := dk_of ((dk_bind (dk_u1 (h 0 _ rfl))).trans rfl)
theorem dk_87 {code : ByteArray} {pc : Nat} (h : DkAt code pc [87]) : decode code pc = .ok (.pop, 1) := dk_of ((dk_bind (dk_u1 (h 0 _ rfl))).trans rfl)
theorem dk_89 {code : ByteArray} {pc : Nat} (h : DkAt code pc [89]) : decode code pc = .ok (.dup, 1) := dk_of ((dk_bind (dk_u1 (h 0 _ rfl))).trans rfl)
theorem dk_90 {code : ByteArray} {pc : Nat} (h : DkAt code pc [90]) : decode code pc = .ok (.dup_x1, 1) := dk_of ((dk_bind (dk_u1 (h 0 _ rfl))).trans rfl)
theorem dk_92 {code : ByteArray} {pc : Nat} (h : DkAt code pc [92]) : decode code pc = .ok (.dup2, 1) := dk_of ((dk_bind (dk_u1 (h 0 _ rfl))).trans rfl)
theorem dk_96 {code : ByteArray} {pc : Nat} (h : DkAt code pc [96]) : decode code pc = .ok (.iadd, 1) := dk_of ((dk_bind (dk_u1 (h 0 _ rfl))).trans rfl)
theorem dk_97 {code : ByteArray} {pc : Nat} (h : DkAt code pc [97]) : decode code pc = .ok (.ladd, 1) := dk_of ((dk_bind (dk_u1 (h 0 _ rfl))).trans rfl)
theorem dk_100 {code : ByteArray} {pc : Nat} (h : DkAt code pc [100]) : decode code pc = .ok (.isub, 1) := dk_of ((dk_bind (dk_u1 (h 0 _ rfl))).trans rfl)
theorem dk_101 {code : ByteArray} {pc : Nat} (h : DkAt code pc [101]) : decode code pc = .ok (.lsub, 1) := dk_of ((dk_bind (dk_u1 (h 0 _ rfl))).trans rfl)
theorem dk_104 {code : ByteArray} {pc : Nat} (h : DkAt code pc [104]) : decode code pc = .ok (.imul, 1) := dk_of ((dk_bind (dk_u1 (h 0 _ rfl))).trans rfl)
theorem dk_105 {code : ByteArray} {pc : Nat} (h : DkAt code pc [105]) : decode code pc = .ok (.lmul, 1) := dk_of ((dk_bind (dk_u1 (h 0 _ rfl))).trans rfl)
theorem dk_108 {code : ByteArray} {pc : Nat} (h : DkAt code pc [108]) : decode code pc = .ok (.idiv, 1) := dk_of ((dk_bind (dk_u1 (h 0 _ rfl))).trans rfl)
theorem dk_109 {code : ByteArray} {pc : Nat} (h : DkAt code pc [109]) : decode code pc = .ok (.ldiv, 1) := dk_of ((dk_bind (dk_u1 (h 0 _ rfl))).trans rfl)
theorem dk_112 {code : ByteArray} {pc : Nat} (h : DkAt code pc [112]) : decode code pc = .ok (.irem, 1) := dk_of ((dk_bind (dk_u1 (h 0 _ rfl))).trans rfl)
theorem dk_113 {code : ByteArray} {pc : Nat} (h : DkAt code pc [113]) : decode code pc = .ok (.lrem, 1) := dk_of ((dk_bind (dk_u1 (h 0 _ rfl))).trans rfl)
theorem dk_116 {code : ByteArray} {pc : Nat} (h : DkAt code pc [116]) : decode code pc = .ok (.ineg, 1) := dk_of ((dk_bind (dk_u1 (h 0 _ rfl))).trans rfl)
theorem dk_117 {code : ByteArray} {pc : Nat} (h : DkAt code pc [117]) : decode code pc = .ok (.lneg, 1) := dk_of ((dk_bind (dk_u1 (h 0 _ rfl))).trans rfl)
theorem dk_120 {code : ByteArray} {pc : Nat} (h : DkAt code pc [120]) : decode code pc = .ok (.ishl, 1) := dk_of ((dk_bind (dk_u1 (h 0 _ rfl))).trans rfl)
theorem dk_121 {code : ByteArray} {pc : Nat} (h : DkAt code pc [121]) : decode code pc = .ok (.lshl, 1) := dk_of ((dk_bind (dk_u1 (h 0 _ rfl))).trans rfl)
theorem dk_122 {code : ByteArray} {pc : Nat} (h : DkAt code pc [122]) : decode code pc = .ok (.ishr, 1) := dk_of ((dk_bind (dk_u1 (h 0 _ rfl))).trans rfl)
theorem dk_123 {code : ByteArray} {pc : Nat} (h : DkAt code pc [123]) : decode code pc = .ok (.lshr, 1) := dk_of ((dk_bind (dk_u1 (h 0 _ rfl))).trans rfl)
theorem dk_124 {code : ByteArray} {pc : Nat} (h : DkAt code pc [124]) : decode code pc = .ok (.iushr, 1) := dk_of ((dk_bind (dk_u1 (h 0 _ rfl))).trans rfl)
theorem dk_125 {code : ByteArray} {pc : Nat} (h : DkAt code pc [125]) : decode code pc = .ok (.lushr, 1) := dk_of ((dk_bind (dk_u1 (h 0 _ rfl))).trans rfl)
theorem dk_126 {code : ByteArray} {pc : Nat} (h : DkAt code pc [126]) : decode code pc = .ok (.iand, 1) := dk_of ((dk_bind (dk_u1 (h 0 _ rfl))).trans rfl)
theorem dk_127 {code : ByteArray} {pc : Nat} (h : DkAt code pc [127]) : decode code pc = .ok (.land, 1) := dk_of ((dk_bind (dk_u1 (h 0 _ rfl))).trans rfl)
theorem dk_128 {code : ByteArray} {pc : Nat} (h : DkAt code pc [128]) : decode code pc = .ok (.ior, 1) := dk_of ((dk_bind (dk_u1 (h 0 _ rfl))).trans rfl)
theorem dk_129 {code : ByteArray} {pc : Nat} (h : DkAt code pc [129]) : decode code pc = .ok (.lor, 1) := dk_of ((dk_bind (dk_u1 (h 0 _ rfl))).trans rfl)
theorem dk_130 {code : ByteArray} {pc : Nat} (h : DkAt code pc [130]) : decode code pc = .ok (.ixor, 1) := dk_of ((dk_bind (dk_u1 (h 0 _ rfl))).trans rfl)
theorem dk_131 {code : ByteArray} {pc : Nat} (h : DkAt code pc [131]) : decode code pc = .ok (.lxor, 1) := dk_of ((dk_bind (dk_u1 (h 0 _ rfl))).trans rfl)
theorem dk_132 {code : ByteArray} {pc : Nat} (a b : UInt8) (h : DkAt code pc [132, a, b]) : decode code pc = .ok (.iinc a.toNat (Reader.signed 8 b.toNat), 3) := dk_of ((dk_bind (dk_u1 (h 0 _ rfl))).trans ((dk_bind (dk_u1 (h 1 _ rfl))).trans ((dk_bind (dk_map (dk_u1 (h 2 _ rfl)))).trans rfl)))
theorem dk_133 {code : ByteArray} {pc : Nat} (h : DkAt code pc [133]) : decode code pc = .ok (.i2l, 1) := dk_of ((dk_bind (dk_u1 (h 0 _ rfl))).trans rfl)
theorem dk_136 {code : ByteArray} {pc : Nat} (h : DkAt code pc [136]) : decode code pc = .ok (.l2i, 1) := dk_of ((dk_bind (dk_u1 (h 0 _ rfl))).trans rfl)
theorem dk_145 {code : ByteArray} {pc : Nat} (h : DkAt code pc [145]) : decode code pc = .ok (.i2b, 1) := dk_of ((dk_bind (dk_u1 (h 0 _ rfl))).trans rfl)
theorem dk_146 {code : ByteArray} {pc : Nat} (h : DkAt code pc [146]) : decode code pc = .ok (.i2c, 1) := dk_of ((dk_bind (dk_u1 (h 0 _ rfl))).trans rfl)
theorem dk_148 {code : ByteArray} {pc : Nat} (h : DkAt code pc [148]) : decode code pc = .ok (.lcmp, 1) := dk_of ((dk_bind (dk_u1 (h 0 _ rfl))).trans rfl)
theorem dk_153 {code : ByteArray} {pc : Nat} (a b : UInt8) (h : DkAt code pc [153, a, b]) : decode code pc = .ok (.ifCond .eq (Reader.signed 16 (a.toNat * 256 + b.toNat)), 3) := dk_of ((dk_bind (dk_u1 (h 0 _ rfl))).trans ((dk_bind (dk_map (dk_u2 (h 1 _ rfl) (h 2 _ rfl)))).trans rfl))
theorem dk_154 {code : ByteArray} {pc : Nat} (a b : UInt8) (h : DkAt code pc [154, a, b]) : decode code pc = .ok (.ifCond .ne (Reader.signed 16 (a.toNat * 256 + b.toNat)), 3) := dk_of ((dk_bind (dk_u1 (h 0 _ rfl))).trans ((dk_bind (dk_map (dk_u2 (h 1 _ rfl) (h 2 _ rfl)))).trans rfl))
theorem dk_155 {code : ByteArray} {pc : Nat} (a b : UInt8) (h : DkAt code pc [155, a, b]) : decode code pc = .ok (.ifCond .lt (Reader.signed 16 (a.toNat * 256 + b.toNat)), 3) := dk_of ((dk_bind (dk_u1 (h 0 _ rfl))).trans ((dk_bind (dk_map (dk_u2 (h 1 _ rfl) (h 2 _ rfl)))).trans rfl))
theorem dk_156 {code : ByteArray} {pc : Nat} (a b : UInt8) (h : DkAt code pc [156, a, b]) : decode code pc = .ok (.ifCond .ge (Reader.signed 16 (a.toNat * 256 + b.toNat)), 3) := dk_of ((dk_bind (dk_u1 (h 0 _ rfl))).trans ((dk_bind (dk_map (dk_u2 (h 1 _ rfl) (h 2 _ rfl)))).trans rfl))
theorem dk_157 {code : ByteArray} {pc : Nat} (a b : UInt8) (h : DkAt code pc [157, a, b]) : decode code pc = .ok (.ifCond .gt (Reader.signed 16 (a.toNat * 256 + b.toNat)), 3) := dk_of ((dk_bind (dk_u1 (h 0 _ rfl))).trans ((dk_bind (dk_map (dk_u2 (h 1 _ rfl) (h 2 _ rfl)))).trans rfl))
theorem dk_158 {code : ByteArray} {pc : Nat} (a b : UInt8) (h : DkAt code pc [158, a, b]) : decode code pc = .ok (.ifCond .le (Reader.signed 16 (a.toNat * 256 + b.toNat)), 3) := dk_of ((dk_bind (dk_u1 (h 0 _ rfl))).trans ((dk_bind (dk_map (dk_u2 (h 1 _ rfl) (h 2 _ rfl)))).trans rfl))
theorem dk_159 {code : ByteArray} {pc : Nat} (a b : UInt8) (h : DkAt code pc [159, a, b]) : decode code pc = .ok (.if_icmp .eq (Reader.signed 16 (a.toNat * 256 + b.toNat)), 3) := dk_of ((dk_bind (dk_u1 (h 0 _ rfl))).trans ((dk_bind (dk_map (dk_u2 (h 1 _ rfl) (h 2 _ rfl)))).trans rfl))
theorem dk_160 {code : ByteArray} {pc : Nat} (a b : UInt8) (h : DkAt code pc [160, a, b]) : decode code pc = .ok (.if_icmp .ne (Reader.signed 16 (a.toNat * 256 + b.toNat)), 3) := dk_of ((dk_bind (dk_u1 (h 0 _ rfl))).trans ((dk_bind (dk_map (dk_u2 (h 1 _ rfl) (h 2 _ rfl)))).trans rfl))
theorem dk_161 {code : ByteArray} {pc : Nat} (a b : UInt8) (h : DkAt code pc [161, a, b]) : decode code pc = .ok (.if_icmp .lt (Reader.signed 16 (a.toNat * 256 + b.toNat)), 3) := dk_of ((dk_bind (dk_u1 (h 0 _ rfl))).trans ((dk_bind (dk_map (dk_u2 (h 1 _ rfl) (h 2 _ rfl)))).trans rfl))
theorem dk_162 {code : ByteArray} {pc : Nat} (a b : UInt8) (h : DkAt code pc [162, a, b]) : decode code pc = .ok (.if_icmp .ge (Reader.signed 16 (a.toNat * 256 + b.toNat)), 3) := dk_of ((dk_bind (dk_u1 (h 0 _ rfl))).trans ((dk_bind (dk_map (dk_u2 (h 1 _ rfl) (h 2 _ rfl)))).trans rfl))
theorem dk_163 {code : ByteArray} {pc : Nat} (a b : UInt8) (h : DkAt code pc [163, a, b]) : decode code pc = .ok (.if_icmp .gt (Reader.signed 16 (a.toNat * 256 + b.toNat)), 3) := dk_of ((dk_bind (dk_u1 (h 0 _ rfl))).trans ((dk_bind (dk_map (dk_u2 (h 1 _ rfl) (h 2 _ rfl)))).trans rfl))
theorem dk_164 {code : ByteArray} {pc : Nat} (a b : UInt8) (h : DkAt code pc [164, a, b]) : decode code pc = .ok (.if_icmp .le (Reader.signed 16 (a.toNat * 256 + b.toNat)), 3) := dk_of ((dk_bind (dk_u1 (h 0 _ rfl))).trans ((dk_bind (dk_map (dk_u2 (h 1 _ rfl) (h 2 _ rfl)))).trans rfl))
theorem dk_165 {code : ByteArray} {pc : Nat} (a b : UInt8) (h : DkAt code pc [165, a, b]) : decode code pc = .ok (.if_acmp .eq (Reader.signed 16 (a.toNat * 256 + b.toNat)), 3) := dk_of ((dk_bind (dk_u1 (h 0 _ rfl))).trans ((dk_bind (dk_map (dk_u2 (h 1 _ rfl) (h 2 _ rfl)))).trans rfl))
theorem dk_166 {code : ByteArray} {pc : Nat} (a b : UInt8) (h : DkAt code pc [166, a, b]) : decode code pc = .ok (.if_acmp .ne (Reader.signed 16 (a.toNat * 256 + b.toNat)), 3) := dk_of ((dk_bind (dk_u1 (h 0 _ rfl))).trans ((dk_bind (dk_map (dk_u2 (h 1 _ rfl) (h 2 _ rfl)))).trans rfl))
theorem dk_167 {code : ByteArray} {pc : Nat} (a b : UInt8) (h : DkAt code pc [167, a, b]) : decode code pc = .ok (.goto (Reader.signed 16 (a.toNat * 256 + b.toNat)), 3) := dk_of ((dk_bind (dk_u1 (h 0 _ rfl))).trans ((dk_bind (dk_map (dk_u2 (h 1 _ rfl) (h 2 _ rfl)))).trans rfl))
theorem dk_172 {code : ByteArray} {pc : Nat} (h : DkAt code pc [172]) : decode code pc = .ok (.ireturn, 1) := dk_of ((dk_bind (dk_u1 (h 0 _ rfl))).trans rfl)
theorem dk_173 {code : ByteArray} {pc : Nat} (h : DkAt code pc [173]) : decode code pc = .ok (.lreturn, 1) := dk_of ((dk_bind (dk_u1 (h 0 _ rfl))).trans rfl)
theorem dk_176 {code : ByteArray} {pc : Nat} (h : DkAt code pc [176]) : decode code pc = .ok (.areturn, 1) := dk_of ((dk_bind (dk_u1 (h 0 _ rfl))).trans rfl)
theorem dk_177 {code : ByteArray} {pc : Nat} (h : DkAt code pc [177]) : decode code pc = .ok (.return_, 1) := dk_of ((dk_bind (dk_u1 (h 0 _ rfl))).trans rfl)
theorem dk_178 {code : ByteArray} {pc : Nat} (a b : UInt8) (h : DkAt code pc [178, a, b]) : decode code pc = .ok (.getstatic (a.toNat * 256 + b.toNat), 3) := dk_of ((dk_bind (dk_u1 (h 0 _ rfl))).trans ((dk_bind (dk_u2 (h 1 _ rfl) (h 2 _ rfl))).trans rfl))
theorem dk_180 {code : ByteArray} {pc : Nat} (a b : UInt8) (h : DkAt code pc [180, a, b]) : decode code pc = .ok (.getfield (a.toNat * 256 + b.toNat), 3) := dk_of ((dk_bind (dk_u1 (h 0 _ rfl))).trans ((dk_bind (dk_u2 (h 1 _ rfl) (h 2 _ rfl))).trans rfl))
theorem dk_181 {code : ByteArray} {pc : Nat} (a b : UInt8) (h : DkAt code pc [181, a, b]) : decode code pc = .ok (.putfield (a.toNat * 256 + b.toNat), 3) := dk_of ((dk_bind (dk_u1 (h 0 _ rfl))).trans ((dk_bind (dk_u2 (h 1 _ rfl) (h 2 _ rfl))).trans rfl))
theorem dk_182 {code : ByteArray} {pc : Nat} (a b : UInt8) (h : DkAt code pc [182, a, b]) : decode code pc = .ok (.invokevirtual (a.toNat * 256 + b.toNat), 3) := dk_of ((dk_bind (dk_u1 (h 0 _ rfl))).trans ((dk_bind (dk_u2 (h 1 _ rfl) (h 2 _ rfl))).trans rfl))
theorem dk_183 {code : ByteArray} {pc : Nat} (a b : UInt8) (h : DkAt code pc [183, a, b]) : decode code pc = .ok (.invokespecial (a.toNat * 256 + b.toNat), 3) := dk_of ((dk_bind (dk_u1 (h 0 _ rfl))).trans ((dk_bind (dk_u2 (h 1 _ rfl) (h 2 _ rfl))).trans rfl))
theorem dk_184 {code : ByteArray} {pc : Nat} (a b : UInt8) (h : DkAt code pc [184, a, b]) : decode code pc = .ok (.invokestatic (a.toNat * 256 + b.toNat), 3) := dk_of ((dk_bind (dk_u1 (h 0 _ rfl))).trans ((dk_bind (dk_u2 (h 1 _ rfl) (h 2 _ rfl))).trans rfl))
theorem dk_187 {code : ByteArray} {pc : Nat} (a b : UInt8) (h : DkAt code pc [187, a, b]) : decode code pc = .ok (.new (a.toNat * 256 + b.toNat), 3) := dk_of ((dk_bind (dk_u1 (h 0 _ rfl))).trans ((dk_bind (dk_u2 (h 1 _ rfl) (h 2 _ rfl))).trans rfl))
theorem dk_188_4 {code : ByteArray} {pc : Nat} (h : DkAt code pc [188, 4]) : decode code pc = .ok (.newarray .boolean, 2) := dk_of ((dk_bind (dk_u1 (h 0 _ rfl))).trans ((dk_bind (dk_u1 (h 1 _ rfl))).trans rfl))
theorem dk_188_8 {code : ByteArray} {pc : Nat} (h : DkAt code pc [188, 8]) : decode code pc = .ok (.newarray .byte, 2) := dk_of ((dk_bind (dk_u1 (h 0 _ rfl))).trans ((dk_bind (dk_u1 (h 1 _ rfl))).trans rfl))
theorem dk_188_10 {code : ByteArray} {pc : Nat} (h : DkAt code pc [188, 10]) : decode code pc = .ok (.newarray .int, 2) := dk_of ((dk_bind (dk_u1 (h 0 _ rfl))).trans ((dk_bind (dk_u1 (h 1 _ rfl))).trans rfl))
theorem dk_188_11 {code : ByteArray} {pc : Nat} (h : DkAt code pc [188, 11]) : decode code pc = .ok (.newarray .long, 2) := dk_of ((dk_bind (dk_u1 (h 0 _ rfl))).trans ((dk_bind (dk_u1 (h 1 _ rfl))).trans rfl))
theorem dk_189 {code : ByteArray} {pc : Nat} (a b : UInt8) (h : DkAt code pc [189, a, b]) : decode code pc = .ok (.anewarray (a.toNat * 256 + b.toNat), 3) := dk_of ((dk_bind (dk_u1 (h 0 _ rfl))).trans ((dk_bind (dk_u2 (h 1 _ rfl) (h 2 _ rfl))).trans rfl))
theorem dk_190 {code : ByteArray} {pc : Nat} (h : DkAt code pc [190]) : decode code pc = .ok (.arraylength, 1) := dk_of ((dk_bind (dk_u1 (h 0 _ rfl))).trans rfl)
theorem dk_191 {code : ByteArray} {pc : Nat} (h : DkAt code pc [191]) : decode code pc = .ok (.athrow, 1) := dk_of ((dk_bind (dk_u1 (h 0 _ rfl))).trans rfl)
theorem dk_192 {code : ByteArray} {pc : Nat} (a b : UInt8) (h : DkAt code pc [192, a, b]) : decode code pc = .ok (.checkcast (a.toNat * 256 + b.toNat), 3) := dk_of ((dk_bind (dk_u1 (h 0 _ rfl))).trans ((dk_bind (dk_u2 (h 1 _ rfl) (h 2 _ rfl))).trans rfl))
theorem dk_198 {code : ByteArray} {pc : Nat} (a b : UInt8) (h : DkAt code pc [198, a, b]) : decode code pc = .ok (.ifnull (Reader.signed 16 (a.toNat * 256 + b.toNat)), 3) := dk_of ((dk_bind (dk_u1 (h 0 _ rfl))).trans ((dk_bind (dk_map (dk_u2 (h 1 _ rfl) (h 2 _ rfl)))).trans rfl))
theorem dk_199 {code : ByteArray} {pc : Nat} (a b : UInt8) (h : DkAt code pc [199, a, b]) : decode code pc = .ok (.ifnonnull (Reader.signed 16 (a.toNat * 256 + b.toNat)), 3) := dk_of ((dk_bind (dk_u1 (h 0 _ rfl))).trans ((dk_bind (dk_map (dk_u2 (h 1 _ rfl) (h 2 _ rfl)))).trans rfl))
abbrev cX0_look : ByteArray := method_3_code
def dkwX0_look_0 : List UInt8 := [45, 3, 42, 27, 28, 182, 0, 7, 133, 80, 167, 0, 11, 58, 4, 4, 172, 58, 4, 5, 172, 3, 172]
abbrev dktX0_look_0 : List UInt8 := dkwX0_look_0 ++ []
theorem dksX0_look_0 : cX0_look.data.toList.drop 0 = dktX0_look_0 := by decide +kernel
abbrev cX0_law : ByteArray := code
abbrev cL_law : ByteArray := code
def dkwL_law_48 : List UInt8 := [21, 4, 4, 96, 46, 182, 0, 159, 159, 0, 5, 3, 172, 132, 4, 6, 167, 251, 44, 4, 172]
abbrev dktL_law_48 : List UInt8 := dkwL_law_48 ++ []
def dkwL_law_47 : List UInt8 := [182, 0, 152, 44, 182, 0, 155, 159, 0, 30, 3, 172, 43, 42, 21, 4, 4, 96, 46, 182, 0, 156, 44, 42]
abbrev dktL_law_47 : List UInt8 := dkwL_law_47 ++ dktL_law_48
def dkwL_law_46 : List UInt8 := [46, 182, 0, 147, 159, 0, 56, 3, 172, 43, 182, 0, 148, 44, 182, 0, 151, 159, 0, 43, 3, 172, 43]
abbrev dktL_law_46 : List UInt8 := dkwL_law_46 ++ dktL_law_47
def dkwL_law_45 : List UInt8 := [44, 42, 21, 4, 4, 96, 46, 42, 21, 4, 5, 96, 46, 42, 21, 4, 6, 96, 46, 42, 21, 4, 7, 96]
abbrev dktL_law_45 : List UInt8 := dkwL_law_45 ++ dktL_law_46
def dkwL_law_44 : List UInt8 := [4, 96, 46, 42, 21, 4, 5, 96, 46, 42, 21, 4, 6, 96, 46, 42, 21, 4, 7, 96, 46, 182, 0, 143]
abbrev dktL_law_44 : List UInt8 := dkwL_law_44 ++ dktL_law_45
def dkwL_law_43 : List UInt8 := [96, 46, 182, 0, 139, 44, 42, 21, 4, 4, 96, 46, 182, 0, 142, 159, 0, 117, 3, 172, 43, 42, 21, 4]
abbrev dktL_law_43 : List UInt8 := dkwL_law_43 ++ dktL_law_44
def dkwL_law_42 : List UInt8 := [21, 4, 4, 96, 46, 42, 21, 4, 5, 96, 46, 182, 0, 138, 159, 0, 142, 3, 172, 43, 42, 21, 4, 4]
abbrev dktL_law_42 : List UInt8 := dkwL_law_42 ++ dktL_law_43
def dkwL_law_41 : List UInt8 := [159, 0, 179, 3, 172, 43, 42, 21, 4, 4, 96, 46, 42, 21, 4, 5, 96, 46, 182, 0, 135, 44, 42]
abbrev dktL_law_41 : List UInt8 := dkwL_law_41 ++ dktL_law_42
def dkwL_law_40 : List UInt8 := [5, 96, 46, 182, 0, 131, 44, 42, 21, 4, 4, 96, 46, 42, 21, 4, 5, 96, 46, 182, 0, 134]
abbrev dktL_law_40 : List UInt8 := dkwL_law_40 ++ dktL_law_41
def dkwL_law_39 : List UInt8 := [42, 21, 4, 4, 96, 46, 182, 0, 130, 159, 0, 216, 3, 172, 43, 42, 21, 4, 4, 96, 46, 42, 21, 4]
abbrev dktL_law_39 : List UInt8 := dkwL_law_39 ++ dktL_law_40
def dkwL_law_38 : List UInt8 := [21, 4, 5, 96, 46, 182, 0, 126, 159, 0, 241, 3, 172, 43, 42, 21, 4, 4, 96, 46, 182, 0, 127, 44]
abbrev dktL_law_38 : List UInt8 := dkwL_law_38 ++ dktL_law_39
def dkwL_law_37 : List UInt8 := [42, 21, 4, 4, 96, 46, 42, 21, 4, 5, 96, 46, 182, 0, 123, 44, 42, 21, 4, 4, 96, 46, 42]
abbrev dktL_law_37 : List UInt8 := dkwL_law_37 ++ dktL_law_38
def dkwL_law_36 : List UInt8 := [21, 4, 4, 96, 46, 182, 0, 119, 44, 42, 21, 4, 4, 96, 46, 182, 0, 122, 159, 1, 22, 3, 172, 43]
abbrev dktL_law_36 : List UInt8 := dkwL_law_36 ++ dktL_law_37
def dkwL_law_35 : List UInt8 := [44, 42, 21, 4, 4, 96, 46, 42, 21, 4, 5, 96, 46, 182, 0, 118, 159, 1, 47, 3, 172, 43, 42]
abbrev dktL_law_35 : List UInt8 := dkwL_law_35 ++ dktL_law_36
def dkwL_law_34 : List UInt8 := [182, 0, 114, 159, 1, 84, 3, 172, 43, 42, 21, 4, 4, 96, 46, 42, 21, 4, 5, 96, 46, 182, 0, 115]
abbrev dktL_law_34 : List UInt8 := dkwL_law_34 ++ dktL_law_35
def dkwL_law_33 : List UInt8 := [182, 0, 107, 44, 42, 21, 4, 4, 96, 46, 182, 0, 110, 159, 1, 97, 3, 172, 43, 182, 0, 111, 44]
abbrev dktL_law_33 : List UInt8 := dkwL_law_33 ++ dktL_law_34
def dkwL_law_32 : List UInt8 := [42, 21, 4, 4, 96, 46, 182, 0, 106, 148, 153, 1, 122, 3, 172, 43, 42, 21, 4, 4, 96, 46]
abbrev dktL_law_32 : List UInt8 := dkwL_law_32 ++ dktL_law_33
def dkwL_law_31 : List UInt8 := [21, 4, 6, 96, 46, 182, 0, 102, 159, 1, 148, 3, 172, 43, 42, 21, 4, 4, 96, 46, 182, 0, 103, 44]
abbrev dktL_law_31 : List UInt8 := dkwL_law_31 ++ dktL_law_32
def dkwL_law_30 : List UInt8 := [42, 21, 4, 6, 96, 46, 182, 0, 98, 44, 42, 21, 4, 4, 96, 46, 42, 21, 4, 5, 96, 46, 42]
abbrev dktL_law_30 : List UInt8 := dkwL_law_30 ++ dktL_law_31
def dkwL_law_29 : List UInt8 := [7, 96, 46, 182, 0, 97, 159, 1, 197, 3, 172, 43, 42, 21, 4, 4, 96, 46, 42, 21, 4, 5, 96, 46]
abbrev dktL_law_29 : List UInt8 := dkwL_law_29 ++ dktL_law_30
def dkwL_law_28 : List UInt8 := [21, 4, 5, 96, 46, 133, 16, 32, 121, 42, 21, 4, 6, 96, 46, 133, 20, 0, 58, 127, 129, 42, 21, 4]
abbrev dktL_law_28 : List UInt8 := dkwL_law_28 ++ dktL_law_29
def dkwL_law_27 : List UInt8 := [46, 133, 20, 0, 58, 127, 129, 42, 21, 4, 7, 96, 46, 182, 0, 94, 44, 42, 21, 4, 4, 96, 46, 42]
abbrev dktL_law_27 : List UInt8 := dkwL_law_27 ++ dktL_law_28
def dkwL_law_26 : List UInt8 := [3, 172, 43, 42, 21, 4, 4, 96, 46, 42, 21, 4, 5, 96, 46, 133, 16, 32, 121, 42, 21, 4, 6, 96]
abbrev dktL_law_26 : List UInt8 := dkwL_law_26 ++ dktL_law_27
def dkwL_law_25 : List UInt8 := [21, 4, 5, 96, 46, 182, 0, 89, 159, 2, 35, 3, 172, 43, 182, 0, 90, 44, 182, 0, 93, 159, 2, 22]
abbrev dktL_law_25 : List UInt8 := dkwL_law_25 ++ dktL_law_26
def dkwL_law_24 : List UInt8 := [43, 42, 21, 4, 4, 96, 46, 42, 21, 4, 5, 96, 46, 182, 0, 86, 44, 42, 21, 4, 4, 96, 46, 42]
abbrev dktL_law_24 : List UInt8 := dkwL_law_24 ++ dktL_law_25
def dkwL_law_23 : List UInt8 := [4, 96, 46, 182, 0, 81, 159, 2, 85, 3, 172, 43, 182, 0, 82, 44, 182, 0, 85, 159, 2, 72, 3, 172]
abbrev dktL_law_23 : List UInt8 := dkwL_law_23 ++ dktL_law_24
def dkwL_law_22 : List UInt8 := [96, 46, 182, 0, 77, 159, 2, 110, 3, 172, 43, 42, 21, 4, 4, 96, 46, 182, 0, 78, 44, 42, 21, 4]
abbrev dktL_law_22 : List UInt8 := dkwL_law_22 ++ dktL_law_23
def dkwL_law_21 : List UInt8 := [46, 182, 0, 73, 159, 2, 135, 3, 172, 43, 42, 21, 4, 4, 96, 46, 182, 0, 74, 44, 42, 21, 4, 4]
abbrev dktL_law_21 : List UInt8 := dkwL_law_21 ++ dktL_law_22
def dkwL_law_20 : List UInt8 := [4, 96, 46, 42, 21, 4, 5, 96, 46, 182, 0, 70, 44, 42, 21, 4, 4, 96, 46, 42, 21, 4, 5, 96]
abbrev dktL_law_20 : List UInt8 := dkwL_law_20 ++ dktL_law_21
def dkwL_law_19 : List UInt8 := [96, 46, 182, 0, 65, 44, 42, 21, 4, 4, 96, 46, 182, 0, 69, 159, 2, 172, 3, 172, 43, 42, 21, 4]
abbrev dktL_law_19 : List UInt8 := dkwL_law_19 ++ dktL_law_20
def dkwL_law_18 : List UInt8 := [20, 0, 58, 127, 129, 42, 21, 4, 7, 96, 46, 182, 0, 64, 159, 2, 197, 3, 172, 43, 42, 21, 4, 4]
abbrev dktL_law_18 : List UInt8 := dkwL_law_18 ++ dktL_law_19
def dkwL_law_17 : List UInt8 := [44, 42, 21, 4, 4, 96, 46, 42, 21, 4, 5, 96, 46, 133, 16, 32, 121, 42, 21, 4, 6, 96, 46, 133]
abbrev dktL_law_17 : List UInt8 := dkwL_law_17 ++ dktL_law_18
def dkwL_law_16 : List UInt8 := [16, 32, 121, 42, 21, 4, 6, 96, 46, 133, 20, 0, 58, 127, 129, 42, 21, 4, 7, 96, 46, 182, 0, 60]
abbrev dktL_law_16 : List UInt8 := dkwL_law_16 ++ dktL_law_17
def dkwL_law_15 : List UInt8 := [182, 0, 57, 148, 153, 3, 22, 3, 172, 43, 42, 21, 4, 4, 96, 46, 42, 21, 4, 5, 96, 46, 133]
abbrev dktL_law_15 : List UInt8 := dkwL_law_15 ++ dktL_law_16
def dkwL_law_14 : List UInt8 := [159, 3, 48, 3, 172, 43, 42, 21, 4, 4, 96, 46, 182, 0, 53, 44, 42, 21, 4, 4, 96, 46]
abbrev dktL_law_14 : List UInt8 := dkwL_law_14 ++ dktL_law_15
def dkwL_law_13 : List UInt8 := [21, 4, 5, 96, 46, 182, 0, 49, 44, 42, 21, 4, 4, 96, 46, 42, 21, 4, 5, 96, 46, 182, 0, 52]
abbrev dktL_law_13 : List UInt8 := dkwL_law_13 ++ dktL_law_14
def dkwL_law_12 : List UInt8 := [45, 3, 47, 21, 6, 133, 148, 153, 0, 5, 3, 172, 167, 3, 83, 43, 42, 21, 4, 4, 96, 46, 42]
abbrev dktL_law_12 : List UInt8 := dkwL_law_12 ++ dktL_law_13
def dkwL_law_11 : List UInt8 := [5, 96, 46, 182, 0, 44, 54, 6, 44, 182, 0, 45, 21, 5, 159, 0, 5, 3, 172, 21, 5, 154, 0, 15]
abbrev dktL_law_11 : List UInt8 := dkwL_law_11 ++ dktL_law_12
def dkwL_law_10 : List UInt8 := [96, 46, 42, 21, 4, 5, 96, 46, 45, 184, 0, 39, 54, 5, 44, 42, 21, 4, 4, 96, 46, 42, 21, 4]
abbrev dktL_law_10 : List UInt8 := dkwL_law_10 ++ dktL_law_11
def dkwL_law_9 : List UInt8 := [21, 4, 4, 96, 46, 42, 21, 4, 5, 96, 46, 182, 0, 38, 159, 3, 153, 3, 172, 43, 42, 21, 4, 4]
abbrev dktL_law_9 : List UInt8 := dkwL_law_9 ++ dktL_law_10
def dkwL_law_8 : List UInt8 := [159, 3, 190, 3, 172, 43, 42, 21, 4, 4, 96, 46, 42, 21, 4, 5, 96, 46, 182, 0, 35, 44, 42]
abbrev dktL_law_8 : List UInt8 := dkwL_law_8 ++ dktL_law_9
def dkwL_law_7 : List UInt8 := [3, 172, 43, 42, 21, 4, 4, 96, 46, 182, 0, 31, 44, 42, 21, 4, 4, 96, 46, 182, 0, 34]
abbrev dktL_law_7 : List UInt8 := dkwL_law_7 ++ dktL_law_8
def dkwL_law_6 : List UInt8 := [172, 43, 42, 21, 4, 4, 96, 46, 182, 0, 26, 44, 42, 21, 4, 4, 96, 46, 182, 0, 30, 159, 3, 215]
abbrev dktL_law_6 : List UInt8 := dkwL_law_6 ++ dktL_law_7
def dkwL_law_5 : List UInt8 := [21, 4, 6, 96, 46, 42, 21, 4, 7, 96, 46, 42, 21, 4, 8, 96, 46, 182, 0, 25, 159, 3, 240, 3]
abbrev dktL_law_5 : List UInt8 := dkwL_law_5 ++ dktL_law_6
def dkwL_law_4 : List UInt8 := [46, 42, 21, 4, 8, 96, 46, 182, 0, 21, 44, 42, 21, 4, 4, 96, 46, 42, 21, 4, 5, 96, 46, 42]
abbrev dktL_law_4 : List UInt8 := dkwL_law_4 ++ dktL_law_5
def dkwL_law_3 : List UInt8 := [43, 42, 21, 4, 4, 96, 46, 42, 21, 4, 5, 96, 46, 42, 21, 4, 6, 96, 46, 42, 21, 4, 7, 96]
abbrev dktL_law_3 : List UInt8 := dkwL_law_3 ++ dktL_law_4
def dkwL_law_2 : List UInt8 := [170, 0, 0, 0, 0, 0, 4, 192, 0, 0, 0, 0, 0, 0, 0, 30, 0, 0, 0, 140, 0, 0, 0, 213, 0, 0, 0, 238, 0, 0, 1, 7, 0, 0, 1, 44, 0, 0, 1, 112, 0, 0, 1, 149, 0, 0, 1, 175, 0, 0, 2, 0, 0, 0, 2, 25, 0, 0, 2, 62, 0, 0, 2, 87, 0, 0, 2, 112, 0, 0, 2, 125, 0, 0, 2, 162, 0, 0, 2, 175, 0, 0, 3, 0, 0, 0, 3, 49, 0, 0, 3, 75, 0, 0, 3, 100, 0, 0, 3, 113, 0, 0, 3, 150, 0, 0, 3, 175, 0, 0, 3, 212, 0, 0, 3, 237, 0, 0, 4, 18, 0, 0, 4, 55, 0, 0, 4, 80, 0, 0, 4, 141, 0, 0, 4, 154, 0, 0, 4, 167]
abbrev dktL_law_2 : List UInt8 := dkwL_law_2 ++ dktL_law_3
def dkwL_law_1 : List UInt8 := [21, 4, 42, 190, 16, 6, 100, 163, 4, 208, 42, 21, 4, 46, 16, 31, 126]
abbrev dktL_law_1 : List UInt8 := dkwL_law_1 ++ dktL_law_2
def dkwL_law_0 : List UInt8 := [187, 0, 8, 89, 183, 0, 17, 76, 187, 0, 18, 89, 183, 0, 20, 77, 4, 188, 11, 78, 3, 54, 4]
abbrev dktL_law_0 : List UInt8 := dkwL_law_0 ++ dktL_law_1
theorem dksL_law_0 : cL_law.data.toList.drop 0 = dktL_law_0 := by decide +kernel
theorem dksL_law_1 : cL_law.data.toList.drop 23 = dktL_law_1 := dk_seg dksL_law_0 23 rfl rfl
theorem dksL_law_2 : cL_law.data.toList.drop 40 = dktL_law_2 := dk_seg dksL_law_1 17 rfl rfl
theorem dksL_law_3 : cL_law.data.toList.drop 180 = dktL_law_3 := dk_seg dksL_law_2 140 rfl rfl
theorem dksL_law_4 : cL_law.data.toList.drop 204 = dktL_law_4 := dk_seg dksL_law_3 24 rfl rfl
theorem dksL_law_5 : cL_law.data.toList.drop 228 = dktL_law_5 := dk_seg dksL_law_4 24 rfl rfl
theorem dksL_law_6 : cL_law.data.toList.drop 252 = dktL_law_6 := dk_seg dksL_law_5 24 rfl rfl
theorem dksL_law_7 : cL_law.data.toList.drop 276 = dktL_law_7 := dk_seg dksL_law_6 24 rfl rfl
theorem dksL_law_8 : cL_law.data.toList.drop 298 = dktL_law_8 := dk_seg dksL_law_7 22 rfl rfl
theorem dksL_law_9 : cL_law.data.toList.drop 321 = dktL_law_9 := dk_seg dksL_law_8 23 rfl rfl
theorem dksL_law_10 : cL_law.data.toList.drop 345 = dktL_law_10 := dk_seg dksL_law_9 24 rfl rfl
theorem dksL_law_11 : cL_law.data.toList.drop 369 = dktL_law_11 := dk_seg dksL_law_10 24 rfl rfl
theorem dksL_law_12 : cL_law.data.toList.drop 393 = dktL_law_12 := dk_seg dksL_law_11 24 rfl rfl
theorem dksL_law_13 : cL_law.data.toList.drop 416 = dktL_law_13 := dk_seg dksL_law_12 23 rfl rfl
theorem dksL_law_14 : cL_law.data.toList.drop 440 = dktL_law_14 := dk_seg dksL_law_13 24 rfl rfl
theorem dksL_law_15 : cL_law.data.toList.drop 462 = dktL_law_15 := dk_seg dksL_law_14 22 rfl rfl
theorem dksL_law_16 : cL_law.data.toList.drop 485 = dktL_law_16 := dk_seg dksL_law_15 23 rfl rfl
theorem dksL_law_17 : cL_law.data.toList.drop 509 = dktL_law_17 := dk_seg dksL_law_16 24 rfl rfl
theorem dksL_law_18 : cL_law.data.toList.drop 533 = dktL_law_18 := dk_seg dksL_law_17 24 rfl rfl
theorem dksL_law_19 : cL_law.data.toList.drop 557 = dktL_law_19 := dk_seg dksL_law_18 24 rfl rfl
theorem dksL_law_20 : cL_law.data.toList.drop 581 = dktL_law_20 := dk_seg dksL_law_19 24 rfl rfl
theorem dksL_law_21 : cL_law.data.toList.drop 605 = dktL_law_21 := dk_seg dksL_law_20 24 rfl rfl
theorem dksL_law_22 : cL_law.data.toList.drop 629 = dktL_law_22 := dk_seg dksL_law_21 24 rfl rfl
theorem dksL_law_23 : cL_law.data.toList.drop 653 = dktL_law_23 := dk_seg dksL_law_22 24 rfl rfl
theorem dksL_law_24 : cL_law.data.toList.drop 677 = dktL_law_24 := dk_seg dksL_law_23 24 rfl rfl
theorem dksL_law_25 : cL_law.data.toList.drop 701 = dktL_law_25 := dk_seg dksL_law_24 24 rfl rfl
theorem dksL_law_26 : cL_law.data.toList.drop 725 = dktL_law_26 := dk_seg dksL_law_25 24 rfl rfl
theorem dksL_law_27 : cL_law.data.toList.drop 749 = dktL_law_27 := dk_seg dksL_law_26 24 rfl rfl
theorem dksL_law_28 : cL_law.data.toList.drop 773 = dktL_law_28 := dk_seg dksL_law_27 24 rfl rfl
theorem dksL_law_29 : cL_law.data.toList.drop 797 = dktL_law_29 := dk_seg dksL_law_28 24 rfl rfl
theorem dksL_law_30 : cL_law.data.toList.drop 821 = dktL_law_30 := dk_seg dksL_law_29 24 rfl rfl
theorem dksL_law_31 : cL_law.data.toList.drop 844 = dktL_law_31 := dk_seg dksL_law_30 23 rfl rfl
theorem dksL_law_32 : cL_law.data.toList.drop 868 = dktL_law_32 := dk_seg dksL_law_31 24 rfl rfl
theorem dksL_law_33 : cL_law.data.toList.drop 890 = dktL_law_33 := dk_seg dksL_law_32 22 rfl rfl
theorem dksL_law_34 : cL_law.data.toList.drop 913 = dktL_law_34 := dk_seg dksL_law_33 23 rfl rfl
theorem dksL_law_35 : cL_law.data.toList.drop 937 = dktL_law_35 := dk_seg dksL_law_34 24 rfl rfl
theorem dksL_law_36 : cL_law.data.toList.drop 960 = dktL_law_36 := dk_seg dksL_law_35 23 rfl rfl
theorem dksL_law_37 : cL_law.data.toList.drop 984 = dktL_law_37 := dk_seg dksL_law_36 24 rfl rfl
theorem dksL_law_38 : cL_law.data.toList.drop 1007 = dktL_law_38 := dk_seg dksL_law_37 23 rfl rfl
theorem dksL_law_39 : cL_law.data.toList.drop 1031 = dktL_law_39 := dk_seg dksL_law_38 24 rfl rfl
theorem dksL_law_40 : cL_law.data.toList.drop 1055 = dktL_law_40 := dk_seg dksL_law_39 24 rfl rfl
theorem dksL_law_41 : cL_law.data.toList.drop 1077 = dktL_law_41 := dk_seg dksL_law_40 22 rfl rfl
theorem dksL_law_42 : cL_law.data.toList.drop 1100 = dktL_law_42 := dk_seg dksL_law_41 23 rfl rfl
theorem dksL_law_43 : cL_law.data.toList.drop 1124 = dktL_law_43 := dk_seg dksL_law_42 24 rfl rfl
theorem dksL_law_44 : cL_law.data.toList.drop 1148 = dktL_law_44 := dk_seg dksL_law_43 24 rfl rfl
theorem dksL_law_45 : cL_law.data.toList.drop 1172 = dktL_law_45 := dk_seg dksL_law_44 24 rfl rfl
theorem dksL_law_46 : cL_law.data.toList.drop 1196 = dktL_law_46 := dk_seg dksL_law_45 24 rfl rfl
theorem dksL_law_47 : cL_law.data.toList.drop 1219 = dktL_law_47 := dk_seg dksL_law_46 23 rfl rfl
theorem dksL_law_48 : cL_law.data.toList.drop 1243 = dktL_law_48 := dk_seg dksL_law_47 24 rfl rfl
abbrev cX1_init : ByteArray := prog_1_method_1_code
def dkwX1_init_5 : List UInt8 := [42, 16, 24, 188, 10, 181, 0, 72, 42, 16, 24, 188, 10, 181, 0, 75, 42, 182, 0, 78, 177]
abbrev dktX1_init_5 : List UInt8 := dkwX1_init_5 ++ []
def dkwX1_init_4 : List UInt8 := [188, 10, 181, 0, 59, 42, 16, 60, 188, 11, 181, 0, 62, 42, 187, 0, 65, 89, 183, 0, 67, 181, 0, 68]
abbrev dktX1_init_4 : List UInt8 := dkwX1_init_4 ++ dktX1_init_5
def dkwX1_init_3 : List UInt8 := [187, 0, 43, 89, 42, 183, 0, 45, 181, 0, 52, 42, 16, 60, 189, 0, 43, 181, 0, 55, 42, 16, 60]
abbrev dktX1_init_3 : List UInt8 := dkwX1_init_3 ++ dktX1_init_4
def dkwX1_init_2 : List UInt8 := [181, 0, 36, 42, 16, 24, 188, 10, 181, 0, 40, 42, 187, 0, 43, 89, 42, 183, 0, 45, 181, 0, 48, 42]
abbrev dktX1_init_2 : List UInt8 := dkwX1_init_2 ++ dktX1_init_3
def dkwX1_init_1 : List UInt8 := [183, 0, 23, 181, 0, 24, 42, 18, 28, 188, 11, 181, 0, 29, 42, 2, 181, 0, 33, 42, 16, 24, 188, 10]
abbrev dktX1_init_1 : List UInt8 := dkwX1_init_1 ++ dktX1_init_2
def dkwX1_init_0 : List UInt8 := [42, 183, 0, 5, 42, 17, 2, 88, 188, 8, 181, 0, 13, 42, 2, 181, 0, 17, 42, 187, 0, 21, 89]
abbrev dktX1_init_0 : List UInt8 := dkwX1_init_0 ++ dktX1_init_1
theorem dksX1_init_0 : cX1_init.data.toList.drop 0 = dktX1_init_0 := by decide +kernel
theorem dksX1_init_1 : cX1_init.data.toList.drop 23 = dktX1_init_1 := dk_seg dksX1_init_0 23 rfl rfl
theorem dksX1_init_2 : cX1_init.data.toList.drop 47 = dktX1_init_2 := dk_seg dksX1_init_1 24 rfl rfl
theorem dksX1_init_3 : cX1_init.data.toList.drop 71 = dktX1_init_3 := dk_seg dksX1_init_2 24 rfl rfl
theorem dksX1_init_4 : cX1_init.data.toList.drop 94 = dktX1_init_4 := dk_seg dksX1_init_3 23 rfl rfl
theorem dksX1_init_5 : cX1_init.data.toList.drop 118 = dktX1_init_5 := dk_seg dksX1_init_4 24 rfl rfl
abbrev cX1_lay : ByteArray := prog_1_method_15_code
def dkwX1_lay_3 : List UInt8 := [132, 3, 1, 167, 255, 222, 132, 2, 1, 167, 255, 188, 132, 1, 1, 167, 255, 173, 177]
abbrev dktX1_lay_3 : List UInt8 := dkwX1_lay_3 ++ []
def dkwX1_lay_2 : List UInt8 := [27, 28, 29, 184, 0, 171, 27, 154, 0, 7, 10, 167, 0, 10, 42, 27, 28, 29, 182, 0, 175, 80]
abbrev dktX1_lay_2 : List UInt8 := dkwX1_lay_2 ++ dktX1_lay_3
def dkwX1_lay_1 : List UInt8 := [42, 180, 0, 24, 182, 0, 138, 161, 0, 6, 167, 0, 42, 3, 62, 29, 7, 163, 0, 35, 42, 180, 0, 29]
abbrev dktX1_lay_1 : List UInt8 := dkwX1_lay_1 ++ dktX1_lay_2
def dkwX1_lay_0 : List UInt8 := [3, 60, 27, 17, 2, 88, 163, 0, 82, 3, 61, 28, 16, 12, 163, 0, 68, 28, 16, 12, 162, 0, 17, 28]
abbrev dktX1_lay_0 : List UInt8 := dkwX1_lay_0 ++ dktX1_lay_1
theorem dksX1_lay_0 : cX1_lay.data.toList.drop 0 = dktX1_lay_0 := by decide +kernel
theorem dksX1_lay_1 : cX1_lay.data.toList.drop 24 = dktX1_lay_1 := dk_seg dksX1_lay_0 24 rfl rfl
theorem dksX1_lay_2 : cX1_lay.data.toList.drop 48 = dktX1_lay_2 := dk_seg dksX1_lay_1 24 rfl rfl
theorem dksX1_lay_3 : cX1_lay.data.toList.drop 70 = dktX1_lay_3 := dk_seg dksX1_lay_2 22 rfl rfl
abbrev cX1_at : ByteArray := prog_1_method_12_code
def dkwX1_at_0 : List UInt8 := [26, 16, 13, 104, 27, 96, 8, 104, 28, 96, 172]
abbrev dktX1_at_0 : List UInt8 := dkwX1_at_0 ++ []
theorem dksX1_at_0 : cX1_at.data.toList.drop 0 = dktX1_at_0 := by decide +kernel
abbrev cX1_sumOf : ByteArray := prog_1_method_16_code
def dkwX1_sumOf_5 : List UInt8 := [22, 4, 173]
abbrev dktX1_sumOf_5 : List UInt8 := dkwX1_sumOf_5 ++ []
def dkwX1_sumOf_4 : List UInt8 := [148, 158, 0, 9, 20, 0, 182, 167, 0, 8, 22, 4, 22, 7, 97, 55, 4, 132, 6, 1, 167, 255, 150]
abbrev dktX1_sumOf_4 : List UInt8 := dkwX1_sumOf_4 ++ dktX1_sumOf_5
def dkwX1_sumOf_3 : List UInt8 := [153, 0, 9, 29, 4, 96, 167, 0, 4, 29, 184, 0, 171, 47, 55, 7, 22, 7, 20, 0, 182, 22, 4, 101]
abbrev dktX1_sumOf_3 : List UInt8 := dkwX1_sumOf_3 ++ dktX1_sumOf_4
def dkwX1_sumOf_2 : List UInt8 := [180, 0, 29, 27, 42, 180, 0, 24, 21, 6, 182, 0, 149, 100, 21, 6, 42, 21, 6, 182, 0, 165]
abbrev dktX1_sumOf_2 : List UInt8 := dkwX1_sumOf_2 ++ dktX1_sumOf_3
def dkwX1_sumOf_1 : List UInt8 := [182, 0, 149, 27, 163, 0, 81, 42, 21, 6, 28, 29, 182, 0, 179, 154, 0, 6, 167, 0, 67, 42]
abbrev dktX1_sumOf_1 : List UInt8 := dkwX1_sumOf_1 ++ dktX1_sumOf_2
def dkwX1_sumOf_0 : List UInt8 := [9, 55, 4, 3, 54, 6, 21, 6, 42, 180, 0, 24, 182, 0, 138, 162, 0, 100, 42, 180, 0, 24, 21, 6]
abbrev dktX1_sumOf_0 : List UInt8 := dkwX1_sumOf_0 ++ dktX1_sumOf_1
theorem dksX1_sumOf_0 : cX1_sumOf.data.toList.drop 0 = dktX1_sumOf_0 := by decide +kernel
theorem dksX1_sumOf_1 : cX1_sumOf.data.toList.drop 24 = dktX1_sumOf_1 := dk_seg dksX1_sumOf_0 24 rfl rfl
theorem dksX1_sumOf_2 : cX1_sumOf.data.toList.drop 46 = dktX1_sumOf_2 := dk_seg dksX1_sumOf_1 22 rfl rfl
theorem dksX1_sumOf_3 : cX1_sumOf.data.toList.drop 68 = dktX1_sumOf_3 := dk_seg dksX1_sumOf_2 22 rfl rfl
theorem dksX1_sumOf_4 : cX1_sumOf.data.toList.drop 92 = dktX1_sumOf_4 := dk_seg dksX1_sumOf_3 24 rfl rfl
theorem dksX1_sumOf_5 : cX1_sumOf.data.toList.drop 115 = dktX1_sumOf_5 := dk_seg dksX1_sumOf_4 23 rfl rfl
abbrev cX1_goesOn : ByteArray := prog_1_method_14_code
def dkwX1_goesOn_1 : List UInt8 := [153, 0, 14, 29, 42, 180, 0, 24, 180, 0, 168, 162, 0, 7, 4, 167, 0, 4, 3, 172]
abbrev dktX1_goesOn_1 : List UInt8 := dkwX1_goesOn_1 ++ []
def dkwX1_goesOn_0 : List UInt8 := [28, 16, 12, 159, 0, 15, 42, 180, 0, 24, 27, 28, 182, 0, 161, 153, 0, 26, 42, 27, 182, 0, 165]
abbrev dktX1_goesOn_0 : List UInt8 := dkwX1_goesOn_0 ++ dktX1_goesOn_1
theorem dksX1_goesOn_0 : cX1_goesOn.data.toList.drop 0 = dktX1_goesOn_0 := by decide +kernel
theorem dksX1_goesOn_1 : cX1_goesOn.data.toList.drop 23 = dktX1_goesOn_1 := dk_seg dksX1_goesOn_0 23 rfl rfl
abbrev cX1_isOf : ByteArray := prog_1_method_3_code
def dkwX1_isOf_0 : List UInt8 := [26, 27, 122, 4, 126, 4, 160, 0, 7, 4, 167, 0, 4, 3, 172]
abbrev dktX1_isOf_0 : List UInt8 := dkwX1_isOf_0 ++ []
theorem dksX1_isOf_0 : cX1_isOf.data.toList.drop 0 = dktX1_isOf_0 := by decide +kernel
abbrev cX1_isDusty : ByteArray := prog_1_method_13_code
def dkwX1_isDusty_0 : List UInt8 := [42, 180, 0, 24, 27, 182, 0, 155, 155, 0, 7, 4, 167, 0, 4, 3, 172]
abbrev dktX1_isDusty_0 : List UInt8 := dkwX1_isDusty_0 ++ []
theorem dksX1_isDusty_0 : cX1_isDusty.data.toList.drop 0 = dktX1_isDusty_0 := by decide +kernel
abbrev cX1_feed : ByteArray := prog_1_method_4_code
def dkwX1_feed_2 : List UInt8 := [172]
abbrev dktX1_feed_2 : List UInt8 := dkwX1_feed_2 ++ []
def dkwX1_feed_1 : List UInt8 := [182, 0, 84, 42, 29, 182, 0, 84, 42, 21, 4, 182, 0, 84, 42, 21, 5, 182, 0, 84, 42, 180, 0, 81]
abbrev dktX1_feed_1 : List UInt8 := dkwX1_feed_1 ++ dktX1_feed_2
def dkwX1_feed_0 : List UInt8 := [42, 180, 0, 81, 16, 20, 96, 17, 2, 88, 164, 0, 5, 2, 172, 42, 27, 182, 0, 84, 42, 28]
abbrev dktX1_feed_0 : List UInt8 := dkwX1_feed_0 ++ dktX1_feed_1
theorem dksX1_feed_0 : cX1_feed.data.toList.drop 0 = dktX1_feed_0 := by decide +kernel
theorem dksX1_feed_1 : cX1_feed.data.toList.drop 22 = dktX1_feed_1 := dk_seg dksX1_feed_0 22 rfl rfl
theorem dksX1_feed_2 : cX1_feed.data.toList.drop 46 = dktX1_feed_2 := dk_seg dksX1_feed_1 24 rfl rfl
abbrev cX1_four : ByteArray := prog_1_method_5_code
def dkwX1_four_1 : List UInt8 := [180, 0, 81, 4, 96, 181, 0, 81, 132, 2, 248, 167, 255, 226, 177]
abbrev dktX1_four_1 : List UInt8 := dkwX1_four_1 ++ []
def dkwX1_four_0 : List UInt8 := [16, 24, 61, 28, 155, 0, 32, 42, 180, 0, 13, 42, 180, 0, 81, 27, 28, 122, 145, 84, 42, 89]
abbrev dktX1_four_0 : List UInt8 := dkwX1_four_0 ++ dktX1_four_1
theorem dksX1_four_0 : cX1_four.data.toList.drop 0 = dktX1_four_0 := by decide +kernel
theorem dksX1_four_1 : cX1_four.data.toList.drop 22 = dktX1_four_1 := dk_seg dksX1_four_0 22 rfl rfl
abbrev cX1_text : ByteArray := prog_1_method_6_code
def dkwX1_text_4 : List UInt8 := [3, 181, 0, 125, 42, 182, 0, 78, 42, 180, 0, 24, 180, 0, 128, 172]
abbrev dktX1_text_4 : List UInt8 := dkwX1_text_4 ++ []
def dkwX1_text_3 : List UInt8 := [181, 0, 112, 42, 3, 181, 0, 115, 42, 3, 181, 0, 118, 42, 2, 181, 0, 33, 42, 3, 181, 0, 121, 42]
abbrev dktX1_text_3 : List UInt8 := dkwX1_text_3 ++ dktX1_text_4
def dkwX1_text_2 : List UInt8 := [167, 0, 22, 77, 42, 44, 180, 0, 106, 181, 0, 92, 42, 44, 180, 0, 109, 181, 0, 17, 2, 172, 42, 3]
abbrev dktX1_text_2 : List UInt8 := dkwX1_text_2 ++ dktX1_text_3
def dkwX1_text_1 : List UInt8 := [181, 0, 92, 42, 2, 181, 0, 17, 42, 187, 0, 95, 89, 42, 27, 183, 0, 97, 182, 0, 100, 181, 0, 24]
abbrev dktX1_text_1 : List UInt8 := dkwX1_text_1 ++ dktX1_text_2
def dkwX1_text_0 : List UInt8 := [27, 3, 42, 180, 0, 81, 184, 0, 88, 154, 0, 6, 16, 254, 172, 42, 3, 181, 0, 81, 42, 3]
abbrev dktX1_text_0 : List UInt8 := dkwX1_text_0 ++ dktX1_text_1
theorem dksX1_text_0 : cX1_text.data.toList.drop 0 = dktX1_text_0 := by decide +kernel
theorem dksX1_text_1 : cX1_text.data.toList.drop 22 = dktX1_text_1 := dk_seg dksX1_text_0 22 rfl rfl
theorem dksX1_text_2 : cX1_text.data.toList.drop 46 = dktX1_text_2 := dk_seg dksX1_text_1 24 rfl rfl
theorem dksX1_text_3 : cX1_text.data.toList.drop 70 = dktX1_text_3 := dk_seg dksX1_text_2 24 rfl rfl
theorem dksX1_text_4 : cX1_text.data.toList.drop 94 = dktX1_text_4 := dk_seg dksX1_text_3 24 rfl rfl
abbrev cX1_isIn : ByteArray := prog_1_method_2_code
def dkwX1_isIn_0 : List UInt8 := [26, 27, 161, 0, 12, 26, 28, 163, 0, 7, 4, 167, 0, 4, 3, 172]
abbrev dktX1_isIn_0 : List UInt8 := dkwX1_isIn_0 ++ []
theorem dksX1_isIn_0 : cX1_isIn.data.toList.drop 0 = dktX1_isIn_0 := by decide +kernel
abbrev cX1_fault : ByteArray := prog_1_method_7_code
def dkwX1_fault_1 : List UInt8 := [172]
abbrev dktX1_fault_1 : List UInt8 := dkwX1_fault_1 ++ []
def dkwX1_fault_0 : List UInt8 := [27, 154, 0, 10, 42, 180, 0, 92, 167, 0, 16, 27, 4, 160, 0, 10, 42, 180, 0, 17, 167, 0, 4, 2]
abbrev dktX1_fault_0 : List UInt8 := dkwX1_fault_0 ++ dktX1_fault_1
theorem dksX1_fault_0 : cX1_fault.data.toList.drop 0 = dktX1_fault_0 := by decide +kernel
theorem dksX1_fault_1 : cX1_fault.data.toList.drop 24 = dktX1_fault_1 := dk_seg dksX1_fault_0 24 rfl rfl
abbrev cX1_named : ByteArray := prog_1_method_8_code
def dkwX1_named_1 : List UInt8 := [28, 182, 0, 135, 167, 0, 4, 2, 172]
abbrev dktX1_named_1 : List UInt8 := dkwX1_named_1 ++ []
def dkwX1_named_0 : List UInt8 := [27, 154, 0, 14, 42, 180, 0, 24, 28, 182, 0, 131, 167, 0, 20, 27, 4, 160, 0, 14, 42, 180, 0, 24]
abbrev dktX1_named_0 : List UInt8 := dkwX1_named_0 ++ dktX1_named_1
theorem dksX1_named_0 : cX1_named.data.toList.drop 0 = dktX1_named_0 := by decide +kernel
theorem dksX1_named_1 : cX1_named.data.toList.drop 24 = dktX1_named_1 := dk_seg dksX1_named_0 24 rfl rfl
abbrev cX1_sticks : ByteArray := prog_1_method_11_code
def dkwX1_sticks_1 : List UInt8 := [27, 28, 182, 0, 161, 153, 0, 7, 4, 167, 0, 4, 3, 172]
abbrev dktX1_sticks_1 : List UInt8 := dkwX1_sticks_1 ++ []
def dkwX1_sticks_0 : List UInt8 := [42, 27, 182, 0, 142, 153, 0, 11, 42, 28, 182, 0, 142, 154, 0, 7, 2, 167, 0, 20, 42, 180, 0, 24]
abbrev dktX1_sticks_0 : List UInt8 := dkwX1_sticks_0 ++ dktX1_sticks_1
theorem dksX1_sticks_0 : cX1_sticks.data.toList.drop 0 = dktX1_sticks_0 := by decide +kernel
theorem dksX1_sticks_1 : cX1_sticks.data.toList.drop 24 = dktX1_sticks_1 := dk_seg dksX1_sticks_0 24 rfl rfl
abbrev cX1_isLetter : ByteArray := prog_1_method_9_code
def dkwX1_isLetter_0 : List UInt8 := [27, 3, 42, 180, 0, 24, 182, 0, 138, 4, 100, 184, 0, 88, 172]
abbrev dktX1_isLetter_0 : List UInt8 := dkwX1_isLetter_0 ++ []
theorem dksX1_isLetter_0 : cX1_isLetter.data.toList.drop 0 = dktX1_isLetter_0 := by decide +kernel
abbrev cX1_many : ByteArray := prog_1_method_17_code
def dkwX1_many_1 : List UInt8 := [184, 0, 171, 47, 65, 32, 20, 0, 186, 148, 158, 0, 9, 20, 0, 188, 167, 0, 4, 32, 173]
abbrev dktX1_many_1 : List UInt8 := dkwX1_many_1 ++ []
def dkwX1_many_0 : List UInt8 := [27, 4, 17, 2, 88, 184, 0, 88, 154, 0, 7, 20, 0, 184, 173, 42, 180, 0, 29, 27, 16, 12, 3]
abbrev dktX1_many_0 : List UInt8 := dkwX1_many_0 ++ dktX1_many_1
theorem dksX1_many_0 : cX1_many.data.toList.drop 0 = dktX1_many_0 := by decide +kernel
theorem dksX1_many_1 : cX1_many.data.toList.drop 23 = dktX1_many_1 := dk_seg dksX1_many_0 23 rfl rfl
abbrev cX1_kth : ByteArray := prog_1_method_18_code
def dkwX1_kth_10 : List UInt8 := [167, 255, 101, 16, 254, 172]
abbrev dktX1_kth_10 : List UInt8 := dkwX1_kth_10 ++ []
def dkwX1_kth_9 : List UInt8 := [42, 21, 11, 182, 0, 165, 153, 0, 7, 4, 167, 0, 4, 3, 96, 54, 7, 21, 11, 54, 6, 132, 10, 1]
abbrev dktX1_kth_9 : List UInt8 := dkwX1_kth_9 ++ dktX1_kth_10
def dkwX1_kth_8 : List UInt8 := [21, 4, 160, 0, 6, 21, 11, 172, 21, 5, 42, 180, 0, 24, 21, 11, 182, 0, 149, 100, 54, 5, 21, 7]
abbrev dktX1_kth_8 : List UInt8 := dkwX1_kth_8 ++ dktX1_kth_9
def dkwX1_kth_7 : List UInt8 := [22, 12, 148, 156, 0, 6, 167, 0, 16, 22, 8, 22, 12, 101, 55, 8, 132, 11, 1, 167, 255, 162, 21, 10]
abbrev dktX1_kth_7 : List UInt8 := dkwX1_kth_7 ++ dktX1_kth_8
def dkwX1_kth_6 : List UInt8 := [182, 0, 165, 153, 0, 10, 21, 7, 4, 96, 167, 0, 5, 21, 7, 184, 0, 171, 47, 55, 12, 22, 8]
abbrev dktX1_kth_6 : List UInt8 := dkwX1_kth_6 ++ dktX1_kth_7
def dkwX1_kth_5 : List UInt8 := [167, 0, 43, 42, 180, 0, 29, 21, 5, 42, 180, 0, 24, 21, 11, 182, 0, 149, 100, 21, 11, 42, 21, 11]
abbrev dktX1_kth_5 : List UInt8 := dkwX1_kth_5 ++ dktX1_kth_6
def dkwX1_kth_4 : List UInt8 := [182, 0, 149, 21, 5, 163, 0, 16, 42, 21, 11, 21, 6, 21, 7, 182, 0, 179, 154, 0, 7, 9]
abbrev dktX1_kth_4 : List UInt8 := dkwX1_kth_4 ++ dktX1_kth_5
def dkwX1_kth_3 : List UInt8 := [3, 54, 7, 32, 55, 8, 3, 54, 10, 21, 5, 158, 0, 156, 3, 54, 11, 42, 180, 0, 24, 21, 11]
abbrev dktX1_kth_3 : List UInt8 := dkwX1_kth_3 ++ dktX1_kth_4
def dkwX1_kth_2 : List UInt8 := [180, 0, 29, 27, 16, 12, 3, 184, 0, 171, 47, 148, 155, 0, 5, 2, 172, 27, 54, 5, 16, 12, 54, 6]
abbrev dktX1_kth_2 : List UInt8 := dkwX1_kth_2 ++ dktX1_kth_3
def dkwX1_kth_1 : List UInt8 := [42, 180, 0, 29, 27, 16, 12, 3, 184, 0, 171, 47, 20, 0, 186, 148, 158, 0, 6, 16, 254, 172, 32, 42]
abbrev dktX1_kth_1 : List UInt8 := dkwX1_kth_1 ++ dktX1_kth_2
def dkwX1_kth_0 : List UInt8 := [27, 4, 17, 2, 88, 184, 0, 88, 153, 0, 14, 32, 9, 148, 155, 0, 8, 21, 4, 156, 0, 5, 2, 172]
abbrev dktX1_kth_0 : List UInt8 := dkwX1_kth_0 ++ dktX1_kth_1
theorem dksX1_kth_0 : cX1_kth.data.toList.drop 0 = dktX1_kth_0 := by decide +kernel
theorem dksX1_kth_1 : cX1_kth.data.toList.drop 24 = dktX1_kth_1 := dk_seg dksX1_kth_0 24 rfl rfl
theorem dksX1_kth_2 : cX1_kth.data.toList.drop 48 = dktX1_kth_2 := dk_seg dksX1_kth_1 24 rfl rfl
theorem dksX1_kth_3 : cX1_kth.data.toList.drop 72 = dktX1_kth_3 := dk_seg dksX1_kth_2 24 rfl rfl
theorem dksX1_kth_4 : cX1_kth.data.toList.drop 95 = dktX1_kth_4 := dk_seg dksX1_kth_3 23 rfl rfl
theorem dksX1_kth_5 : cX1_kth.data.toList.drop 117 = dktX1_kth_5 := dk_seg dksX1_kth_4 22 rfl rfl
theorem dksX1_kth_6 : cX1_kth.data.toList.drop 141 = dktX1_kth_6 := dk_seg dksX1_kth_5 24 rfl rfl
theorem dksX1_kth_7 : cX1_kth.data.toList.drop 164 = dktX1_kth_7 := dk_seg dksX1_kth_6 23 rfl rfl
theorem dksX1_kth_8 : cX1_kth.data.toList.drop 188 = dktX1_kth_8 := dk_seg dksX1_kth_7 24 rfl rfl
theorem dksX1_kth_9 : cX1_kth.data.toList.drop 212 = dktX1_kth_9 := dk_seg dksX1_kth_8 24 rfl rfl
theorem dksX1_kth_10 : cX1_kth.data.toList.drop 236 = dktX1_kth_10 := dk_seg dksX1_kth_9 24 rfl rfl
abbrev cX1_whole : ByteArray := prog_1_method_19_code
def dkwX1_whole_1 : List UInt8 := [172]
abbrev dktX1_whole_1 : List UInt8 := dkwX1_whole_1 ++ []
def dkwX1_whole_0 : List UInt8 := [27, 3, 17, 7, 208, 184, 0, 88, 154, 0, 5, 3, 172, 42, 27, 181, 0, 112, 42, 3, 181, 0, 125, 4]
abbrev dktX1_whole_0 : List UInt8 := dkwX1_whole_0 ++ dktX1_whole_1
theorem dksX1_whole_0 : cX1_whole.data.toList.drop 0 = dktX1_whole_0 := by decide +kernel
theorem dksX1_whole_1 : cX1_whole.data.toList.drop 24 = dktX1_whole_1 := dk_seg dksX1_whole_0 24 rfl rfl
abbrev cX1_crumb : ByteArray := prog_1_method_20_code
def dkwX1_crumb_3 : List UInt8 := [4, 100, 172]
abbrev dktX1_crumb_3 : List UInt8 := dkwX1_crumb_3 ++ []
def dkwX1_crumb_2 : List UInt8 := [180, 0, 115, 28, 79, 42, 89, 180, 0, 115, 4, 96, 181, 0, 115, 42, 3, 181, 0, 125, 42, 180, 0, 115]
abbrev dktX1_crumb_2 : List UInt8 := dkwX1_crumb_2 ++ dktX1_crumb_3
def dkwX1_crumb_1 : List UInt8 := [184, 0, 88, 154, 0, 5, 2, 172, 42, 180, 0, 36, 42, 180, 0, 115, 27, 79, 42, 180, 0, 40, 42]
abbrev dktX1_crumb_1 : List UInt8 := dkwX1_crumb_1 ++ dktX1_crumb_2
def dkwX1_crumb_0 : List UInt8 := [42, 180, 0, 115, 16, 24, 159, 0, 23, 27, 3, 6, 184, 0, 88, 153, 0, 14, 28, 3, 17, 39, 15]
abbrev dktX1_crumb_0 : List UInt8 := dkwX1_crumb_0 ++ dktX1_crumb_1
theorem dksX1_crumb_0 : cX1_crumb.data.toList.drop 0 = dktX1_crumb_0 := by decide +kernel
theorem dksX1_crumb_1 : cX1_crumb.data.toList.drop 23 = dktX1_crumb_1 := dk_seg dksX1_crumb_0 23 rfl rfl
theorem dksX1_crumb_2 : cX1_crumb.data.toList.drop 46 = dktX1_crumb_2 := dk_seg dksX1_crumb_1 23 rfl rfl
theorem dksX1_crumb_3 : cX1_crumb.data.toList.drop 70 = dktX1_crumb_3 := dk_seg dksX1_crumb_2 24 rfl rfl
abbrev cX1_strike : ByteArray := prog_1_method_21_code
def dkwX1_strike_1 : List UInt8 := [153, 0, 5, 3, 172, 42, 89, 180, 0, 118, 4, 27, 120, 128, 181, 0, 118, 42, 3, 181, 0, 125, 4, 172]
abbrev dktX1_strike_1 : List UInt8 := dkwX1_strike_1 ++ []
def dkwX1_strike_0 : List UInt8 := [27, 3, 42, 180, 0, 115, 4, 100, 184, 0, 88, 153, 0, 14, 42, 180, 0, 118, 27, 184, 0, 190]
abbrev dktX1_strike_0 : List UInt8 := dkwX1_strike_0 ++ dktX1_strike_1
theorem dksX1_strike_0 : cX1_strike.data.toList.drop 0 = dktX1_strike_0 := by decide +kernel
theorem dksX1_strike_1 : cX1_strike.data.toList.drop 22 = dktX1_strike_1 := dk_seg dksX1_strike_0 22 rfl rfl
abbrev cX1_known : ByteArray := prog_1_method_22_code
def dkwX1_known_1 : List UInt8 := [4, 172]
abbrev dktX1_known_1 : List UInt8 := dkwX1_known_1 ++ []
def dkwX1_known_0 : List UInt8 := [27, 2, 42, 180, 0, 115, 184, 0, 88, 154, 0, 5, 3, 172, 42, 27, 181, 0, 33, 42, 3, 181, 0, 125]
abbrev dktX1_known_0 : List UInt8 := dkwX1_known_0 ++ dktX1_known_1
theorem dksX1_known_0 : cX1_known.data.toList.drop 0 = dktX1_known_0 := by decide +kernel
theorem dksX1_known_1 : cX1_known.data.toList.drop 24 = dktX1_known_1 := dk_seg dksX1_known_0 24 rfl rfl
abbrev cX1_found : ByteArray := prog_1_method_30_code
def dkwX1_found_1 : List UInt8 := [167, 0, 7, 42, 180, 0, 221, 172]
abbrev dktX1_found_1 : List UInt8 := dkwX1_found_1 ++ []
def dkwX1_found_0 : List UInt8 := [42, 180, 0, 112, 154, 0, 5, 2, 172, 42, 182, 1, 17, 42, 180, 1, 4, 153, 0, 8, 16, 254]
abbrev dktX1_found_0 : List UInt8 := dkwX1_found_0 ++ dktX1_found_1
theorem dksX1_found_0 : cX1_found.data.toList.drop 0 = dktX1_found_0 := by decide +kernel
theorem dksX1_found_1 : cX1_found.data.toList.drop 22 = dktX1_found_1 := dk_seg dksX1_found_0 22 rfl rfl
abbrev cX1_find : ByteArray := prog_1_method_28_code
def dkwX1_find_7 : List UInt8 := [180, 0, 59, 28, 27, 79, 132, 1, 1, 167, 255, 173, 177]
abbrev dktX1_find_7 : List UInt8 := dkwX1_find_7 ++ []
def dkwX1_find_6 : List UInt8 := [156, 0, 23, 42, 180, 0, 59, 28, 42, 180, 0, 59, 28, 4, 100, 46, 79, 132, 2, 255, 167, 255, 212, 42]
abbrev dktX1_find_6 : List UInt8 := dkwX1_find_6 ++ dktX1_find_7
def dkwX1_find_5 : List UInt8 := [158, 0, 46, 42, 180, 0, 62, 42, 180, 0, 59, 28, 4, 100, 46, 47, 42, 180, 0, 62, 27, 47, 148]
abbrev dktX1_find_5 : List UInt8 := dkwX1_find_5 ++ dktX1_find_6
def dkwX1_find_4 : List UInt8 := [162, 0, 81, 42, 180, 0, 62, 27, 42, 42, 180, 0, 55, 27, 50, 182, 1, 13, 80, 27, 61, 28]
abbrev dktX1_find_4 : List UInt8 := dkwX1_find_4 ++ dktX1_find_5
def dkwX1_find_3 : List UInt8 := [181, 0, 199, 42, 180, 1, 4, 153, 0, 8, 42, 3, 181, 0, 221, 3, 60, 27, 42, 180, 0, 221]
abbrev dktX1_find_3 : List UInt8 := dkwX1_find_3 ++ dktX1_find_4
def dkwX1_find_2 : List UInt8 := [16, 60, 164, 0, 7, 4, 167, 0, 4, 3, 181, 1, 4, 42, 42, 180, 0, 199, 18, 202, 184, 1, 7]
abbrev dktX1_find_2 : List UInt8 := dkwX1_find_2 ++ dktX1_find_3
def dkwX1_find_1 : List UInt8 := [180, 0, 48, 182, 1, 1, 42, 182, 0, 215, 42, 42, 180, 0, 199, 18, 202, 163, 0, 12, 42, 180, 0, 221]
abbrev dktX1_find_1 : List UInt8 := dkwX1_find_1 ++ dktX1_find_2
def dkwX1_find_0 : List UInt8 := [42, 180, 0, 125, 153, 0, 4, 177, 42, 4, 181, 0, 125, 42, 3, 181, 0, 221, 42, 3, 181, 0, 199, 42]
abbrev dktX1_find_0 : List UInt8 := dkwX1_find_0 ++ dktX1_find_1
theorem dksX1_find_0 : cX1_find.data.toList.drop 0 = dktX1_find_0 := by decide +kernel
theorem dksX1_find_1 : cX1_find.data.toList.drop 24 = dktX1_find_1 := dk_seg dksX1_find_0 24 rfl rfl
theorem dksX1_find_2 : cX1_find.data.toList.drop 48 = dktX1_find_2 := dk_seg dksX1_find_1 24 rfl rfl
theorem dksX1_find_3 : cX1_find.data.toList.drop 71 = dktX1_find_3 := dk_seg dksX1_find_2 23 rfl rfl
theorem dksX1_find_4 : cX1_find.data.toList.drop 93 = dktX1_find_4 := dk_seg dksX1_find_3 22 rfl rfl
theorem dksX1_find_5 : cX1_find.data.toList.drop 115 = dktX1_find_5 := dk_seg dksX1_find_4 22 rfl rfl
theorem dksX1_find_6 : cX1_find.data.toList.drop 138 = dktX1_find_6 := dk_seg dksX1_find_5 23 rfl rfl
theorem dksX1_find_7 : cX1_find.data.toList.drop 162 = dktX1_find_7 := dk_seg dksX1_find_6 24 rfl rfl
abbrev cX1_grow : ByteArray := prog_1_method_25_code
def dkwX1_grow_5 : List UInt8 := [182, 0, 212, 167, 0, 7, 42, 182, 0, 215, 42, 180, 0, 48, 182, 0, 218, 132, 1, 1, 167, 255, 135, 177]
abbrev dktX1_grow_5 : List UInt8 := dkwX1_grow_5 ++ []
def dkwX1_grow_4 : List UInt8 := [180, 0, 48, 27, 182, 0, 209, 42, 180, 0, 48, 182, 0, 203, 42, 180, 0, 112, 160, 0, 10, 42]
abbrev dktX1_grow_4 : List UInt8 := dkwX1_grow_4 ++ dktX1_grow_5
def dkwX1_grow_3 : List UInt8 := [180, 0, 208, 182, 0, 179, 154, 0, 6, 167, 0, 53, 42, 89, 180, 0, 199, 4, 96, 181, 0, 199, 42]
abbrev dktX1_grow_3 : List UInt8 := dkwX1_grow_3 ++ dktX1_grow_4
def dkwX1_grow_2 : List UInt8 := [182, 0, 149, 96, 42, 180, 0, 112, 163, 0, 78, 42, 27, 42, 180, 0, 48, 182, 0, 205, 42, 180, 0, 48]
abbrev dktX1_grow_2 : List UInt8 := dkwX1_grow_2 ++ dktX1_grow_3
def dkwX1_grow_1 : List UInt8 := [162, 0, 116, 42, 180, 0, 199, 18, 202, 163, 0, 107, 42, 180, 0, 48, 182, 0, 203, 42, 180, 0, 24, 27]
abbrev dktX1_grow_1 : List UInt8 := dkwX1_grow_1 ++ dktX1_grow_2
def dkwX1_grow_0 : List UInt8 := [42, 180, 0, 48, 180, 0, 196, 16, 12, 160, 0, 4, 177, 3, 60, 27, 42, 180, 0, 24, 182, 0, 138]
abbrev dktX1_grow_0 : List UInt8 := dkwX1_grow_0 ++ dktX1_grow_1
theorem dksX1_grow_0 : cX1_grow.data.toList.drop 0 = dktX1_grow_0 := by decide +kernel
theorem dksX1_grow_1 : cX1_grow.data.toList.drop 23 = dktX1_grow_1 := dk_seg dksX1_grow_0 23 rfl rfl
theorem dksX1_grow_2 : cX1_grow.data.toList.drop 47 = dktX1_grow_2 := dk_seg dksX1_grow_1 24 rfl rfl
theorem dksX1_grow_3 : cX1_grow.data.toList.drop 71 = dktX1_grow_3 := dk_seg dksX1_grow_2 24 rfl rfl
theorem dksX1_grow_4 : cX1_grow.data.toList.drop 94 = dktX1_grow_4 := dk_seg dksX1_grow_3 23 rfl rfl
theorem dksX1_grow_5 : cX1_grow.data.toList.drop 116 = dktX1_grow_5 := dk_seg dksX1_grow_4 22 rfl rfl
abbrev cX1_keep1 : ByteArray := prog_1_method_26_code
def dkwX1_keep1_4 : List UInt8 := [180, 0, 221, 4, 96, 181, 0, 221, 177]
abbrev dktX1_keep1_4 : List UInt8 := dkwX1_keep1_4 ++ []
def dkwX1_keep1_3 : List UInt8 := [183, 0, 45, 83, 42, 180, 0, 55, 42, 180, 0, 221, 50, 42, 180, 0, 48, 182, 0, 234, 42, 89]
abbrev dktX1_keep1_3 : List UInt8 := dkwX1_keep1_3 ++ dktX1_keep1_4
def dkwX1_keep1_2 : List UInt8 := [180, 0, 55, 42, 180, 0, 221, 50, 199, 0, 20, 42, 180, 0, 55, 42, 180, 0, 221, 187, 0, 43, 89, 42]
abbrev dktX1_keep1_2 : List UInt8 := dkwX1_keep1_2 ++ dktX1_keep1_3
def dkwX1_keep1_1 : List UInt8 := [182, 0, 228, 42, 180, 0, 24, 180, 0, 231, 164, 0, 4, 177, 42, 180, 0, 221, 16, 60, 162, 0, 48, 42]
abbrev dktX1_keep1_1 : List UInt8 := dkwX1_keep1_1 ++ dktX1_keep1_2
def dkwX1_keep1_0 : List UInt8 := [42, 180, 0, 221, 16, 60, 163, 0, 30, 42, 180, 0, 48, 182, 0, 224, 153, 0, 20, 42, 180, 0, 48]
abbrev dktX1_keep1_0 : List UInt8 := dkwX1_keep1_0 ++ dktX1_keep1_1
theorem dksX1_keep1_0 : cX1_keep1.data.toList.drop 0 = dktX1_keep1_0 := by decide +kernel
theorem dksX1_keep1_1 : cX1_keep1.data.toList.drop 23 = dktX1_keep1_1 := dk_seg dksX1_keep1_0 23 rfl rfl
theorem dksX1_keep1_2 : cX1_keep1.data.toList.drop 47 = dktX1_keep1_2 := dk_seg dksX1_keep1_1 24 rfl rfl
theorem dksX1_keep1_3 : cX1_keep1.data.toList.drop 71 = dktX1_keep1_3 := dk_seg dksX1_keep1_2 24 rfl rfl
theorem dksX1_keep1_4 : cX1_keep1.data.toList.drop 93 = dktX1_keep1_4 := dk_seg dksX1_keep1_3 22 rfl rfl
abbrev cX1_knownBy : ByteArray := prog_1_method_23_code
def dkwX1_knownBy_0 : List UInt8 := [42, 180, 0, 33, 156, 0, 10, 42, 180, 0, 115, 167, 0, 7, 42, 180, 0, 33, 172]
abbrev dktX1_knownBy_0 : List UInt8 := dkwX1_knownBy_0 ++ []
theorem dksX1_knownBy_0 : cX1_knownBy.data.toList.drop 0 = dktX1_knownBy_0 := by decide +kernel
abbrev cX1_isKnown : ByteArray := prog_1_method_24_code
def dkwX1_isKnown_1 : List UInt8 := [154, 0, 7, 4, 167, 0, 4, 3, 172]
abbrev dktX1_isKnown_1 : List UInt8 := dkwX1_isKnown_1 ++ []
def dkwX1_isKnown_0 : List UInt8 := [27, 3, 42, 182, 0, 193, 4, 100, 184, 0, 88, 153, 0, 18, 42, 180, 0, 118, 27, 184, 0, 190]
abbrev dktX1_isKnown_0 : List UInt8 := dkwX1_isKnown_0 ++ dktX1_isKnown_1
theorem dksX1_isKnown_0 : cX1_isKnown.data.toList.drop 0 = dktX1_isKnown_0 := by decide +kernel
theorem dksX1_isKnown_1 : cX1_isKnown.data.toList.drop 22 = dktX1_isKnown_1 := dk_seg dksX1_isKnown_0 22 rfl rfl
abbrev cX1_scoreOf : ByteArray := prog_1_method_27_code
def dkwX1_scoreOf_6 : List UInt8 := [180, 0, 68, 180, 0, 248, 153, 0, 7, 9, 167, 0, 5, 22, 4, 173]
abbrev dktX1_scoreOf_6 : List UInt8 := dkwX1_scoreOf_6 ++ []
def dkwX1_scoreOf_5 : List UInt8 := [181, 0, 248, 42, 180, 0, 24, 180, 0, 241, 42, 180, 0, 68, 185, 0, 251, 2, 0, 55, 4, 42]
abbrev dktX1_scoreOf_5 : List UInt8 := dkwX1_scoreOf_5 ++ dktX1_scoreOf_6
def dkwX1_scoreOf_4 : List UInt8 := [180, 0, 208, 133, 80, 42, 180, 0, 68, 180, 0, 245, 8, 43, 182, 0, 203, 133, 80, 42, 180, 0, 68, 3]
abbrev dktX1_scoreOf_4 : List UInt8 := dkwX1_scoreOf_4 ++ dktX1_scoreOf_5
def dkwX1_scoreOf_3 : List UInt8 := [180, 0, 68, 180, 0, 245, 6, 43, 180, 0, 196, 133, 80, 42, 180, 0, 68, 180, 0, 245, 7, 43]
abbrev dktX1_scoreOf_3 : List UInt8 := dkwX1_scoreOf_3 ++ dktX1_scoreOf_4
def dkwX1_scoreOf_2 : List UInt8 := [180, 0, 196, 4, 100, 104, 28, 100, 133, 80, 42, 180, 0, 68, 180, 0, 245, 5, 29, 133, 80, 42]
abbrev dktX1_scoreOf_2 : List UInt8 := dkwX1_scoreOf_2 ++ dktX1_scoreOf_3
def dkwX1_scoreOf_1 : List UInt8 := [173, 42, 180, 0, 68, 180, 0, 245, 3, 28, 133, 80, 42, 180, 0, 68, 180, 0, 245, 4, 5, 43]
abbrev dktX1_scoreOf_1 : List UInt8 := dkwX1_scoreOf_1 ++ dktX1_scoreOf_2
def dkwX1_scoreOf_0 : List UInt8 := [43, 182, 0, 238, 61, 43, 182, 0, 228, 62, 42, 180, 0, 24, 180, 0, 241, 199, 0, 8, 28, 29, 100, 133]
abbrev dktX1_scoreOf_0 : List UInt8 := dkwX1_scoreOf_0 ++ dktX1_scoreOf_1
theorem dksX1_scoreOf_0 : cX1_scoreOf.data.toList.drop 0 = dktX1_scoreOf_0 := by decide +kernel
theorem dksX1_scoreOf_1 : cX1_scoreOf.data.toList.drop 24 = dktX1_scoreOf_1 := dk_seg dksX1_scoreOf_0 24 rfl rfl
theorem dksX1_scoreOf_2 : cX1_scoreOf.data.toList.drop 46 = dktX1_scoreOf_2 := dk_seg dksX1_scoreOf_1 22 rfl rfl
theorem dksX1_scoreOf_3 : cX1_scoreOf.data.toList.drop 68 = dktX1_scoreOf_3 := dk_seg dksX1_scoreOf_2 22 rfl rfl
theorem dksX1_scoreOf_4 : cX1_scoreOf.data.toList.drop 90 = dktX1_scoreOf_4 := dk_seg dksX1_scoreOf_3 22 rfl rfl
theorem dksX1_scoreOf_5 : cX1_scoreOf.data.toList.drop 114 = dktX1_scoreOf_5 := dk_seg dksX1_scoreOf_4 24 rfl rfl
theorem dksX1_scoreOf_6 : cX1_scoreOf.data.toList.drop 136 = dktX1_scoreOf_6 := dk_seg dksX1_scoreOf_5 22 rfl rfl
abbrev cX1_string : ByteArray := prog_1_method_31_code
def dkwX1_string_3 : List UInt8 := [180, 0, 55, 27, 50, 180, 1, 23, 28, 46, 167, 0, 5, 16, 254, 172]
abbrev dktX1_string_3 : List UInt8 := dkwX1_string_3 ++ []
def dkwX1_string_2 : List UInt8 := [27, 50, 180, 0, 196, 167, 0, 32, 28, 42, 180, 0, 55, 27, 50, 180, 0, 196, 162, 0, 17, 42]
abbrev dktX1_string_2 : List UInt8 := dkwX1_string_2 ++ dktX1_string_3
def dkwX1_string_1 : List UInt8 := [42, 180, 1, 4, 153, 0, 6, 16, 254, 172, 29, 154, 0, 5, 2, 172, 28, 156, 0, 15, 42, 180, 0, 55]
abbrev dktX1_string_1 : List UInt8 := dkwX1_string_1 ++ dktX1_string_2
def dkwX1_string_0 : List UInt8 := [42, 180, 0, 112, 153, 0, 12, 27, 155, 0, 8, 28, 2, 162, 0, 5, 2, 172, 42, 27, 182, 1, 20, 62]
abbrev dktX1_string_0 : List UInt8 := dkwX1_string_0 ++ dktX1_string_1
theorem dksX1_string_0 : cX1_string.data.toList.drop 0 = dktX1_string_0 := by decide +kernel
theorem dksX1_string_1 : cX1_string.data.toList.drop 24 = dktX1_string_1 := dk_seg dksX1_string_0 24 rfl rfl
theorem dksX1_string_2 : cX1_string.data.toList.drop 48 = dktX1_string_2 := dk_seg dksX1_string_1 24 rfl rfl
theorem dksX1_string_3 : cX1_string.data.toList.drop 70 = dktX1_string_3 := dk_seg dksX1_string_2 22 rfl rfl
abbrev cX1_isFound : ByteArray := prog_1_method_29_code
def dkwX1_isFound_0 : List UInt8 := [42, 182, 1, 17, 27, 3, 42, 180, 0, 221, 4, 100, 184, 0, 88, 172]
abbrev dktX1_isFound_0 : List UInt8 := dkwX1_isFound_0 ++ []
theorem dksX1_isFound_0 : cX1_isFound.data.toList.drop 0 = dktX1_isFound_0 := by decide +kernel
abbrev cX1_looks : ByteArray := prog_1_method_32_code
def dkwX1_looks_0 : List UInt8 := [42, 180, 0, 112, 154, 0, 5, 2, 172, 42, 182, 1, 17, 42, 180, 0, 199, 172]
abbrev dktX1_looks_0 : List UInt8 := dkwX1_looks_0 ++ []
theorem dksX1_looks_0 : cX1_looks.data.toList.drop 0 = dktX1_looks_0 := by decide +kernel
abbrev cX1_judge : ByteArray := prog_1_method_35_code
def dkwX1_judge_4 : List UInt8 := [167, 0, 20, 21, 5, 42, 180, 0, 24, 180, 0, 231, 164, 0, 7, 6, 167, 0, 4, 3, 172]
abbrev dktX1_judge_4 : List UInt8 := dkwX1_judge_4 ++ []
def dkwX1_judge_3 : List UInt8 := [160, 0, 8, 21, 5, 167, 0, 38, 42, 180, 0, 52, 182, 0, 203, 42, 180, 0, 112, 159, 0, 7, 5]
abbrev dktX1_judge_3 : List UInt8 := dkwX1_judge_3 ++ dktX1_judge_4
def dkwX1_judge_2 : List UInt8 := [172, 21, 4, 4, 160, 0, 8, 42, 182, 1, 38, 172, 42, 180, 0, 52, 182, 0, 228, 54, 5, 21, 4, 5]
abbrev dktX1_judge_2 : List UInt8 := dkwX1_judge_2 ++ dktX1_judge_3
def dkwX1_judge_1 : List UInt8 := [154, 0, 5, 2, 172, 42, 27, 32, 182, 1, 34, 154, 0, 14, 21, 4, 154, 0, 7, 4, 167, 0, 4, 2]
abbrev dktX1_judge_1 : List UInt8 := dkwX1_judge_1 ++ dktX1_judge_2
def dkwX1_judge_0 : List UInt8 := [42, 180, 0, 112, 153, 0, 23, 27, 4, 16, 12, 184, 0, 88, 153, 0, 13, 21, 4, 3, 5, 184, 0, 88]
abbrev dktX1_judge_0 : List UInt8 := dkwX1_judge_0 ++ dktX1_judge_1
theorem dksX1_judge_0 : cX1_judge.data.toList.drop 0 = dktX1_judge_0 := by decide +kernel
theorem dksX1_judge_1 : cX1_judge.data.toList.drop 24 = dktX1_judge_1 := dk_seg dksX1_judge_0 24 rfl rfl
theorem dksX1_judge_2 : cX1_judge.data.toList.drop 48 = dktX1_judge_2 := dk_seg dksX1_judge_1 24 rfl rfl
theorem dksX1_judge_3 : cX1_judge.data.toList.drop 72 = dktX1_judge_3 := dk_seg dksX1_judge_2 24 rfl rfl
theorem dksX1_judge_4 : cX1_judge.data.toList.drop 95 = dktX1_judge_4 := dk_seg dksX1_judge_3 23 rfl rfl
abbrev cX1_isString : ByteArray := prog_1_method_33_code
def dkwX1_isString_3 : List UInt8 := [182, 0, 209, 132, 4, 1, 167, 255, 191, 42, 180, 0, 52, 182, 0, 224, 172]
abbrev dktX1_isString_3 : List UInt8 := dkwX1_isString_3 ++ []
def dkwX1_isString_2 : List UInt8 := [182, 0, 205, 42, 180, 0, 52, 180, 0, 208, 182, 0, 179, 154, 0, 5, 3, 172, 42, 180, 0, 52, 21, 5]
abbrev dktX1_isString_2 : List UInt8 := dkwX1_isString_2 ++ dktX1_isString_3
def dkwX1_isString_1 : List UInt8 := [20, 1, 26, 127, 136, 54, 5, 42, 21, 5, 182, 0, 142, 153, 0, 26, 42, 21, 5, 42, 180, 0, 52]
abbrev dktX1_isString_1 : List UInt8 := dkwX1_isString_1 ++ dktX1_isString_2
def dkwX1_isString_0 : List UInt8 := [42, 180, 0, 52, 182, 1, 1, 3, 54, 4, 21, 4, 27, 162, 0, 65, 32, 7, 21, 4, 104, 123]
abbrev dktX1_isString_0 : List UInt8 := dkwX1_isString_0 ++ dktX1_isString_1
theorem dksX1_isString_0 : cX1_isString.data.toList.drop 0 = dktX1_isString_0 := by decide +kernel
theorem dksX1_isString_1 : cX1_isString.data.toList.drop 22 = dktX1_isString_1 := dk_seg dksX1_isString_0 22 rfl rfl
theorem dksX1_isString_2 : cX1_isString.data.toList.drop 45 = dktX1_isString_2 := dk_seg dksX1_isString_1 23 rfl rfl
theorem dksX1_isString_3 : cX1_isString.data.toList.drop 69 = dktX1_isString_3 := dk_seg dksX1_isString_2 24 rfl rfl
abbrev cX1_firstStray : ByteArray := prog_1_method_34_code
def dkwX1_firstStray_1 : List UInt8 := [182, 1, 31, 154, 0, 5, 27, 172, 132, 1, 1, 167, 255, 224, 2, 172]
abbrev dktX1_firstStray_1 : List UInt8 := dkwX1_firstStray_1 ++ []
def dkwX1_firstStray_0 : List UInt8 := [3, 60, 27, 42, 182, 0, 193, 162, 0, 30, 42, 27, 182, 1, 28, 153, 0, 16, 42, 180, 0, 52, 27]
abbrev dktX1_firstStray_0 : List UInt8 := dkwX1_firstStray_0 ++ dktX1_firstStray_1
theorem dksX1_firstStray_0 : cX1_firstStray.data.toList.drop 0 = dktX1_firstStray_0 := by decide +kernel
theorem dksX1_firstStray_1 : cX1_firstStray.data.toList.drop 23 = dktX1_firstStray_1 := dk_seg dksX1_firstStray_0 23 rfl rfl
abbrev cX1_whence : ByteArray := prog_1_method_37_code
def dkwX1_whence_8 : List UInt8 := [5, 21, 7, 21, 8, 25, 4, 21, 7, 21, 8, 182, 1, 58, 21, 6, 100, 182, 1, 48, 172]
abbrev dktX1_whence_8 : List UInt8 := dkwX1_whence_8 ++ []
def dkwX1_whence_7 : List UInt8 := [54, 7, 21, 7, 156, 0, 7, 19, 1, 41, 172, 25, 4, 21, 7, 21, 6, 182, 1, 55, 54, 8, 42, 29]
abbrev dktX1_whence_7 : List UInt8 := dkwX1_whence_7 ++ dktX1_whence_8
def dkwX1_whence_6 : List UInt8 := [132, 7, 1, 167, 255, 175, 21, 5, 5, 161, 0, 13, 25, 4, 21, 6, 182, 1, 52, 167, 0, 4, 2]
abbrev dktX1_whence_6 : List UInt8 := dkwX1_whence_6 ++ dktX1_whence_7
def dkwX1_whence_5 : List UInt8 := [180, 0, 196, 21, 8, 100, 21, 8, 25, 4, 21, 7, 21, 8, 182, 1, 45, 21, 6, 100, 182, 1, 48, 172]
abbrev dktX1_whence_5 : List UInt8 := dkwX1_whence_5 ++ dktX1_whence_6
def dkwX1_whence_4 : List UInt8 := [54, 8, 21, 8, 158, 0, 42, 42, 29, 21, 7, 21, 7, 154, 0, 7, 3, 167, 0, 11, 25, 4]
abbrev dktX1_whence_4 : List UInt8 := dkwX1_whence_4 ++ dktX1_whence_5
def dkwX1_whence_3 : List UInt8 := [21, 7, 159, 0, 9, 21, 5, 6, 160, 0, 15, 25, 4, 21, 7, 21, 6, 182, 1, 42, 167, 0, 4, 3]
abbrev dktX1_whence_3 : List UInt8 := dkwX1_whence_3 ++ dktX1_whence_4
def dkwX1_whence_2 : List UInt8 := [28, 46, 54, 5, 42, 180, 0, 40, 28, 46, 54, 6, 3, 54, 7, 21, 7, 4, 163, 0, 81, 21, 5]
abbrev dktX1_whence_2 : List UInt8 := dkwX1_whence_2 ++ dktX1_whence_3
def dkwX1_whence_1 : List UInt8 := [42, 27, 182, 1, 20, 154, 0, 7, 19, 1, 41, 172, 42, 180, 0, 55, 27, 50, 58, 4, 42, 180, 0, 36]
abbrev dktX1_whence_1 : List UInt8 := dkwX1_whence_1 ++ dktX1_whence_2
def dkwX1_whence_0 : List UInt8 := [42, 180, 0, 112, 153, 0, 28, 42, 28, 182, 1, 28, 153, 0, 20, 29, 3, 6, 184, 0, 88, 153, 0, 11]
abbrev dktX1_whence_0 : List UInt8 := dkwX1_whence_0 ++ dktX1_whence_1
theorem dksX1_whence_0 : cX1_whence.data.toList.drop 0 = dktX1_whence_0 := by decide +kernel
theorem dksX1_whence_1 : cX1_whence.data.toList.drop 24 = dktX1_whence_1 := dk_seg dksX1_whence_0 24 rfl rfl
theorem dksX1_whence_2 : cX1_whence.data.toList.drop 48 = dktX1_whence_2 := dk_seg dksX1_whence_1 24 rfl rfl
theorem dksX1_whence_3 : cX1_whence.data.toList.drop 71 = dktX1_whence_3 := dk_seg dksX1_whence_2 23 rfl rfl
theorem dksX1_whence_4 : cX1_whence.data.toList.drop 95 = dktX1_whence_4 := dk_seg dksX1_whence_3 24 rfl rfl
theorem dksX1_whence_5 : cX1_whence.data.toList.drop 117 = dktX1_whence_5 := dk_seg dksX1_whence_4 22 rfl rfl
theorem dksX1_whence_6 : cX1_whence.data.toList.drop 141 = dktX1_whence_6 := dk_seg dksX1_whence_5 24 rfl rfl
theorem dksX1_whence_7 : cX1_whence.data.toList.drop 164 = dktX1_whence_7 := dk_seg dksX1_whence_6 23 rfl rfl
theorem dksX1_whence_8 : cX1_whence.data.toList.drop 188 = dktX1_whence_8 := dk_seg dksX1_whence_7 24 rfl rfl
abbrev cX1_told : ByteArray := prog_1_method_36_code
def dkwX1_told_1 : List UInt8 := [167, 0, 5, 21, 5, 172]
abbrev dktX1_told_1 : List UInt8 := dkwX1_told_1 ++ []
def dkwX1_told_0 : List UInt8 := [27, 154, 0, 7, 28, 167, 0, 24, 27, 4, 160, 0, 7, 29, 167, 0, 15, 27, 5, 160, 0, 8, 21, 4]
abbrev dktX1_told_0 : List UInt8 := dkwX1_told_0 ++ dktX1_told_1
theorem dksX1_told_0 : cX1_told.data.toList.drop 0 = dktX1_told_0 := by decide +kernel
theorem dksX1_told_1 : cX1_told.data.toList.drop 24 = dktX1_told_1 := dk_seg dksX1_told_0 24 rfl rfl
abbrev cX1_score : ByteArray := prog_1_method_38_code
def dkwX1_score_1 : List UInt8 := [20, 1, 61, 173]
abbrev dktX1_score_1 : List UInt8 := dkwX1_score_1 ++ []
def dkwX1_score_0 : List UInt8 := [42, 180, 0, 112, 158, 0, 20, 42, 27, 182, 1, 20, 153, 0, 12, 42, 180, 0, 62, 27, 47, 167, 0, 6]
abbrev dktX1_score_0 : List UInt8 := dkwX1_score_0 ++ dktX1_score_1
theorem dksX1_score_0 : cX1_score.data.toList.drop 0 = dktX1_score_0 := by decide +kernel
theorem dksX1_score_1 : cX1_score.data.toList.drop 24 = dktX1_score_1 := dk_seg dksX1_score_0 24 rfl rfl
abbrev cX1_rank : ByteArray := prog_1_method_39_code
def dkwX1_rank_1 : List UInt8 := [153, 0, 8, 16, 254, 167, 0, 17, 28, 153, 0, 12, 42, 180, 0, 59, 27, 46, 167, 0, 4, 2, 172]
abbrev dktX1_rank_1 : List UInt8 := dkwX1_rank_1 ++ []
def dkwX1_rank_0 : List UInt8 := [42, 180, 0, 112, 153, 0, 7, 27, 156, 0, 5, 2, 172, 42, 27, 182, 1, 20, 61, 42, 180, 1, 4]
abbrev dktX1_rank_0 : List UInt8 := dkwX1_rank_0 ++ dktX1_rank_1
theorem dksX1_rank_0 : cX1_rank.data.toList.drop 0 = dktX1_rank_0 := by decide +kernel
theorem dksX1_rank_1 : cX1_rank.data.toList.drop 23 = dktX1_rank_1 := dk_seg dksX1_rank_0 23 rfl rfl
abbrev cX1_ties : ByteArray := prog_1_method_40_code
def dkwX1_ties_3 : List UInt8 := [172]
abbrev dktX1_ties_3 : List UInt8 := dkwX1_ties_3 ++ []
def dkwX1_ties_2 : List UInt8 := [180, 0, 59, 3, 46, 47, 148, 154, 0, 7, 4, 167, 0, 4, 3, 96, 60, 132, 2, 1, 167, 255, 216, 27]
abbrev dktX1_ties_2 : List UInt8 := dkwX1_ties_2 ++ dktX1_ties_3
def dkwX1_ties_1 : List UInt8 := [60, 3, 61, 28, 42, 180, 0, 221, 162, 0, 38, 27, 42, 180, 0, 62, 28, 47, 42, 180, 0, 62, 42]
abbrev dktX1_ties_1 : List UInt8 := dkwX1_ties_1 ++ dktX1_ties_2
def dkwX1_ties_0 : List UInt8 := [42, 180, 0, 112, 154, 0, 5, 2, 172, 42, 182, 1, 17, 42, 180, 1, 4, 153, 0, 6, 16, 254, 172, 3]
abbrev dktX1_ties_0 : List UInt8 := dkwX1_ties_0 ++ dktX1_ties_1
theorem dksX1_ties_0 : cX1_ties.data.toList.drop 0 = dktX1_ties_0 := by decide +kernel
theorem dksX1_ties_1 : cX1_ties.data.toList.drop 24 = dktX1_ties_1 := dk_seg dksX1_ties_0 24 rfl rfl
theorem dksX1_ties_2 : cX1_ties.data.toList.drop 47 = dktX1_ties_2 := dk_seg dksX1_ties_1 23 rfl rfl
theorem dksX1_ties_3 : cX1_ties.data.toList.drop 71 = dktX1_ties_3 := dk_seg dksX1_ties_2 24 rfl rfl
abbrev cX1_has : ByteArray := prog_1_method_41_code
def dkwX1_has_4 : List UInt8 := [182, 0, 228, 167, 0, 8, 25, 4, 180, 0, 208, 172]
abbrev dktX1_has_4 : List UInt8 := dkwX1_has_4 ++ []
def dkwX1_has_3 : List UInt8 := [180, 0, 196, 4, 100, 104, 25, 4, 182, 0, 238, 100, 167, 0, 21, 28, 5, 160, 0, 11, 25, 4]
abbrev dktX1_has_3 : List UInt8 := dkwX1_has_3 ++ dktX1_has_4
def dkwX1_has_2 : List UInt8 := [27, 50, 58, 4, 28, 154, 0, 11, 25, 4, 182, 0, 238, 167, 0, 44, 28, 4, 160, 0, 21, 5, 25, 4]
abbrev dktX1_has_2 : List UInt8 := dkwX1_has_2 ++ dktX1_has_3
def dkwX1_has_1 : List UInt8 := [182, 1, 20, 62, 42, 180, 1, 4, 153, 0, 6, 16, 254, 172, 29, 154, 0, 5, 2, 172, 42, 180, 0, 55]
abbrev dktX1_has_1 : List UInt8 := dkwX1_has_1 ++ dktX1_has_2
def dkwX1_has_0 : List UInt8 := [42, 180, 0, 112, 153, 0, 16, 27, 155, 0, 12, 28, 3, 6, 184, 0, 88, 154, 0, 5, 2, 172, 42, 27]
abbrev dktX1_has_0 : List UInt8 := dkwX1_has_0 ++ dktX1_has_1
theorem dksX1_has_0 : cX1_has.data.toList.drop 0 = dktX1_has_0 := by decide +kernel
theorem dksX1_has_1 : cX1_has.data.toList.drop 24 = dktX1_has_1 := dk_seg dksX1_has_0 24 rfl rfl
theorem dksX1_has_2 : cX1_has.data.toList.drop 48 = dktX1_has_2 := dk_seg dksX1_has_1 24 rfl rfl
theorem dksX1_has_3 : cX1_has.data.toList.drop 72 = dktX1_has_3 := dk_seg dksX1_has_2 24 rfl rfl
theorem dksX1_has_4 : cX1_has.data.toList.drop 94 = dktX1_has_4 := dk_seg dksX1_has_3 22 rfl rfl
abbrev cX1_tree : ByteArray := prog_1_method_46_code
def dkwX1_tree_6 : List UInt8 := [167, 255, 208, 2, 172]
abbrev dktX1_tree_6 : List UInt8 := dkwX1_tree_6 ++ []
def dkwX1_tree_5 : List UInt8 := [160, 0, 11, 21, 5, 16, 11, 108, 167, 0, 10, 21, 5, 16, 11, 112, 4, 96, 172, 132, 5, 1]
abbrev dktX1_tree_5 : List UInt8 := dkwX1_tree_5 ++ dktX1_tree_6
def dkwX1_tree_4 : List UInt8 := [16, 22, 162, 0, 47, 21, 4, 158, 0, 42, 42, 32, 21, 5, 21, 4, 182, 1, 69, 153, 0, 24, 27, 4]
abbrev dktX1_tree_4 : List UInt8 := dkwX1_tree_4 ++ dktX1_tree_5
def dkwX1_tree_3 : List UInt8 := [167, 255, 237, 21, 4, 7, 160, 0, 6, 16, 254, 172, 27, 154, 0, 6, 21, 4, 172, 3, 54, 5, 21, 5]
abbrev dktX1_tree_3 : List UInt8 := dkwX1_tree_3 ++ dktX1_tree_4
def dkwX1_tree_2 : List UInt8 := [65, 3, 54, 4, 21, 4, 7, 162, 0, 19, 42, 32, 21, 4, 182, 1, 81, 154, 0, 9, 132, 4, 1]
abbrev dktX1_tree_2 : List UInt8 := dkwX1_tree_2 ++ dktX1_tree_3
def dkwX1_tree_1 : List UInt8 := [180, 1, 4, 154, 0, 10, 42, 180, 0, 221, 154, 0, 6, 16, 254, 172, 10, 42, 180, 0, 221, 121, 10, 101]
abbrev dktX1_tree_1 : List UInt8 := dkwX1_tree_1 ++ dktX1_tree_2
def dkwX1_tree_0 : List UInt8 := [42, 180, 0, 112, 153, 0, 12, 27, 3, 5, 184, 0, 88, 154, 0, 5, 2, 172, 42, 182, 1, 17, 42]
abbrev dktX1_tree_0 : List UInt8 := dkwX1_tree_0 ++ dktX1_tree_1
theorem dksX1_tree_0 : cX1_tree.data.toList.drop 0 = dktX1_tree_0 := by decide +kernel
theorem dksX1_tree_1 : cX1_tree.data.toList.drop 23 = dktX1_tree_1 := dk_seg dksX1_tree_0 23 rfl rfl
theorem dksX1_tree_2 : cX1_tree.data.toList.drop 47 = dktX1_tree_2 := dk_seg dksX1_tree_1 24 rfl rfl
theorem dksX1_tree_3 : cX1_tree.data.toList.drop 70 = dktX1_tree_3 := dk_seg dksX1_tree_2 23 rfl rfl
theorem dksX1_tree_4 : cX1_tree.data.toList.drop 94 = dktX1_tree_4 := dk_seg dksX1_tree_3 24 rfl rfl
theorem dksX1_tree_5 : cX1_tree.data.toList.drop 118 = dktX1_tree_5 := dk_seg dksX1_tree_4 24 rfl rfl
theorem dksX1_tree_6 : cX1_tree.data.toList.drop 140 = dktX1_tree_6 := dk_seg dksX1_tree_5 22 rfl rfl
abbrev cX1_leavesOne : ByteArray := prog_1_method_44_code
def dkwX1_leavesOne_1 : List UInt8 := [158, 0, 22, 42, 31, 21, 4, 29, 182, 1, 69, 153, 0, 5, 4, 172, 132, 4, 1, 167, 255, 229, 3, 172]
abbrev dktX1_leavesOne_1 : List UInt8 := dkwX1_leavesOne_1 ++ []
def dkwX1_leavesOne_0 : List UInt8 := [31, 31, 10, 101, 127, 9, 148, 154, 0, 5, 4, 172, 3, 54, 4, 21, 4, 16, 22, 162, 0, 26, 29]
abbrev dktX1_leavesOne_0 : List UInt8 := dkwX1_leavesOne_0 ++ dktX1_leavesOne_1
theorem dksX1_leavesOne_0 : cX1_leavesOne.data.toList.drop 0 = dktX1_leavesOne_0 := by decide +kernel
theorem dksX1_leavesOne_1 : cX1_leavesOne.data.toList.drop 23 = dktX1_leavesOne_1 := dk_seg dksX1_leavesOne_0 23 rfl rfl
abbrev cX1_parts1 : ByteArray := prog_1_method_45_code
def dkwX1_parts1_3 : List UInt8 := [55, 7, 167, 255, 199, 4, 172]
abbrev dktX1_parts1_3 : List UInt8 := dkwX1_parts1_3 ++ []
def dkwX1_parts1_2 : List UInt8 := [42, 22, 9, 21, 4, 4, 100, 182, 1, 81, 154, 0, 5, 3, 172, 22, 7, 22, 9, 20, 0, 184, 131, 127]
abbrev dktX1_parts1_2 : List UInt8 := dkwX1_parts1_2 ++ dktX1_parts1_3
def dkwX1_parts1_1 : List UInt8 := [42, 22, 7, 22, 7, 184, 1, 73, 21, 5, 21, 6, 182, 1, 77, 55, 9, 22, 9, 31, 148, 153, 0, 16]
abbrev dktX1_parts1_1 : List UInt8 := dkwX1_parts1_1 ++ dktX1_parts1_2
def dkwX1_parts1_0 : List UInt8 := [29, 16, 11, 108, 54, 5, 29, 16, 11, 112, 4, 96, 54, 6, 31, 55, 7, 22, 7, 9, 148, 153, 0, 56]
abbrev dktX1_parts1_0 : List UInt8 := dkwX1_parts1_0 ++ dktX1_parts1_1
theorem dksX1_parts1_0 : cX1_parts1.data.toList.drop 0 = dktX1_parts1_0 := by decide +kernel
theorem dksX1_parts1_1 : cX1_parts1.data.toList.drop 24 = dktX1_parts1_1 := dk_seg dksX1_parts1_0 24 rfl rfl
theorem dksX1_parts1_2 : cX1_parts1.data.toList.drop 48 = dktX1_parts1_2 := dk_seg dksX1_parts1_1 24 rfl rfl
theorem dksX1_parts1_3 : cX1_parts1.data.toList.drop 72 = dktX1_parts1_3 := dk_seg dksX1_parts1_2 24 rfl rfl
abbrev cX1_likeOf : ByteArray := prog_1_method_43_code
def dkwX1_likeOf_2 : List UInt8 := [160, 0, 12, 22, 6, 10, 21, 8, 121, 129, 55, 6, 132, 8, 1, 167, 255, 202, 22, 6, 173]
abbrev dktX1_likeOf_2 : List UInt8 := dkwX1_likeOf_2 ++ []
def dkwX1_likeOf_1 : List UInt8 := [154, 0, 34, 42, 21, 8, 21, 4, 21, 5, 182, 1, 66, 42, 29, 21, 4, 21, 5, 182, 1, 66]
abbrev dktX1_likeOf_1 : List UInt8 := dkwX1_likeOf_1 ++ dktX1_likeOf_2
def dkwX1_likeOf_0 : List UInt8 := [9, 55, 6, 3, 54, 8, 21, 8, 42, 180, 0, 221, 162, 0, 51, 31, 21, 8, 123, 10, 127, 10, 148]
abbrev dktX1_likeOf_0 : List UInt8 := dkwX1_likeOf_0 ++ dktX1_likeOf_1
theorem dksX1_likeOf_0 : cX1_likeOf.data.toList.drop 0 = dktX1_likeOf_0 := by decide +kernel
theorem dksX1_likeOf_1 : cX1_likeOf.data.toList.drop 23 = dktX1_likeOf_1 := dk_seg dksX1_likeOf_0 23 rfl rfl
theorem dksX1_likeOf_2 : cX1_likeOf.data.toList.drop 45 = dktX1_likeOf_2 := dk_seg dksX1_likeOf_1 22 rfl rfl
abbrev cX1_tells : ByteArray := prog_1_method_42_code
def dkwX1_tells_2 : List UInt8 := [25, 4, 180, 0, 196, 29, 100, 46, 100, 172]
abbrev dktX1_tells_2 : List UInt8 := dkwX1_tells_2 ++ []
def dkwX1_tells_1 : List UInt8 := [154, 0, 13, 25, 4, 180, 1, 63, 29, 46, 167, 0, 22, 25, 4, 182, 0, 203, 25, 4, 180, 1, 63]
abbrev dktX1_tells_1 : List UInt8 := dkwX1_tells_1 ++ dktX1_tells_2
def dkwX1_tells_0 : List UInt8 := [42, 180, 0, 55, 27, 50, 58, 4, 29, 25, 4, 180, 0, 196, 161, 0, 7, 2, 167, 0, 36, 28]
abbrev dktX1_tells_0 : List UInt8 := dkwX1_tells_0 ++ dktX1_tells_1
theorem dksX1_tells_0 : cX1_tells.data.toList.drop 0 = dktX1_tells_0 := by decide +kernel
theorem dksX1_tells_1 : cX1_tells.data.toList.drop 22 = dktX1_tells_1 := dk_seg dksX1_tells_0 22 rfl rfl
theorem dksX1_tells_2 : cX1_tells.data.toList.drop 45 = dktX1_tells_2 := dk_seg dksX1_tells_1 23 rfl rfl
abbrev cX1_plan : ByteArray := prog_1_method_47_code
def dkwX1_plan_6 : List UInt8 := [184, 1, 88, 62, 132, 4, 1, 167, 255, 180, 29, 172]
abbrev dktX1_plan_6 : List UInt8 := dkwX1_plan_6 ++ []
def dkwX1_plan_5 : List UInt8 := [21, 7, 104, 122, 16, 15, 126, 182, 1, 77, 55, 5, 132, 7, 1, 167, 255, 218, 29, 22, 5, 184, 1, 85]
abbrev dktX1_plan_5 : List UInt8 := dkwX1_plan_5 ++ dktX1_plan_6
def dkwX1_plan_4 : List UInt8 := [21, 7, 27, 162, 0, 38, 42, 22, 5, 21, 4, 28, 8, 21, 7, 104, 7, 96, 122, 4, 126, 28, 8]
abbrev dktX1_plan_4 : List UInt8 := dkwX1_plan_4 ++ dktX1_plan_5
def dkwX1_plan_3 : List UInt8 := [54, 4, 21, 4, 42, 180, 0, 221, 162, 0, 73, 10, 42, 180, 0, 221, 121, 10, 101, 55, 5, 3, 54, 7]
abbrev dktX1_plan_3 : List UInt8 := dkwX1_plan_3 ++ dktX1_plan_4
def dkwX1_plan_2 : List UInt8 := [132, 3, 1, 167, 255, 229, 42, 182, 1, 17, 42, 180, 1, 4, 153, 0, 6, 16, 254, 172, 3, 62, 3]
abbrev dktX1_plan_2 : List UInt8 := dkwX1_plan_2 ++ dktX1_plan_3
def dkwX1_plan_1 : List UInt8 := [162, 0, 28, 28, 8, 29, 104, 122, 16, 15, 126, 4, 16, 11, 184, 0, 88, 154, 0, 5, 2, 172]
abbrev dktX1_plan_1 : List UInt8 := dkwX1_plan_1 ++ dktX1_plan_2
def dkwX1_plan_0 : List UInt8 := [42, 180, 0, 112, 153, 0, 12, 27, 3, 6, 184, 0, 88, 154, 0, 5, 2, 172, 3, 62, 29, 27]
abbrev dktX1_plan_0 : List UInt8 := dkwX1_plan_0 ++ dktX1_plan_1
theorem dksX1_plan_0 : cX1_plan.data.toList.drop 0 = dktX1_plan_0 := by decide +kernel
theorem dksX1_plan_1 : cX1_plan.data.toList.drop 22 = dktX1_plan_1 := dk_seg dksX1_plan_0 22 rfl rfl
theorem dksX1_plan_2 : cX1_plan.data.toList.drop 44 = dktX1_plan_2 := dk_seg dksX1_plan_1 22 rfl rfl
theorem dksX1_plan_3 : cX1_plan.data.toList.drop 67 = dktX1_plan_3 := dk_seg dksX1_plan_2 23 rfl rfl
theorem dksX1_plan_4 : cX1_plan.data.toList.drop 91 = dktX1_plan_4 := dk_seg dksX1_plan_3 24 rfl rfl
theorem dksX1_plan_5 : cX1_plan.data.toList.drop 114 = dktX1_plan_5 := dk_seg dksX1_plan_4 23 rfl rfl
theorem dksX1_plan_6 : cX1_plan.data.toList.drop 138 = dktX1_plan_6 := dk_seg dksX1_plan_5 24 rfl rfl
abbrev cX1_alike : ByteArray := prog_1_method_49_code
def dkwX1_alike_3 : List UInt8 := [182, 1, 91, 156, 0, 7, 4, 167, 0, 4, 3, 96, 62, 132, 4, 1, 167, 255, 210, 29, 172]
abbrev dktX1_alike_3 : List UInt8 := dkwX1_alike_3 ++ []
def dkwX1_alike_2 : List UInt8 := [162, 0, 43, 29, 21, 4, 27, 159, 0, 27, 42, 42, 180, 0, 55, 21, 4, 50, 42, 180, 0, 55, 27, 50]
abbrev dktX1_alike_2 : List UInt8 := dkwX1_alike_2 ++ dktX1_alike_3
def dkwX1_alike_1 : List UInt8 := [153, 0, 6, 16, 254, 172, 28, 154, 0, 5, 2, 172, 3, 62, 3, 54, 4, 21, 4, 42, 180, 0, 221]
abbrev dktX1_alike_1 : List UInt8 := dkwX1_alike_1 ++ dktX1_alike_2
def dkwX1_alike_0 : List UInt8 := [42, 180, 0, 112, 153, 0, 7, 27, 156, 0, 5, 2, 172, 42, 27, 182, 1, 20, 61, 42, 180, 1, 4]
abbrev dktX1_alike_0 : List UInt8 := dkwX1_alike_0 ++ dktX1_alike_1
theorem dksX1_alike_0 : cX1_alike.data.toList.drop 0 = dktX1_alike_0 := by decide +kernel
theorem dksX1_alike_1 : cX1_alike.data.toList.drop 23 = dktX1_alike_1 := dk_seg dksX1_alike_0 23 rfl rfl
theorem dksX1_alike_2 : cX1_alike.data.toList.drop 46 = dktX1_alike_2 := dk_seg dksX1_alike_1 23 rfl rfl
theorem dksX1_alike_3 : cX1_alike.data.toList.drop 70 = dktX1_alike_3 := dk_seg dksX1_alike_2 24 rfl rfl
abbrev cX1_placeOf : ByteArray := prog_1_method_48_code
def dkwX1_placeOf_3 : List UInt8 := [29, 172, 132, 3, 1, 167, 255, 182, 2, 172]
abbrev dktX1_placeOf_3 : List UInt8 := dkwX1_placeOf_3 ++ []
def dkwX1_placeOf_2 : List UInt8 := [180, 1, 23, 29, 46, 182, 0, 149, 42, 180, 0, 24, 44, 180, 1, 23, 29, 46, 182, 0, 149, 159, 0, 5]
abbrev dktX1_placeOf_2 : List UInt8 := dkwX1_placeOf_2 ++ dktX1_placeOf_3
def dkwX1_placeOf_1 : List UInt8 := [2, 172, 29, 43, 180, 0, 196, 162, 0, 40, 29, 44, 180, 0, 196, 162, 0, 32, 42, 180, 0, 24, 43]
abbrev dktX1_placeOf_1 : List UInt8 := dkwX1_placeOf_1 ++ dktX1_placeOf_2
def dkwX1_placeOf_0 : List UInt8 := [3, 62, 29, 16, 12, 162, 0, 74, 29, 43, 180, 0, 196, 161, 0, 13, 29, 44, 180, 0, 196, 161, 0, 5]
abbrev dktX1_placeOf_0 : List UInt8 := dkwX1_placeOf_0 ++ dktX1_placeOf_1
theorem dksX1_placeOf_0 : cX1_placeOf.data.toList.drop 0 = dktX1_placeOf_0 := by decide +kernel
theorem dksX1_placeOf_1 : cX1_placeOf.data.toList.drop 24 = dktX1_placeOf_1 := dk_seg dksX1_placeOf_0 24 rfl rfl
theorem dksX1_placeOf_2 : cX1_placeOf.data.toList.drop 47 = dktX1_placeOf_2 := dk_seg dksX1_placeOf_1 23 rfl rfl
theorem dksX1_placeOf_3 : cX1_placeOf.data.toList.drop 71 = dktX1_placeOf_3 := dk_seg dksX1_placeOf_2 24 rfl rfl
abbrev cX1_parts : ByteArray := prog_1_method_50_code
def dkwX1_parts_1 : List UInt8 := [42, 180, 0, 55, 27, 50, 42, 180, 0, 55, 28, 50, 182, 1, 91, 167, 0, 5, 16, 254, 172]
abbrev dktX1_parts_1 : List UInt8 := dkwX1_parts_1 ++ []
def dkwX1_parts_0 : List UInt8 := [42, 180, 0, 112, 158, 0, 38, 42, 27, 182, 1, 20, 153, 0, 30, 42, 28, 182, 1, 20, 153, 0, 22, 42]
abbrev dktX1_parts_0 : List UInt8 := dkwX1_parts_0 ++ dktX1_parts_1
theorem dksX1_parts_0 : cX1_parts.data.toList.drop 0 = dktX1_parts_0 := by decide +kernel
theorem dksX1_parts_1 : cX1_parts.data.toList.drop 24 = dktX1_parts_1 := dk_seg dksX1_parts_0 24 rfl rfl
abbrev cX1_shifts : ByteArray := prog_1_method_52_code
def dkwX1_shifts_5 : List UInt8 := [167, 255, 197, 132, 4, 1, 167, 255, 156, 29, 172]
abbrev dktX1_shifts_5 : List UInt8 := dkwX1_shifts_5 ++ []
def dkwX1_shifts_4 : List UInt8 := [42, 180, 0, 40, 21, 4, 46, 100, 28, 160, 0, 7, 4, 167, 0, 4, 3, 96, 62, 132, 5, 1]
abbrev dktX1_shifts_4 : List UInt8 := dkwX1_shifts_4 ++ dktX1_shifts_5
def dkwX1_shifts_3 : List UInt8 := [182, 1, 28, 153, 0, 37, 42, 180, 0, 36, 21, 5, 46, 27, 160, 0, 26, 42, 180, 0, 40, 21, 5, 46]
abbrev dktX1_shifts_3 : List UInt8 := dkwX1_shifts_3 ++ dktX1_shifts_4
def dkwX1_shifts_2 : List UInt8 := [46, 27, 159, 0, 6, 167, 0, 68, 3, 54, 5, 21, 5, 42, 182, 0, 193, 162, 0, 56, 29, 42, 21, 5]
abbrev dktX1_shifts_2 : List UInt8 := dkwX1_shifts_2 ++ dktX1_shifts_3
def dkwX1_shifts_1 : List UInt8 := [21, 4, 42, 182, 0, 193, 162, 0, 97, 42, 21, 4, 182, 1, 28, 153, 0, 82, 42, 180, 0, 36, 21, 4]
abbrev dktX1_shifts_1 : List UInt8 := dkwX1_shifts_1 ++ dktX1_shifts_2
def dkwX1_shifts_0 : List UInt8 := [27, 3, 6, 184, 0, 88, 153, 0, 10, 28, 184, 1, 95, 154, 0, 5, 2, 172, 3, 62, 3, 54, 4]
abbrev dktX1_shifts_0 : List UInt8 := dkwX1_shifts_0 ++ dktX1_shifts_1
theorem dksX1_shifts_0 : cX1_shifts.data.toList.drop 0 = dktX1_shifts_0 := by decide +kernel
theorem dksX1_shifts_1 : cX1_shifts.data.toList.drop 23 = dktX1_shifts_1 := dk_seg dksX1_shifts_0 23 rfl rfl
theorem dksX1_shifts_2 : cX1_shifts.data.toList.drop 47 = dktX1_shifts_2 := dk_seg dksX1_shifts_1 24 rfl rfl
theorem dksX1_shifts_3 : cX1_shifts.data.toList.drop 71 = dktX1_shifts_3 := dk_seg dksX1_shifts_2 24 rfl rfl
theorem dksX1_shifts_4 : cX1_shifts.data.toList.drop 95 = dktX1_shifts_4 := dk_seg dksX1_shifts_3 24 rfl rfl
theorem dksX1_shifts_5 : cX1_shifts.data.toList.drop 117 = dktX1_shifts_5 := dk_seg dksX1_shifts_4 22 rfl rfl
abbrev cX1_isShift : ByteArray := prog_1_method_51_code
def dkwX1_isShift_0 : List UInt8 := [26, 4, 16, 99, 184, 0, 88, 172]
abbrev dktX1_isShift_0 : List UInt8 := dkwX1_isShift_0 ++ []
theorem dksX1_isShift_0 : cX1_isShift.data.toList.drop 0 = dktX1_isShift_0 := by decide +kernel
abbrev cX1_shift : ByteArray := prog_1_method_53_code
def dkwX1_shift_2 : List UInt8 := [132, 4, 1, 167, 255, 213, 28, 172]
abbrev dktX1_shift_2 : List UInt8 := dkwX1_shift_2 ++ []
def dkwX1_shift_1 : List UInt8 := [27, 21, 4, 182, 1, 98, 54, 5, 21, 5, 29, 163, 0, 6, 167, 0, 9, 21, 5, 62, 21, 4, 61]
abbrev dktX1_shift_1 : List UInt8 := dkwX1_shift_1 ++ dktX1_shift_2
def dkwX1_shift_0 : List UInt8 := [2, 61, 3, 62, 4, 54, 4, 21, 4, 16, 99, 163, 0, 42, 27, 3, 6, 184, 0, 88, 153, 0, 33, 42]
abbrev dktX1_shift_0 : List UInt8 := dkwX1_shift_0 ++ dktX1_shift_1
theorem dksX1_shift_0 : cX1_shift.data.toList.drop 0 = dktX1_shift_0 := by decide +kernel
theorem dksX1_shift_1 : cX1_shift.data.toList.drop 24 = dktX1_shift_1 := dk_seg dksX1_shift_0 24 rfl rfl
theorem dksX1_shift_2 : cX1_shift.data.toList.drop 47 = dktX1_shift_2 := dk_seg dksX1_shift_1 23 rfl rfl
abbrev cX1_world : ByteArray := prog_1_method_55_code
def dkwX1_world_7 : List UInt8 := [167, 255, 149, 21, 4, 156, 0, 8, 21, 6, 167, 0, 5, 16, 254, 172]
abbrev dktX1_world_7 : List UInt8 := dkwX1_world_7 ++ []
def dkwX1_world_6 : List UInt8 := [25, 5, 180, 0, 196, 4, 100, 112, 4, 96, 182, 1, 45, 21, 8, 96, 172, 132, 6, 1, 132, 7, 1]
abbrev dktX1_world_6 : List UInt8 := dkwX1_world_6 ++ dktX1_world_7
def dkwX1_world_5 : List UInt8 := [162, 0, 7, 3, 167, 0, 4, 4, 54, 9, 21, 6, 21, 4, 160, 0, 26, 25, 5, 21, 9, 21, 7]
abbrev dktX1_world_5 : List UInt8 := dkwX1_world_5 ++ dktX1_world_6
def dkwX1_world_4 : List UInt8 := [182, 1, 113, 42, 180, 0, 24, 180, 1, 116, 100, 54, 8, 21, 7, 25, 5, 180, 0, 196, 4, 100]
abbrev dktX1_world_4 : List UInt8 := dkwX1_world_4 ++ dktX1_world_5
def dkwX1_world_3 : List UInt8 := [16, 10, 182, 1, 113, 29, 161, 0, 6, 167, 0, 80, 42, 5, 42, 180, 0, 24, 180, 1, 116, 104, 4, 96]
abbrev dktX1_world_3 : List UInt8 := dkwX1_world_3 ++ dktX1_world_4
def dkwX1_world_2 : List UInt8 := [50, 58, 5, 3, 54, 6, 3, 54, 7, 21, 7, 5, 25, 5, 180, 0, 196, 4, 100, 104, 162, 0, 99, 42]
abbrev dktX1_world_2 : List UInt8 := dkwX1_world_2 ++ dktX1_world_3
def dkwX1_world_1 : List UInt8 := [161, 0, 11, 42, 27, 182, 1, 20, 154, 0, 5, 2, 172, 42, 28, 133, 181, 1, 101, 42, 180, 0, 55, 27]
abbrev dktX1_world_1 : List UInt8 := dkwX1_world_1 ++ dktX1_world_2
def dkwX1_world_0 : List UInt8 := [42, 180, 0, 112, 153, 0, 31, 28, 155, 0, 27, 29, 3, 16, 10, 184, 0, 88, 153, 0, 17, 21, 4, 2]
abbrev dktX1_world_0 : List UInt8 := dkwX1_world_0 ++ dktX1_world_1
theorem dksX1_world_0 : cX1_world.data.toList.drop 0 = dktX1_world_0 := by decide +kernel
theorem dksX1_world_1 : cX1_world.data.toList.drop 24 = dktX1_world_1 := dk_seg dksX1_world_0 24 rfl rfl
theorem dksX1_world_2 : cX1_world.data.toList.drop 48 = dktX1_world_2 := dk_seg dksX1_world_1 24 rfl rfl
theorem dksX1_world_3 : cX1_world.data.toList.drop 72 = dktX1_world_3 := dk_seg dksX1_world_2 24 rfl rfl
theorem dksX1_world_4 : cX1_world.data.toList.drop 96 = dktX1_world_4 := dk_seg dksX1_world_3 24 rfl rfl
theorem dksX1_world_5 : cX1_world.data.toList.drop 118 = dktX1_world_5 := dk_seg dksX1_world_4 22 rfl rfl
theorem dksX1_world_6 : cX1_world.data.toList.drop 141 = dktX1_world_6 := dk_seg dksX1_world_5 23 rfl rfl
theorem dksX1_world_7 : cX1_world.data.toList.drop 164 = dktX1_world_7 := dk_seg dksX1_world_6 23 rfl rfl
abbrev cX1_draw : ByteArray := prog_1_method_54_code
def dkwX1_draw_1 : List UInt8 := [20, 1, 111, 109, 27, 133, 113, 136, 172]
abbrev dktX1_draw_1 : List UInt8 := dkwX1_draw_1 ++ []
def dkwX1_draw_0 : List UInt8 := [42, 42, 180, 1, 101, 20, 1, 105, 105, 20, 1, 107, 97, 20, 1, 109, 127, 181, 1, 101, 42, 180, 1, 101]
abbrev dktX1_draw_0 : List UInt8 := dkwX1_draw_0 ++ dktX1_draw_1
theorem dksX1_draw_0 : cX1_draw.data.toList.drop 0 = dktX1_draw_0 := by decide +kernel
theorem dksX1_draw_1 : cX1_draw.data.toList.drop 24 = dktX1_draw_1 := dk_seg dksX1_draw_0 24 rfl rfl
abbrev cX1_keep : ByteArray := prog_1_method_56_code
def dkwX1_keep_3 : List UInt8 := [172]
abbrev dktX1_keep_3 : List UInt8 := dkwX1_keep_3 ++ []
def dkwX1_keep_2 : List UInt8 := [16, 24, 184, 1, 131, 42, 180, 0, 40, 3, 42, 180, 0, 75, 3, 16, 24, 184, 1, 131, 42, 180, 0, 115]
abbrev dktX1_keep_2 : List UInt8 := dkwX1_keep_2 ++ dktX1_keep_3
def dkwX1_keep_1 : List UInt8 := [180, 0, 118, 181, 1, 125, 42, 42, 180, 0, 33, 181, 1, 128, 42, 180, 0, 36, 3, 42, 180, 0, 72, 3]
abbrev dktX1_keep_1 : List UInt8 := dkwX1_keep_1 ++ dktX1_keep_2
def dkwX1_keep_0 : List UInt8 := [42, 4, 181, 0, 121, 42, 42, 180, 0, 112, 181, 1, 119, 42, 42, 180, 0, 115, 181, 1, 122, 42, 42]
abbrev dktX1_keep_0 : List UInt8 := dkwX1_keep_0 ++ dktX1_keep_1
theorem dksX1_keep_0 : cX1_keep.data.toList.drop 0 = dktX1_keep_0 := by decide +kernel
theorem dksX1_keep_1 : cX1_keep.data.toList.drop 23 = dktX1_keep_1 := dk_seg dksX1_keep_0 23 rfl rfl
theorem dksX1_keep_2 : cX1_keep.data.toList.drop 47 = dktX1_keep_2 := dk_seg dksX1_keep_1 24 rfl rfl
theorem dksX1_keep_3 : cX1_keep.data.toList.drop 71 = dktX1_keep_3 := dk_seg dksX1_keep_2 24 rfl rfl
abbrev cX1_back : ByteArray := prog_1_method_57_code
def dkwX1_back_3 : List UInt8 := [184, 1, 131, 42, 3, 181, 0, 125, 42, 180, 0, 115, 172]
abbrev dktX1_back_3 : List UInt8 := dkwX1_back_3 ++ []
def dkwX1_back_2 : List UInt8 := [42, 180, 0, 36, 3, 16, 24, 184, 1, 131, 42, 180, 0, 75, 3, 42, 180, 0, 40, 3, 16, 24]
abbrev dktX1_back_2 : List UInt8 := dkwX1_back_2 ++ dktX1_back_3
def dkwX1_back_1 : List UInt8 := [181, 0, 115, 42, 42, 180, 1, 125, 181, 0, 118, 42, 42, 180, 1, 128, 181, 0, 33, 42, 180, 0, 72, 3]
abbrev dktX1_back_1 : List UInt8 := dkwX1_back_1 ++ dktX1_back_2
def dkwX1_back_0 : List UInt8 := [42, 180, 0, 121, 154, 0, 5, 2, 172, 42, 42, 180, 1, 119, 181, 0, 112, 42, 42, 180, 1, 122]
abbrev dktX1_back_0 : List UInt8 := dkwX1_back_0 ++ dktX1_back_1
theorem dksX1_back_0 : cX1_back.data.toList.drop 0 = dktX1_back_0 := by decide +kernel
theorem dksX1_back_1 : cX1_back.data.toList.drop 22 = dktX1_back_1 := dk_seg dksX1_back_0 22 rfl rfl
theorem dksX1_back_2 : cX1_back.data.toList.drop 46 = dktX1_back_2 := dk_seg dksX1_back_1 24 rfl rfl
theorem dksX1_back_3 : cX1_back.data.toList.drop 68 = dktX1_back_3 := dk_seg dksX1_back_2 22 rfl rfl
abbrev cX1_count : ByteArray := prog_1_method_58_code
def dkwX1_count_6 : List UInt8 := [180, 0, 112, 172, 42, 180, 0, 24, 180, 1, 154, 153, 0, 7, 4, 167, 0, 4, 3, 172, 2, 172]
abbrev dktX1_count_6 : List UInt8 := dkwX1_count_6 ++ []
def dkwX1_count_5 : List UInt8 := [182, 1, 28, 153, 0, 7, 4, 167, 0, 4, 3, 96, 61, 132, 3, 1, 167, 255, 229, 28, 172, 42]
abbrev dktX1_count_5 : List UInt8 := dkwX1_count_5 ++ dktX1_count_6
def dkwX1_count_4 : List UInt8 := [180, 0, 115, 172, 42, 182, 0, 193, 172, 3, 62, 29, 42, 180, 0, 115, 162, 0, 25, 28, 42, 29]
abbrev dktX1_count_4 : List UInt8 := dkwX1_count_4 ++ dktX1_count_5
def dkwX1_count_3 : List UInt8 := [180, 0, 24, 182, 0, 138, 172, 42, 180, 0, 24, 180, 1, 148, 172, 42, 180, 0, 24, 180, 1, 151, 172, 42]
abbrev dktX1_count_3 : List UInt8 := dkwX1_count_3 ++ dktX1_count_4
def dkwX1_count_2 : List UInt8 := [42, 180, 0, 24, 180, 1, 137, 182, 1, 141, 172, 42, 180, 0, 24, 180, 1, 145, 182, 1, 141, 172, 42]
abbrev dktX1_count_2 : List UInt8 := dkwX1_count_2 ++ dktX1_count_3
def dkwX1_count_1 : List UInt8 := [170, 0, 0, 0, 164, 0, 0, 0, 0, 0, 0, 0, 9, 0, 0, 0, 53, 0, 0, 0, 64, 0, 0, 0, 75, 0, 0, 0, 83, 0, 0, 0, 91, 0, 0, 0, 99, 0, 0, 0, 104, 0, 0, 0, 109, 0, 0, 0, 143, 0, 0, 0, 148]
abbrev dktX1_count_1 : List UInt8 := dkwX1_count_1 ++ dktX1_count_2
def dkwX1_count_0 : List UInt8 := [3, 61, 27]
abbrev dktX1_count_0 : List UInt8 := dkwX1_count_0 ++ dktX1_count_1
theorem dksX1_count_0 : cX1_count.data.toList.drop 0 = dktX1_count_0 := by decide +kernel
theorem dksX1_count_1 : cX1_count.data.toList.drop 3 = dktX1_count_1 := dk_seg dksX1_count_0 3 rfl rfl
theorem dksX1_count_2 : cX1_count.data.toList.drop 56 = dktX1_count_2 := dk_seg dksX1_count_1 53 rfl rfl
theorem dksX1_count_3 : cX1_count.data.toList.drop 79 = dktX1_count_3 := dk_seg dksX1_count_2 23 rfl rfl
theorem dksX1_count_4 : cX1_count.data.toList.drop 103 = dktX1_count_4 := dk_seg dksX1_count_3 24 rfl rfl
theorem dksX1_count_5 : cX1_count.data.toList.drop 125 = dktX1_count_5 := dk_seg dksX1_count_4 22 rfl rfl
theorem dksX1_count_6 : cX1_count.data.toList.drop 147 = dktX1_count_6 := dk_seg dksX1_count_5 22 rfl rfl
abbrev cX1_look : ByteArray := prog_1_method_10_code
def dkwX1_look_3 : List UInt8 := [182, 0, 155, 172, 187, 0, 158, 89, 183, 0, 160, 191]
abbrev dktX1_look_3 : List UInt8 := dkwX1_look_3 ++ []
def dkwX1_look_2 : List UInt8 := [42, 180, 0, 24, 27, 182, 0, 149, 172, 42, 180, 0, 24, 27, 182, 0, 152, 172, 42, 180, 0, 24, 27]
abbrev dktX1_look_2 : List UInt8 := dkwX1_look_2 ++ dktX1_look_3
def dkwX1_look_1 : List UInt8 := [170, 0, 0, 0, 0, 0, 54, 0, 0, 0, 0, 0, 0, 0, 2, 0, 0, 0, 27, 0, 0, 0, 36, 0, 0, 0, 45]
abbrev dktX1_look_1 : List UInt8 := dkwX1_look_1 ++ dktX1_look_2
def dkwX1_look_0 : List UInt8 := [42, 27, 182, 0, 142, 154, 0, 11, 187, 0, 146, 89, 183, 0, 148, 191, 28]
abbrev dktX1_look_0 : List UInt8 := dkwX1_look_0 ++ dktX1_look_1
theorem dksX1_look_0 : cX1_look.data.toList.drop 0 = dktX1_look_0 := by decide +kernel
theorem dksX1_look_1 : cX1_look.data.toList.drop 17 = dktX1_look_1 := dk_seg dksX1_look_0 17 rfl rfl
theorem dksX1_look_2 : cX1_look.data.toList.drop 44 = dktX1_look_2 := dk_seg dksX1_look_1 27 rfl rfl
theorem dksX1_look_3 : cX1_look.data.toList.drop 67 = dktX1_look_3 := dk_seg dksX1_look_2 23 rfl rfl
abbrev cX2_init : ByteArray := prog_3_method_1_code
def dkwX2_init_2 : List UInt8 := [181, 0, 28, 177]
abbrev dktX2_init_2 : List UInt8 := dkwX2_init_2 ++ []
def dkwX2_init_1 : List UInt8 := [181, 0, 18, 42, 187, 0, 9, 89, 183, 0, 11, 181, 0, 21, 42, 16, 6, 188, 10, 181, 0, 24, 42, 4]
abbrev dktX2_init_1 : List UInt8 := dkwX2_init_1 ++ dktX2_init_2
def dkwX2_init_0 : List UInt8 := [42, 183, 0, 3, 42, 187, 0, 9, 89, 183, 0, 11, 181, 0, 12, 42, 187, 0, 9, 89, 183, 0, 11]
abbrev dktX2_init_0 : List UInt8 := dkwX2_init_0 ++ dktX2_init_1
theorem dksX2_init_0 : cX2_init.data.toList.drop 0 = dktX2_init_0 := by decide +kernel
theorem dksX2_init_1 : cX2_init.data.toList.drop 23 = dktX2_init_1 := dk_seg dksX2_init_0 23 rfl rfl
theorem dksX2_init_2 : cX2_init.data.toList.drop 47 = dktX2_init_2 := dk_seg dksX2_init_1 24 rfl rfl
abbrev cX2_many : ByteArray := prog_3_method_4_code
def dkwX2_many_0 : List UInt8 := [42, 180, 0, 12, 182, 0, 32, 42, 180, 0, 21, 182, 0, 32, 96, 172]
abbrev dktX2_many_0 : List UInt8 := dkwX2_many_0 ++ []
theorem dksX2_many_0 : cX2_many.data.toList.drop 0 = dktX2_many_0 := by decide +kernel
abbrev cX2_weight : ByteArray := prog_3_method_5_code
def dkwX2_weight_2 : List UInt8 := [192, 0, 51, 180, 0, 53, 172]
abbrev dktX2_weight_2 : List UInt8 := dkwX2_weight_2 ++ []
def dkwX2_weight_1 : List UInt8 := [180, 0, 48, 167, 0, 25, 42, 180, 0, 21, 27, 42, 180, 0, 12, 182, 0, 32, 100, 182, 0, 36]
abbrev dktX2_weight_1 : List UInt8 := dkwX2_weight_1 ++ dktX2_weight_2
def dkwX2_weight_0 : List UInt8 := [27, 42, 180, 0, 12, 182, 0, 32, 162, 0, 20, 42, 180, 0, 12, 27, 182, 0, 36, 192, 0, 40]
abbrev dktX2_weight_0 : List UInt8 := dkwX2_weight_0 ++ dktX2_weight_1
theorem dksX2_weight_0 : cX2_weight.data.toList.drop 0 = dktX2_weight_0 := by decide +kernel
theorem dksX2_weight_1 : cX2_weight.data.toList.drop 22 = dktX2_weight_1 := dk_seg dksX2_weight_0 22 rfl rfl
theorem dksX2_weight_2 : cX2_weight.data.toList.drop 44 = dktX2_weight_2 := dk_seg dksX2_weight_1 22 rfl rfl
abbrev cX2_sticks : ByteArray := prog_3_method_8_code
def dkwX2_sticks_1 : List UInt8 := [167, 0, 4, 3, 172]
abbrev dktX2_sticks_1 : List UInt8 := dkwX2_sticks_1 ++ []
def dkwX2_sticks_0 : List UInt8 := [42, 180, 0, 24, 42, 28, 182, 0, 60, 46, 42, 27, 182, 0, 60, 184, 0, 64, 154, 0, 7, 4]
abbrev dktX2_sticks_0 : List UInt8 := dkwX2_sticks_0 ++ dktX2_sticks_1
theorem dksX2_sticks_0 : cX2_sticks.data.toList.drop 0 = dktX2_sticks_0 := by decide +kernel
theorem dksX2_sticks_1 : cX2_sticks.data.toList.drop 22 = dktX2_sticks_1 := dk_seg dksX2_sticks_0 22 rfl rfl
abbrev cX2_beadOf : ByteArray := prog_3_method_6_code
def dkwX2_beadOf_1 : List UInt8 := [182, 0, 32, 100, 182, 0, 36, 192, 0, 51, 180, 0, 54, 172]
abbrev dktX2_beadOf_1 : List UInt8 := dkwX2_beadOf_1 ++ []
def dkwX2_beadOf_0 : List UInt8 := [27, 42, 180, 0, 12, 182, 0, 32, 162, 0, 7, 27, 167, 0, 25, 42, 180, 0, 21, 27, 42, 180, 0, 12]
abbrev dktX2_beadOf_0 : List UInt8 := dkwX2_beadOf_0 ++ dktX2_beadOf_1
theorem dksX2_beadOf_0 : cX2_beadOf.data.toList.drop 0 = dktX2_beadOf_0 := by decide +kernel
theorem dksX2_beadOf_1 : cX2_beadOf.data.toList.drop 24 = dktX2_beadOf_1 := dk_seg dksX2_beadOf_0 24 rfl rfl
abbrev cX2_dustOf : ByteArray := prog_3_method_7_code
def dkwX2_dustOf_1 : List UInt8 := [182, 0, 32, 100, 182, 0, 36, 192, 0, 51, 180, 0, 57, 172]
abbrev dktX2_dustOf_1 : List UInt8 := dkwX2_dustOf_1 ++ []
def dkwX2_dustOf_0 : List UInt8 := [27, 42, 180, 0, 12, 182, 0, 32, 162, 0, 7, 2, 167, 0, 25, 42, 180, 0, 21, 27, 42, 180, 0, 12]
abbrev dktX2_dustOf_0 : List UInt8 := dkwX2_dustOf_0 ++ dktX2_dustOf_1
theorem dksX2_dustOf_0 : cX2_dustOf.data.toList.drop 0 = dktX2_dustOf_0 := by decide +kernel
theorem dksX2_dustOf_1 : cX2_dustOf.data.toList.drop 24 = dktX2_dustOf_1 := dk_seg dksX2_dustOf_0 24 rfl rfl
abbrev cX2_bead : ByteArray := prog_3_method_2_code
def dkwX2_bead_1 : List UInt8 := [180, 0, 42, 27, 160, 0, 5, 28, 172, 132, 2, 1, 167, 255, 222, 2, 172]
abbrev dktX2_bead_1 : List UInt8 := dkwX2_bead_1 ++ []
def dkwX2_bead_0 : List UInt8 := [3, 61, 28, 42, 180, 0, 12, 182, 0, 32, 162, 0, 29, 42, 180, 0, 12, 28, 182, 0, 36, 192, 0, 40]
abbrev dktX2_bead_0 : List UInt8 := dkwX2_bead_0 ++ dktX2_bead_1
theorem dksX2_bead_0 : cX2_bead.data.toList.drop 0 = dktX2_bead_0 := by decide +kernel
theorem dksX2_bead_1 : cX2_bead.data.toList.drop 24 = dktX2_bead_1 := dk_seg dksX2_bead_0 24 rfl rfl
abbrev cX2_dust : ByteArray := prog_3_method_3_code
def dkwX2_dust_1 : List UInt8 := [180, 0, 47, 27, 160, 0, 5, 28, 172, 132, 2, 1, 167, 255, 222, 2, 172]
abbrev dktX2_dust_1 : List UInt8 := dkwX2_dust_1 ++ []
def dkwX2_dust_0 : List UInt8 := [3, 61, 28, 42, 180, 0, 18, 182, 0, 32, 162, 0, 29, 42, 180, 0, 18, 28, 182, 0, 36, 192, 0, 45]
abbrev dktX2_dust_0 : List UInt8 := dkwX2_dust_0 ++ dktX2_dust_1
theorem dksX2_dust_0 : cX2_dust.data.toList.drop 0 = dktX2_dust_0 := by decide +kernel
theorem dksX2_dust_1 : cX2_dust.data.toList.drop 24 = dktX2_dust_1 := dk_seg dksX2_dust_0 24 rfl rfl
abbrev cX3_init : ByteArray := prog_14_method_1_code
def dkwX3_init_1 : List UInt8 := [181, 0, 19, 177]
abbrev dktX3_init_1 : List UInt8 := dkwX3_init_1 ++ []
def dkwX3_init_0 : List UInt8 := [42, 43, 181, 0, 3, 42, 183, 0, 9, 42, 16, 12, 188, 10, 181, 0, 15, 42, 16, 13, 188, 10]
abbrev dktX3_init_0 : List UInt8 := dkwX3_init_0 ++ dktX3_init_1
theorem dksX3_init_0 : cX3_init.data.toList.drop 0 = dktX3_init_0 := by decide +kernel
theorem dksX3_init_1 : cX3_init.data.toList.drop 22 = dktX3_init_1 := dk_seg dksX3_init_0 22 rfl rfl
abbrev cX3_clear : ByteArray := prog_14_method_2_code
def dkwX3_clear_0 : List UInt8 := [42, 3, 181, 0, 22, 42, 3, 181, 0, 26, 177]
abbrev dktX3_clear_0 : List UInt8 := dkwX3_clear_0 ++ []
theorem dksX3_clear_0 : cX3_clear.data.toList.drop 0 = dktX3_clear_0 := by decide +kernel
abbrev cX3_weight : ByteArray := prog_14_method_5_code
def dkwX3_weight_0 : List UInt8 := [42, 180, 0, 19, 42, 180, 0, 22, 46, 172]
abbrev dktX3_weight_0 : List UInt8 := dkwX3_weight_0 ++ []
theorem dksX3_weight_0 : cX3_weight.data.toList.drop 0 = dktX3_weight_0 := by decide +kernel
abbrev cX3_last : ByteArray := prog_14_method_6_code
def dkwX3_last_0 : List UInt8 := [42, 180, 0, 22, 154, 0, 8, 16, 12, 167, 0, 14, 42, 180, 0, 15, 42, 180, 0, 22, 4, 100, 46, 172]
abbrev dktX3_last_0 : List UInt8 := dkwX3_last_0 ++ []
theorem dksX3_last_0 : cX3_last.data.toList.drop 0 = dktX3_last_0 := by decide +kernel
abbrev cX3_add : ByteArray := prog_14_method_3_code
def dkwX3_add_3 : List UInt8 := [4, 96, 181, 0, 22, 177]
abbrev dktX3_add_3 : List UInt8 := dkwX3_add_3 ++ []
def dkwX3_add_2 : List UInt8 := [180, 0, 3, 27, 182, 0, 39, 153, 0, 7, 4, 167, 0, 4, 3, 96, 181, 0, 26, 42, 89, 180, 0, 22]
abbrev dktX3_add_2 : List UInt8 := dkwX3_add_2 ++ dktX3_add_3
def dkwX3_add_1 : List UInt8 := [42, 180, 0, 22, 46, 42, 180, 0, 3, 180, 0, 29, 27, 182, 0, 33, 96, 79, 42, 89, 180, 0, 26, 42]
abbrev dktX3_add_1 : List UInt8 := dkwX3_add_1 ++ dktX3_add_2
def dkwX3_add_0 : List UInt8 := [42, 180, 0, 15, 42, 180, 0, 22, 27, 79, 42, 180, 0, 19, 42, 180, 0, 22, 4, 96, 42, 180, 0, 19]
abbrev dktX3_add_0 : List UInt8 := dkwX3_add_0 ++ dktX3_add_1
theorem dksX3_add_0 : cX3_add.data.toList.drop 0 = dktX3_add_0 := by decide +kernel
theorem dksX3_add_1 : cX3_add.data.toList.drop 24 = dktX3_add_1 := dk_seg dksX3_add_0 24 rfl rfl
theorem dksX3_add_2 : cX3_add.data.toList.drop 48 = dktX3_add_2 := dk_seg dksX3_add_1 24 rfl rfl
theorem dksX3_add_3 : cX3_add.data.toList.drop 72 = dktX3_add_3 := dk_seg dksX3_add_2 24 rfl rfl
abbrev cX3_isClosed : ByteArray := prog_14_method_7_code
def dkwX3_isClosed_2 : List UInt8 := [182, 0, 47, 153, 0, 7, 4, 167, 0, 4, 3, 172]
abbrev dktX3_isClosed_2 : List UInt8 := dkwX3_isClosed_2 ++ []
def dkwX3_isClosed_1 : List UInt8 := [180, 0, 3, 180, 0, 29, 42, 180, 0, 15, 3, 46, 42, 180, 0, 15, 42, 180, 0, 22, 4, 100, 46]
abbrev dktX3_isClosed_1 : List UInt8 := dkwX3_isClosed_1 ++ dktX3_isClosed_2
def dkwX3_isClosed_0 : List UInt8 := [42, 180, 0, 3, 180, 0, 29, 180, 0, 43, 153, 0, 41, 42, 180, 0, 22, 5, 161, 0, 33, 42]
abbrev dktX3_isClosed_0 : List UInt8 := dkwX3_isClosed_0 ++ dktX3_isClosed_1
theorem dksX3_isClosed_0 : cX3_isClosed.data.toList.drop 0 = dktX3_isClosed_0 := by decide +kernel
theorem dksX3_isClosed_1 : cX3_isClosed.data.toList.drop 22 = dktX3_isClosed_1 := dk_seg dksX3_isClosed_0 22 rfl rfl
theorem dksX3_isClosed_2 : cX3_isClosed.data.toList.drop 45 = dktX3_isClosed_2 := dk_seg dksX3_isClosed_1 23 rfl rfl
abbrev cX3_stray : ByteArray := prog_14_method_14_code
def dkwX3_stray_2 : List UInt8 := [27, 172]
abbrev dktX3_stray_2 : List UInt8 := dkwX3_stray_2 ++ []
def dkwX3_stray_1 : List UInt8 := [153, 0, 15, 42, 28, 182, 0, 96, 154, 0, 7, 4, 167, 0, 4, 3, 96, 60, 132, 2, 1, 167, 255, 215]
abbrev dktX3_stray_1 : List UInt8 := dkwX3_stray_1 ++ dktX3_stray_2
def dkwX3_stray_0 : List UInt8 := [3, 60, 3, 61, 28, 42, 180, 0, 3, 182, 0, 90, 162, 0, 36, 27, 42, 180, 0, 3, 28, 182, 0, 93]
abbrev dktX3_stray_0 : List UInt8 := dkwX3_stray_0 ++ dktX3_stray_1
theorem dksX3_stray_0 : cX3_stray.data.toList.drop 0 = dktX3_stray_0 := by decide +kernel
theorem dksX3_stray_1 : cX3_stray.data.toList.drop 24 = dktX3_stray_1 := dk_seg dksX3_stray_0 24 rfl rfl
theorem dksX3_stray_2 : cX3_stray.data.toList.drop 48 = dktX3_stray_2 := dk_seg dksX3_stray_1 24 rfl rfl
abbrev cX3_explains : ByteArray := prog_14_method_13_code
def dkwX3_explains_3 : List UInt8 := [167, 0, 4, 3, 172]
abbrev dktX3_explains_3 : List UInt8 := dkwX3_explains_3 ++ []
def dkwX3_explains_2 : List UInt8 := [42, 4, 29, 182, 0, 84, 157, 0, 16, 28, 5, 161, 0, 15, 42, 29, 182, 0, 87, 155, 0, 7, 4]
abbrev dktX3_explains_2 : List UInt8 := dkwX3_explains_2 ++ dktX3_explains_3
def dkwX3_explains_1 : List UInt8 := [28, 6, 160, 0, 12, 42, 3, 29, 182, 0, 84, 157, 0, 35, 28, 4, 159, 0, 8, 28, 6, 160, 0, 12]
abbrev dktX3_explains_1 : List UInt8 := dkwX3_explains_1 ++ dktX3_explains_2
def dkwX3_explains_0 : List UInt8 := [42, 180, 0, 3, 180, 0, 78, 27, 46, 61, 42, 180, 0, 3, 180, 0, 81, 27, 46, 62, 28, 153, 0, 8]
abbrev dktX3_explains_0 : List UInt8 := dkwX3_explains_0 ++ dktX3_explains_1
theorem dksX3_explains_0 : cX3_explains.data.toList.drop 0 = dktX3_explains_0 := by decide +kernel
theorem dksX3_explains_1 : cX3_explains.data.toList.drop 24 = dktX3_explains_1 := dk_seg dksX3_explains_0 24 rfl rfl
theorem dksX3_explains_2 : cX3_explains.data.toList.drop 48 = dktX3_explains_2 := dk_seg dksX3_explains_1 24 rfl rfl
theorem dksX3_explains_3 : cX3_explains.data.toList.drop 71 = dktX3_explains_3 := dk_seg dksX3_explains_2 23 rfl rfl
abbrev cX3_sideOf : ByteArray := prog_14_method_10_code
def dkwX3_sideOf_3 : List UInt8 := [167, 255, 192, 29, 172]
abbrev dktX3_sideOf_3 : List UInt8 := dkwX3_sideOf_3 ++ []
def dkwX3_sideOf_2 : List UInt8 := [21, 5, 42, 27, 29, 182, 0, 60, 28, 100, 184, 0, 64, 162, 0, 6, 21, 4, 62, 132, 4, 1]
abbrev dktX3_sideOf_2 : List UInt8 := dkwX3_sideOf_2 ++ dktX3_sideOf_3
def dkwX3_sideOf_1 : List UInt8 := [184, 0, 64, 54, 5, 21, 5, 42, 180, 0, 3, 180, 0, 29, 180, 0, 69, 163, 0, 26, 29, 153, 0, 19]
abbrev dktX3_sideOf_1 : List UInt8 := dkwX3_sideOf_1 ++ dktX3_sideOf_2
def dkwX3_sideOf_0 : List UInt8 := [3, 62, 4, 54, 4, 21, 4, 42, 180, 0, 22, 162, 0, 61, 42, 27, 21, 4, 182, 0, 60, 28, 100]
abbrev dktX3_sideOf_0 : List UInt8 := dkwX3_sideOf_0 ++ dktX3_sideOf_1
theorem dksX3_sideOf_0 : cX3_sideOf.data.toList.drop 0 = dktX3_sideOf_0 := by decide +kernel
theorem dksX3_sideOf_1 : cX3_sideOf.data.toList.drop 23 = dktX3_sideOf_1 := dk_seg dksX3_sideOf_0 23 rfl rfl
theorem dksX3_sideOf_2 : cX3_sideOf.data.toList.drop 47 = dktX3_sideOf_2 := dk_seg dksX3_sideOf_1 24 rfl rfl
theorem dksX3_sideOf_3 : cX3_sideOf.data.toList.drop 69 = dktX3_sideOf_3 := dk_seg dksX3_sideOf_2 22 rfl rfl
abbrev cX3_side : ByteArray := prog_14_method_8_code
def dkwX3_side_2 : List UInt8 := [180, 0, 57, 96, 172]
abbrev dktX3_side_2 : List UInt8 := dkwX3_side_2 ++ []
def dkwX3_side_1 : List UInt8 := [42, 182, 0, 54, 42, 180, 0, 19, 42, 180, 0, 22, 28, 100, 46, 100, 42, 180, 0, 3, 180, 0, 29]
abbrev dktX3_side_1 : List UInt8 := dkwX3_side_1 ++ dktX3_side_2
def dkwX3_side_0 : List UInt8 := [27, 154, 0, 23, 42, 180, 0, 19, 28, 46, 42, 180, 0, 3, 180, 0, 29, 180, 0, 51, 96, 167, 0, 30]
abbrev dktX3_side_0 : List UInt8 := dkwX3_side_0 ++ dktX3_side_1
theorem dksX3_side_0 : cX3_side.data.toList.drop 0 = dktX3_side_0 := by decide +kernel
theorem dksX3_side_1 : cX3_side.data.toList.drop 24 = dktX3_side_1 := dk_seg dksX3_side_0 24 rfl rfl
theorem dksX3_side_2 : cX3_side.data.toList.drop 47 = dktX3_side_2 := dk_seg dksX3_side_1 23 rfl rfl
abbrev cX3_beginOf : ByteArray := prog_14_method_11_code
def dkwX3_beginOf_1 : List UInt8 := [167, 255, 234, 2, 172]
abbrev dktX3_beginOf_1 : List UInt8 := dkwX3_beginOf_1 ++ []
def dkwX3_beginOf_0 : List UInt8 := [3, 61, 28, 42, 180, 0, 22, 162, 0, 20, 42, 28, 27, 182, 0, 72, 158, 0, 5, 28, 172, 132, 2, 1]
abbrev dktX3_beginOf_0 : List UInt8 := dkwX3_beginOf_0 ++ dktX3_beginOf_1
theorem dksX3_beginOf_0 : cX3_beginOf.data.toList.drop 0 = dktX3_beginOf_0 := by decide +kernel
theorem dksX3_beginOf_1 : cX3_beginOf.data.toList.drop 24 = dktX3_beginOf_1 := dk_seg dksX3_beginOf_0 24 rfl rfl
abbrev cX3_manyOf : ByteArray := prog_14_method_12_code
def dkwX3_manyOf_2 : List UInt8 := [180, 0, 29, 180, 0, 69, 163, 0, 5, 29, 172, 132, 3, 1, 167, 255, 196, 3, 172]
abbrev dktX3_manyOf_2 : List UInt8 := dkwX3_manyOf_2 ++ []
def dkwX3_manyOf_1 : List UInt8 := [29, 96, 42, 180, 0, 22, 163, 0, 35, 42, 27, 29, 182, 0, 75, 28, 100, 184, 0, 64, 42, 180, 0, 3]
abbrev dktX3_manyOf_1 : List UInt8 := dkwX3_manyOf_1 ++ dktX3_manyOf_2
def dkwX3_manyOf_0 : List UInt8 := [4, 62, 29, 42, 180, 0, 22, 162, 0, 58, 42, 180, 0, 3, 180, 0, 29, 180, 0, 43, 154, 0, 13, 27]
abbrev dktX3_manyOf_0 : List UInt8 := dkwX3_manyOf_0 ++ dktX3_manyOf_1
theorem dksX3_manyOf_0 : cX3_manyOf.data.toList.drop 0 = dktX3_manyOf_0 := by decide +kernel
theorem dksX3_manyOf_1 : cX3_manyOf.data.toList.drop 24 = dktX3_manyOf_1 := dk_seg dksX3_manyOf_0 24 rfl rfl
theorem dksX3_manyOf_2 : cX3_manyOf.data.toList.drop 48 = dktX3_manyOf_2 := dk_seg dksX3_manyOf_1 24 rfl rfl
abbrev cX3_middle : ByteArray := prog_14_method_9_code
def dkwX3_middle_2 : List UInt8 := [100, 46, 96, 172]
abbrev dktX3_middle_2 : List UInt8 := dkwX3_middle_2 ++ []
def dkwX3_middle_1 : List UInt8 := [100, 167, 0, 26, 42, 182, 0, 54, 42, 180, 0, 19, 27, 46, 100, 42, 180, 0, 19, 29, 42, 180, 0, 22]
abbrev dktX3_middle_1 : List UInt8 := dkwX3_middle_1 ++ dktX3_middle_2
def dkwX3_middle_0 : List UInt8 := [27, 28, 96, 62, 29, 42, 180, 0, 22, 163, 0, 19, 42, 180, 0, 19, 29, 46, 42, 180, 0, 19, 27, 46]
abbrev dktX3_middle_0 : List UInt8 := dkwX3_middle_0 ++ dktX3_middle_1
theorem dksX3_middle_0 : cX3_middle.data.toList.drop 0 = dktX3_middle_0 := by decide +kernel
theorem dksX3_middle_1 : cX3_middle.data.toList.drop 24 = dktX3_middle_1 := dk_seg dksX3_middle_0 24 rfl rfl
theorem dksX3_middle_2 : cX3_middle.data.toList.drop 48 = dktX3_middle_2 := dk_seg dksX3_middle_1 24 rfl rfl
abbrev cX3_copy : ByteArray := prog_14_method_17_code
def dkwX3_copy_1 : List UInt8 := [132, 2, 1, 167, 255, 235, 177]
abbrev dktX3_copy_1 : List UInt8 := dkwX3_copy_1 ++ []
def dkwX3_copy_0 : List UInt8 := [42, 182, 0, 102, 3, 61, 28, 43, 180, 0, 22, 162, 0, 19, 42, 43, 180, 0, 15, 28, 46, 182, 0, 105]
abbrev dktX3_copy_0 : List UInt8 := dkwX3_copy_0 ++ dktX3_copy_1
theorem dksX3_copy_0 : cX3_copy.data.toList.drop 0 = dktX3_copy_0 := by decide +kernel
theorem dksX3_copy_1 : cX3_copy.data.toList.drop 24 = dktX3_copy_1 := dk_seg dksX3_copy_0 24 rfl rfl
abbrev cX3_drop : ByteArray := prog_14_method_4_code
def dkwX3_drop_1 : List UInt8 := [180, 0, 22, 46, 182, 0, 39, 153, 0, 7, 4, 167, 0, 4, 3, 100, 181, 0, 26, 177]
abbrev dktX3_drop_1 : List UInt8 := dkwX3_drop_1 ++ []
def dkwX3_drop_0 : List UInt8 := [42, 89, 180, 0, 22, 4, 100, 181, 0, 22, 42, 89, 180, 0, 26, 42, 180, 0, 3, 42, 180, 0, 15, 42]
abbrev dktX3_drop_0 : List UInt8 := dkwX3_drop_0 ++ dktX3_drop_1
theorem dksX3_drop_0 : cX3_drop.data.toList.drop 0 = dktX3_drop_0 := by decide +kernel
theorem dksX3_drop_1 : cX3_drop.data.toList.drop 24 = dktX3_drop_1 := dk_seg dksX3_drop_0 24 rfl rfl
abbrev cX3_came : ByteArray := prog_14_method_15_code
def dkwX3_came_2 : List UInt8 := [132, 2, 1, 167, 255, 210, 27, 172]
abbrev dktX3_came_2 : List UInt8 := dkwX3_came_2 ++ []
def dkwX3_came_1 : List UInt8 := [29, 182, 0, 60, 182, 0, 99, 153, 0, 7, 4, 167, 0, 4, 3, 96, 60, 132, 3, 1, 167, 255, 223]
abbrev dktX3_came_1 : List UInt8 := dkwX3_came_1 ++ dktX3_came_2
def dkwX3_came_0 : List UInt8 := [3, 60, 3, 61, 28, 4, 163, 0, 47, 4, 62, 29, 42, 180, 0, 22, 162, 0, 31, 27, 42, 28, 42, 28]
abbrev dktX3_came_0 : List UInt8 := dkwX3_came_0 ++ dktX3_came_1
theorem dksX3_came_0 : cX3_came.data.toList.drop 0 = dktX3_came_0 := by decide +kernel
theorem dksX3_came_1 : cX3_came.data.toList.drop 24 = dktX3_came_1 := dk_seg dksX3_came_0 24 rfl rfl
theorem dksX3_came_2 : cX3_came.data.toList.drop 47 = dktX3_came_2 := dk_seg dksX3_came_1 23 rfl rfl
abbrev cX3_isThere : ByteArray := prog_14_method_16_code
def dkwX3_isThere_3 : List UInt8 := [180, 0, 69, 163, 0, 5, 4, 172, 132, 3, 1, 167, 255, 176, 3, 172]
abbrev dktX3_isThere_3 : List UInt8 := dkwX3_isThere_3 ++ []
def dkwX3_isThere_2 : List UInt8 := [160, 0, 32, 42, 180, 0, 3, 180, 0, 81, 29, 46, 28, 100, 184, 0, 64, 42, 180, 0, 3, 180, 0, 29]
abbrev dktX3_isThere_2 : List UInt8 := dkwX3_isThere_2 ++ dktX3_isThere_3
def dkwX3_isThere_1 : List UInt8 := [42, 180, 0, 3, 180, 0, 78, 29, 46, 27, 159, 0, 16, 42, 180, 0, 3, 180, 0, 78, 29, 46, 6]
abbrev dktX3_isThere_1 : List UInt8 := dkwX3_isThere_1 ++ dktX3_isThere_2
def dkwX3_isThere_0 : List UInt8 := [3, 62, 29, 42, 180, 0, 3, 182, 0, 90, 162, 0, 75, 42, 180, 0, 3, 29, 182, 0, 93, 153, 0, 58]
abbrev dktX3_isThere_0 : List UInt8 := dkwX3_isThere_0 ++ dktX3_isThere_1
theorem dksX3_isThere_0 : cX3_isThere.data.toList.drop 0 = dktX3_isThere_0 := by decide +kernel
theorem dksX3_isThere_1 : cX3_isThere.data.toList.drop 24 = dktX3_isThere_1 := dk_seg dksX3_isThere_0 24 rfl rfl
theorem dksX3_isThere_2 : cX3_isThere.data.toList.drop 47 = dktX3_isThere_2 := dk_seg dksX3_isThere_1 23 rfl rfl
theorem dksX3_isThere_3 : cX3_isThere.data.toList.drop 71 = dktX3_isThere_3 := dk_seg dksX3_isThere_2 24 rfl rfl
abbrev cX4_init : ByteArray := prog_15_method_1_code
def dkwX4_init_0 : List UInt8 := [42, 183, 0, 3, 42, 16, 6, 188, 11, 181, 0, 9, 177]
abbrev dktX4_init_0 : List UInt8 := dkwX4_init_0 ++ []
theorem dksX4_init_0 : cX4_init.data.toList.drop 0 = dktX4_init_0 := by decide +kernel
abbrev cX4_inBound : ByteArray := prog_15_method_2_code
def dkwX4_inBound_1 : List UInt8 := [181, 0, 15, 42, 180, 0, 15, 153, 0, 7, 9, 167, 0, 4, 31, 173]
abbrev dktX4_inBound_1 : List UInt8 := dkwX4_inBound_1 ++ []
def dkwX4_inBound_0 : List UInt8 := [42, 42, 180, 0, 15, 154, 0, 14, 31, 184, 0, 19, 20, 0, 25, 148, 158, 0, 7, 4, 167, 0, 4, 3]
abbrev dktX4_inBound_0 : List UInt8 := dkwX4_inBound_0 ++ dktX4_inBound_1
theorem dksX4_inBound_0 : cX4_inBound.data.toList.drop 0 = dktX4_inBound_0 := by decide +kernel
theorem dksX4_inBound_1 : cX4_inBound.data.toList.drop 24 = dktX4_inBound_1 := dk_seg dksX4_inBound_0 24 rfl rfl
abbrev cX5_init : ByteArray := prog_19_method_1_code
def dkwX5_init_14 : List UInt8 := [188, 11, 181, 0, 100, 42, 17, 5, 40, 188, 10, 181, 0, 103, 177]
abbrev dktX5_init_14 : List UInt8 := dkwX5_init_14 ++ []
def dkwX5_init_13 : List UInt8 := [188, 10, 181, 0, 91, 42, 16, 6, 188, 11, 181, 0, 94, 42, 16, 64, 188, 11, 181, 0, 97, 42, 16, 60]
abbrev dktX5_init_13 : List UInt8 := dkwX5_init_13 ++ dktX5_init_14
def dkwX5_init_12 : List UInt8 := [181, 0, 82, 42, 16, 12, 188, 10, 181, 0, 85, 42, 17, 2, 208, 188, 10, 181, 0, 88, 42, 16, 60]
abbrev dktX5_init_12 : List UInt8 := dkwX5_init_12 ++ dktX5_init_13
def dkwX5_init_11 : List UInt8 := [181, 0, 72, 42, 16, 24, 188, 10, 181, 0, 76, 42, 16, 24, 188, 10, 181, 0, 79, 42, 16, 24, 188, 4]
abbrev dktX5_init_11 : List UInt8 := dkwX5_init_11 ++ dktX5_init_12
def dkwX5_init_10 : List UInt8 := [181, 0, 63, 42, 16, 24, 188, 10, 181, 0, 66, 42, 16, 24, 188, 10, 181, 0, 69, 42, 16, 24, 188, 4]
abbrev dktX5_init_10 : List UInt8 := dkwX5_init_10 ++ dktX5_init_11
def dkwX5_init_9 : List UInt8 := [188, 10, 181, 0, 52, 42, 16, 12, 188, 10, 181, 0, 55, 42, 18, 58, 188, 11, 181, 0, 59, 42, 2]
abbrev dktX5_init_9 : List UInt8 := dkwX5_init_9 ++ dktX5_init_10
def dkwX5_init_8 : List UInt8 := [17, 0, 128, 188, 10, 181, 0, 42, 42, 2, 181, 0, 45, 42, 16, 12, 188, 10, 181, 0, 49, 42, 16, 12]
abbrev dktX5_init_8 : List UInt8 := dkwX5_init_8 ++ dktX5_init_9
def dkwX5_init_7 : List UInt8 := [188, 10, 181, 0, 33, 42, 16, 12, 188, 10, 181, 0, 36, 42, 17, 0, 128, 188, 10, 181, 0, 39, 42]
abbrev dktX5_init_7 : List UInt8 := dkwX5_init_7 ++ dktX5_init_8
def dkwX5_init_6 : List UInt8 := [188, 10, 181, 0, 24, 42, 16, 6, 188, 10, 181, 0, 27, 42, 16, 24, 188, 10, 181, 0, 30, 42, 16, 24]
abbrev dktX5_init_6 : List UInt8 := dkwX5_init_6 ++ dktX5_init_7
def dkwX5_init_5 : List UInt8 := [3, 79, 181, 0, 15, 42, 16, 12, 188, 10, 181, 0, 18, 42, 16, 12, 188, 10, 181, 0, 21, 42, 16, 6]
abbrev dktX5_init_5 : List UInt8 := dkwX5_init_5 ++ dktX5_init_6
def dkwX5_init_4 : List UInt8 := [79, 89, 16, 17, 3, 79, 89, 16, 18, 3, 79, 89, 16, 19, 4, 79, 89, 16, 20, 3, 79, 89, 16, 21]
abbrev dktX5_init_4 : List UInt8 := dkwX5_init_4 ++ dktX5_init_5
def dkwX5_init_3 : List UInt8 := [89, 16, 12, 3, 79, 89, 16, 13, 3, 79, 89, 16, 14, 3, 79, 89, 16, 15, 3, 79, 89, 16, 16, 3]
abbrev dktX5_init_3 : List UInt8 := dkwX5_init_3 ++ dktX5_init_4
def dkwX5_init_2 : List UInt8 := [16, 7, 4, 79, 89, 16, 8, 3, 79, 89, 16, 9, 3, 79, 89, 16, 10, 3, 79, 89, 16, 11, 3, 79]
abbrev dktX5_init_2 : List UInt8 := dkwX5_init_2 ++ dktX5_init_3
def dkwX5_init_1 : List UInt8 := [3, 79, 89, 5, 3, 79, 89, 6, 3, 79, 89, 7, 3, 79, 89, 8, 3, 79, 89, 16, 6, 3, 79, 89]
abbrev dktX5_init_1 : List UInt8 := dkwX5_init_1 ++ dktX5_init_2
def dkwX5_init_0 : List UInt8 := [42, 183, 0, 5, 42, 17, 2, 88, 188, 10, 181, 0, 11, 42, 16, 22, 188, 10, 89, 3, 3, 79, 89, 4]
abbrev dktX5_init_0 : List UInt8 := dkwX5_init_0 ++ dktX5_init_1
theorem dksX5_init_0 : cX5_init.data.toList.drop 0 = dktX5_init_0 := by decide +kernel
theorem dksX5_init_1 : cX5_init.data.toList.drop 24 = dktX5_init_1 := dk_seg dksX5_init_0 24 rfl rfl
theorem dksX5_init_2 : cX5_init.data.toList.drop 48 = dktX5_init_2 := dk_seg dksX5_init_1 24 rfl rfl
theorem dksX5_init_3 : cX5_init.data.toList.drop 72 = dktX5_init_3 := dk_seg dksX5_init_2 24 rfl rfl
theorem dksX5_init_4 : cX5_init.data.toList.drop 96 = dktX5_init_4 := dk_seg dksX5_init_3 24 rfl rfl
theorem dksX5_init_5 : cX5_init.data.toList.drop 120 = dktX5_init_5 := dk_seg dksX5_init_4 24 rfl rfl
theorem dksX5_init_6 : cX5_init.data.toList.drop 144 = dktX5_init_6 := dk_seg dksX5_init_5 24 rfl rfl
theorem dksX5_init_7 : cX5_init.data.toList.drop 168 = dktX5_init_7 := dk_seg dksX5_init_6 24 rfl rfl
theorem dksX5_init_8 : cX5_init.data.toList.drop 191 = dktX5_init_8 := dk_seg dksX5_init_7 23 rfl rfl
theorem dksX5_init_9 : cX5_init.data.toList.drop 215 = dktX5_init_9 := dk_seg dksX5_init_8 24 rfl rfl
theorem dksX5_init_10 : cX5_init.data.toList.drop 238 = dktX5_init_10 := dk_seg dksX5_init_9 23 rfl rfl
theorem dksX5_init_11 : cX5_init.data.toList.drop 262 = dktX5_init_11 := dk_seg dksX5_init_10 24 rfl rfl
theorem dksX5_init_12 : cX5_init.data.toList.drop 286 = dktX5_init_12 := dk_seg dksX5_init_11 24 rfl rfl
theorem dksX5_init_13 : cX5_init.data.toList.drop 309 = dktX5_init_13 := dk_seg dksX5_init_12 23 rfl rfl
theorem dksX5_init_14 : cX5_init.data.toList.drop 333 = dktX5_init_14 := dk_seg dksX5_init_13 24 rfl rfl
abbrev cX5_thrown : ByteArray := prog_19_method_2_code
abbrev cX5_feed : ByteArray := prog_19_method_3_code
def dkwX5_feed_5 : List UInt8 := [181, 0, 109, 42, 180, 0, 109, 172]
abbrev dktX5_feed_5 : List UInt8 := dkwX5_feed_5 ++ []
def dkwX5_feed_4 : List UInt8 := [112, 104, 100, 122, 17, 0, 255, 126, 79, 132, 6, 1, 167, 255, 169, 42, 89, 180, 0, 109, 16, 20, 96]
abbrev dktX5_feed_4 : List UInt8 := dkwX5_feed_4 ++ dktX5_feed_5
def dkwX5_feed_3 : List UInt8 := [21, 5, 54, 7, 42, 180, 0, 11, 42, 180, 0, 109, 21, 6, 96, 21, 7, 16, 24, 16, 8, 21, 6, 7]
abbrev dktX5_feed_3 : List UInt8 := dkwX5_feed_3 ++ dktX5_feed_4
def dkwX5_feed_2 : List UInt8 := [21, 6, 16, 12, 162, 0, 7, 29, 167, 0, 17, 21, 6, 16, 16, 162, 0, 8, 21, 4, 167, 0, 5]
abbrev dktX5_feed_2 : List UInt8 := dkwX5_feed_2 ++ dktX5_feed_3
def dkwX5_feed_1 : List UInt8 := [162, 0, 86, 21, 6, 7, 162, 0, 7, 27, 167, 0, 39, 21, 6, 16, 8, 162, 0, 7, 28, 167, 0, 28]
abbrev dktX5_feed_1 : List UInt8 := dkwX5_feed_1 ++ dktX5_feed_2
def dkwX5_feed_0 : List UInt8 := [42, 3, 181, 0, 106, 42, 180, 0, 109, 17, 2, 68, 164, 0, 5, 2, 172, 3, 54, 6, 21, 6, 16, 20]
abbrev dktX5_feed_0 : List UInt8 := dkwX5_feed_0 ++ dktX5_feed_1
theorem dksX5_feed_0 : cX5_feed.data.toList.drop 0 = dktX5_feed_0 := by decide +kernel
theorem dksX5_feed_1 : cX5_feed.data.toList.drop 24 = dktX5_feed_1 := dk_seg dksX5_feed_0 24 rfl rfl
theorem dksX5_feed_2 : cX5_feed.data.toList.drop 48 = dktX5_feed_2 := dk_seg dksX5_feed_1 24 rfl rfl
theorem dksX5_feed_3 : cX5_feed.data.toList.drop 71 = dktX5_feed_3 := dk_seg dksX5_feed_2 23 rfl rfl
theorem dksX5_feed_4 : cX5_feed.data.toList.drop 95 = dktX5_feed_4 := dk_seg dksX5_feed_3 24 rfl rfl
theorem dksX5_feed_5 : cX5_feed.data.toList.drop 118 = dktX5_feed_5 := dk_seg dksX5_feed_4 23 rfl rfl
abbrev cX5_text : ByteArray := prog_19_method_36_code
def dkwX5_text_10 : List UInt8 := [181, 0, 63, 42, 3, 181, 1, 19, 42, 180, 0, 210, 172]
abbrev dktX5_text_10 : List UInt8 := dkwX5_text_10 ++ []
def dkwX5_text_9 : List UInt8 := [42, 180, 0, 42, 184, 1, 6, 42, 182, 1, 10, 42, 3, 181, 1, 13, 42, 3, 181, 1, 16, 42, 2]
abbrev dktX5_text_9 : List UInt8 := dkwX5_text_9 ++ dktX5_text_10
def dkwX5_text_8 : List UInt8 := [184, 1, 6, 42, 180, 0, 33, 184, 1, 6, 42, 180, 0, 36, 184, 1, 6, 42, 180, 0, 39, 184, 1, 6]
abbrev dktX5_text_8 : List UInt8 := dkwX5_text_8 ++ dktX5_text_9
def dkwX5_text_7 : List UInt8 := [180, 0, 21, 184, 1, 6, 42, 180, 0, 24, 184, 1, 6, 42, 180, 0, 27, 184, 1, 6, 42, 180, 0, 30]
abbrev dktX5_text_7 : List UInt8 := dkwX5_text_7 ++ dktX5_text_8
def dkwX5_text_6 : List UInt8 := [180, 0, 159, 153, 0, 5, 2, 172, 42, 180, 0, 15, 184, 1, 6, 42, 180, 0, 18, 184, 1, 6, 42]
abbrev dktX5_text_6 : List UInt8 := dkwX5_text_6 ++ dktX5_text_7
def dkwX5_text_5 : List UInt8 := [182, 1, 0, 167, 255, 237, 42, 42, 180, 0, 159, 181, 1, 3, 42, 42, 180, 0, 162, 181, 0, 45, 42]
abbrev dktX5_text_5 : List UInt8 := dkwX5_text_5 ++ dktX5_text_6
def dkwX5_text_4 : List UInt8 := [181, 0, 222, 42, 182, 0, 165, 42, 180, 0, 159, 154, 0, 18, 42, 180, 0, 125, 7, 159, 0, 10, 42]
abbrev dktX5_text_4 : List UInt8 := dkwX5_text_4 ++ dktX5_text_5
def dkwX5_text_3 : List UInt8 := [132, 2, 1, 167, 255, 231, 42, 3, 181, 0, 179, 42, 3, 181, 0, 210, 42, 3, 181, 0, 246, 42, 3]
abbrev dktX5_text_3 : List UInt8 := dkwX5_text_3 ++ dktX5_text_4
def dkwX5_text_2 : List UInt8 := [61, 28, 16, 11, 162, 0, 25, 42, 28, 28, 16, 7, 160, 0, 7, 4, 167, 0, 4, 3, 182, 0, 194]
abbrev dktX5_text_2 : List UInt8 := dkwX5_text_2 ++ dktX5_text_3
def dkwX5_text_1 : List UInt8 := [181, 0, 115, 42, 3, 181, 0, 109, 42, 3, 181, 0, 112, 42, 3, 181, 0, 159, 42, 2, 181, 0, 162, 3]
abbrev dktX5_text_1 : List UInt8 := dkwX5_text_1 ++ dktX5_text_2
def dkwX5_text_0 : List UInt8 := [42, 3, 181, 0, 106, 27, 155, 0, 11, 27, 42, 180, 0, 109, 164, 0, 6, 16, 254, 172, 42, 27]
abbrev dktX5_text_0 : List UInt8 := dkwX5_text_0 ++ dktX5_text_1
theorem dksX5_text_0 : cX5_text.data.toList.drop 0 = dktX5_text_0 := by decide +kernel
theorem dksX5_text_1 : cX5_text.data.toList.drop 22 = dktX5_text_1 := dk_seg dksX5_text_0 22 rfl rfl
theorem dksX5_text_2 : cX5_text.data.toList.drop 46 = dktX5_text_2 := dk_seg dksX5_text_1 24 rfl rfl
theorem dksX5_text_3 : cX5_text.data.toList.drop 69 = dktX5_text_3 := dk_seg dksX5_text_2 23 rfl rfl
theorem dksX5_text_4 : cX5_text.data.toList.drop 92 = dktX5_text_4 := dk_seg dksX5_text_3 23 rfl rfl
theorem dksX5_text_5 : cX5_text.data.toList.drop 115 = dktX5_text_5 := dk_seg dksX5_text_4 23 rfl rfl
theorem dksX5_text_6 : cX5_text.data.toList.drop 138 = dktX5_text_6 := dk_seg dksX5_text_5 23 rfl rfl
theorem dksX5_text_7 : cX5_text.data.toList.drop 161 = dktX5_text_7 := dk_seg dksX5_text_6 23 rfl rfl
theorem dksX5_text_8 : cX5_text.data.toList.drop 185 = dktX5_text_8 := dk_seg dksX5_text_7 24 rfl rfl
theorem dksX5_text_9 : cX5_text.data.toList.drop 209 = dktX5_text_9 := dk_seg dksX5_text_8 24 rfl rfl
theorem dksX5_text_10 : cX5_text.data.toList.drop 232 = dktX5_text_10 := dk_seg dksX5_text_9 23 rfl rfl
abbrev cX5_reads : ByteArray := prog_19_method_20_code
def dkwX5_reads_0 : List UInt8 := [42, 180, 0, 15, 16, 11, 27, 96, 28, 79, 177]
abbrev dktX5_reads_0 : List UInt8 := dkwX5_reads_0 ++ []
theorem dksX5_reads_0 : cX5_reads.data.toList.drop 0 = dktX5_reads_0 := by decide +kernel
abbrev cX5_token : ByteArray := prog_19_method_7_code
def dkwX5_token_9 : List UInt8 := [180, 0, 112, 4, 96, 181, 0, 112, 167, 255, 200, 42, 27, 182, 0, 144, 177]
abbrev dktX5_token_9 : List UInt8 := dkwX5_token_9 ++ []
def dkwX5_token_8 : List UInt8 := [167, 0, 18, 16, 10, 42, 180, 0, 135, 104, 42, 182, 0, 118, 96, 16, 48, 100, 181, 0, 135, 42, 89]
abbrev dktX5_token_8 : List UInt8 := dkwX5_token_8 ++ dktX5_token_9
def dkwX5_token_7 : List UInt8 := [182, 0, 118, 184, 0, 141, 153, 0, 57, 42, 42, 180, 0, 135, 17, 39, 15, 164, 0, 10, 42, 180, 0, 135]
abbrev dktX5_token_7 : List UInt8 := dkwX5_token_7 ++ dktX5_token_8
def dkwX5_token_6 : List UInt8 := [182, 0, 138, 167, 0, 84, 27, 184, 0, 141, 153, 0, 72, 42, 5, 181, 0, 125, 42, 3, 181, 0, 135, 42]
abbrev dktX5_token_6 : List UInt8 := dkwX5_token_6 ++ dktX5_token_7
def dkwX5_token_5 : List UInt8 := [100, 16, 6, 164, 0, 7, 8, 167, 0, 4, 4, 181, 0, 125, 42, 180, 0, 125, 4, 160, 0, 91, 42]
abbrev dktX5_token_5 : List UInt8 := dkwX5_token_5 ++ dktX5_token_6
def dkwX5_token_4 : List UInt8 := [181, 0, 135, 42, 42, 180, 0, 135, 2, 159, 0, 7, 3, 167, 0, 22, 42, 180, 0, 112, 42, 180, 0, 122]
abbrev dktX5_token_4 : List UInt8 := dkwX5_token_4 ++ dktX5_token_5
def dkwX5_token_3 : List UInt8 := [184, 0, 128, 153, 0, 16, 42, 89, 180, 0, 112, 4, 96, 181, 0, 112, 167, 255, 236, 42, 42, 182, 0, 132]
abbrev dktX5_token_3 : List UInt8 := dkwX5_token_3 ++ dktX5_token_4
def dkwX5_token_2 : List UInt8 := [160, 0, 11, 42, 7, 181, 0, 125, 167, 0, 172, 27, 184, 0, 128, 153, 0, 84, 42, 182, 0, 118]
abbrev dktX5_token_2 : List UInt8 := dkwX5_token_2 ++ dktX5_token_3
def dkwX5_token_1 : List UInt8 := [96, 181, 0, 112, 167, 255, 228, 42, 42, 180, 0, 112, 181, 0, 122, 42, 182, 0, 118, 60, 27, 2]
abbrev dktX5_token_1 : List UInt8 := dkwX5_token_1 ++ dktX5_token_2
def dkwX5_token_0 : List UInt8 := [42, 182, 0, 118, 16, 10, 159, 0, 12, 42, 182, 0, 118, 16, 32, 160, 0, 16, 42, 89, 180, 0, 112, 4]
abbrev dktX5_token_0 : List UInt8 := dkwX5_token_0 ++ dktX5_token_1
theorem dksX5_token_0 : cX5_token.data.toList.drop 0 = dktX5_token_0 := by decide +kernel
theorem dksX5_token_1 : cX5_token.data.toList.drop 24 = dktX5_token_1 := dk_seg dksX5_token_0 24 rfl rfl
theorem dksX5_token_2 : cX5_token.data.toList.drop 46 = dktX5_token_2 := dk_seg dksX5_token_1 22 rfl rfl
theorem dksX5_token_3 : cX5_token.data.toList.drop 68 = dktX5_token_3 := dk_seg dksX5_token_2 22 rfl rfl
theorem dksX5_token_4 : cX5_token.data.toList.drop 92 = dktX5_token_4 := dk_seg dksX5_token_3 24 rfl rfl
theorem dksX5_token_5 : cX5_token.data.toList.drop 116 = dktX5_token_5 := dk_seg dksX5_token_4 24 rfl rfl
theorem dksX5_token_6 : cX5_token.data.toList.drop 139 = dktX5_token_6 := dk_seg dksX5_token_5 23 rfl rfl
theorem dksX5_token_7 : cX5_token.data.toList.drop 163 = dktX5_token_7 := dk_seg dksX5_token_6 24 rfl rfl
theorem dksX5_token_8 : cX5_token.data.toList.drop 187 = dktX5_token_8 := dk_seg dksX5_token_7 24 rfl rfl
theorem dksX5_token_9 : cX5_token.data.toList.drop 210 = dktX5_token_9 := dk_seg dksX5_token_8 23 rfl rfl
abbrev cX5_here : ByteArray := prog_19_method_4_code
def dkwX5_here_1 : List UInt8 := [172]
abbrev dktX5_here_1 : List UInt8 := dkwX5_here_1 ++ []
def dkwX5_here_0 : List UInt8 := [42, 180, 0, 112, 42, 180, 0, 115, 162, 0, 15, 42, 180, 0, 11, 42, 180, 0, 112, 46, 167, 0, 4, 2]
abbrev dktX5_here_0 : List UInt8 := dkwX5_here_0 ++ dktX5_here_1
theorem dksX5_here_0 : cX5_here.data.toList.drop 0 = dktX5_here_0 := by decide +kernel
theorem dksX5_here_1 : cX5_here.data.toList.drop 24 = dktX5_here_1 := dk_seg dksX5_here_0 24 rfl rfl
abbrev cX5_isSmall : ByteArray := prog_19_method_5_code
def dkwX5_isSmall_0 : List UInt8 := [26, 16, 97, 161, 0, 13, 26, 16, 122, 163, 0, 7, 4, 167, 0, 4, 3, 172]
abbrev dktX5_isSmall_0 : List UInt8 := dkwX5_isSmall_0 ++ []
theorem dksX5_isSmall_0 : cX5_isSmall.data.toList.drop 0 = dktX5_isSmall_0 := by decide +kernel
abbrev cX5_word : ByteArray := prog_19_method_9_code
def dkwX5_word_5 : List UInt8 := [132, 2, 1, 132, 1, 1, 167, 255, 140, 2, 172]
abbrev dktX5_word_5 : List UInt8 := dkwX5_word_5 ++ []
def dkwX5_word_4 : List UInt8 := [160, 0, 5, 27, 172, 18, 148, 28, 182, 0, 155, 16, 32, 159, 0, 9, 132, 2, 1, 167, 255, 242]
abbrev dktX5_word_4 : List UInt8 := dkwX5_word_4 ++ dktX5_word_5
def dkwX5_word_3 : List UInt8 := [18, 148, 28, 29, 96, 182, 0, 155, 16, 32, 160, 0, 18, 42, 180, 0, 122, 29, 96, 42, 180, 0, 112]
abbrev dktX5_word_3 : List UInt8 := dkwX5_word_3 ++ dktX5_word_4
def dkwX5_word_2 : List UInt8 := [180, 0, 122, 29, 96, 46, 18, 148, 28, 29, 96, 182, 0, 155, 160, 0, 9, 132, 3, 1, 167, 255, 205]
abbrev dktX5_word_2 : List UInt8 := dkwX5_word_2 ++ dktX5_word_3
def dkwX5_word_1 : List UInt8 := [16, 32, 159, 0, 44, 42, 180, 0, 122, 29, 96, 42, 180, 0, 112, 162, 0, 31, 42, 180, 0, 11, 42]
abbrev dktX5_word_1 : List UInt8 := dkwX5_word_1 ++ dktX5_word_2
def dkwX5_word_0 : List UInt8 := [3, 60, 3, 61, 28, 18, 148, 182, 0, 150, 162, 0, 113, 3, 62, 18, 148, 28, 29, 96, 182, 0, 155]
abbrev dktX5_word_0 : List UInt8 := dkwX5_word_0 ++ dktX5_word_1
theorem dksX5_word_0 : cX5_word.data.toList.drop 0 = dktX5_word_0 := by decide +kernel
theorem dksX5_word_1 : cX5_word.data.toList.drop 23 = dktX5_word_1 := dk_seg dksX5_word_0 23 rfl rfl
theorem dksX5_word_2 : cX5_word.data.toList.drop 46 = dktX5_word_2 := dk_seg dksX5_word_1 23 rfl rfl
theorem dksX5_word_3 : cX5_word.data.toList.drop 69 = dktX5_word_3 := dk_seg dksX5_word_2 23 rfl rfl
theorem dksX5_word_4 : cX5_word.data.toList.drop 92 = dktX5_word_4 := dk_seg dksX5_word_3 23 rfl rfl
theorem dksX5_word_5 : cX5_word.data.toList.drop 114 = dktX5_word_5 := dk_seg dksX5_word_4 22 rfl rfl
abbrev cX5_name : ByteArray := prog_19_method_10_code
def dkwX5_name_2 : List UInt8 := [96, 167, 0, 4, 3, 128, 181, 0, 135, 132, 1, 1, 167, 255, 203, 177]
abbrev dktX5_name_2 : List UInt8 := dkwX5_name_2 ++ []
def dkwX5_name_1 : List UInt8 := [27, 96, 42, 180, 0, 112, 162, 0, 22, 42, 180, 0, 11, 42, 180, 0, 122, 27, 96, 46, 16, 97, 100, 4]
abbrev dktX5_name_1 : List UInt8 := dkwX5_name_1 ++ dktX5_name_2
def dkwX5_name_0 : List UInt8 := [42, 3, 181, 0, 135, 3, 60, 27, 16, 6, 162, 0, 53, 42, 42, 180, 0, 135, 8, 120, 42, 180, 0, 122]
abbrev dktX5_name_0 : List UInt8 := dkwX5_name_0 ++ dktX5_name_1
theorem dksX5_name_0 : cX5_name.data.toList.drop 0 = dktX5_name_0 := by decide +kernel
theorem dksX5_name_1 : cX5_name.data.toList.drop 24 = dktX5_name_1 := dk_seg dksX5_name_0 24 rfl rfl
theorem dksX5_name_2 : cX5_name.data.toList.drop 48 = dktX5_name_2 := dk_seg dksX5_name_1 24 rfl rfl
abbrev cX5_isDigit : ByteArray := prog_19_method_6_code
def dkwX5_isDigit_0 : List UInt8 := [26, 16, 48, 161, 0, 13, 26, 16, 57, 163, 0, 7, 4, 167, 0, 4, 3, 172]
abbrev dktX5_isDigit_0 : List UInt8 := dkwX5_isDigit_0 ++ []
theorem dksX5_isDigit_0 : cX5_isDigit.data.toList.drop 0 = dktX5_isDigit_0 := by decide +kernel
abbrev cX5_sign : ByteArray := prog_19_method_8_code
def dkwX5_sign_7 : List UInt8 := [180, 0, 112, 4, 96, 181, 0, 112, 177]
abbrev dktX5_sign_7 : List UInt8 := dkwX5_sign_7 ++ []
def dkwX5_sign_6 : List UInt8 := [160, 0, 10, 42, 17, 1, 2, 181, 0, 135, 42, 180, 0, 135, 17, 1, 0, 161, 0, 13, 42, 89]
abbrev dktX5_sign_6 : List UInt8 := dkwX5_sign_6 ++ dktX5_sign_7
def dkwX5_sign_5 : List UInt8 := [160, 0, 10, 42, 17, 1, 1, 181, 0, 135, 27, 16, 62, 160, 0, 19, 42, 182, 0, 118, 16, 61]
abbrev dktX5_sign_5 : List UInt8 := dkwX5_sign_5 ++ dktX5_sign_6
def dkwX5_sign_4 : List UInt8 := [160, 0, 10, 42, 17, 1, 0, 181, 0, 135, 27, 16, 60, 160, 0, 19, 42, 182, 0, 118, 16, 62]
abbrev dktX5_sign_4 : List UInt8 := dkwX5_sign_4 ++ dktX5_sign_5
def dkwX5_sign_3 : List UInt8 := [167, 0, 4, 8, 181, 0, 125, 42, 27, 181, 0, 135, 27, 16, 60, 160, 0, 19, 42, 182, 0, 118, 16, 61]
abbrev dktX5_sign_3 : List UInt8 := dkwX5_sign_3 ++ dktX5_sign_4
def dkwX5_sign_2 : List UInt8 := [16, 47, 159, 0, 21, 27, 16, 60, 159, 0, 15, 27, 16, 61, 159, 0, 9, 27, 16, 62, 160, 0, 7, 6]
abbrev dktX5_sign_2 : List UInt8 := dkwX5_sign_2 ++ dktX5_sign_3
def dkwX5_sign_1 : List UInt8 := [16, 41, 159, 0, 45, 27, 16, 43, 159, 0, 39, 27, 16, 45, 159, 0, 33, 27, 16, 42, 159, 0, 27, 27]
abbrev dktX5_sign_1 : List UInt8 := dkwX5_sign_1 ++ dktX5_sign_2
def dkwX5_sign_0 : List UInt8 := [42, 89, 180, 0, 112, 4, 96, 181, 0, 112, 42, 27, 16, 59, 159, 0, 57, 27, 16, 40, 159, 0, 51, 27]
abbrev dktX5_sign_0 : List UInt8 := dkwX5_sign_0 ++ dktX5_sign_1
theorem dksX5_sign_0 : cX5_sign.data.toList.drop 0 = dktX5_sign_0 := by decide +kernel
theorem dksX5_sign_1 : cX5_sign.data.toList.drop 24 = dktX5_sign_1 := dk_seg dksX5_sign_0 24 rfl rfl
theorem dksX5_sign_2 : cX5_sign.data.toList.drop 48 = dktX5_sign_2 := dk_seg dksX5_sign_1 24 rfl rfl
theorem dksX5_sign_3 : cX5_sign.data.toList.drop 72 = dktX5_sign_3 := dk_seg dksX5_sign_2 24 rfl rfl
theorem dksX5_sign_4 : cX5_sign.data.toList.drop 96 = dktX5_sign_4 := dk_seg dksX5_sign_3 24 rfl rfl
theorem dksX5_sign_5 : cX5_sign.data.toList.drop 118 = dktX5_sign_5 := dk_seg dksX5_sign_4 22 rfl rfl
theorem dksX5_sign_6 : cX5_sign.data.toList.drop 140 = dktX5_sign_6 := dk_seg dksX5_sign_5 22 rfl rfl
theorem dksX5_sign_7 : cX5_sign.data.toList.drop 162 = dktX5_sign_7 := dk_seg dksX5_sign_6 22 rfl rfl
abbrev cX5_line : ByteArray := prog_19_method_22_code
def dkwX5_line_16 : List UInt8 := [42, 4, 182, 0, 168, 167, 0, 7, 42, 182, 0, 165, 42, 89, 180, 0, 210, 4, 96, 181, 0, 210, 177]
abbrev dktX5_line_16 : List UInt8 := dkwX5_line_16 ++ []
def dkwX5_line_15 : List UInt8 := [167, 0, 7, 42, 182, 0, 204, 42, 180, 0, 159, 153, 0, 4, 177, 42, 16, 59, 182, 0, 207, 154, 0, 11]
abbrev dktX5_line_15 : List UInt8 := dkwX5_line_15 ++ dktX5_line_16
def dkwX5_line_14 : List UInt8 := [42, 16, 7, 42, 3, 7, 182, 0, 190, 182, 0, 194, 167, 0, 17, 42, 16, 8, 4, 182, 0, 194]
abbrev dktX5_line_14 : List UInt8 := dkwX5_line_14 ++ dktX5_line_15
def dkwX5_line_13 : List UInt8 := [182, 0, 190, 182, 0, 194, 167, 0, 47, 42, 16, 6, 42, 3, 6, 182, 0, 190, 182, 0, 194, 167, 0, 32]
abbrev dktX5_line_13 : List UInt8 := dkwX5_line_13 ++ dktX5_line_14
def dkwX5_line_12 : List UInt8 := [182, 0, 194, 42, 7, 42, 3, 16, 99, 182, 0, 190, 182, 0, 194, 167, 0, 62, 42, 8, 42, 3, 16, 9]
abbrev dktX5_line_12 : List UInt8 := dkwX5_line_12 ++ dktX5_line_13
def dkwX5_line_11 : List UInt8 := [182, 0, 198, 167, 0, 96, 42, 182, 0, 201, 167, 0, 89, 42, 6, 42, 3, 16, 99, 182, 0, 190]
abbrev dktX5_line_11 : List UInt8 := dkwX5_line_11 ++ dktX5_line_12
def dkwX5_line_10 : List UInt8 := [180, 0, 159, 154, 0, 118, 42, 3, 42, 3, 182, 0, 175, 4, 96, 182, 0, 194, 167, 0, 103, 42]
abbrev dktX5_line_10 : List UInt8 := dkwX5_line_10 ++ dktX5_line_11
def dkwX5_line_9 : List UInt8 := [17, 0, 200, 182, 0, 190, 79, 42, 180, 0, 36, 16, 6, 42, 3, 182, 0, 175, 96, 3, 79, 42]
abbrev dktX5_line_9 : List UInt8 := dkwX5_line_9 ++ dktX5_line_10
def dkwX5_line_8 : List UInt8 := [42, 182, 0, 182, 182, 0, 186, 79, 42, 180, 0, 21, 16, 6, 42, 3, 182, 0, 175, 96, 42, 4]
abbrev dktX5_line_8 : List UInt8 := dkwX5_line_8 ++ dktX5_line_9
def dkwX5_line_7 : List UInt8 := [42, 180, 0, 18, 16, 6, 42, 3, 182, 0, 175, 96, 42, 42, 180, 0, 18, 16, 6, 42, 3, 182, 0, 175]
abbrev dktX5_line_7 : List UInt8 := dkwX5_line_7 ++ dktX5_line_8
def dkwX5_line_6 : List UInt8 := [170, 0, 0, 0, 0, 0, 232, 0, 0, 0, 0, 0, 0, 0, 7, 0, 0, 0, 47, 0, 0, 0, 136, 0, 0, 0, 143, 0, 0, 0, 150, 0, 0, 0, 177, 0, 0, 0, 192, 0, 0, 0, 207, 0, 0, 0, 222]
abbrev dktX5_line_6 : List UInt8 := dkwX5_line_6 ++ dktX5_line_7
def dkwX5_line_5 : List UInt8 := [181, 0, 179, 42, 182, 0, 165, 27]
abbrev dktX5_line_5 : List UInt8 := dkwX5_line_5 ++ dktX5_line_6
def dkwX5_line_4 : List UInt8 := [42, 6, 182, 0, 168, 42, 180, 0, 159, 153, 0, 4, 177, 42, 89, 180, 0, 179, 4, 27, 120, 128]
abbrev dktX5_line_4 : List UInt8 := dkwX5_line_4 ++ dktX5_line_5
def dkwX5_line_3 : List UInt8 := [5, 182, 0, 168, 167, 0, 25, 27, 6, 161, 0, 20, 42, 180, 0, 179, 27, 122, 4, 126, 4, 160, 0, 8]
abbrev dktX5_line_3 : List UInt8 := dkwX5_line_3 ++ dktX5_line_4
def dkwX5_line_2 : List UInt8 := [4, 182, 0, 175, 6, 159, 0, 18, 27, 5, 160, 0, 21, 42, 5, 182, 0, 175, 16, 12, 160, 0, 11, 42]
abbrev dktX5_line_2 : List UInt8 := dkwX5_line_2 ++ dktX5_line_3
def dkwX5_line_1 : List UInt8 := [180, 0, 135, 60, 27, 154, 0, 13, 42, 3, 182, 0, 175, 16, 6, 159, 0, 32, 27, 4, 160, 0, 12, 42]
abbrev dktX5_line_1 : List UInt8 := dkwX5_line_1 ++ dktX5_line_2
def dkwX5_line_0 : List UInt8 := [42, 180, 0, 125, 154, 0, 12, 42, 180, 0, 135, 16, 8, 164, 0, 9, 42, 4, 182, 0, 168, 177, 42]
abbrev dktX5_line_0 : List UInt8 := dkwX5_line_0 ++ dktX5_line_1
theorem dksX5_line_0 : cX5_line.data.toList.drop 0 = dktX5_line_0 := by decide +kernel
theorem dksX5_line_1 : cX5_line.data.toList.drop 23 = dktX5_line_1 := dk_seg dksX5_line_0 23 rfl rfl
theorem dksX5_line_2 : cX5_line.data.toList.drop 47 = dktX5_line_2 := dk_seg dksX5_line_1 24 rfl rfl
theorem dksX5_line_3 : cX5_line.data.toList.drop 71 = dktX5_line_3 := dk_seg dksX5_line_2 24 rfl rfl
theorem dksX5_line_4 : cX5_line.data.toList.drop 95 = dktX5_line_4 := dk_seg dksX5_line_3 24 rfl rfl
theorem dksX5_line_5 : cX5_line.data.toList.drop 117 = dktX5_line_5 := dk_seg dksX5_line_4 22 rfl rfl
theorem dksX5_line_6 : cX5_line.data.toList.drop 125 = dktX5_line_6 := dk_seg dksX5_line_5 8 rfl rfl
theorem dksX5_line_7 : cX5_line.data.toList.drop 172 = dktX5_line_7 := dk_seg dksX5_line_6 47 rfl rfl
theorem dksX5_line_8 : cX5_line.data.toList.drop 196 = dktX5_line_8 := dk_seg dksX5_line_7 24 rfl rfl
theorem dksX5_line_9 : cX5_line.data.toList.drop 218 = dktX5_line_9 := dk_seg dksX5_line_8 22 rfl rfl
theorem dksX5_line_10 : cX5_line.data.toList.drop 240 = dktX5_line_10 := dk_seg dksX5_line_9 22 rfl rfl
theorem dksX5_line_11 : cX5_line.data.toList.drop 262 = dktX5_line_11 := dk_seg dksX5_line_10 22 rfl rfl
theorem dksX5_line_12 : cX5_line.data.toList.drop 284 = dktX5_line_12 := dk_seg dksX5_line_11 22 rfl rfl
theorem dksX5_line_13 : cX5_line.data.toList.drop 308 = dktX5_line_13 := dk_seg dksX5_line_12 24 rfl rfl
theorem dksX5_line_14 : cX5_line.data.toList.drop 332 = dktX5_line_14 := dk_seg dksX5_line_13 24 rfl rfl
theorem dksX5_line_15 : cX5_line.data.toList.drop 354 = dktX5_line_15 := dk_seg dksX5_line_14 22 rfl rfl
theorem dksX5_line_16 : cX5_line.data.toList.drop 378 = dktX5_line_16 := dk_seg dksX5_line_15 24 rfl rfl
abbrev cX5_wrong : ByteArray := prog_19_method_11_code
def dkwX5_wrong_0 : List UInt8 := [42, 180, 0, 159, 153, 0, 4, 177, 42, 27, 181, 0, 159, 42, 42, 180, 0, 122, 181, 0, 162, 177]
abbrev dktX5_wrong_0 : List UInt8 := dkwX5_wrong_0 ++ []
theorem dksX5_wrong_0 : cX5_wrong.data.toList.drop 0 = dktX5_wrong_0 := by decide +kernel
abbrev cX5_fresher : ByteArray := prog_19_method_19_code
def dkwX5_fresher_0 : List UInt8 := [42, 180, 0, 15, 16, 11, 27, 96, 46, 172]
abbrev dktX5_fresher_0 : List UInt8 := dkwX5_fresher_0 ++ []
theorem dksX5_fresher_0 : cX5_fresher.data.toList.drop 0 = dktX5_fresher_0 := by decide +kernel
abbrev cX5_isFull : ByteArray := prog_19_method_21_code
def dkwX5_isFull_0 : List UInt8 := [42, 3, 182, 0, 175, 42, 16, 10, 182, 0, 175, 96, 16, 12, 160, 0, 7, 4, 167, 0, 4, 3, 172]
abbrev dktX5_isFull_0 : List UInt8 := dkwX5_isFull_0 ++ []
theorem dksX5_isFull_0 : cX5_isFull.data.toList.drop 0 = dktX5_isFull_0 := by decide +kernel
abbrev cX5_fresh : ByteArray := prog_19_method_17_code
def dkwX5_fresh_3 : List UInt8 := [180, 0, 135, 54, 5, 42, 182, 0, 165, 21, 5, 172]
abbrev dktX5_fresh_3 : List UInt8 := dkwX5_fresh_3 ++ []
def dkwX5_fresh_2 : List UInt8 := [184, 0, 171, 2, 159, 0, 8, 42, 6, 182, 0, 168, 42, 180, 0, 159, 153, 0, 5, 3, 172, 42]
abbrev dktX5_fresh_2 : List UInt8 := dkwX5_fresh_2 ++ dktX5_fresh_3
def dkwX5_fresh_1 : List UInt8 := [167, 0, 35, 21, 4, 153, 0, 11, 42, 5, 182, 0, 168, 167, 0, 22, 43, 28, 29, 42, 180, 0, 135]
abbrev dktX5_fresh_1 : List UInt8 := dkwX5_fresh_1 ++ dktX5_fresh_2
def dkwX5_fresh_0 : List UInt8 := [42, 180, 0, 159, 153, 0, 5, 3, 172, 42, 180, 0, 125, 4, 159, 0, 11, 42, 4, 182, 0, 168]
abbrev dktX5_fresh_0 : List UInt8 := dkwX5_fresh_0 ++ dktX5_fresh_1
theorem dksX5_fresh_0 : cX5_fresh.data.toList.drop 0 = dktX5_fresh_0 := by decide +kernel
theorem dksX5_fresh_1 : cX5_fresh.data.toList.drop 22 = dktX5_fresh_1 := dk_seg dksX5_fresh_0 22 rfl rfl
theorem dksX5_fresh_2 : cX5_fresh.data.toList.drop 45 = dktX5_fresh_2 := dk_seg dksX5_fresh_1 23 rfl rfl
theorem dksX5_fresh_3 : cX5_fresh.data.toList.drop 67 = dktX5_fresh_3 := dk_seg dksX5_fresh_2 22 rfl rfl
abbrev cX5_found : ByteArray := prog_19_method_16_code
def dkwX5_found_1 : List UInt8 := [132, 4, 1, 167, 255, 234, 2, 172]
abbrev dktX5_found_1 : List UInt8 := dkwX5_found_1 ++ []
def dkwX5_found_0 : List UInt8 := [3, 54, 4, 21, 4, 28, 162, 0, 22, 42, 27, 21, 4, 96, 46, 29, 160, 0, 6, 21, 4, 172]
abbrev dktX5_found_0 : List UInt8 := dkwX5_found_0 ++ dktX5_found_1
theorem dksX5_found_0 : cX5_found.data.toList.drop 0 = dktX5_found_0 := by decide +kernel
theorem dksX5_found_1 : cX5_found.data.toList.drop 22 = dktX5_found_1 := dk_seg dksX5_found_0 22 rfl rfl
abbrev cX5_numeral : ByteArray := prog_19_method_15_code
def dkwX5_numeral_2 : List UInt8 := [42, 180, 0, 159, 153, 0, 5, 27, 172, 42, 180, 0, 135, 62, 42, 182, 0, 165, 29, 172]
abbrev dktX5_numeral_2 : List UInt8 := dkwX5_numeral_2 ++ []
def dkwX5_numeral_1 : List UInt8 := [167, 0, 24, 42, 180, 0, 135, 27, 161, 0, 11, 42, 180, 0, 135, 28, 164, 0, 8, 42, 5, 182, 0, 168]
abbrev dktX5_numeral_1 : List UInt8 := dkwX5_numeral_1 ++ dktX5_numeral_2
def dkwX5_numeral_0 : List UInt8 := [42, 180, 0, 159, 153, 0, 5, 27, 172, 42, 180, 0, 125, 5, 159, 0, 11, 42, 4, 182, 0, 168]
abbrev dktX5_numeral_0 : List UInt8 := dkwX5_numeral_0 ++ dktX5_numeral_1
theorem dksX5_numeral_0 : cX5_numeral.data.toList.drop 0 = dktX5_numeral_0 := by decide +kernel
theorem dksX5_numeral_1 : cX5_numeral.data.toList.drop 22 = dktX5_numeral_1 := dk_seg dksX5_numeral_0 22 rfl rfl
theorem dksX5_numeral_2 : cX5_numeral.data.toList.drop 46 = dktX5_numeral_2 := dk_seg dksX5_numeral_1 24 rfl rfl
abbrev cX5_dustLine : ByteArray := prog_19_method_23_code
def dkwX5_dustLine_9 : List UInt8 := [182, 0, 165, 42, 180, 0, 125, 4, 159, 255, 104, 42, 4, 27, 4, 96, 182, 0, 194, 177]
abbrev dktX5_dustLine_9 : List UInt8 := dkwX5_dustLine_9 ++ []
def dkwX5_dustLine_8 : List UInt8 := [42, 16, 10, 182, 0, 175, 96, 27, 79, 42, 16, 10, 42, 16, 10, 182, 0, 175, 4, 96, 182, 0, 194, 42]
abbrev dktX5_dustLine_8 : List UInt8 := dkwX5_dustLine_8 ++ dktX5_dustLine_9
def dkwX5_dustLine_7 : List UInt8 := [120, 128, 61, 42, 180, 0, 30, 16, 12, 42, 16, 10, 182, 0, 175, 96, 29, 79, 42, 180, 0, 33, 16, 12]
abbrev dktX5_dustLine_7 : List UInt8 := dkwX5_dustLine_7 ++ dktX5_dustLine_8
def dkwX5_dustLine_6 : List UInt8 := [160, 0, 8, 42, 6, 182, 0, 168, 42, 182, 0, 219, 62, 42, 180, 0, 159, 153, 0, 4, 177, 28, 4, 29]
abbrev dktX5_dustLine_6 : List UInt8 := dkwX5_dustLine_6 ++ dktX5_dustLine_7
def dkwX5_dustLine_5 : List UInt8 := [182, 0, 175, 42, 180, 0, 135, 184, 0, 171, 62, 29, 2, 159, 0, 17, 28, 29, 122, 4, 126, 4]
abbrev dktX5_dustLine_5 : List UInt8 := dkwX5_dustLine_5 ++ dktX5_dustLine_6
def dkwX5_dustLine_4 : List UInt8 := [180, 0, 159, 154, 0, 49, 42, 180, 0, 125, 4, 160, 0, 41, 42, 180, 0, 18, 16, 6, 42, 3]
abbrev dktX5_dustLine_4 : List UInt8 := dkwX5_dustLine_4 ++ dktX5_dustLine_5
def dkwX5_dustLine_3 : List UInt8 := [154, 0, 23, 42, 180, 0, 125, 4, 160, 0, 15, 42, 182, 0, 182, 153, 0, 8, 42, 5, 182, 0, 168, 42]
abbrev dktX5_dustLine_3 : List UInt8 := dkwX5_dustLine_3 ++ dktX5_dustLine_4
def dkwX5_dustLine_2 : List UInt8 := [16, 9, 182, 0, 213, 154, 0, 8, 42, 4, 182, 0, 168, 42, 182, 0, 216, 3, 61, 42, 180, 0, 159]
abbrev dktX5_dustLine_2 : List UInt8 := dkwX5_dustLine_2 ++ dktX5_dustLine_3
def dkwX5_dustLine_1 : List UInt8 := [79, 42, 180, 0, 27, 6, 27, 96, 42, 4, 16, 99, 182, 0, 190, 79, 42, 180, 0, 159, 154, 0, 17, 42]
abbrev dktX5_dustLine_1 : List UInt8 := dkwX5_dustLine_1 ++ dktX5_dustLine_2
def dkwX5_dustLine_0 : List UInt8 := [42, 4, 182, 0, 175, 60, 42, 180, 0, 24, 6, 27, 96, 42, 42, 180, 0, 24, 6, 27, 3, 182, 0, 186]
abbrev dktX5_dustLine_0 : List UInt8 := dkwX5_dustLine_0 ++ dktX5_dustLine_1
theorem dksX5_dustLine_0 : cX5_dustLine.data.toList.drop 0 = dktX5_dustLine_0 := by decide +kernel
theorem dksX5_dustLine_1 : cX5_dustLine.data.toList.drop 24 = dktX5_dustLine_1 := dk_seg dksX5_dustLine_0 24 rfl rfl
theorem dksX5_dustLine_2 : cX5_dustLine.data.toList.drop 48 = dktX5_dustLine_2 := dk_seg dksX5_dustLine_1 24 rfl rfl
theorem dksX5_dustLine_3 : cX5_dustLine.data.toList.drop 71 = dktX5_dustLine_3 := dk_seg dksX5_dustLine_2 23 rfl rfl
theorem dksX5_dustLine_4 : cX5_dustLine.data.toList.drop 95 = dktX5_dustLine_4 := dk_seg dksX5_dustLine_3 24 rfl rfl
theorem dksX5_dustLine_5 : cX5_dustLine.data.toList.drop 117 = dktX5_dustLine_5 := dk_seg dksX5_dustLine_4 22 rfl rfl
theorem dksX5_dustLine_6 : cX5_dustLine.data.toList.drop 139 = dktX5_dustLine_6 := dk_seg dksX5_dustLine_5 22 rfl rfl
theorem dksX5_dustLine_7 : cX5_dustLine.data.toList.drop 163 = dktX5_dustLine_7 := dk_seg dksX5_dustLine_6 24 rfl rfl
theorem dksX5_dustLine_8 : cX5_dustLine.data.toList.drop 187 = dktX5_dustLine_8 := dk_seg dksX5_dustLine_7 24 rfl rfl
theorem dksX5_dustLine_9 : cX5_dustLine.data.toList.drop 211 = dktX5_dustLine_9 := dk_seg dksX5_dustLine_8 24 rfl rfl
abbrev cX5_isWord : ByteArray := prog_19_method_12_code
def dkwX5_isWord_1 : List UInt8 := [167, 0, 4, 3, 172]
abbrev dktX5_isWord_1 : List UInt8 := dkwX5_isWord_1 ++ []
def dkwX5_isWord_0 : List UInt8 := [42, 180, 0, 159, 154, 0, 22, 42, 180, 0, 125, 154, 0, 15, 42, 180, 0, 135, 27, 160, 0, 7, 4]
abbrev dktX5_isWord_0 : List UInt8 := dkwX5_isWord_0 ++ dktX5_isWord_1
theorem dksX5_isWord_0 : cX5_isWord.data.toList.drop 0 = dktX5_isWord_0 := by decide +kernel
theorem dksX5_isWord_1 : cX5_isWord.data.toList.drop 23 = dktX5_isWord_1 := dk_seg dksX5_isWord_0 23 rfl rfl
abbrev cX5_goOn : ByteArray := prog_19_method_14_code
def dkwX5_goOn_0 : List UInt8 := [42, 180, 0, 159, 154, 0, 7, 42, 182, 0, 165, 177]
abbrev dktX5_goOn_0 : List UInt8 := dkwX5_goOn_0 ++ []
theorem dksX5_goOn_0 : cX5_goOn.data.toList.drop 0 = dktX5_goOn_0 := by decide +kernel
abbrev cX5_bead : ByteArray := prog_19_method_18_code
def dkwX5_bead_3 : List UInt8 := [153, 0, 7, 3, 167, 0, 4, 27, 172]
abbrev dktX5_bead_3 : List UInt8 := dkwX5_bead_3 ++ []
def dkwX5_bead_2 : List UInt8 := [42, 4, 182, 0, 168, 167, 0, 13, 27, 2, 160, 0, 8, 42, 7, 182, 0, 168, 42, 180, 0, 159]
abbrev dktX5_bead_2 : List UInt8 := dkwX5_bead_2 ++ dktX5_bead_3
def dkwX5_bead_1 : List UInt8 := [3, 182, 0, 175, 42, 180, 0, 135, 184, 0, 171, 167, 0, 4, 2, 60, 42, 180, 0, 125, 4, 159, 0, 11]
abbrev dktX5_bead_1 : List UInt8 := dkwX5_bead_1 ++ dktX5_bead_2
def dkwX5_bead_0 : List UInt8 := [42, 180, 0, 159, 153, 0, 5, 3, 172, 42, 180, 0, 125, 4, 160, 0, 24, 42, 180, 0, 18, 16, 6, 42]
abbrev dktX5_bead_0 : List UInt8 := dkwX5_bead_0 ++ dktX5_bead_1
theorem dksX5_bead_0 : cX5_bead.data.toList.drop 0 = dktX5_bead_0 := by decide +kernel
theorem dksX5_bead_1 : cX5_bead.data.toList.drop 24 = dktX5_bead_1 := dk_seg dksX5_bead_0 24 rfl rfl
theorem dksX5_bead_2 : cX5_bead.data.toList.drop 48 = dktX5_bead_2 := dk_seg dksX5_bead_1 24 rfl rfl
theorem dksX5_bead_3 : cX5_bead.data.toList.drop 70 = dktX5_bead_3 := dk_seg dksX5_bead_2 22 rfl rfl
abbrev cX5_apartLine : ByteArray := prog_19_method_24_code
def dkwX5_apartLine_3 : List UInt8 := [42, 5, 182, 0, 175, 4, 96, 182, 0, 194, 42, 182, 0, 165, 177]
abbrev dktX5_apartLine_3 : List UInt8 := dkwX5_apartLine_3 ++ []
def dkwX5_apartLine_2 : List UInt8 := [180, 0, 159, 153, 0, 4, 177, 42, 180, 0, 36, 16, 6, 27, 96, 92, 46, 4, 28, 120, 128, 79, 42, 5]
abbrev dktX5_apartLine_2 : List UInt8 := dkwX5_apartLine_2 ++ dktX5_apartLine_3
def dkwX5_apartLine_1 : List UInt8 := [180, 0, 36, 16, 6, 27, 96, 46, 28, 122, 4, 126, 4, 160, 0, 8, 42, 6, 182, 0, 168, 42]
abbrev dktX5_apartLine_1 : List UInt8 := dkwX5_apartLine_1 ++ dktX5_apartLine_2
def dkwX5_apartLine_0 : List UInt8 := [42, 182, 0, 219, 60, 42, 182, 0, 216, 42, 182, 0, 219, 61, 42, 180, 0, 159, 154, 0, 25, 42]
abbrev dktX5_apartLine_0 : List UInt8 := dkwX5_apartLine_0 ++ dktX5_apartLine_1
theorem dksX5_apartLine_0 : cX5_apartLine.data.toList.drop 0 = dktX5_apartLine_0 := by decide +kernel
theorem dksX5_apartLine_1 : cX5_apartLine.data.toList.drop 22 = dktX5_apartLine_1 := dk_seg dksX5_apartLine_0 22 rfl rfl
theorem dksX5_apartLine_2 : cX5_apartLine.data.toList.drop 44 = dktX5_apartLine_2 := dk_seg dksX5_apartLine_1 22 rfl rfl
theorem dksX5_apartLine_3 : cX5_apartLine.data.toList.drop 68 = dktX5_apartLine_3 := dk_seg dksX5_apartLine_2 24 rfl rfl
abbrev cX5_expression : ByteArray := prog_19_method_27_code
def dkwX5_expression_1 : List UInt8 := [182, 0, 225, 42, 5, 17, 1, 6, 182, 0, 231, 167, 255, 227, 177]
abbrev dktX5_expression_1 : List UInt8 := dkwX5_expression_1 ++ []
def dkwX5_expression_0 : List UInt8 := [42, 182, 0, 225, 42, 16, 10, 182, 0, 213, 153, 0, 26, 42, 182, 0, 228, 42, 182, 0, 216, 42]
abbrev dktX5_expression_0 : List UInt8 := dkwX5_expression_0 ++ dktX5_expression_1
theorem dksX5_expression_0 : cX5_expression.data.toList.drop 0 = dktX5_expression_0 := by decide +kernel
theorem dksX5_expression_1 : cX5_expression.data.toList.drop 22 = dktX5_expression_1 := dk_seg dksX5_expression_0 22 rfl rfl
abbrev cX5_conjunction : ByteArray := prog_19_method_28_code
def dkwX5_conjunction_1 : List UInt8 := [182, 0, 234, 42, 5, 17, 1, 5, 182, 0, 231, 167, 255, 227, 177]
abbrev dktX5_conjunction_1 : List UInt8 := dkwX5_conjunction_1 ++ []
def dkwX5_conjunction_0 : List UInt8 := [42, 182, 0, 234, 42, 16, 11, 182, 0, 213, 153, 0, 26, 42, 182, 0, 228, 42, 182, 0, 216, 42]
abbrev dktX5_conjunction_0 : List UInt8 := dkwX5_conjunction_0 ++ dktX5_conjunction_1
theorem dksX5_conjunction_0 : cX5_conjunction.data.toList.drop 0 = dktX5_conjunction_0 := by decide +kernel
theorem dksX5_conjunction_1 : cX5_conjunction.data.toList.drop 22 = dktX5_conjunction_1 := dk_seg dksX5_conjunction_0 22 rfl rfl
abbrev cX5_negation : ByteArray := prog_19_method_29_code
def dkwX5_negation_4 : List UInt8 := [42, 182, 0, 228, 42, 182, 0, 216, 42, 182, 0, 237, 42, 5, 27, 182, 0, 231, 177]
abbrev dktX5_negation_4 : List UInt8 := dkwX5_negation_4 ++ []
def dkwX5_negation_3 : List UInt8 := [180, 0, 135, 16, 61, 159, 0, 14, 42, 180, 0, 135, 17, 1, 0, 162, 0, 4, 177, 42, 180, 0, 135, 60]
abbrev dktX5_negation_3 : List UInt8 := dkwX5_negation_3 ++ dktX5_negation_4
def dkwX5_negation_2 : List UInt8 := [160, 0, 40, 42, 180, 0, 135, 16, 60, 159, 0, 32, 42, 180, 0, 135, 16, 62, 159, 0, 23, 42]
abbrev dktX5_negation_2 : List UInt8 := dkwX5_negation_2 ++ dktX5_negation_3
def dkwX5_negation_1 : List UInt8 := [17, 1, 4, 182, 0, 231, 177, 42, 182, 0, 237, 42, 180, 0, 159, 154, 0, 48, 42, 180, 0, 125, 6]
abbrev dktX5_negation_1 : List UInt8 := dkwX5_negation_1 ++ dktX5_negation_2
def dkwX5_negation_0 : List UInt8 := [42, 16, 12, 182, 0, 213, 153, 0, 24, 42, 182, 0, 228, 42, 182, 0, 216, 42, 182, 0, 234, 42, 5]
abbrev dktX5_negation_0 : List UInt8 := dkwX5_negation_0 ++ dktX5_negation_1
theorem dksX5_negation_0 : cX5_negation.data.toList.drop 0 = dktX5_negation_0 := by decide +kernel
theorem dksX5_negation_1 : cX5_negation.data.toList.drop 23 = dktX5_negation_1 := dk_seg dksX5_negation_0 23 rfl rfl
theorem dksX5_negation_2 : cX5_negation.data.toList.drop 46 = dktX5_negation_2 := dk_seg dksX5_negation_1 23 rfl rfl
theorem dksX5_negation_3 : cX5_negation.data.toList.drop 68 = dktX5_negation_3 := dk_seg dksX5_negation_2 22 rfl rfl
theorem dksX5_negation_4 : cX5_negation.data.toList.drop 92 = dktX5_negation_4 := dk_seg dksX5_negation_3 24 rfl rfl
abbrev cX5_knot : ByteArray := prog_19_method_26_code
def dkwX5_knot_1 : List UInt8 := [167, 0, 13, 42, 89, 180, 0, 222, 4, 96, 181, 0, 222, 177]
abbrev dktX5_knot_1 : List UInt8 := dkwX5_knot_1 ++ []
def dkwX5_knot_0 : List UInt8 := [42, 180, 0, 159, 153, 0, 4, 177, 42, 180, 0, 222, 16, 64, 160, 0, 11, 42, 5, 182, 0, 168]
abbrev dktX5_knot_0 : List UInt8 := dkwX5_knot_0 ++ dktX5_knot_1
theorem dksX5_knot_0 : cX5_knot.data.toList.drop 0 = dktX5_knot_0 := by decide +kernel
theorem dksX5_knot_1 : cX5_knot.data.toList.drop 22 = dktX5_knot_1 := dk_seg dksX5_knot_0 22 rfl rfl
abbrev cX5_puts : ByteArray := prog_19_method_25_code
def dkwX5_puts_2 : List UInt8 := [96, 182, 0, 194, 177]
abbrev dktX5_puts_2 : List UInt8 := dkwX5_puts_2 ++ []
def dkwX5_puts_1 : List UInt8 := [180, 0, 42, 16, 64, 42, 16, 9, 182, 0, 175, 96, 28, 79, 42, 16, 9, 42, 16, 9, 182, 0, 175, 4]
abbrev dktX5_puts_1 : List UInt8 := dkwX5_puts_1 ++ dktX5_puts_2
def dkwX5_puts_0 : List UInt8 := [42, 180, 0, 159, 153, 0, 4, 177, 42, 180, 0, 39, 16, 64, 42, 16, 9, 182, 0, 175, 96, 27, 79, 42]
abbrev dktX5_puts_0 : List UInt8 := dkwX5_puts_0 ++ dktX5_puts_1
theorem dksX5_puts_0 : cX5_puts.data.toList.drop 0 = dktX5_puts_0 := by decide +kernel
theorem dksX5_puts_1 : cX5_puts.data.toList.drop 24 = dktX5_puts_1 := dk_seg dksX5_puts_0 24 rfl rfl
theorem dksX5_puts_2 : cX5_puts.data.toList.drop 48 = dktX5_puts_2 := dk_seg dksX5_puts_1 24 rfl rfl
abbrev cX5_sum : ByteArray := prog_19_method_30_code
def dkwX5_sum_2 : List UInt8 := [167, 255, 215, 177]
abbrev dktX5_sum_2 : List UInt8 := dkwX5_sum_2 ++ []
def dkwX5_sum_1 : List UInt8 := [180, 0, 135, 60, 42, 182, 0, 228, 42, 182, 0, 216, 42, 182, 0, 240, 42, 5, 27, 182, 0, 231]
abbrev dktX5_sum_1 : List UInt8 := dkwX5_sum_1 ++ dktX5_sum_2
def dkwX5_sum_0 : List UInt8 := [42, 182, 0, 240, 42, 16, 43, 182, 0, 207, 154, 0, 12, 42, 16, 45, 182, 0, 207, 153, 0, 29, 42]
abbrev dktX5_sum_0 : List UInt8 := dkwX5_sum_0 ++ dktX5_sum_1
theorem dksX5_sum_0 : cX5_sum.data.toList.drop 0 = dktX5_sum_0 := by decide +kernel
theorem dksX5_sum_1 : cX5_sum.data.toList.drop 23 = dktX5_sum_1 := dk_seg dksX5_sum_0 23 rfl rfl
theorem dksX5_sum_2 : cX5_sum.data.toList.drop 45 = dktX5_sum_2 := dk_seg dksX5_sum_1 22 rfl rfl
abbrev cX5_product : ByteArray := prog_19_method_31_code
def dkwX5_product_2 : List UInt8 := [167, 255, 215, 177]
abbrev dktX5_product_2 : List UInt8 := dkwX5_product_2 ++ []
def dkwX5_product_1 : List UInt8 := [180, 0, 135, 60, 42, 182, 0, 228, 42, 182, 0, 216, 42, 182, 0, 243, 42, 5, 27, 182, 0, 231]
abbrev dktX5_product_1 : List UInt8 := dkwX5_product_1 ++ dktX5_product_2
def dkwX5_product_0 : List UInt8 := [42, 182, 0, 243, 42, 16, 42, 182, 0, 207, 154, 0, 12, 42, 16, 47, 182, 0, 207, 153, 0, 29, 42]
abbrev dktX5_product_0 : List UInt8 := dkwX5_product_0 ++ dktX5_product_1
theorem dksX5_product_0 : cX5_product.data.toList.drop 0 = dktX5_product_0 := by decide +kernel
theorem dksX5_product_1 : cX5_product.data.toList.drop 23 = dktX5_product_1 := dk_seg dksX5_product_0 23 rfl rfl
theorem dksX5_product_2 : cX5_product.data.toList.drop 45 = dktX5_product_2 := dk_seg dksX5_product_1 22 rfl rfl
abbrev cX5_primary : ByteArray := prog_19_method_32_code
def dkwX5_primary_8 : List UInt8 := [167, 0, 10, 42, 180, 0, 135, 16, 13, 100, 182, 0, 231, 42, 182, 0, 216, 177]
abbrev dktX5_primary_8 : List UInt8 := dkwX5_primary_8 ++ []
def dkwX5_primary_7 : List UInt8 := [42, 182, 0, 228, 42, 27, 153, 0, 7, 3, 167, 0, 4, 4, 27, 153, 0, 10, 42, 180, 0, 135]
abbrev dktX5_primary_7 : List UInt8 := dkwX5_primary_7 ++ dktX5_primary_8
def dkwX5_primary_6 : List UInt8 := [154, 0, 24, 42, 180, 0, 125, 154, 0, 12, 42, 180, 0, 135, 16, 13, 162, 0, 8, 42, 4, 182, 0, 168]
abbrev dktX5_primary_6 : List UInt8 := dkwX5_primary_6 ++ dktX5_primary_7
def dkwX5_primary_5 : List UInt8 := [153, 0, 21, 42, 180, 0, 135, 17, 39, 15, 164, 0, 11, 42, 5, 182, 0, 168, 167, 0, 28, 27]
abbrev dktX5_primary_5 : List UInt8 := dkwX5_primary_5 ++ dktX5_primary_6
def dkwX5_primary_4 : List UInt8 := [181, 0, 246, 42, 182, 0, 165, 177, 42, 180, 0, 125, 5, 160, 0, 7, 4, 167, 0, 4, 3, 60, 27]
abbrev dktX5_primary_4 : List UInt8 := dkwX5_primary_4 ++ dktX5_primary_5
def dkwX5_primary_3 : List UInt8 := [154, 0, 8, 42, 4, 182, 0, 168, 42, 180, 0, 159, 153, 0, 4, 177, 42, 89, 180, 0, 246, 4, 100]
abbrev dktX5_primary_3 : List UInt8 := dkwX5_primary_3 ++ dktX5_primary_4
def dkwX5_primary_2 : List UInt8 := [181, 0, 246, 42, 182, 0, 165, 42, 182, 0, 204, 42, 180, 0, 159, 154, 0, 17, 42, 16, 41, 182, 0, 207]
abbrev dktX5_primary_2 : List UInt8 := dkwX5_primary_2 ++ dktX5_primary_3
def dkwX5_primary_1 : List UInt8 := [160, 0, 8, 42, 5, 182, 0, 168, 42, 180, 0, 159, 153, 0, 4, 177, 42, 89, 180, 0, 246, 4, 96]
abbrev dktX5_primary_1 : List UInt8 := dkwX5_primary_1 ++ dktX5_primary_2
def dkwX5_primary_0 : List UInt8 := [42, 180, 0, 159, 153, 0, 4, 177, 42, 16, 40, 182, 0, 207, 153, 0, 87, 42, 180, 0, 246, 16, 8]
abbrev dktX5_primary_0 : List UInt8 := dkwX5_primary_0 ++ dktX5_primary_1
theorem dksX5_primary_0 : cX5_primary.data.toList.drop 0 = dktX5_primary_0 := by decide +kernel
theorem dksX5_primary_1 : cX5_primary.data.toList.drop 23 = dktX5_primary_1 := dk_seg dksX5_primary_0 23 rfl rfl
theorem dksX5_primary_2 : cX5_primary.data.toList.drop 46 = dktX5_primary_2 := dk_seg dksX5_primary_1 23 rfl rfl
theorem dksX5_primary_3 : cX5_primary.data.toList.drop 70 = dktX5_primary_3 := dk_seg dksX5_primary_2 24 rfl rfl
theorem dksX5_primary_4 : cX5_primary.data.toList.drop 93 = dktX5_primary_4 := dk_seg dksX5_primary_3 23 rfl rfl
theorem dksX5_primary_5 : cX5_primary.data.toList.drop 116 = dktX5_primary_5 := dk_seg dksX5_primary_4 23 rfl rfl
theorem dksX5_primary_6 : cX5_primary.data.toList.drop 138 = dktX5_primary_6 := dk_seg dksX5_primary_5 22 rfl rfl
theorem dksX5_primary_7 : cX5_primary.data.toList.drop 162 = dktX5_primary_7 := dk_seg dksX5_primary_6 24 rfl rfl
theorem dksX5_primary_8 : cX5_primary.data.toList.drop 184 = dktX5_primary_8 := dk_seg dksX5_primary_7 22 rfl rfl
abbrev cX5_isSign : ByteArray := prog_19_method_13_code
def dkwX5_isSign_1 : List UInt8 := [167, 0, 4, 3, 172]
abbrev dktX5_isSign_1 : List UInt8 := dkwX5_isSign_1 ++ []
def dkwX5_isSign_0 : List UInt8 := [42, 180, 0, 159, 154, 0, 23, 42, 180, 0, 125, 6, 160, 0, 15, 42, 180, 0, 135, 27, 160, 0, 7, 4]
abbrev dktX5_isSign_0 : List UInt8 := dkwX5_isSign_0 ++ dktX5_isSign_1
theorem dksX5_isSign_0 : cX5_isSign.data.toList.drop 0 = dktX5_isSign_0 := by decide +kernel
theorem dksX5_isSign_1 : cX5_isSign.data.toList.drop 24 = dktX5_isSign_1 := dk_seg dksX5_isSign_0 24 rfl rfl
abbrev cX5_half : ByteArray := prog_19_method_33_code
def dkwX5_half_1 : List UInt8 := [167, 255, 240, 177]
abbrev dktX5_half_1 : List UInt8 := dkwX5_half_1 ++ []
def dkwX5_half_0 : List UInt8 := [42, 190, 5, 108, 60, 3, 61, 28, 27, 162, 0, 17, 42, 28, 42, 27, 28, 96, 46, 79, 132, 2, 1]
abbrev dktX5_half_0 : List UInt8 := dkwX5_half_0 ++ dktX5_half_1
theorem dksX5_half_0 : cX5_half.data.toList.drop 0 = dktX5_half_0 := by decide +kernel
theorem dksX5_half_1 : cX5_half.data.toList.drop 23 = dktX5_half_1 := dk_seg dksX5_half_0 23 rfl rfl
abbrev cX5_layLetters : ByteArray := prog_19_method_34_code
def dkwX5_layLetters_3 : List UInt8 := [42, 180, 0, 27, 42, 180, 0, 33, 27, 46, 46, 96, 182, 0, 252, 132, 1, 1, 167, 255, 203, 177]
abbrev dktX5_layLetters_3 : List UInt8 := dkwX5_layLetters_3 ++ []
def dkwX5_layLetters_2 : List UInt8 := [42, 42, 180, 0, 30, 27, 46, 42, 180, 0, 33, 27, 46, 42, 180, 0, 21, 42, 180, 0, 30, 27, 46, 46]
abbrev dktX5_layLetters_2 : List UInt8 := dkwX5_layLetters_2 ++ dktX5_layLetters_3
def dkwX5_layLetters_1 : List UInt8 := [27, 46, 182, 0, 252, 132, 1, 1, 167, 255, 231, 3, 60, 27, 42, 180, 0, 15, 16, 10, 46, 162, 0, 48]
abbrev dktX5_layLetters_1 : List UInt8 := dkwX5_layLetters_1 ++ dktX5_layLetters_2
def dkwX5_layLetters_0 : List UInt8 := [42, 3, 181, 0, 249, 3, 60, 27, 42, 180, 0, 15, 3, 46, 162, 0, 21, 42, 27, 2, 42, 180, 0, 21]
abbrev dktX5_layLetters_0 : List UInt8 := dkwX5_layLetters_0 ++ dktX5_layLetters_1
theorem dksX5_layLetters_0 : cX5_layLetters.data.toList.drop 0 = dktX5_layLetters_0 := by decide +kernel
theorem dksX5_layLetters_1 : cX5_layLetters.data.toList.drop 24 = dktX5_layLetters_1 := dk_seg dksX5_layLetters_0 24 rfl rfl
theorem dksX5_layLetters_2 : cX5_layLetters.data.toList.drop 48 = dktX5_layLetters_2 := dk_seg dksX5_layLetters_1 24 rfl rfl
theorem dksX5_layLetters_3 : cX5_layLetters.data.toList.drop 72 = dktX5_layLetters_3 := dk_seg dksX5_layLetters_2 24 rfl rfl
abbrev cX5_addLetter : ByteArray := prog_19_method_35_code
def dkwX5_addLetter_1 : List UInt8 := [42, 180, 0, 249, 29, 79, 42, 89, 180, 0, 249, 4, 96, 181, 0, 249, 177]
abbrev dktX5_addLetter_1 : List UInt8 := dkwX5_addLetter_1 ++ []
def dkwX5_addLetter_0 : List UInt8 := [42, 180, 0, 52, 42, 180, 0, 249, 27, 79, 42, 180, 0, 55, 42, 180, 0, 249, 28, 79, 42, 180, 0, 49]
abbrev dktX5_addLetter_0 : List UInt8 := dkwX5_addLetter_0 ++ dktX5_addLetter_1
theorem dksX5_addLetter_0 : cX5_addLetter.data.toList.drop 0 = dktX5_addLetter_0 := by decide +kernel
theorem dksX5_addLetter_1 : cX5_addLetter.data.toList.drop 24 = dktX5_addLetter_1 := dk_seg dksX5_addLetter_0 24 rfl rfl
abbrev cX5_fault : ByteArray := prog_19_method_37_code
def dkwX5_fault_1 : List UInt8 := [180, 0, 45, 167, 0, 4, 2, 172]
abbrev dktX5_fault_1 : List UInt8 := dkwX5_fault_1 ++ []
def dkwX5_fault_0 : List UInt8 := [42, 3, 181, 0, 106, 27, 154, 0, 10, 42, 180, 1, 3, 167, 0, 16, 27, 4, 160, 0, 10, 42]
abbrev dktX5_fault_0 : List UInt8 := dkwX5_fault_0 ++ dktX5_fault_1
theorem dksX5_fault_0 : cX5_fault.data.toList.drop 0 = dktX5_fault_0 := by decide +kernel
theorem dksX5_fault_1 : cX5_fault.data.toList.drop 22 = dktX5_fault_1 := dk_seg dksX5_fault_0 22 rfl rfl
abbrev cX5_named : ByteArray := prog_19_method_38_code
def dkwX5_named_2 : List UInt8 := [167, 0, 4, 2, 172]
abbrev dktX5_named_2 : List UInt8 := dkwX5_named_2 ++ []
def dkwX5_named_1 : List UInt8 := [167, 0, 27, 27, 4, 160, 0, 21, 42, 180, 0, 24, 3, 42, 180, 0, 15, 4, 46, 28, 184, 0, 171]
abbrev dktX5_named_1 : List UInt8 := dkwX5_named_1 ++ dktX5_named_2
def dkwX5_named_0 : List UInt8 := [42, 3, 181, 0, 106, 27, 154, 0, 21, 42, 180, 0, 18, 3, 42, 180, 0, 15, 3, 46, 28, 184, 0, 171]
abbrev dktX5_named_0 : List UInt8 := dkwX5_named_0 ++ dktX5_named_1
theorem dksX5_named_0 : cX5_named.data.toList.drop 0 = dktX5_named_0 := by decide +kernel
theorem dksX5_named_1 : cX5_named.data.toList.drop 24 = dktX5_named_1 := dk_seg dksX5_named_0 24 rfl rfl
theorem dksX5_named_2 : cX5_named.data.toList.drop 47 = dktX5_named_2 := dk_seg dksX5_named_1 23 rfl rfl
abbrev cX5_look : ByteArray := prog_19_method_40_code
def dkwX5_look_3 : List UInt8 := [46, 172]
abbrev dktX5_look_3 : List UInt8 := dkwX5_look_3 ++ []
def dkwX5_look_2 : List UInt8 := [27, 46, 167, 0, 23, 28, 4, 160, 0, 12, 42, 180, 0, 52, 27, 46, 167, 0, 9, 42, 180, 0, 55, 27]
abbrev dktX5_look_2 : List UInt8 := dkwX5_look_2 ++ dktX5_look_3
def dkwX5_look_1 : List UInt8 := [167, 0, 4, 3, 181, 0, 106, 42, 180, 0, 106, 153, 0, 5, 3, 172, 28, 154, 0, 12, 42, 180, 0, 49]
abbrev dktX5_look_1 : List UInt8 := dkwX5_look_1 ++ dktX5_look_2
def dkwX5_look_0 : List UInt8 := [42, 42, 27, 182, 1, 23, 154, 0, 7, 4, 167, 0, 17, 28, 155, 0, 8, 28, 5, 164, 0, 7, 5]
abbrev dktX5_look_0 : List UInt8 := dkwX5_look_0 ++ dktX5_look_1
theorem dksX5_look_0 : cX5_look.data.toList.drop 0 = dktX5_look_0 := by decide +kernel
theorem dksX5_look_1 : cX5_look.data.toList.drop 23 = dktX5_look_1 := dk_seg dksX5_look_0 23 rfl rfl
theorem dksX5_look_2 : cX5_look.data.toList.drop 47 = dktX5_look_2 := dk_seg dksX5_look_1 24 rfl rfl
theorem dksX5_look_3 : cX5_look.data.toList.drop 71 = dktX5_look_3 := dk_seg dksX5_look_2 24 rfl rfl
abbrev cX5_isLetter : ByteArray := prog_19_method_39_code
def dkwX5_isLetter_0 : List UInt8 := [27, 155, 0, 15, 27, 42, 180, 0, 249, 162, 0, 7, 4, 167, 0, 4, 3, 172]
abbrev dktX5_isLetter_0 : List UInt8 := dkwX5_isLetter_0 ++ []
theorem dksX5_isLetter_0 : cX5_isLetter.data.toList.drop 0 = dktX5_isLetter_0 := by decide +kernel
abbrev cX5_sticks : ByteArray := prog_19_method_42_code
def dkwX5_sticks_1 : List UInt8 := [167, 0, 17, 42, 27, 28, 182, 1, 26, 153, 0, 7, 4, 167, 0, 4, 3, 172]
abbrev dktX5_sticks_1 : List UInt8 := dkwX5_sticks_1 ++ []
def dkwX5_sticks_0 : List UInt8 := [42, 3, 181, 0, 106, 42, 27, 182, 1, 23, 153, 0, 11, 42, 28, 182, 1, 23, 154, 0, 7, 2]
abbrev dktX5_sticks_0 : List UInt8 := dkwX5_sticks_0 ++ dktX5_sticks_1
theorem dksX5_sticks_0 : cX5_sticks.data.toList.drop 0 = dktX5_sticks_0 := by decide +kernel
theorem dksX5_sticks_1 : cX5_sticks.data.toList.drop 22 = dktX5_sticks_1 := dk_seg dksX5_sticks_0 22 rfl rfl
abbrev cX5_mayFollow : ByteArray := prog_19_method_41_code
def dkwX5_mayFollow_1 : List UInt8 := [167, 0, 4, 3, 172]
abbrev dktX5_mayFollow_1 : List UInt8 := dkwX5_mayFollow_1 ++ []
def dkwX5_mayFollow_0 : List UInt8 := [42, 180, 0, 36, 42, 180, 0, 52, 28, 46, 46, 42, 180, 0, 52, 27, 46, 122, 4, 126, 154, 0, 7, 4]
abbrev dktX5_mayFollow_0 : List UInt8 := dkwX5_mayFollow_0 ++ dktX5_mayFollow_1
theorem dksX5_mayFollow_0 : cX5_mayFollow.data.toList.drop 0 = dktX5_mayFollow_0 := by decide +kernel
theorem dksX5_mayFollow_1 : cX5_mayFollow.data.toList.drop 24 = dktX5_mayFollow_1 := dk_seg dksX5_mayFollow_0 24 rfl rfl
abbrev cX5_many : ByteArray := prog_19_method_49_code
def dkwX5_many_2 : List UInt8 := [148, 158, 0, 9, 20, 1, 57, 167, 0, 4, 32, 173]
abbrev dktX5_many_2 : List UInt8 := dkwX5_many_2 ++ []
def dkwX5_many_1 : List UInt8 := [180, 0, 59, 27, 42, 180, 0, 249, 42, 180, 0, 15, 16, 7, 46, 184, 1, 34, 47, 65, 32, 20, 1, 30]
abbrev dktX5_many_1 : List UInt8 := dkwX5_many_1 ++ dktX5_many_2
def dkwX5_many_0 : List UInt8 := [42, 3, 181, 0, 106, 27, 184, 1, 49, 154, 0, 7, 20, 1, 52, 173, 42, 27, 182, 1, 54, 42]
abbrev dktX5_many_0 : List UInt8 := dkwX5_many_0 ++ dktX5_many_1
theorem dksX5_many_0 : cX5_many.data.toList.drop 0 = dktX5_many_0 := by decide +kernel
theorem dksX5_many_1 : cX5_many.data.toList.drop 22 = dktX5_many_1 := dk_seg dksX5_many_0 22 rfl rfl
theorem dksX5_many_2 : cX5_many.data.toList.drop 46 = dktX5_many_2 := dk_seg dksX5_many_1 24 rfl rfl
abbrev cX5_isWeight : ByteArray := prog_19_method_48_code
def dkwX5_isWeight_0 : List UInt8 := [26, 4, 161, 0, 14, 26, 17, 2, 88, 163, 0, 7, 4, 167, 0, 4, 3, 172]
abbrev dktX5_isWeight_0 : List UInt8 := dkwX5_isWeight_0 ++ []
theorem dksX5_isWeight_0 : cX5_isWeight.data.toList.drop 0 = dktX5_isWeight_0 := by decide +kernel
abbrev cX5_layTable : ByteArray := prog_19_method_46_code
def dkwX5_layTable_6 : List UInt8 := [167, 255, 172, 132, 2, 1, 167, 255, 159, 177]
abbrev dktX5_layTable_6 : List UInt8 := dkwX5_layTable_6 ++ []
def dkwX5_layTable_5 : List UInt8 := [180, 0, 59, 28, 29, 21, 4, 184, 1, 34, 22, 5, 80, 132, 4, 1, 167, 255, 189, 132, 3, 1]
abbrev dktX5_layTable_5 : List UInt8 := dkwX5_layTable_5 ++ dktX5_layTable_6
def dkwX5_layTable_4 : List UInt8 := [22, 5, 42, 28, 29, 21, 4, 21, 7, 182, 1, 38, 184, 1, 42, 55, 5, 132, 7, 1, 167, 255, 227, 42]
abbrev dktX5_layTable_4 : List UInt8 := dkwX5_layTable_4 ++ dktX5_layTable_5
def dkwX5_layTable_3 : List UInt8 := [180, 0, 15, 16, 7, 46, 163, 0, 61, 9, 55, 5, 3, 54, 7, 21, 7, 42, 180, 0, 249, 162, 0, 26]
abbrev dktX5_layTable_3 : List UInt8 := dkwX5_layTable_3 ++ dktX5_layTable_4
def dkwX5_layTable_2 : List UInt8 := [61, 28, 27, 163, 0, 98, 3, 62, 29, 42, 180, 0, 249, 163, 0, 82, 3, 54, 4, 21, 4, 42]
abbrev dktX5_layTable_2 : List UInt8 := dkwX5_layTable_2 ++ dktX5_layTable_3
def dkwX5_layTable_1 : List UInt8 := [180, 0, 59, 3, 28, 29, 184, 1, 34, 10, 80, 132, 3, 1, 167, 255, 230, 132, 2, 1, 167, 255, 214, 4]
abbrev dktX5_layTable_1 : List UInt8 := dkwX5_layTable_1 ++ dktX5_layTable_2
def dkwX5_layTable_0 : List UInt8 := [3, 61, 28, 42, 180, 0, 249, 163, 0, 40, 3, 62, 29, 42, 180, 0, 15, 16, 7, 46, 163, 0, 21, 42]
abbrev dktX5_layTable_0 : List UInt8 := dkwX5_layTable_0 ++ dktX5_layTable_1
theorem dksX5_layTable_0 : cX5_layTable.data.toList.drop 0 = dktX5_layTable_0 := by decide +kernel
theorem dksX5_layTable_1 : cX5_layTable.data.toList.drop 24 = dktX5_layTable_1 := dk_seg dksX5_layTable_0 24 rfl rfl
theorem dksX5_layTable_2 : cX5_layTable.data.toList.drop 48 = dktX5_layTable_2 := dk_seg dksX5_layTable_1 24 rfl rfl
theorem dksX5_layTable_3 : cX5_layTable.data.toList.drop 70 = dktX5_layTable_3 := dk_seg dksX5_layTable_2 22 rfl rfl
theorem dksX5_layTable_4 : cX5_layTable.data.toList.drop 94 = dktX5_layTable_4 := dk_seg dksX5_layTable_3 24 rfl rfl
theorem dksX5_layTable_5 : cX5_layTable.data.toList.drop 118 = dktX5_layTable_5 := dk_seg dksX5_layTable_4 24 rfl rfl
theorem dksX5_layTable_6 : cX5_layTable.data.toList.drop 140 = dktX5_layTable_6 := dk_seg dksX5_layTable_5 22 rfl rfl
abbrev cX5_atTable : ByteArray := prog_19_method_45_code
def dkwX5_atTable_0 : List UInt8 := [26, 16, 13, 104, 27, 96, 8, 104, 28, 96, 172]
abbrev dktX5_atTable_0 : List UInt8 := dkwX5_atTable_0 ++ []
theorem dksX5_atTable_0 : cX5_atTable.data.toList.drop 0 = dktX5_atTable_0 := by decide +kernel
abbrev cX5_behind : ByteArray := prog_19_method_47_code
def dkwX5_behind_2 : List UInt8 := [180, 0, 49, 21, 4, 46, 100, 21, 4, 29, 42, 21, 4, 182, 1, 46, 100, 184, 1, 34, 47, 173]
abbrev dktX5_behind_2 : List UInt8 := dkwX5_behind_2 ++ []
def dkwX5_behind_1 : List UInt8 := [180, 0, 249, 162, 0, 15, 42, 21, 4, 28, 182, 1, 26, 154, 0, 5, 9, 173, 42, 180, 0, 59, 27, 42]
abbrev dktX5_behind_1 : List UInt8 := dkwX5_behind_1 ++ dktX5_behind_2
def dkwX5_behind_0 : List UInt8 := [42, 180, 0, 49, 21, 4, 46, 27, 163, 0, 31, 42, 21, 4, 182, 1, 46, 29, 163, 0, 21, 28, 42]
abbrev dktX5_behind_0 : List UInt8 := dkwX5_behind_0 ++ dktX5_behind_1
theorem dksX5_behind_0 : cX5_behind.data.toList.drop 0 = dktX5_behind_0 := by decide +kernel
theorem dksX5_behind_1 : cX5_behind.data.toList.drop 23 = dktX5_behind_1 := dk_seg dksX5_behind_0 23 rfl rfl
theorem dksX5_behind_2 : cX5_behind.data.toList.drop 47 = dktX5_behind_2 := dk_seg dksX5_behind_1 24 rfl rfl
abbrev cX5_dustOf : ByteArray := prog_19_method_43_code
def dkwX5_dustOf_0 : List UInt8 := [42, 180, 0, 55, 27, 46, 2, 160, 0, 7, 3, 167, 0, 4, 4, 172]
abbrev dktX5_dustOf_0 : List UInt8 := dkwX5_dustOf_0 ++ []
theorem dksX5_dustOf_0 : cX5_dustOf.data.toList.drop 0 = dktX5_dustOf_0 := by decide +kernel
abbrev cX5_more : ByteArray := prog_19_method_44_code
def dkwX5_more_0 : List UInt8 := [30, 20, 1, 30, 32, 101, 148, 158, 0, 9, 20, 1, 32, 167, 0, 6, 30, 32, 97, 173]
abbrev dktX5_more_0 : List UInt8 := dkwX5_more_0 ++ []
theorem dksX5_more_0 : cX5_more.data.toList.drop 0 = dktX5_more_0 := by decide +kernel
abbrev cX5_kth : ByteArray := prog_19_method_50_code
def dkwX5_kth_8 : List UInt8 := [167, 255, 167, 16, 254, 172]
abbrev dktX5_kth_8 : List UInt8 := dkwX5_kth_8 ++ []
def dkwX5_kth_7 : List UInt8 := [46, 100, 54, 7, 21, 9, 42, 21, 13, 182, 1, 46, 100, 54, 9, 21, 13, 54, 8, 132, 12, 1]
abbrev dktX5_kth_7 : List UInt8 := dkwX5_kth_7 ++ dktX5_kth_8
def dkwX5_kth_6 : List UInt8 := [132, 13, 1, 167, 255, 218, 21, 12, 21, 4, 160, 0, 6, 21, 13, 172, 21, 7, 42, 180, 0, 49, 21, 13]
abbrev dktX5_kth_6 : List UInt8 := dkwX5_kth_6 ++ dktX5_kth_7
def dkwX5_kth_5 : List UInt8 := [182, 1, 38, 148, 155, 0, 26, 22, 10, 42, 21, 7, 21, 8, 21, 9, 21, 13, 182, 1, 38, 101, 55, 10]
abbrev dktX5_kth_5 : List UInt8 := dkwX5_kth_5 ++ dktX5_kth_6
def dkwX5_kth_4 : List UInt8 := [55, 10, 3, 54, 12, 21, 7, 158, 0, 90, 3, 54, 13, 22, 10, 42, 21, 7, 21, 8, 21, 9, 21, 13]
abbrev dktX5_kth_4 : List UInt8 := dkwX5_kth_4 ++ dktX5_kth_5
def dkwX5_kth_3 : List UInt8 := [155, 0, 5, 2, 172, 27, 54, 7, 42, 180, 0, 249, 54, 8, 42, 180, 0, 15, 16, 7, 46, 54, 9, 32]
abbrev dktX5_kth_3 : List UInt8 := dkwX5_kth_3 ++ dktX5_kth_4
def dkwX5_kth_2 : List UInt8 := [184, 1, 34, 47, 55, 5, 22, 5, 20, 1, 30, 148, 158, 0, 6, 16, 254, 172, 32, 22, 5, 148]
abbrev dktX5_kth_2 : List UInt8 := dkwX5_kth_2 ++ dktX5_kth_3
def dkwX5_kth_1 : List UInt8 := [172, 42, 27, 182, 1, 54, 42, 180, 0, 59, 27, 42, 180, 0, 249, 42, 180, 0, 15, 16, 7, 46]
abbrev dktX5_kth_1 : List UInt8 := dkwX5_kth_1 ++ dktX5_kth_2
def dkwX5_kth_0 : List UInt8 := [42, 3, 181, 0, 106, 27, 184, 1, 49, 153, 0, 14, 32, 9, 148, 155, 0, 8, 21, 4, 156, 0, 5, 2]
abbrev dktX5_kth_0 : List UInt8 := dkwX5_kth_0 ++ dktX5_kth_1
theorem dksX5_kth_0 : cX5_kth.data.toList.drop 0 = dktX5_kth_0 := by decide +kernel
theorem dksX5_kth_1 : cX5_kth.data.toList.drop 24 = dktX5_kth_1 := dk_seg dksX5_kth_0 24 rfl rfl
theorem dksX5_kth_2 : cX5_kth.data.toList.drop 46 = dktX5_kth_2 := dk_seg dksX5_kth_1 22 rfl rfl
theorem dksX5_kth_3 : cX5_kth.data.toList.drop 68 = dktX5_kth_3 := dk_seg dksX5_kth_2 22 rfl rfl
theorem dksX5_kth_4 : cX5_kth.data.toList.drop 92 = dktX5_kth_4 := dk_seg dksX5_kth_3 24 rfl rfl
theorem dksX5_kth_5 : cX5_kth.data.toList.drop 116 = dktX5_kth_5 := dk_seg dksX5_kth_4 24 rfl rfl
theorem dksX5_kth_6 : cX5_kth.data.toList.drop 140 = dktX5_kth_6 := dk_seg dksX5_kth_5 24 rfl rfl
theorem dksX5_kth_7 : cX5_kth.data.toList.drop 164 = dktX5_kth_7 := dk_seg dksX5_kth_6 24 rfl rfl
theorem dksX5_kth_8 : cX5_kth.data.toList.drop 186 = dktX5_kth_8 := dk_seg dksX5_kth_7 22 rfl rfl
abbrev cX5_whole : ByteArray := prog_19_method_51_code
def dkwX5_whole_1 : List UInt8 := [172]
abbrev dktX5_whole_1 : List UInt8 := dkwX5_whole_1 ++ []
def dkwX5_whole_0 : List UInt8 := [42, 3, 181, 0, 106, 27, 155, 0, 10, 27, 17, 7, 208, 164, 0, 5, 3, 172, 42, 27, 181, 1, 13, 4]
abbrev dktX5_whole_0 : List UInt8 := dkwX5_whole_0 ++ dktX5_whole_1
theorem dksX5_whole_0 : cX5_whole.data.toList.drop 0 = dktX5_whole_0 := by decide +kernel
theorem dksX5_whole_1 : cX5_whole.data.toList.drop 24 = dktX5_whole_1 := dk_seg dksX5_whole_0 24 rfl rfl
abbrev cX5_crumb : ByteArray := prog_19_method_52_code
def dkwX5_crumb_3 : List UInt8 := [180, 1, 16, 4, 96, 181, 1, 16, 42, 180, 1, 16, 4, 100, 172]
abbrev dktX5_crumb_3 : List UInt8 := dkwX5_crumb_3 ++ []
def dkwX5_crumb_2 : List UInt8 := [42, 180, 0, 69, 42, 180, 1, 16, 28, 79, 42, 180, 0, 72, 42, 180, 1, 16, 3, 84, 42, 89]
abbrev dktX5_crumb_2 : List UInt8 := dkwX5_crumb_2 ++ dktX5_crumb_3
def dkwX5_crumb_1 : List UInt8 := [163, 0, 12, 42, 180, 1, 16, 16, 24, 160, 0, 5, 2, 172, 42, 180, 0, 66, 42, 180, 1, 16, 27, 79]
abbrev dktX5_crumb_1 : List UInt8 := dkwX5_crumb_1 ++ dktX5_crumb_2
def dkwX5_crumb_0 : List UInt8 := [42, 3, 181, 0, 106, 27, 155, 0, 28, 27, 6, 163, 0, 23, 28, 155, 0, 19, 28, 17, 39, 15]
abbrev dktX5_crumb_0 : List UInt8 := dkwX5_crumb_0 ++ dktX5_crumb_1
theorem dksX5_crumb_0 : cX5_crumb.data.toList.drop 0 = dktX5_crumb_0 := by decide +kernel
theorem dksX5_crumb_1 : cX5_crumb.data.toList.drop 22 = dktX5_crumb_1 := dk_seg dksX5_crumb_0 22 rfl rfl
theorem dksX5_crumb_2 : cX5_crumb.data.toList.drop 46 = dktX5_crumb_2 := dk_seg dksX5_crumb_1 24 rfl rfl
theorem dksX5_crumb_3 : cX5_crumb.data.toList.drop 68 = dktX5_crumb_3 := dk_seg dksX5_crumb_2 22 rfl rfl
abbrev cX5_strike : ByteArray := prog_19_method_53_code
def dkwX5_strike_1 : List UInt8 := [153, 0, 5, 3, 172, 42, 180, 0, 72, 27, 4, 84, 4, 172]
abbrev dktX5_strike_1 : List UInt8 := dkwX5_strike_1 ++ []
def dkwX5_strike_0 : List UInt8 := [42, 3, 181, 0, 106, 27, 155, 0, 20, 27, 42, 180, 1, 16, 162, 0, 12, 42, 180, 0, 72, 27, 51]
abbrev dktX5_strike_0 : List UInt8 := dkwX5_strike_0 ++ dktX5_strike_1
theorem dksX5_strike_0 : cX5_strike.data.toList.drop 0 = dktX5_strike_0 := by decide +kernel
theorem dksX5_strike_1 : cX5_strike.data.toList.drop 23 = dktX5_strike_1 := dk_seg dksX5_strike_0 23 rfl rfl
abbrev cX5_known : ByteArray := prog_19_method_54_code
def dkwX5_known_1 : List UInt8 := [181, 0, 63, 4, 172]
abbrev dktX5_known_1 : List UInt8 := dkwX5_known_1 ++ []
def dkwX5_known_0 : List UInt8 := [42, 3, 181, 0, 106, 27, 2, 161, 0, 11, 27, 42, 180, 1, 16, 164, 0, 5, 3, 172, 42, 27]
abbrev dktX5_known_0 : List UInt8 := dkwX5_known_0 ++ dktX5_known_1
theorem dksX5_known_0 : cX5_known.data.toList.drop 0 = dktX5_known_0 := by decide +kernel
theorem dksX5_known_1 : cX5_known.data.toList.drop 22 = dktX5_known_1 := dk_seg dksX5_known_0 22 rfl rfl
abbrev cX5_found_2 : ByteArray := prog_19_method_71_code
def dkwX5_found_2_1 : List UInt8 := [180, 1, 115, 167, 0, 5, 16, 254, 172]
abbrev dktX5_found_2_1 : List UInt8 := dkwX5_found_2_1 ++ []
def dkwX5_found_2_0 : List UInt8 := [42, 3, 181, 0, 106, 42, 180, 1, 13, 154, 0, 5, 2, 172, 42, 182, 1, 131, 153, 0, 10, 42]
abbrev dktX5_found_2_0 : List UInt8 := dkwX5_found_2_0 ++ dktX5_found_2_1
theorem dksX5_found_2_0 : cX5_found_2.data.toList.drop 0 = dktX5_found_2_0 := by decide +kernel
theorem dksX5_found_2_1 : cX5_found_2.data.toList.drop 22 = dktX5_found_2_1 := dk_seg dksX5_found_2_0 22 rfl rfl
abbrev cX5_search : ByteArray := prog_19_method_69_code
def dkwX5_search_2 : List UInt8 := [182, 1, 128, 42, 180, 1, 121, 154, 0, 14, 42, 180, 1, 118, 154, 0, 7, 4, 167, 0, 4, 3, 172]
abbrev dktX5_search_2 : List UInt8 := dkwX5_search_2 ++ []
def dkwX5_search_1 : List UInt8 := [181, 1, 62, 42, 180, 1, 13, 154, 0, 5, 3, 172, 42, 42, 180, 1, 13, 42, 180, 0, 15, 16, 7, 46]
abbrev dktX5_search_1 : List UInt8 := dkwX5_search_1 ++ dktX5_search_2
def dkwX5_search_0 : List UInt8 := [42, 3, 181, 1, 115, 42, 3, 181, 1, 124, 42, 3, 181, 1, 121, 42, 3, 181, 1, 118, 42, 3]
abbrev dktX5_search_0 : List UInt8 := dkwX5_search_0 ++ dktX5_search_1
theorem dksX5_search_0 : cX5_search.data.toList.drop 0 = dktX5_search_0 := by decide +kernel
theorem dksX5_search_1 : cX5_search.data.toList.drop 22 = dktX5_search_1 := dk_seg dksX5_search_0 22 rfl rfl
theorem dksX5_search_2 : cX5_search.data.toList.drop 46 = dktX5_search_2 := dk_seg dksX5_search_1 24 rfl rfl
abbrev cX5_goes : ByteArray := prog_19_method_68_code
def dkwX5_goes_11 : List UInt8 := [167, 255, 115, 177]
abbrev dktX5_goes_11 : List UInt8 := dkwX5_goes_11 ++ []
def dkwX5_goes_10 : List UInt8 := [28, 42, 29, 182, 1, 46, 100, 182, 1, 128, 42, 89, 180, 1, 62, 4, 100, 181, 1, 62, 132, 3, 1]
abbrev dktX5_goes_10 : List UInt8 := dkwX5_goes_10 ++ dktX5_goes_11
def dkwX5_goes_9 : List UInt8 := [180, 1, 62, 29, 79, 42, 89, 180, 1, 62, 4, 96, 181, 1, 62, 42, 27, 42, 180, 0, 49, 29, 46, 100]
abbrev dktX5_goes_9 : List UInt8 := dkwX5_goes_9 ++ dktX5_goes_10
def dkwX5_goes_8 : List UInt8 := [181, 1, 124, 42, 180, 1, 124, 19, 1, 127, 164, 0, 9, 42, 4, 181, 1, 121, 177, 42, 180, 0, 85, 42]
abbrev dktX5_goes_8 : List UInt8 := dkwX5_goes_8 ++ dktX5_goes_9
def dkwX5_goes_7 : List UInt8 := [180, 1, 62, 4, 100, 46, 182, 1, 26, 154, 0, 6, 167, 0, 78, 42, 89, 180, 1, 124, 4, 96]
abbrev dktX5_goes_7 : List UInt8 := dkwX5_goes_7 ++ dktX5_goes_8
def dkwX5_goes_6 : List UInt8 := [29, 182, 1, 46, 28, 163, 0, 107, 42, 180, 1, 62, 158, 0, 25, 42, 29, 42, 180, 0, 85, 42]
abbrev dktX5_goes_6 : List UInt8 := dkwX5_goes_6 ++ dktX5_goes_7
def dkwX5_goes_5 : List UInt8 := [180, 0, 249, 162, 0, 139, 42, 180, 1, 121, 154, 0, 132, 42, 180, 0, 49, 29, 46, 27, 163, 0, 116, 42]
abbrev dktX5_goes_5 : List UInt8 := dkwX5_goes_5 ++ dktX5_goes_6
def dkwX5_goes_4 : List UInt8 := [180, 1, 115, 4, 96, 181, 1, 115, 177, 42, 180, 1, 62, 16, 12, 160, 0, 4, 177, 3, 62, 29, 42]
abbrev dktX5_goes_4 : List UInt8 := dkwX5_goes_4 ++ dktX5_goes_5
def dkwX5_goes_3 : List UInt8 := [46, 79, 132, 3, 1, 167, 255, 225, 42, 180, 0, 91, 42, 180, 1, 115, 42, 180, 1, 62, 79, 42, 89]
abbrev dktX5_goes_3 : List UInt8 := dkwX5_goes_3 ++ dktX5_goes_4
def dkwX5_goes_2 : List UInt8 := [180, 1, 62, 162, 0, 29, 42, 180, 0, 88, 16, 12, 42, 180, 1, 115, 104, 29, 96, 42, 180, 0, 85, 29]
abbrev dktX5_goes_2 : List UInt8 := dkwX5_goes_2 ++ dktX5_goes_3
def dkwX5_goes_1 : List UInt8 := [164, 0, 4, 177, 42, 180, 1, 115, 16, 60, 160, 0, 9, 42, 4, 181, 1, 118, 177, 3, 62, 29, 42]
abbrev dktX5_goes_1 : List UInt8 := dkwX5_goes_1 ++ dktX5_goes_2
def dkwX5_goes_0 : List UInt8 := [27, 154, 0, 100, 42, 182, 1, 109, 153, 0, 17, 42, 182, 1, 112, 42, 180, 0, 15, 16, 6, 46]
abbrev dktX5_goes_0 : List UInt8 := dkwX5_goes_0 ++ dktX5_goes_1
theorem dksX5_goes_0 : cX5_goes.data.toList.drop 0 = dktX5_goes_0 := by decide +kernel
theorem dksX5_goes_1 : cX5_goes.data.toList.drop 22 = dktX5_goes_1 := dk_seg dksX5_goes_0 22 rfl rfl
theorem dksX5_goes_2 : cX5_goes.data.toList.drop 45 = dktX5_goes_2 := dk_seg dksX5_goes_1 23 rfl rfl
theorem dksX5_goes_3 : cX5_goes.data.toList.drop 69 = dktX5_goes_3 := dk_seg dksX5_goes_2 24 rfl rfl
theorem dksX5_goes_4 : cX5_goes.data.toList.drop 92 = dktX5_goes_4 := dk_seg dksX5_goes_3 23 rfl rfl
theorem dksX5_goes_5 : cX5_goes.data.toList.drop 115 = dktX5_goes_5 := dk_seg dksX5_goes_4 23 rfl rfl
theorem dksX5_goes_6 : cX5_goes.data.toList.drop 139 = dktX5_goes_6 := dk_seg dksX5_goes_5 24 rfl rfl
theorem dksX5_goes_7 : cX5_goes.data.toList.drop 161 = dktX5_goes_7 := dk_seg dksX5_goes_6 22 rfl rfl
theorem dksX5_goes_8 : cX5_goes.data.toList.drop 183 = dktX5_goes_8 := dk_seg dksX5_goes_7 22 rfl rfl
theorem dksX5_goes_9 : cX5_goes.data.toList.drop 207 = dktX5_goes_9 := dk_seg dksX5_goes_8 24 rfl rfl
theorem dksX5_goes_10 : cX5_goes.data.toList.drop 231 = dktX5_goes_10 := dk_seg dksX5_goes_9 24 rfl rfl
theorem dksX5_goes_11 : cX5_goes.data.toList.drop 254 = dktX5_goes_11 := dk_seg dksX5_goes_10 23 rfl rfl
abbrev cX5_isClosed : ByteArray := prog_19_method_67_code
def dkwX5_isClosed_1 : List UInt8 := [46, 42, 180, 0, 85, 42, 180, 1, 62, 4, 100, 46, 182, 1, 26, 153, 0, 7, 4, 167, 0, 4, 3, 172]
abbrev dktX5_isClosed_1 : List UInt8 := dkwX5_isClosed_1 ++ []
def dkwX5_isClosed_0 : List UInt8 := [42, 180, 0, 15, 16, 8, 46, 153, 0, 35, 42, 180, 1, 62, 5, 161, 0, 27, 42, 42, 180, 0, 85, 3]
abbrev dktX5_isClosed_0 : List UInt8 := dkwX5_isClosed_0 ++ dktX5_isClosed_1
theorem dksX5_isClosed_0 : cX5_isClosed.data.toList.drop 0 = dktX5_isClosed_0 := by decide +kernel
theorem dksX5_isClosed_1 : cX5_isClosed.data.toList.drop 24 = dktX5_isClosed_1 := dk_seg dksX5_isClosed_0 24 rfl rfl
abbrev cX5_strays : ByteArray := prog_19_method_64_code
def dkwX5_strays_2 : List UInt8 := [160, 0, 8, 42, 28, 181, 1, 100, 132, 2, 1, 167, 255, 210, 27, 172]
abbrev dktX5_strays_2 : List UInt8 := dkwX5_strays_2 ++ []
def dkwX5_strays_1 : List UInt8 := [153, 0, 30, 42, 28, 182, 1, 106, 153, 0, 6, 167, 0, 19, 132, 1, 1, 42, 180, 1, 100, 2]
abbrev dktX5_strays_1 : List UInt8 := dkwX5_strays_1 ++ dktX5_strays_2
def dkwX5_strays_0 : List UInt8 := [3, 60, 42, 2, 181, 1, 100, 3, 61, 28, 42, 180, 1, 16, 162, 0, 44, 42, 28, 182, 1, 103]
abbrev dktX5_strays_0 : List UInt8 := dkwX5_strays_0 ++ dktX5_strays_1
theorem dksX5_strays_0 : cX5_strays.data.toList.drop 0 = dktX5_strays_0 := by decide +kernel
theorem dksX5_strays_1 : cX5_strays.data.toList.drop 22 = dktX5_strays_1 := dk_seg dksX5_strays_0 22 rfl rfl
theorem dksX5_strays_2 : cX5_strays.data.toList.drop 44 = dktX5_strays_2 := dk_seg dksX5_strays_1 22 rfl rfl
abbrev cX5_isKnown : ByteArray := prog_19_method_56_code
def dkwX5_isKnown_0 : List UInt8 := [27, 42, 182, 1, 59, 162, 0, 16, 42, 180, 0, 72, 27, 51, 154, 0, 7, 4, 167, 0, 4, 3, 172]
abbrev dktX5_isKnown_0 : List UInt8 := dkwX5_isKnown_0 ++ []
theorem dksX5_isKnown_0 : cX5_isKnown.data.toList.drop 0 = dktX5_isKnown_0 := by decide +kernel
abbrev cX5_knownMany : ByteArray := prog_19_method_55_code
def dkwX5_knownMany_0 : List UInt8 := [42, 180, 0, 63, 2, 160, 0, 10, 42, 180, 1, 16, 167, 0, 7, 42, 180, 0, 63, 172]
abbrev dktX5_knownMany_0 : List UInt8 := dkwX5_knownMany_0 ++ []
theorem dksX5_knownMany_0 : cX5_knownMany.data.toList.drop 0 = dktX5_knownMany_0 := by decide +kernel
abbrev cX5_finds : ByteArray := prog_19_method_62_code
def dkwX5_finds_13 : List UInt8 := [159, 0, 7, 4, 167, 0, 4, 3, 172]
abbrev dktX5_finds_13 : List UInt8 := dkwX5_finds_13 ++ []
def dkwX5_finds_12 : List UInt8 := [29, 21, 5, 182, 1, 85, 132, 5, 1, 167, 255, 215, 132, 3, 1, 167, 255, 144, 42, 180, 1, 73, 2]
abbrev dktX5_finds_12 : List UInt8 := dkwX5_finds_12 ++ dktX5_finds_13
def dkwX5_finds_11 : List UInt8 := [180, 1, 73, 2, 160, 0, 32, 42, 42, 29, 21, 5, 182, 1, 70, 27, 182, 1, 82, 153, 0, 11, 42, 5]
abbrev dktX5_finds_11 : List UInt8 := dkwX5_finds_11 ++ dktX5_finds_12
def dkwX5_finds_10 : List UInt8 := [100, 42, 180, 1, 62, 29, 100, 184, 1, 91, 54, 4, 4, 54, 5, 21, 5, 21, 4, 163, 0, 40, 42]
abbrev dktX5_finds_10 : List UInt8 := dkwX5_finds_10 ++ dktX5_finds_11
def dkwX5_finds_9 : List UInt8 := [180, 0, 15, 16, 8, 46, 4, 160, 0, 12, 42, 180, 1, 62, 4, 100, 167, 0, 18, 42, 180, 1, 62, 4]
abbrev dktX5_finds_9 : List UInt8 := dkwX5_finds_9 ++ dktX5_finds_10
def dkwX5_finds_8 : List UInt8 := [180, 1, 62, 162, 0, 110, 42, 27, 5, 182, 1, 76, 153, 0, 101, 42, 180, 1, 73, 2, 160, 0, 93, 42]
abbrev dktX5_finds_8 : List UInt8 := dkwX5_finds_8 ++ dktX5_finds_9
def dkwX5_finds_7 : List UInt8 := [4, 42, 180, 1, 62, 29, 100, 29, 182, 1, 85, 21, 4, 61, 132, 3, 1, 167, 255, 167, 3, 62, 29, 42]
abbrev dktX5_finds_7 : List UInt8 := dkwX5_finds_7 ++ dktX5_finds_8
def dkwX5_finds_6 : List UInt8 := [182, 1, 82, 153, 0, 35, 42, 180, 1, 73, 4, 160, 0, 12, 21, 4, 28, 161, 0, 6, 167, 0, 18, 42]
abbrev dktX5_finds_6 : List UInt8 := dkwX5_finds_6 ++ dktX5_finds_7
def dkwX5_finds_5 : List UInt8 := [182, 1, 88, 42, 180, 0, 69, 27, 46, 100, 184, 1, 65, 54, 4, 42, 42, 29, 182, 1, 88, 27]
abbrev dktX5_finds_5 : List UInt8 := dkwX5_finds_5 ++ dktX5_finds_6
def dkwX5_finds_4 : List UInt8 := [180, 1, 62, 162, 0, 87, 42, 27, 4, 182, 1, 76, 153, 0, 78, 42, 180, 1, 73, 153, 0, 71, 42, 29]
abbrev dktX5_finds_4 : List UInt8 := dkwX5_finds_4 ++ dktX5_finds_5
def dkwX5_finds_3 : List UInt8 := [167, 0, 13, 42, 3, 3, 29, 182, 1, 85, 21, 4, 61, 132, 3, 1, 167, 255, 180, 4, 62, 29, 42]
abbrev dktX5_finds_3 : List UInt8 := dkwX5_finds_3 ++ dktX5_finds_4
def dkwX5_finds_2 : List UInt8 := [182, 1, 79, 27, 182, 1, 82, 153, 0, 29, 42, 180, 1, 73, 154, 0, 12, 21, 4, 28, 161, 0, 6]
abbrev dktX5_finds_2 : List UInt8 := dkwX5_finds_2 ++ dktX5_finds_3
def dkwX5_finds_1 : List UInt8 := [153, 0, 65, 42, 29, 182, 1, 79, 42, 180, 0, 69, 27, 46, 100, 184, 1, 65, 54, 4, 42, 42, 29]
abbrev dktX5_finds_1 : List UInt8 := dkwX5_finds_1 ++ dktX5_finds_2
def dkwX5_finds_0 : List UInt8 := [42, 2, 181, 1, 73, 3, 61, 4, 62, 29, 42, 180, 1, 62, 162, 0, 74, 42, 27, 3, 182, 1, 76]
abbrev dktX5_finds_0 : List UInt8 := dkwX5_finds_0 ++ dktX5_finds_1
theorem dksX5_finds_0 : cX5_finds.data.toList.drop 0 = dktX5_finds_0 := by decide +kernel
theorem dksX5_finds_1 : cX5_finds.data.toList.drop 23 = dktX5_finds_1 := dk_seg dksX5_finds_0 23 rfl rfl
theorem dksX5_finds_2 : cX5_finds.data.toList.drop 46 = dktX5_finds_2 := dk_seg dksX5_finds_1 23 rfl rfl
theorem dksX5_finds_3 : cX5_finds.data.toList.drop 69 = dktX5_finds_3 := dk_seg dksX5_finds_2 23 rfl rfl
theorem dksX5_finds_4 : cX5_finds.data.toList.drop 92 = dktX5_finds_4 := dk_seg dksX5_finds_3 23 rfl rfl
theorem dksX5_finds_5 : cX5_finds.data.toList.drop 116 = dktX5_finds_5 := dk_seg dksX5_finds_4 24 rfl rfl
theorem dksX5_finds_6 : cX5_finds.data.toList.drop 138 = dktX5_finds_6 := dk_seg dksX5_finds_5 22 rfl rfl
theorem dksX5_finds_7 : cX5_finds.data.toList.drop 162 = dktX5_finds_7 := dk_seg dksX5_finds_6 24 rfl rfl
theorem dksX5_finds_8 : cX5_finds.data.toList.drop 186 = dktX5_finds_8 := dk_seg dksX5_finds_7 24 rfl rfl
theorem dksX5_finds_9 : cX5_finds.data.toList.drop 210 = dktX5_finds_9 := dk_seg dksX5_finds_8 24 rfl rfl
theorem dksX5_finds_10 : cX5_finds.data.toList.drop 234 = dktX5_finds_10 := dk_seg dksX5_finds_9 24 rfl rfl
theorem dksX5_finds_11 : cX5_finds.data.toList.drop 257 = dktX5_finds_11 := dk_seg dksX5_finds_10 23 rfl rfl
theorem dksX5_finds_12 : cX5_finds.data.toList.drop 281 = dktX5_finds_12 := dk_seg dksX5_finds_11 24 rfl rfl
theorem dksX5_finds_13 : cX5_finds.data.toList.drop 304 = dktX5_finds_13 := dk_seg dksX5_finds_12 23 rfl rfl
abbrev cX5_isOf : ByteArray := prog_19_method_61_code
def dkwX5_isOf_1 : List UInt8 := [3, 172]
abbrev dktX5_isOf_1 : List UInt8 := dkwX5_isOf_1 ++ []
def dkwX5_isOf_0 : List UInt8 := [42, 180, 0, 66, 27, 46, 28, 159, 0, 13, 42, 180, 0, 66, 27, 46, 6, 160, 0, 7, 4, 167, 0, 4]
abbrev dktX5_isOf_0 : List UInt8 := dkwX5_isOf_0 ++ dktX5_isOf_1
theorem dksX5_isOf_0 : cX5_isOf.data.toList.drop 0 = dktX5_isOf_0 := by decide +kernel
theorem dksX5_isOf_1 : cX5_isOf.data.toList.drop 24 = dktX5_isOf_1 := dk_seg dksX5_isOf_0 24 rfl rfl
abbrev cX5_fromLeft : ByteArray := prog_19_method_59_code
def dkwX5_fromLeft_0 : List UInt8 := [42, 3, 27, 182, 1, 70, 42, 180, 0, 15, 6, 46, 96, 172]
abbrev dktX5_fromLeft_0 : List UInt8 := dkwX5_fromLeft_0 ++ []
theorem dksX5_fromLeft_0 : cX5_fromLeft.data.toList.drop 0 = dktX5_fromLeft_0 := by decide +kernel
abbrev cX5_weighs : ByteArray := prog_19_method_57_code
def dkwX5_weighs_1 : List UInt8 := [42, 180, 1, 62, 112, 46, 46, 96, 62, 132, 4, 1, 167, 255, 225, 29, 172]
abbrev dktX5_weighs_1 : List UInt8 := dkwX5_weighs_1 ++ []
def dkwX5_weighs_0 : List UInt8 := [3, 62, 3, 54, 4, 21, 4, 28, 162, 0, 31, 29, 42, 180, 0, 49, 42, 180, 0, 85, 27, 21, 4, 96]
abbrev dktX5_weighs_0 : List UInt8 := dkwX5_weighs_0 ++ dktX5_weighs_1
theorem dksX5_weighs_0 : cX5_weighs.data.toList.drop 0 = dktX5_weighs_0 := by decide +kernel
theorem dksX5_weighs_1 : cX5_weighs.data.toList.drop 24 = dktX5_weighs_1 := dk_seg dksX5_weighs_0 24 rfl rfl
abbrev cX5_isNear : ByteArray := prog_19_method_58_code
def dkwX5_isNear_1 : List UInt8 := [3, 172]
abbrev dktX5_isNear_1 : List UInt8 := dkwX5_isNear_1 ++ []
def dkwX5_isNear_0 : List UInt8 := [27, 42, 180, 0, 69, 28, 46, 100, 184, 1, 65, 42, 180, 0, 15, 8, 46, 163, 0, 7, 4, 167, 0, 4]
abbrev dktX5_isNear_0 : List UInt8 := dkwX5_isNear_0 ++ dktX5_isNear_1
theorem dksX5_isNear_0 : cX5_isNear.data.toList.drop 0 = dktX5_isNear_0 := by decide +kernel
theorem dksX5_isNear_1 : cX5_isNear.data.toList.drop 24 = dktX5_isNear_1 := dk_seg dksX5_isNear_0 24 rfl rfl
abbrev cX5_lays : ByteArray := prog_19_method_63_code
def dkwX5_lays_0 : List UInt8 := [42, 27, 181, 1, 73, 42, 28, 181, 1, 94, 42, 29, 181, 1, 97, 177]
abbrev dktX5_lays_0 : List UInt8 := dkwX5_lays_0 ++ []
theorem dksX5_lays_0 : cX5_lays.data.toList.drop 0 = dktX5_lays_0 := by decide +kernel
abbrev cX5_fromRight : ByteArray := prog_19_method_60_code
def dkwX5_fromRight_0 : List UInt8 := [42, 42, 180, 1, 62, 27, 100, 27, 182, 1, 70, 42, 180, 0, 15, 7, 46, 96, 172]
abbrev dktX5_fromRight_0 : List UInt8 := dkwX5_fromRight_0 ++ []
theorem dksX5_fromRight_0 : cX5_fromRight.data.toList.drop 0 = dktX5_fromRight_0 := by decide +kernel
abbrev cX5_looks : ByteArray := prog_19_method_72_code
def dkwX5_looks_1 : List UInt8 := [180, 1, 124, 184, 1, 91, 172]
abbrev dktX5_looks_1 : List UInt8 := dkwX5_looks_1 ++ []
def dkwX5_looks_0 : List UInt8 := [42, 3, 181, 0, 106, 42, 180, 1, 13, 154, 0, 5, 2, 172, 42, 182, 1, 131, 87, 19, 1, 127, 42]
abbrev dktX5_looks_0 : List UInt8 := dkwX5_looks_0 ++ dktX5_looks_1
theorem dksX5_looks_0 : cX5_looks.data.toList.drop 0 = dktX5_looks_0 := by decide +kernel
theorem dksX5_looks_1 : cX5_looks.data.toList.drop 23 = dktX5_looks_1 := dk_seg dksX5_looks_0 23 rfl rfl
abbrev cX5_string : ByteArray := prog_19_method_74_code
def dkwX5_string_3 : List UInt8 := [16, 12, 27, 104, 28, 96, 46, 167, 0, 5, 16, 254, 172]
abbrev dktX5_string_3 : List UInt8 := dkwX5_string_3 ++ []
def dkwX5_string_2 : List UInt8 := [42, 180, 0, 91, 27, 46, 167, 0, 29, 28, 42, 180, 0, 91, 27, 46, 162, 0, 17, 42, 180, 0, 88]
abbrev dktX5_string_2 : List UInt8 := dkwX5_string_2 ++ dktX5_string_3
def dkwX5_string_1 : List UInt8 := [182, 1, 131, 154, 0, 6, 16, 254, 172, 42, 27, 182, 1, 134, 154, 0, 5, 2, 172, 28, 2, 160, 0, 12]
abbrev dktX5_string_1 : List UInt8 := dkwX5_string_1 ++ dktX5_string_2
def dkwX5_string_0 : List UInt8 := [42, 3, 181, 0, 106, 42, 180, 1, 13, 153, 0, 12, 27, 155, 0, 8, 28, 2, 162, 0, 5, 2, 172, 42]
abbrev dktX5_string_0 : List UInt8 := dkwX5_string_0 ++ dktX5_string_1
theorem dksX5_string_0 : cX5_string.data.toList.drop 0 = dktX5_string_0 := by decide +kernel
theorem dksX5_string_1 : cX5_string.data.toList.drop 24 = dktX5_string_1 := dk_seg dksX5_string_0 24 rfl rfl
theorem dksX5_string_2 : cX5_string.data.toList.drop 48 = dktX5_string_2 := dk_seg dksX5_string_1 24 rfl rfl
theorem dksX5_string_3 : cX5_string.data.toList.drop 71 = dktX5_string_3 := dk_seg dksX5_string_2 23 rfl rfl
abbrev cX5_isFound : ByteArray := prog_19_method_73_code
def dkwX5_isFound_0 : List UInt8 := [27, 155, 0, 15, 27, 42, 180, 1, 115, 162, 0, 7, 4, 167, 0, 4, 3, 172]
abbrev dktX5_isFound_0 : List UInt8 := dkwX5_isFound_0 ++ []
theorem dksX5_isFound_0 : cX5_isFound.data.toList.drop 0 = dktX5_isFound_0 := by decide +kernel
abbrev cX5_judge : ByteArray := prog_19_method_75_code
def dkwX5_judge_9 : List UInt8 := [167, 0, 20, 21, 6, 42, 180, 0, 15, 16, 6, 46, 164, 0, 7, 6, 167, 0, 4, 3, 172]
abbrev dktX5_judge_9 : List UInt8 := dkwX5_judge_9 ++ []
def dkwX5_judge_8 : List UInt8 := [180, 1, 100, 167, 0, 5, 21, 6, 172, 42, 3, 27, 182, 1, 70, 42, 180, 1, 13, 159, 0, 7, 5]
abbrev dktX5_judge_8 : List UInt8 := dkwX5_judge_8 ++ dktX5_judge_9
def dkwX5_judge_7 : List UInt8 := [167, 0, 4, 2, 172, 42, 182, 1, 112, 54, 6, 21, 4, 158, 0, 19, 21, 4, 4, 160, 0, 10, 42]
abbrev dktX5_judge_7 : List UInt8 := dkwX5_judge_7 ++ dktX5_judge_8
def dkwX5_judge_6 : List UInt8 := [16, 7, 46, 163, 0, 7, 4, 167, 0, 4, 3, 54, 5, 21, 5, 154, 0, 14, 21, 4, 154, 0, 7, 4]
abbrev dktX5_judge_6 : List UInt8 := dkwX5_judge_6 ++ dktX5_judge_7
def dkwX5_judge_5 : List UInt8 := [27, 181, 1, 62, 21, 5, 153, 0, 28, 42, 182, 1, 109, 153, 0, 21, 42, 182, 1, 139, 42, 180, 0, 15]
abbrev dktX5_judge_5 : List UInt8 := dkwX5_judge_5 ++ dktX5_judge_6
def dkwX5_judge_4 : List UInt8 := [180, 0, 85, 21, 6, 4, 100, 46, 182, 1, 26, 154, 0, 6, 3, 54, 5, 132, 6, 1, 167, 255, 185, 42]
abbrev dktX5_judge_4 : List UInt8 := dkwX5_judge_4 ++ dktX5_judge_5
def dkwX5_judge_3 : List UInt8 := [79, 42, 21, 7, 182, 1, 23, 153, 0, 31, 21, 5, 153, 0, 29, 21, 6, 158, 0, 24, 42, 21, 7, 42]
abbrev dktX5_judge_3 : List UInt8 := dkwX5_judge_3 ++ dktX5_judge_4
def dkwX5_judge_2 : List UInt8 := [162, 0, 71, 32, 7, 21, 6, 104, 123, 20, 1, 137, 127, 136, 54, 7, 42, 180, 0, 85, 21, 6, 21, 7]
abbrev dktX5_judge_2 : List UInt8 := dkwX5_judge_2 ++ dktX5_judge_3
def dkwX5_judge_1 : List UInt8 := [21, 4, 155, 0, 9, 21, 4, 5, 164, 0, 5, 2, 172, 4, 54, 5, 3, 54, 6, 21, 6, 27]
abbrev dktX5_judge_1 : List UInt8 := dkwX5_judge_1 ++ dktX5_judge_2
def dkwX5_judge_0 : List UInt8 := [42, 3, 181, 0, 106, 42, 180, 1, 13, 153, 0, 25, 27, 4, 161, 0, 20, 27, 16, 12, 163, 0, 14]
abbrev dktX5_judge_0 : List UInt8 := dkwX5_judge_0 ++ dktX5_judge_1
theorem dksX5_judge_0 : cX5_judge.data.toList.drop 0 = dktX5_judge_0 := by decide +kernel
theorem dksX5_judge_1 : cX5_judge.data.toList.drop 23 = dktX5_judge_1 := dk_seg dksX5_judge_0 23 rfl rfl
theorem dksX5_judge_2 : cX5_judge.data.toList.drop 45 = dktX5_judge_2 := dk_seg dksX5_judge_1 22 rfl rfl
theorem dksX5_judge_3 : cX5_judge.data.toList.drop 69 = dktX5_judge_3 := dk_seg dksX5_judge_2 24 rfl rfl
theorem dksX5_judge_4 : cX5_judge.data.toList.drop 93 = dktX5_judge_4 := dk_seg dksX5_judge_3 24 rfl rfl
theorem dksX5_judge_5 : cX5_judge.data.toList.drop 117 = dktX5_judge_5 := dk_seg dksX5_judge_4 24 rfl rfl
theorem dksX5_judge_6 : cX5_judge.data.toList.drop 141 = dktX5_judge_6 := dk_seg dksX5_judge_5 24 rfl rfl
theorem dksX5_judge_7 : cX5_judge.data.toList.drop 165 = dktX5_judge_7 := dk_seg dksX5_judge_6 24 rfl rfl
theorem dksX5_judge_8 : cX5_judge.data.toList.drop 188 = dktX5_judge_8 := dk_seg dksX5_judge_7 23 rfl rfl
theorem dksX5_judge_9 : cX5_judge.data.toList.drop 211 = dktX5_judge_9 := dk_seg dksX5_judge_8 23 rfl rfl
abbrev cX5_dusted : ByteArray := prog_19_method_66_code
def dkwX5_dusted_1 : List UInt8 := [60, 132, 2, 1, 167, 255, 232, 27, 172]
abbrev dktX5_dusted_1 : List UInt8 := dkwX5_dusted_1 ++ []
def dkwX5_dusted_0 : List UInt8 := [3, 60, 3, 61, 28, 42, 180, 1, 62, 162, 0, 22, 27, 42, 42, 180, 0, 85, 28, 46, 182, 1, 46, 96]
abbrev dktX5_dusted_0 : List UInt8 := dkwX5_dusted_0 ++ dktX5_dusted_1
theorem dksX5_dusted_0 : cX5_dusted.data.toList.drop 0 = dktX5_dusted_0 := by decide +kernel
theorem dksX5_dusted_1 : cX5_dusted.data.toList.drop 24 = dktX5_dusted_1 := dk_seg dksX5_dusted_0 24 rfl rfl
abbrev cX5_whence : ByteArray := prog_19_method_76_code
def dkwX5_whence_8 : List UInt8 := [100, 172]
abbrev dktX5_whence_8 : List UInt8 := dkwX5_whence_8 ++ []
def dkwX5_whence_7 : List UInt8 := [182, 1, 88, 167, 0, 15, 42, 42, 180, 1, 94, 42, 180, 1, 97, 182, 1, 70, 42, 180, 0, 69, 28, 46]
abbrev dktX5_whence_7 : List UInt8 := dkwX5_whence_7 ++ dktX5_whence_8
def dkwX5_whence_6 : List UInt8 := [180, 1, 97, 182, 1, 79, 167, 0, 34, 42, 180, 1, 73, 4, 160, 0, 14, 42, 42, 180, 1, 97]
abbrev dktX5_whence_6 : List UInt8 := dkwX5_whence_6 ++ dktX5_whence_7
def dkwX5_whence_5 : List UInt8 := [42, 180, 1, 73, 172, 42, 180, 1, 94, 172, 42, 180, 1, 97, 172, 42, 180, 1, 73, 154, 0, 14, 42, 42]
abbrev dktX5_whence_5 : List UInt8 := dkwX5_whence_5 ++ dktX5_whence_6
def dkwX5_whence_4 : List UInt8 := [170, 0, 0, 0, 40, 0, 0, 0, 0, 0, 0, 0, 2, 0, 0, 0, 25, 0, 0, 0, 30, 0, 0, 0, 35]
abbrev dktX5_whence_4 : List UInt8 := dkwX5_whence_4 ++ dktX5_whence_5
def dkwX5_whence_3 : List UInt8 := [29]
abbrev dktX5_whence_3 : List UInt8 := dkwX5_whence_3 ++ dktX5_whence_4
def dkwX5_whence_2 : List UInt8 := [154, 0, 7, 19, 1, 142, 172, 42, 27, 182, 1, 143, 42, 28, 182, 1, 106, 154, 0, 7, 19, 1, 142, 172]
abbrev dktX5_whence_2 : List UInt8 := dkwX5_whence_2 ++ dktX5_whence_3
def dkwX5_whence_1 : List UInt8 := [162, 0, 26, 42, 28, 182, 1, 103, 153, 0, 18, 42, 182, 1, 131, 153, 0, 11, 42, 27, 182, 1, 134]
abbrev dktX5_whence_1 : List UInt8 := dkwX5_whence_1 ++ dktX5_whence_2
def dkwX5_whence_0 : List UInt8 := [42, 3, 181, 0, 106, 29, 155, 0, 43, 29, 6, 163, 0, 38, 28, 155, 0, 34, 28, 42, 180, 1, 16]
abbrev dktX5_whence_0 : List UInt8 := dkwX5_whence_0 ++ dktX5_whence_1
theorem dksX5_whence_0 : cX5_whence.data.toList.drop 0 = dktX5_whence_0 := by decide +kernel
theorem dksX5_whence_1 : cX5_whence.data.toList.drop 23 = dktX5_whence_1 := dk_seg dksX5_whence_0 23 rfl rfl
theorem dksX5_whence_2 : cX5_whence.data.toList.drop 46 = dktX5_whence_2 := dk_seg dksX5_whence_1 23 rfl rfl
theorem dksX5_whence_3 : cX5_whence.data.toList.drop 70 = dktX5_whence_3 := dk_seg dksX5_whence_2 24 rfl rfl
theorem dksX5_whence_4 : cX5_whence.data.toList.drop 71 = dktX5_whence_4 := dk_seg dksX5_whence_3 1 rfl rfl
theorem dksX5_whence_5 : cX5_whence.data.toList.drop 96 = dktX5_whence_5 := dk_seg dksX5_whence_4 25 rfl rfl
theorem dksX5_whence_6 : cX5_whence.data.toList.drop 120 = dktX5_whence_6 := dk_seg dksX5_whence_5 24 rfl rfl
theorem dksX5_whence_7 : cX5_whence.data.toList.drop 142 = dktX5_whence_7 := dk_seg dksX5_whence_6 22 rfl rfl
theorem dksX5_whence_8 : cX5_whence.data.toList.drop 166 = dktX5_whence_8 := dk_seg dksX5_whence_7 24 rfl rfl
abbrev cX5_takes : ByteArray := prog_19_method_70_code
def dkwX5_takes_1 : List UInt8 := [28, 42, 180, 0, 88, 16, 12, 27, 104, 28, 96, 46, 79, 132, 2, 1, 167, 255, 228, 177]
abbrev dktX5_takes_1 : List UInt8 := dkwX5_takes_1 ++ []
def dkwX5_takes_0 : List UInt8 := [42, 42, 180, 0, 91, 27, 46, 181, 1, 62, 3, 61, 28, 42, 180, 1, 62, 162, 0, 26, 42, 180, 0, 85]
abbrev dktX5_takes_0 : List UInt8 := dkwX5_takes_0 ++ dktX5_takes_1
theorem dksX5_takes_0 : cX5_takes.data.toList.drop 0 = dktX5_takes_0 := by decide +kernel
theorem dksX5_takes_1 : cX5_takes.data.toList.drop 24 = dktX5_takes_1 := dk_seg dksX5_takes_0 24 rfl rfl
abbrev cX5_score : ByteArray := prog_19_method_80_code
def dkwX5_score_1 : List UInt8 := [167, 0, 8, 42, 27, 182, 1, 170, 173]
abbrev dktX5_score_1 : List UInt8 := dkwX5_score_1 ++ []
def dkwX5_score_0 : List UInt8 := [42, 3, 181, 0, 106, 42, 182, 1, 131, 153, 0, 11, 42, 27, 182, 1, 134, 154, 0, 9, 20, 1, 168]
abbrev dktX5_score_0 : List UInt8 := dkwX5_score_0 ++ dktX5_score_1
theorem dksX5_score_0 : cX5_score.data.toList.drop 0 = dktX5_score_0 := by decide +kernel
theorem dksX5_score_1 : cX5_score.data.toList.drop 23 = dktX5_score_1 := dk_seg dksX5_score_0 23 rfl rfl
abbrev cX5_scoreOf : ByteArray := prog_19_method_79_code
def dkwX5_scoreOf_9 : List UInt8 := [47, 173]
abbrev dktX5_scoreOf_9 : List UInt8 := dkwX5_scoreOf_9 ++ []
def dkwX5_scoreOf_8 : List UInt8 := [46, 47, 80, 42, 89, 180, 1, 146, 4, 96, 181, 1, 146, 132, 4, 1, 167, 255, 162, 42, 180, 0, 97, 3]
abbrev dktX5_scoreOf_8 : List UInt8 := dkwX5_scoreOf_8 ++ dktX5_scoreOf_9
def dkwX5_scoreOf_7 : List UInt8 := [154, 0, 14, 42, 180, 0, 42, 21, 4, 46, 133, 167, 0, 15, 42, 180, 0, 94, 42, 180, 0, 42, 21, 4]
abbrev dktX5_scoreOf_7 : List UInt8 := dkwX5_scoreOf_7 ++ dktX5_scoreOf_8
def dkwX5_scoreOf_6 : List UInt8 := [182, 1, 163, 154, 0, 57, 9, 173, 42, 180, 0, 97, 42, 180, 1, 146, 42, 180, 0, 39, 21, 4, 46]
abbrev dktX5_scoreOf_6 : List UInt8 := dkwX5_scoreOf_6 ++ dktX5_scoreOf_7
def dkwX5_scoreOf_5 : List UInt8 := [162, 0, 88, 42, 180, 0, 39, 21, 4, 46, 5, 160, 0, 19, 42, 42, 180, 0, 42, 21, 4, 46]
abbrev dktX5_scoreOf_5 : List UInt8 := dkwX5_scoreOf_5 ++ dktX5_scoreOf_6
def dkwX5_scoreOf_4 : List UInt8 := [180, 1, 13, 133, 80, 42, 3, 181, 1, 146, 3, 54, 4, 21, 4, 42, 180, 0, 15, 16, 9, 46]
abbrev dktX5_scoreOf_4 : List UInt8 := dkwX5_scoreOf_4 ++ dktX5_scoreOf_5
def dkwX5_scoreOf_3 : List UInt8 := [180, 1, 62, 133, 80, 42, 180, 0, 94, 7, 42, 182, 1, 139, 133, 80, 42, 180, 0, 94, 8, 42]
abbrev dktX5_scoreOf_3 : List UInt8 := dkwX5_scoreOf_3 ++ dktX5_scoreOf_4
def dkwX5_scoreOf_2 : List UInt8 := [180, 1, 62, 4, 100, 104, 28, 100, 133, 80, 42, 180, 0, 94, 5, 29, 133, 80, 42, 180, 0, 94, 6, 42]
abbrev dktX5_scoreOf_2 : List UInt8 := dkwX5_scoreOf_2 ++ dktX5_scoreOf_3
def dkwX5_scoreOf_1 : List UInt8 := [154, 0, 8, 28, 29, 100, 133, 173, 42, 180, 0, 94, 3, 28, 133, 80, 42, 180, 0, 94, 4, 5, 42]
abbrev dktX5_scoreOf_1 : List UInt8 := dkwX5_scoreOf_1 ++ dktX5_scoreOf_2
def dkwX5_scoreOf_0 : List UInt8 := [42, 27, 182, 1, 143, 42, 182, 1, 160, 61, 42, 182, 1, 112, 62, 42, 180, 0, 15, 16, 9, 46]
abbrev dktX5_scoreOf_0 : List UInt8 := dkwX5_scoreOf_0 ++ dktX5_scoreOf_1
theorem dksX5_scoreOf_0 : cX5_scoreOf.data.toList.drop 0 = dktX5_scoreOf_0 := by decide +kernel
theorem dksX5_scoreOf_1 : cX5_scoreOf.data.toList.drop 22 = dktX5_scoreOf_1 := dk_seg dksX5_scoreOf_0 22 rfl rfl
theorem dksX5_scoreOf_2 : cX5_scoreOf.data.toList.drop 45 = dktX5_scoreOf_2 := dk_seg dksX5_scoreOf_1 23 rfl rfl
theorem dksX5_scoreOf_3 : cX5_scoreOf.data.toList.drop 69 = dktX5_scoreOf_3 := dk_seg dksX5_scoreOf_2 24 rfl rfl
theorem dksX5_scoreOf_4 : cX5_scoreOf.data.toList.drop 91 = dktX5_scoreOf_4 := dk_seg dksX5_scoreOf_3 22 rfl rfl
theorem dksX5_scoreOf_5 : cX5_scoreOf.data.toList.drop 113 = dktX5_scoreOf_5 := dk_seg dksX5_scoreOf_4 22 rfl rfl
theorem dksX5_scoreOf_6 : cX5_scoreOf.data.toList.drop 135 = dktX5_scoreOf_6 := dk_seg dksX5_scoreOf_5 22 rfl rfl
theorem dksX5_scoreOf_7 : cX5_scoreOf.data.toList.drop 158 = dktX5_scoreOf_7 := dk_seg dksX5_scoreOf_6 23 rfl rfl
theorem dksX5_scoreOf_8 : cX5_scoreOf.data.toList.drop 182 = dktX5_scoreOf_8 := dk_seg dksX5_scoreOf_7 24 rfl rfl
theorem dksX5_scoreOf_9 : cX5_scoreOf.data.toList.drop 206 = dktX5_scoreOf_9 := dk_seg dksX5_scoreOf_8 24 rfl rfl
abbrev cX5_came : ByteArray := prog_19_method_65_code
def dkwX5_came_6 : List UInt8 := [167, 255, 121, 27, 172]
abbrev dktX5_came_6 : List UInt8 := dkwX5_came_6 ++ []
def dkwX5_came_5 : List UInt8 := [153, 0, 7, 4, 167, 0, 4, 3, 21, 4, 153, 0, 7, 4, 167, 0, 4, 3, 96, 96, 60, 132, 2, 1]
abbrev dktX5_came_5 : List UInt8 := dkwX5_came_5 ++ dktX5_came_6
def dkwX5_came_4 : List UInt8 := [182, 1, 82, 153, 0, 7, 4, 167, 0, 4, 3, 128, 54, 4, 132, 5, 1, 167, 255, 166, 27, 29]
abbrev dktX5_came_4 : List UInt8 := dkwX5_came_4 ++ dktX5_came_5
def dkwX5_came_3 : List UInt8 := [3, 128, 62, 21, 4, 42, 21, 5, 4, 182, 1, 76, 153, 0, 21, 42, 42, 28, 182, 1, 88, 21, 5]
abbrev dktX5_came_3 : List UInt8 := dkwX5_came_3 ++ dktX5_came_4
def dkwX5_came_2 : List UInt8 := [182, 1, 76, 153, 0, 21, 42, 42, 28, 182, 1, 79, 21, 5, 182, 1, 82, 153, 0, 7, 4, 167, 0, 4]
abbrev dktX5_came_2 : List UInt8 := dkwX5_came_2 ++ dktX5_came_3
def dkwX5_came_1 : List UInt8 := [180, 1, 16, 162, 0, 87, 42, 21, 5, 182, 1, 103, 154, 0, 6, 167, 0, 69, 29, 42, 21, 5, 3]
abbrev dktX5_came_1 : List UInt8 := dkwX5_came_1 ++ dktX5_came_2
def dkwX5_came_0 : List UInt8 := [3, 60, 4, 61, 28, 42, 180, 1, 62, 162, 0, 133, 3, 62, 3, 54, 4, 3, 54, 5, 21, 5, 42]
abbrev dktX5_came_0 : List UInt8 := dkwX5_came_0 ++ dktX5_came_1
theorem dksX5_came_0 : cX5_came.data.toList.drop 0 = dktX5_came_0 := by decide +kernel
theorem dksX5_came_1 : cX5_came.data.toList.drop 23 = dktX5_came_1 := dk_seg dksX5_came_0 23 rfl rfl
theorem dksX5_came_2 : cX5_came.data.toList.drop 46 = dktX5_came_2 := dk_seg dksX5_came_1 23 rfl rfl
theorem dksX5_came_3 : cX5_came.data.toList.drop 70 = dktX5_came_3 := dk_seg dksX5_came_2 24 rfl rfl
theorem dksX5_came_4 : cX5_came.data.toList.drop 93 = dktX5_came_4 := dk_seg dksX5_came_3 23 rfl rfl
theorem dksX5_came_5 : cX5_came.data.toList.drop 115 = dktX5_came_5 := dk_seg dksX5_came_4 22 rfl rfl
theorem dksX5_came_6 : cX5_came.data.toList.drop 139 = dktX5_came_6 := dk_seg dksX5_came_5 24 rfl rfl
abbrev cX5_works : ByteArray := prog_19_method_78_code
def dkwX5_works_15 : List UInt8 := [157, 0, 16, 22, 6, 20, 1, 158, 148, 155, 0, 7, 4, 167, 0, 4, 3, 172]
abbrev dktX5_works_15 : List UInt8 := dkwX5_works_15 ++ []
def dkwX5_works_14 : List UInt8 := [184, 1, 149, 55, 6, 42, 180, 0, 97, 42, 180, 1, 146, 4, 100, 22, 6, 80, 22, 6, 20, 1, 156, 148]
abbrev dktX5_works_14 : List UInt8 := dkwX5_works_14 ++ dktX5_works_15
def dkwX5_works_13 : List UInt8 := [55, 6, 167, 0, 26, 22, 4, 9, 148, 154, 0, 9, 32, 9, 148, 153, 0, 7, 4, 167, 0, 4, 3]
abbrev dktX5_works_13 : List UInt8 := dkwX5_works_13 ++ dktX5_works_14
def dkwX5_works_12 : List UInt8 := [167, 0, 52, 22, 4, 9, 148, 153, 0, 13, 32, 9, 148, 153, 0, 7, 4, 167, 0, 4, 3, 184, 1, 149]
abbrev dktX5_works_12 : List UInt8 := dkwX5_works_12 ++ dktX5_works_13
def dkwX5_works_11 : List UInt8 := [55, 6, 167, 0, 72, 22, 4, 32, 148, 153, 0, 7, 4, 167, 0, 4, 3, 184, 1, 149, 55, 6]
abbrev dktX5_works_11 : List UInt8 := dkwX5_works_11 ++ dktX5_works_12
def dkwX5_works_10 : List UInt8 := [184, 1, 149, 55, 6, 167, 0, 92, 22, 4, 32, 148, 155, 0, 7, 4, 167, 0, 4, 3, 184, 1, 149]
abbrev dktX5_works_10 : List UInt8 := dkwX5_works_10 ++ dktX5_works_11
def dkwX5_works_9 : List UInt8 := [167, 0, 4, 3, 184, 1, 149, 55, 6, 167, 0, 112, 22, 4, 32, 148, 157, 0, 7, 4, 167, 0, 4, 3]
abbrev dktX5_works_9 : List UInt8 := dkwX5_works_9 ++ dktX5_works_10
def dkwX5_works_8 : List UInt8 := [158, 0, 7, 4, 167, 0, 4, 3, 184, 1, 149, 55, 6, 167, 0, 132, 22, 4, 32, 148, 154, 0, 7, 4]
abbrev dktX5_works_8 : List UInt8 := dkwX5_works_8 ++ dktX5_works_9
def dkwX5_works_7 : List UInt8 := [22, 4, 32, 148, 156, 0, 7, 4, 167, 0, 4, 3, 184, 1, 149, 55, 6, 167, 0, 152, 22, 4, 32, 148]
abbrev dktX5_works_7 : List UInt8 := dkwX5_works_7 ++ dktX5_works_8
def dkwX5_works_6 : List UInt8 := [32, 105, 55, 6, 167, 0, 189, 32, 9, 148, 154, 0, 5, 3, 172, 22, 4, 32, 109, 55, 6, 167, 0, 172]
abbrev dktX5_works_6 : List UInt8 := dkwX5_works_6 ++ dktX5_works_7
def dkwX5_works_5 : List UInt8 := [153, 0, 22, 32, 184, 1, 153, 20, 1, 156, 22, 4, 184, 1, 153, 109, 148, 158, 0, 5, 3, 172, 22, 4]
abbrev dktX5_works_5 : List UInt8 := dkwX5_works_5 ++ dktX5_works_6
def dkwX5_works_4 : List UInt8 := [22, 4, 32, 97, 55, 6, 167, 0, 233, 22, 4, 32, 101, 55, 6, 167, 0, 224, 22, 4, 9, 148]
abbrev dktX5_works_4 : List UInt8 := dkwX5_works_4 ++ dktX5_works_5
def dkwX5_works_3 : List UInt8 := [171, 0, 0, 0, 1, 58, 0, 0, 0, 11, 0, 0, 0, 42, 0, 0, 0, 116, 0, 0, 0, 43, 0, 0, 0, 98, 0, 0, 0, 45, 0, 0, 0, 107, 0, 0, 0, 47, 0, 0, 0, 151, 0, 0, 0, 60, 0, 0, 0, 168, 0, 0, 0, 61, 0, 0, 0, 208, 0, 0, 0, 62, 0, 0, 0, 188, 0, 0, 1, 0, 0, 0, 0, 228, 0, 0, 1, 1, 0, 0, 1, 12, 0, 0, 1, 2, 0, 0, 0, 248, 0, 0, 1, 5, 0, 0, 1, 32]
abbrev dktX5_works_3 : List UInt8 := dkwX5_works_3 ++ dktX5_works_4
def dkwX5_works_2 : List UInt8 := [180, 0, 97, 42, 180, 1, 146, 5, 100, 47, 55, 4, 42, 89, 180, 1, 146, 4, 100, 181, 1, 146, 27]
abbrev dktX5_works_2 : List UInt8 := dkwX5_works_2 ++ dktX5_works_3
def dkwX5_works_1 : List UInt8 := [180, 1, 146, 4, 100, 32, 9, 148, 154, 0, 7, 4, 167, 0, 4, 3, 184, 1, 149, 80, 4, 172, 42]
abbrev dktX5_works_1 : List UInt8 := dkwX5_works_1 ++ dktX5_works_2
def dkwX5_works_0 : List UInt8 := [42, 180, 0, 97, 42, 180, 1, 146, 4, 100, 47, 65, 27, 17, 1, 4, 160, 0, 30, 42, 180, 0, 97, 42]
abbrev dktX5_works_0 : List UInt8 := dkwX5_works_0 ++ dktX5_works_1
theorem dksX5_works_0 : cX5_works.data.toList.drop 0 = dktX5_works_0 := by decide +kernel
theorem dksX5_works_1 : cX5_works.data.toList.drop 24 = dktX5_works_1 := dk_seg dksX5_works_0 24 rfl rfl
theorem dksX5_works_2 : cX5_works.data.toList.drop 47 = dktX5_works_2 := dk_seg dksX5_works_1 23 rfl rfl
theorem dksX5_works_3 : cX5_works.data.toList.drop 70 = dktX5_works_3 := dk_seg dksX5_works_2 23 rfl rfl
theorem dksX5_works_4 : cX5_works.data.toList.drop 168 = dktX5_works_4 := dk_seg dksX5_works_3 98 rfl rfl
theorem dksX5_works_5 : cX5_works.data.toList.drop 190 = dktX5_works_5 := dk_seg dksX5_works_4 22 rfl rfl
theorem dksX5_works_6 : cX5_works.data.toList.drop 214 = dktX5_works_6 := dk_seg dksX5_works_5 24 rfl rfl
theorem dksX5_works_7 : cX5_works.data.toList.drop 238 = dktX5_works_7 := dk_seg dksX5_works_6 24 rfl rfl
theorem dksX5_works_8 : cX5_works.data.toList.drop 262 = dktX5_works_8 := dk_seg dksX5_works_7 24 rfl rfl
theorem dksX5_works_9 : cX5_works.data.toList.drop 286 = dktX5_works_9 := dk_seg dksX5_works_8 24 rfl rfl
theorem dksX5_works_10 : cX5_works.data.toList.drop 310 = dktX5_works_10 := dk_seg dksX5_works_9 24 rfl rfl
theorem dksX5_works_11 : cX5_works.data.toList.drop 333 = dktX5_works_11 := dk_seg dksX5_works_10 23 rfl rfl
theorem dksX5_works_12 : cX5_works.data.toList.drop 355 = dktX5_works_12 := dk_seg dksX5_works_11 22 rfl rfl
theorem dksX5_works_13 : cX5_works.data.toList.drop 379 = dktX5_works_13 := dk_seg dksX5_works_12 24 rfl rfl
theorem dksX5_works_14 : cX5_works.data.toList.drop 402 = dktX5_works_14 := dk_seg dksX5_works_13 23 rfl rfl
theorem dksX5_works_15 : cX5_works.data.toList.drop 426 = dktX5_works_15 := dk_seg dksX5_works_14 24 rfl rfl
abbrev cX5_is : ByteArray := prog_19_method_77_code
def dkwX5_is_0 : List UInt8 := [26, 153, 0, 7, 10, 167, 0, 4, 9, 173]
abbrev dktX5_is_0 : List UInt8 := dkwX5_is_0 ++ []
theorem dksX5_is_0 : cX5_is.data.toList.drop 0 = dktX5_is_0 := by decide +kernel
abbrev cX5_rank : ByteArray := prog_19_method_82_code
def dkwX5_rank_5 : List UInt8 := [132, 4, 1, 167, 255, 196, 29, 27, 160, 0, 5, 28, 172, 132, 2, 1, 167, 255, 170, 2, 172]
abbrev dktX5_rank_5 : List UInt8 := dkwX5_rank_5 ++ []
def dkwX5_rank_4 : List UInt8 := [180, 0, 100, 28, 47, 148, 154, 0, 13, 21, 4, 28, 162, 0, 7, 4, 167, 0, 4, 3, 96, 62]
abbrev dktX5_rank_4 : List UInt8 := dkwX5_rank_4 ++ dktX5_rank_5
def dkwX5_rank_3 : List UInt8 := [180, 0, 100, 21, 4, 47, 42, 180, 0, 100, 28, 47, 148, 157, 0, 26, 42, 180, 0, 100, 21, 4, 47, 42]
abbrev dktX5_rank_3 : List UInt8 := dkwX5_rank_3 ++ dktX5_rank_4
def dkwX5_rank_2 : List UInt8 := [180, 1, 115, 162, 0, 84, 3, 62, 3, 54, 4, 21, 4, 42, 180, 1, 115, 162, 0, 57, 29, 42]
abbrev dktX5_rank_2 : List UInt8 := dkwX5_rank_2 ++ dktX5_rank_3
def dkwX5_rank_1 : List UInt8 := [154, 0, 6, 16, 254, 172, 42, 27, 182, 1, 134, 154, 0, 5, 2, 172, 42, 182, 1, 174, 3, 61, 28, 42]
abbrev dktX5_rank_1 : List UInt8 := dkwX5_rank_1 ++ dktX5_rank_2
def dkwX5_rank_0 : List UInt8 := [42, 3, 181, 0, 106, 42, 180, 1, 13, 153, 0, 7, 27, 156, 0, 5, 2, 172, 42, 182, 1, 131]
abbrev dktX5_rank_0 : List UInt8 := dkwX5_rank_0 ++ dktX5_rank_1
theorem dksX5_rank_0 : cX5_rank.data.toList.drop 0 = dktX5_rank_0 := by decide +kernel
theorem dksX5_rank_1 : cX5_rank.data.toList.drop 22 = dktX5_rank_1 := dk_seg dksX5_rank_0 22 rfl rfl
theorem dksX5_rank_2 : cX5_rank.data.toList.drop 46 = dktX5_rank_2 := dk_seg dksX5_rank_1 24 rfl rfl
theorem dksX5_rank_3 : cX5_rank.data.toList.drop 68 = dktX5_rank_3 := dk_seg dksX5_rank_2 22 rfl rfl
theorem dksX5_rank_4 : cX5_rank.data.toList.drop 92 = dktX5_rank_4 := dk_seg dksX5_rank_3 24 rfl rfl
theorem dksX5_rank_5 : cX5_rank.data.toList.drop 114 = dktX5_rank_5 := dk_seg dksX5_rank_4 22 rfl rfl
abbrev cX5_scoreAll : ByteArray := prog_19_method_81_code
def dkwX5_scoreAll_1 : List UInt8 := [167, 255, 234, 177]
abbrev dktX5_scoreAll_1 : List UInt8 := dkwX5_scoreAll_1 ++ []
def dkwX5_scoreAll_0 : List UInt8 := [3, 60, 27, 42, 180, 1, 115, 162, 0, 20, 42, 180, 0, 100, 27, 42, 27, 182, 1, 170, 80, 132, 1, 1]
abbrev dktX5_scoreAll_0 : List UInt8 := dkwX5_scoreAll_0 ++ dktX5_scoreAll_1
theorem dksX5_scoreAll_0 : cX5_scoreAll.data.toList.drop 0 = dktX5_scoreAll_0 := by decide +kernel
theorem dksX5_scoreAll_1 : cX5_scoreAll.data.toList.drop 24 = dktX5_scoreAll_1 := dk_seg dksX5_scoreAll_0 24 rfl rfl
abbrev cX5_ties : ByteArray := prog_19_method_83_code
def dkwX5_ties_4 : List UInt8 := [167, 255, 194, 27, 172]
abbrev dktX5_ties_4 : List UInt8 := dkwX5_ties_4 ++ []
def dkwX5_ties_3 : List UInt8 := [62, 132, 4, 1, 167, 255, 225, 27, 29, 153, 0, 7, 4, 167, 0, 4, 3, 96, 60, 132, 2, 1]
abbrev dktX5_ties_3 : List UInt8 := dkwX5_ties_3 ++ dktX5_ties_4
def dkwX5_ties_2 : List UInt8 := [180, 1, 115, 162, 0, 28, 42, 180, 0, 100, 21, 4, 47, 42, 180, 0, 100, 28, 47, 148, 158, 0, 5, 3]
abbrev dktX5_ties_2 : List UInt8 := dkwX5_ties_2 ++ dktX5_ties_3
def dkwX5_ties_1 : List UInt8 := [42, 182, 1, 174, 3, 60, 3, 61, 28, 42, 180, 1, 115, 162, 0, 60, 4, 62, 3, 54, 4, 21, 4, 42]
abbrev dktX5_ties_1 : List UInt8 := dkwX5_ties_1 ++ dktX5_ties_2
def dkwX5_ties_0 : List UInt8 := [42, 3, 181, 0, 106, 42, 180, 1, 13, 154, 0, 5, 2, 172, 42, 182, 1, 131, 154, 0, 6, 16, 254, 172]
abbrev dktX5_ties_0 : List UInt8 := dkwX5_ties_0 ++ dktX5_ties_1
theorem dksX5_ties_0 : cX5_ties.data.toList.drop 0 = dktX5_ties_0 := by decide +kernel
theorem dksX5_ties_1 : cX5_ties.data.toList.drop 24 = dktX5_ties_1 := dk_seg dksX5_ties_0 24 rfl rfl
theorem dksX5_ties_2 : cX5_ties.data.toList.drop 48 = dktX5_ties_2 := dk_seg dksX5_ties_1 24 rfl rfl
theorem dksX5_ties_3 : cX5_ties.data.toList.drop 72 = dktX5_ties_3 := dk_seg dksX5_ties_2 24 rfl rfl
theorem dksX5_ties_4 : cX5_ties.data.toList.drop 94 = dktX5_ties_4 := dk_seg dksX5_ties_3 22 rfl rfl
abbrev cX5_has : ByteArray := prog_19_method_84_code
def dkwX5_has_4 : List UInt8 := [167, 0, 7, 42, 182, 1, 139, 172]
abbrev dktX5_has_4 : List UInt8 := dkwX5_has_4 ++ []
def dkwX5_has_3 : List UInt8 := [180, 1, 62, 4, 100, 104, 42, 182, 1, 160, 100, 167, 0, 19, 28, 5, 160, 0, 10, 42, 182, 1, 112]
abbrev dktX5_has_3 : List UInt8 := dkwX5_has_3 ++ dktX5_has_4
def dkwX5_has_2 : List UInt8 := [172, 42, 27, 182, 1, 143, 28, 154, 0, 10, 42, 182, 1, 160, 167, 0, 40, 28, 4, 160, 0, 19, 5, 42]
abbrev dktX5_has_2 : List UInt8 := dkwX5_has_2 ++ dktX5_has_3
def dkwX5_has_1 : List UInt8 := [164, 0, 5, 2, 172, 42, 182, 1, 131, 154, 0, 6, 16, 254, 172, 42, 27, 182, 1, 134, 154, 0, 5, 2]
abbrev dktX5_has_1 : List UInt8 := dkwX5_has_1 ++ dktX5_has_2
def dkwX5_has_0 : List UInt8 := [42, 3, 181, 0, 106, 42, 180, 1, 13, 153, 0, 16, 27, 155, 0, 12, 28, 155, 0, 8, 28, 6]
abbrev dktX5_has_0 : List UInt8 := dkwX5_has_0 ++ dktX5_has_1
theorem dksX5_has_0 : cX5_has.data.toList.drop 0 = dktX5_has_0 := by decide +kernel
theorem dksX5_has_1 : cX5_has.data.toList.drop 22 = dktX5_has_1 := dk_seg dksX5_has_0 22 rfl rfl
theorem dksX5_has_2 : cX5_has.data.toList.drop 46 = dktX5_has_2 := dk_seg dksX5_has_1 24 rfl rfl
theorem dksX5_has_3 : cX5_has.data.toList.drop 70 = dktX5_has_3 := dk_seg dksX5_has_2 24 rfl rfl
theorem dksX5_has_4 : cX5_has.data.toList.drop 93 = dktX5_has_4 := dk_seg dksX5_has_3 23 rfl rfl
abbrev cX5_tree : ByteArray := prog_19_method_89_code
def dkwX5_tree_6 : List UInt8 := [112, 4, 96, 172, 132, 4, 1, 167, 255, 184, 16, 254, 172]
abbrev dktX5_tree_6 : List UInt8 := dkwX5_tree_6 ++ []
def dkwX5_tree_5 : List UInt8 := [167, 0, 27, 27, 4, 160, 0, 13, 42, 180, 1, 189, 16, 11, 108, 167, 0, 12, 42, 180, 1, 189, 16, 11]
abbrev dktX5_tree_5 : List UInt8 := dkwX5_tree_5 ++ dktX5_tree_6
def dkwX5_tree_4 : List UInt8 := [154, 0, 6, 167, 0, 47, 27, 154, 0, 6, 21, 4, 172, 42, 180, 1, 189, 2, 160, 0, 7, 2]
abbrev dktX5_tree_4 : List UInt8 := dkwX5_tree_4 ++ dktX5_tree_5
def dkwX5_tree_3 : List UInt8 := [3, 54, 4, 21, 4, 7, 162, 0, 72, 42, 2, 181, 1, 189, 42, 32, 21, 4, 4, 182, 1, 185]
abbrev dktX5_tree_3 : List UInt8 := dkwX5_tree_3 ++ dktX5_tree_4
def dkwX5_tree_2 : List UInt8 := [54, 4, 21, 4, 42, 180, 1, 115, 162, 0, 16, 32, 10, 21, 4, 121, 129, 65, 132, 4, 1, 167, 255, 237]
abbrev dktX5_tree_2 : List UInt8 := dkwX5_tree_2 ++ dktX5_tree_3
def dkwX5_tree_1 : List UInt8 := [182, 1, 131, 153, 0, 10, 42, 180, 1, 115, 154, 0, 6, 16, 254, 172, 42, 182, 1, 192, 9, 65, 3]
abbrev dktX5_tree_1 : List UInt8 := dkwX5_tree_1 ++ dktX5_tree_2
def dkwX5_tree_0 : List UInt8 := [42, 3, 181, 0, 106, 42, 180, 1, 13, 153, 0, 12, 27, 155, 0, 8, 27, 5, 164, 0, 5, 2, 172, 42]
abbrev dktX5_tree_0 : List UInt8 := dkwX5_tree_0 ++ dktX5_tree_1
theorem dksX5_tree_0 : cX5_tree.data.toList.drop 0 = dktX5_tree_0 := by decide +kernel
theorem dksX5_tree_1 : cX5_tree.data.toList.drop 24 = dktX5_tree_1 := dk_seg dksX5_tree_0 24 rfl rfl
theorem dksX5_tree_2 : cX5_tree.data.toList.drop 47 = dktX5_tree_2 := dk_seg dksX5_tree_1 23 rfl rfl
theorem dksX5_tree_3 : cX5_tree.data.toList.drop 71 = dktX5_tree_3 := dk_seg dksX5_tree_2 24 rfl rfl
theorem dksX5_tree_4 : cX5_tree.data.toList.drop 93 = dktX5_tree_4 := dk_seg dksX5_tree_3 22 rfl rfl
theorem dksX5_tree_5 : cX5_tree.data.toList.drop 115 = dktX5_tree_5 := dk_seg dksX5_tree_4 22 rfl rfl
theorem dksX5_tree_6 : cX5_tree.data.toList.drop 139 = dktX5_tree_6 := dk_seg dksX5_tree_5 24 rfl rfl
abbrev cX5_weighAll : ByteArray := prog_19_method_85_code
def dkwX5_weighAll_3 : List UInt8 := [29, 100, 29, 182, 1, 70, 79, 132, 2, 1, 167, 255, 191, 132, 1, 1, 167, 255, 170, 177]
abbrev dktX5_weighAll_3 : List UInt8 := dkwX5_weighAll_3 ++ []
def dkwX5_weighAll_2 : List UInt8 := [2, 167, 0, 29, 28, 16, 11, 162, 0, 12, 42, 3, 29, 182, 1, 70, 167, 0, 14, 42, 42, 180, 1, 62]
abbrev dktX5_weighAll_2 : List UInt8 := dkwX5_weighAll_2 ++ dktX5_weighAll_3
def dkwX5_weighAll_1 : List UInt8 := [16, 11, 112, 4, 96, 62, 42, 180, 0, 103, 16, 22, 27, 104, 28, 96, 29, 42, 180, 1, 62, 161, 0, 7]
abbrev dktX5_weighAll_1 : List UInt8 := dkwX5_weighAll_1 ++ dktX5_weighAll_2
def dkwX5_weighAll_0 : List UInt8 := [3, 60, 27, 42, 180, 1, 115, 162, 0, 84, 42, 27, 182, 1, 143, 3, 61, 28, 16, 22, 162, 0, 65, 28]
abbrev dktX5_weighAll_0 : List UInt8 := dkwX5_weighAll_0 ++ dktX5_weighAll_1
theorem dksX5_weighAll_0 : cX5_weighAll.data.toList.drop 0 = dktX5_weighAll_0 := by decide +kernel
theorem dksX5_weighAll_1 : cX5_weighAll.data.toList.drop 24 = dktX5_weighAll_1 := dk_seg dksX5_weighAll_0 24 rfl rfl
theorem dksX5_weighAll_2 : cX5_weighAll.data.toList.drop 48 = dktX5_weighAll_2 := dk_seg dksX5_weighAll_1 24 rfl rfl
theorem dksX5_weighAll_3 : cX5_weighAll.data.toList.drop 72 = dktX5_weighAll_3 := dk_seg dksX5_weighAll_2 24 rfl rfl
abbrev cX5_tells : ByteArray := prog_19_method_88_code
def dkwX5_tells_6 : List UInt8 := [132, 5, 1, 167, 255, 132, 3, 172]
abbrev dktX5_tells_6 : List UInt8 := dkwX5_tells_6 ++ []
def dkwX5_tells_5 : List UInt8 := [167, 255, 175, 21, 6, 154, 0, 6, 167, 0, 16, 21, 4, 153, 0, 9, 42, 21, 5, 181, 1, 189, 4, 172]
abbrev dktX5_tells_5 : List UInt8 := dkwX5_tells_5 ++ dktX5_tells_6
def dkwX5_tells_4 : List UInt8 := [22, 10, 29, 4, 100, 3, 182, 1, 185, 153, 0, 7, 4, 167, 0, 4, 3, 54, 6, 132, 9, 1]
abbrev dktX5_tells_4 : List UInt8 := dkwX5_tells_4 ++ dktX5_tells_5
def dkwX5_tells_3 : List UInt8 := [182, 1, 181, 55, 10, 22, 7, 22, 10, 20, 1, 52, 131, 127, 55, 7, 22, 10, 31, 148, 153, 0, 20, 42]
abbrev dktX5_tells_3 : List UInt8 := dkwX5_tells_3 ++ dktX5_tells_4
def dkwX5_tells_2 : List UInt8 := [153, 0, 73, 22, 7, 21, 9, 123, 10, 127, 9, 148, 154, 0, 6, 167, 0, 52, 42, 31, 21, 9, 21, 5]
abbrev dktX5_tells_2 : List UInt8 := dkwX5_tells_2 ++ dktX5_tells_3
def dkwX5_tells_1 : List UInt8 := [162, 0, 123, 4, 54, 6, 31, 55, 7, 3, 54, 9, 21, 9, 42, 180, 1, 115, 162, 0, 78, 21, 6]
abbrev dktX5_tells_1 : List UInt8 := dkwX5_tells_1 ++ dktX5_tells_2
def dkwX5_tells_0 : List UInt8 := [31, 184, 1, 177, 5, 162, 0, 5, 4, 172, 29, 154, 0, 5, 3, 172, 3, 54, 5, 21, 5, 16, 22]
abbrev dktX5_tells_0 : List UInt8 := dkwX5_tells_0 ++ dktX5_tells_1
theorem dksX5_tells_0 : cX5_tells.data.toList.drop 0 = dktX5_tells_0 := by decide +kernel
theorem dksX5_tells_1 : cX5_tells.data.toList.drop 23 = dktX5_tells_1 := dk_seg dksX5_tells_0 23 rfl rfl
theorem dksX5_tells_2 : cX5_tells.data.toList.drop 46 = dktX5_tells_2 := dk_seg dksX5_tells_1 23 rfl rfl
theorem dksX5_tells_3 : cX5_tells.data.toList.drop 70 = dktX5_tells_3 := dk_seg dksX5_tells_2 24 rfl rfl
theorem dksX5_tells_4 : cX5_tells.data.toList.drop 94 = dktX5_tells_4 := dk_seg dksX5_tells_3 24 rfl rfl
theorem dksX5_tells_5 : cX5_tells.data.toList.drop 116 = dktX5_tells_5 := dk_seg dksX5_tells_4 22 rfl rfl
theorem dksX5_tells_6 : cX5_tells.data.toList.drop 140 = dktX5_tells_6 := dk_seg dksX5_tells_5 24 rfl rfl
abbrev cX5_bitsOf : ByteArray := prog_19_method_86_code
def dkwX5_bitsOf_1 : List UInt8 := [167, 255, 238, 28, 172]
abbrev dktX5_bitsOf_1 : List UInt8 := dkwX5_bitsOf_1 ++ []
def dkwX5_bitsOf_0 : List UInt8 := [3, 61, 3, 62, 29, 16, 60, 162, 0, 18, 28, 30, 29, 123, 10, 127, 136, 96, 61, 132, 3, 1]
abbrev dktX5_bitsOf_0 : List UInt8 := dkwX5_bitsOf_0 ++ dktX5_bitsOf_1
theorem dksX5_bitsOf_0 : cX5_bitsOf.data.toList.drop 0 = dktX5_bitsOf_0 := by decide +kernel
theorem dksX5_bitsOf_1 : cX5_bitsOf.data.toList.drop 22 = dktX5_bitsOf_1 := dk_seg dksX5_bitsOf_0 22 rfl rfl
abbrev cX5_group : ByteArray := prog_19_method_87_code
def dkwX5_group_3 : List UInt8 := [173]
abbrev dktX5_group_3 : List UInt8 := dkwX5_group_3 ++ []
def dkwX5_group_2 : List UInt8 := [21, 4, 96, 46, 160, 0, 12, 22, 5, 10, 21, 7, 121, 129, 55, 5, 132, 7, 1, 167, 255, 196, 22, 5]
abbrev dktX5_group_2 : List UInt8 := dkwX5_group_2 ++ dktX5_group_3
def dkwX5_group_1 : List UInt8 := [154, 0, 40, 42, 180, 0, 103, 16, 22, 21, 7, 104, 21, 4, 96, 46, 42, 180, 0, 103, 16, 22, 29, 104]
abbrev dktX5_group_1 : List UInt8 := dkwX5_group_1 ++ dktX5_group_2
def dkwX5_group_0 : List UInt8 := [9, 55, 5, 3, 54, 7, 21, 7, 42, 180, 1, 115, 162, 0, 57, 31, 21, 7, 123, 10, 127, 10, 148]
abbrev dktX5_group_0 : List UInt8 := dkwX5_group_0 ++ dktX5_group_1
theorem dksX5_group_0 : cX5_group.data.toList.drop 0 = dktX5_group_0 := by decide +kernel
theorem dksX5_group_1 : cX5_group.data.toList.drop 23 = dktX5_group_1 := dk_seg dksX5_group_0 23 rfl rfl
theorem dksX5_group_2 : cX5_group.data.toList.drop 47 = dktX5_group_2 := dk_seg dksX5_group_1 24 rfl rfl
theorem dksX5_group_3 : cX5_group.data.toList.drop 71 = dktX5_group_3 := dk_seg dksX5_group_2 24 rfl rfl
abbrev cX5_plan : ByteArray := prog_19_method_90_code
def dkwX5_plan_9 : List UInt8 := [167, 255, 124, 29, 172]
abbrev dktX5_plan_9 : List UInt8 := dkwX5_plan_9 ++ []
def dkwX5_plan_8 : List UInt8 := [167, 0, 4, 3, 96, 54, 5, 132, 6, 1, 167, 255, 152, 29, 21, 5, 184, 1, 195, 62, 132, 4, 1]
abbrev dktX5_plan_8 : List UInt8 := dkwX5_plan_8 ++ dktX5_plan_9
def dkwX5_plan_7 : List UInt8 := [21, 9, 96, 46, 159, 0, 6, 3, 54, 7, 132, 8, 1, 167, 255, 188, 21, 5, 21, 7, 153, 0, 7, 4]
abbrev dktX5_plan_7 : List UInt8 := dkwX5_plan_7 ++ dktX5_plan_8
def dkwX5_plan_6 : List UInt8 := [54, 9, 42, 180, 0, 103, 16, 22, 21, 6, 104, 21, 9, 96, 46, 42, 180, 0, 103, 16, 22, 21, 4, 104]
abbrev dktX5_plan_6 : List UInt8 := dkwX5_plan_6 ++ dktX5_plan_7
def dkwX5_plan_5 : List UInt8 := [21, 8, 104, 7, 96, 122, 4, 126, 16, 11, 104, 28, 8, 21, 8, 104, 122, 16, 15, 126, 96, 4, 100]
abbrev dktX5_plan_5 : List UInt8 := dkwX5_plan_5 ++ dktX5_plan_6
def dkwX5_plan_4 : List UInt8 := [21, 6, 42, 180, 1, 115, 162, 0, 101, 4, 54, 7, 3, 54, 8, 21, 8, 27, 162, 0, 68, 28, 8]
abbrev dktX5_plan_4 : List UInt8 := dkwX5_plan_4 ++ dktX5_plan_5
def dkwX5_plan_3 : List UInt8 := [182, 1, 192, 3, 62, 3, 54, 4, 21, 4, 42, 180, 1, 115, 162, 0, 129, 3, 54, 5, 3, 54, 6]
abbrev dktX5_plan_3 : List UInt8 := dkwX5_plan_3 ++ dktX5_plan_4
def dkwX5_plan_2 : List UInt8 := [16, 11, 164, 0, 5, 2, 172, 132, 3, 1, 167, 255, 223, 42, 182, 1, 131, 154, 0, 6, 16, 254, 172, 42]
abbrev dktX5_plan_2 : List UInt8 := dkwX5_plan_2 ++ dktX5_plan_3
def dkwX5_plan_1 : List UInt8 := [62, 29, 27, 162, 0, 34, 28, 8, 29, 104, 122, 16, 15, 126, 54, 4, 21, 4, 4, 161, 0, 10, 21, 4]
abbrev dktX5_plan_1 : List UInt8 := dkwX5_plan_1 ++ dktX5_plan_2
def dkwX5_plan_0 : List UInt8 := [42, 3, 181, 0, 106, 42, 180, 1, 13, 153, 0, 12, 27, 155, 0, 8, 27, 6, 164, 0, 5, 2, 172, 3]
abbrev dktX5_plan_0 : List UInt8 := dkwX5_plan_0 ++ dktX5_plan_1
theorem dksX5_plan_0 : cX5_plan.data.toList.drop 0 = dktX5_plan_0 := by decide +kernel
theorem dksX5_plan_1 : cX5_plan.data.toList.drop 24 = dktX5_plan_1 := dk_seg dksX5_plan_0 24 rfl rfl
theorem dksX5_plan_2 : cX5_plan.data.toList.drop 48 = dktX5_plan_2 := dk_seg dksX5_plan_1 24 rfl rfl
theorem dksX5_plan_3 : cX5_plan.data.toList.drop 72 = dktX5_plan_3 := dk_seg dksX5_plan_2 24 rfl rfl
theorem dksX5_plan_4 : cX5_plan.data.toList.drop 95 = dktX5_plan_4 := dk_seg dksX5_plan_3 23 rfl rfl
theorem dksX5_plan_5 : cX5_plan.data.toList.drop 118 = dktX5_plan_5 := dk_seg dksX5_plan_4 23 rfl rfl
theorem dksX5_plan_6 : cX5_plan.data.toList.drop 141 = dktX5_plan_6 := dk_seg dksX5_plan_5 23 rfl rfl
theorem dksX5_plan_7 : cX5_plan.data.toList.drop 165 = dktX5_plan_7 := dk_seg dksX5_plan_6 24 rfl rfl
theorem dksX5_plan_8 : cX5_plan.data.toList.drop 189 = dktX5_plan_8 := dk_seg dksX5_plan_7 24 rfl rfl
theorem dksX5_plan_9 : cX5_plan.data.toList.drop 212 = dktX5_plan_9 := dk_seg dksX5_plan_8 23 rfl rfl
abbrev cX5_alike : ByteArray := prog_19_method_92_code
def dkwX5_alike_3 : List UInt8 := [167, 0, 4, 3, 96, 61, 132, 3, 1, 167, 255, 222, 28, 172]
abbrev dktX5_alike_3 : List UInt8 := dkwX5_alike_3 ++ []
def dkwX5_alike_2 : List UInt8 := [180, 1, 115, 162, 0, 32, 28, 29, 27, 159, 0, 17, 42, 29, 27, 182, 1, 198, 2, 160, 0, 7, 4]
abbrev dktX5_alike_2 : List UInt8 := dkwX5_alike_2 ++ dktX5_alike_3
def dkwX5_alike_1 : List UInt8 := [154, 0, 6, 16, 254, 172, 42, 27, 182, 1, 134, 154, 0, 5, 2, 172, 3, 61, 3, 62, 29, 42]
abbrev dktX5_alike_1 : List UInt8 := dkwX5_alike_1 ++ dktX5_alike_2
def dkwX5_alike_0 : List UInt8 := [42, 3, 181, 0, 106, 42, 180, 1, 13, 153, 0, 7, 27, 156, 0, 5, 2, 172, 42, 182, 1, 131]
abbrev dktX5_alike_0 : List UInt8 := dkwX5_alike_0 ++ dktX5_alike_1
theorem dksX5_alike_0 : cX5_alike.data.toList.drop 0 = dktX5_alike_0 := by decide +kernel
theorem dksX5_alike_1 : cX5_alike.data.toList.drop 22 = dktX5_alike_1 := dk_seg dksX5_alike_0 22 rfl rfl
theorem dksX5_alike_2 : cX5_alike.data.toList.drop 44 = dktX5_alike_2 := dk_seg dksX5_alike_1 22 rfl rfl
theorem dksX5_alike_3 : cX5_alike.data.toList.drop 67 = dktX5_alike_3 := dk_seg dksX5_alike_2 23 rfl rfl
abbrev cX5_partsAt : ByteArray := prog_19_method_91_code
def dkwX5_partsAt_4 : List UInt8 := [167, 255, 185, 2, 172]
abbrev dktX5_partsAt_4 : List UInt8 := dkwX5_partsAt_4 ++ []
def dkwX5_partsAt_3 : List UInt8 := [42, 180, 0, 88, 16, 12, 28, 104, 21, 4, 96, 46, 46, 159, 0, 6, 21, 4, 172, 132, 4, 1]
abbrev dktX5_partsAt_3 : List UInt8 := dkwX5_partsAt_3 ++ dktX5_partsAt_4
def dkwX5_partsAt_2 : List UInt8 := [162, 0, 40, 42, 180, 0, 49, 42, 180, 0, 88, 16, 12, 27, 104, 21, 4, 96, 46, 46, 42, 180, 0, 49]
abbrev dktX5_partsAt_2 : List UInt8 := dkwX5_partsAt_2 ++ dktX5_partsAt_3
def dkwX5_partsAt_1 : List UInt8 := [162, 0, 71, 21, 4, 42, 180, 0, 91, 27, 46, 162, 0, 51, 21, 4, 42, 180, 0, 91, 28, 46]
abbrev dktX5_partsAt_1 : List UInt8 := dkwX5_partsAt_1 ++ dktX5_partsAt_2
def dkwX5_partsAt_0 : List UInt8 := [42, 180, 0, 91, 27, 46, 42, 180, 0, 91, 28, 46, 184, 1, 195, 62, 3, 54, 4, 21, 4, 29]
abbrev dktX5_partsAt_0 : List UInt8 := dkwX5_partsAt_0 ++ dktX5_partsAt_1
theorem dksX5_partsAt_0 : cX5_partsAt.data.toList.drop 0 = dktX5_partsAt_0 := by decide +kernel
theorem dksX5_partsAt_1 : cX5_partsAt.data.toList.drop 22 = dktX5_partsAt_1 := dk_seg dksX5_partsAt_0 22 rfl rfl
theorem dksX5_partsAt_2 : cX5_partsAt.data.toList.drop 44 = dktX5_partsAt_2 := dk_seg dksX5_partsAt_1 22 rfl rfl
theorem dksX5_partsAt_3 : cX5_partsAt.data.toList.drop 68 = dktX5_partsAt_3 := dk_seg dksX5_partsAt_2 24 rfl rfl
theorem dksX5_partsAt_4 : cX5_partsAt.data.toList.drop 90 = dktX5_partsAt_4 := dk_seg dksX5_partsAt_3 22 rfl rfl
abbrev cX5_parts : ByteArray := prog_19_method_93_code
def dkwX5_parts_1 : List UInt8 := [182, 1, 134, 154, 0, 8, 16, 254, 167, 0, 9, 42, 27, 28, 182, 1, 198, 172]
abbrev dktX5_parts_1 : List UInt8 := dkwX5_parts_1 ++ []
def dkwX5_parts_0 : List UInt8 := [42, 3, 181, 0, 106, 42, 182, 1, 131, 153, 0, 19, 42, 27, 182, 1, 134, 153, 0, 11, 42, 28]
abbrev dktX5_parts_0 : List UInt8 := dkwX5_parts_0 ++ dktX5_parts_1
theorem dksX5_parts_0 : cX5_parts.data.toList.drop 0 = dktX5_parts_0 := by decide +kernel
theorem dksX5_parts_1 : cX5_parts.data.toList.drop 22 = dktX5_parts_1 := dk_seg dksX5_parts_0 22 rfl rfl
abbrev cX5_shifts : ByteArray := prog_19_method_95_code
def dkwX5_shifts_1 : List UInt8 := [164, 0, 7, 2, 167, 0, 9, 42, 27, 28, 182, 1, 201, 172]
abbrev dktX5_shifts_1 : List UInt8 := dkwX5_shifts_1 ++ []
def dkwX5_shifts_0 : List UInt8 := [42, 3, 181, 0, 106, 27, 155, 0, 19, 27, 6, 163, 0, 14, 28, 4, 161, 0, 9, 28, 16, 99]
abbrev dktX5_shifts_0 : List UInt8 := dkwX5_shifts_0 ++ dktX5_shifts_1
theorem dksX5_shifts_0 : cX5_shifts.data.toList.drop 0 = dktX5_shifts_0 := by decide +kernel
theorem dksX5_shifts_1 : cX5_shifts.data.toList.drop 22 = dktX5_shifts_1 := dk_seg dksX5_shifts_0 22 rfl rfl
abbrev cX5_shiftsOf : ByteArray := prog_19_method_94_code
def dkwX5_shiftsOf_4 : List UInt8 := [132, 4, 1, 167, 255, 163, 29, 172]
abbrev dktX5_shiftsOf_4 : List UInt8 := dkwX5_shiftsOf_4 ++ []
def dkwX5_shiftsOf_3 : List UInt8 := [180, 0, 69, 21, 5, 46, 100, 184, 1, 65, 28, 160, 0, 6, 132, 3, 1, 132, 5, 1, 167, 255, 181]
abbrev dktX5_shiftsOf_3 : List UInt8 := dkwX5_shiftsOf_3 ++ dktX5_shiftsOf_4
def dkwX5_shiftsOf_2 : List UInt8 := [46, 27, 160, 0, 39, 42, 180, 0, 66, 21, 5, 46, 27, 160, 0, 28, 42, 180, 0, 69, 21, 4, 46, 42]
abbrev dktX5_shiftsOf_2 : List UInt8 := dkwX5_shiftsOf_2 ++ dktX5_shiftsOf_3
def dkwX5_shiftsOf_1 : List UInt8 := [42, 21, 4, 182, 1, 103, 153, 0, 59, 42, 21, 5, 182, 1, 103, 153, 0, 50, 42, 180, 0, 66, 21, 4]
abbrev dktX5_shiftsOf_1 : List UInt8 := dkwX5_shiftsOf_1 ++ dktX5_shiftsOf_2
def dkwX5_shiftsOf_0 : List UInt8 := [3, 62, 3, 54, 4, 21, 4, 42, 180, 1, 16, 162, 0, 90, 3, 54, 5, 21, 5, 21, 4, 162, 0, 74]
abbrev dktX5_shiftsOf_0 : List UInt8 := dkwX5_shiftsOf_0 ++ dktX5_shiftsOf_1
theorem dksX5_shiftsOf_0 : cX5_shiftsOf.data.toList.drop 0 = dktX5_shiftsOf_0 := by decide +kernel
theorem dksX5_shiftsOf_1 : cX5_shiftsOf.data.toList.drop 24 = dktX5_shiftsOf_1 := dk_seg dksX5_shiftsOf_0 24 rfl rfl
theorem dksX5_shiftsOf_2 : cX5_shiftsOf.data.toList.drop 48 = dktX5_shiftsOf_2 := dk_seg dksX5_shiftsOf_1 24 rfl rfl
theorem dksX5_shiftsOf_3 : cX5_shiftsOf.data.toList.drop 72 = dktX5_shiftsOf_3 := dk_seg dksX5_shiftsOf_2 24 rfl rfl
theorem dksX5_shiftsOf_4 : cX5_shiftsOf.data.toList.drop 95 = dktX5_shiftsOf_4 := dk_seg dksX5_shiftsOf_3 23 rfl rfl
abbrev cX5_shift : ByteArray := prog_19_method_96_code
def dkwX5_shift_2 : List UInt8 := [167, 0, 9, 21, 4, 61, 21, 5, 62, 132, 4, 1, 167, 255, 222, 28, 172]
abbrev dktX5_shift_2 : List UInt8 := dkwX5_shift_2 ++ []
def dkwX5_shift_1 : List UInt8 := [21, 4, 16, 100, 162, 0, 33, 42, 27, 21, 4, 182, 1, 201, 54, 5, 21, 5, 29, 163, 0, 6]
abbrev dktX5_shift_1 : List UInt8 := dkwX5_shift_1 ++ dktX5_shift_2
def dkwX5_shift_0 : List UInt8 := [42, 3, 181, 0, 106, 27, 155, 0, 8, 27, 6, 164, 0, 5, 2, 172, 2, 61, 3, 62, 4, 54, 4]
abbrev dktX5_shift_0 : List UInt8 := dkwX5_shift_0 ++ dktX5_shift_1
theorem dksX5_shift_0 : cX5_shift.data.toList.drop 0 = dktX5_shift_0 := by decide +kernel
theorem dksX5_shift_1 : cX5_shift.data.toList.drop 23 = dktX5_shift_1 := dk_seg dksX5_shift_0 23 rfl rfl
theorem dksX5_shift_2 : cX5_shift.data.toList.drop 45 = dktX5_shift_2 := dk_seg dksX5_shift_1 22 rfl rfl
abbrev cX5_world : ByteArray := prog_19_method_98_code
def dkwX5_world_7 : List UInt8 := [132, 6, 1, 167, 255, 149, 21, 4, 2, 160, 0, 8, 21, 5, 167, 0, 5, 16, 254, 172]
abbrev dktX5_world_7 : List UInt8 := dkwX5_world_7 ++ []
def dkwX5_world_6 : List UInt8 := [5, 96, 182, 1, 88, 54, 8, 21, 5, 21, 4, 160, 0, 9, 21, 8, 21, 7, 96, 172, 132, 5, 1]
abbrev dktX5_world_6 : List UInt8 := dkwX5_world_6 ++ dktX5_world_7
def dkwX5_world_5 : List UInt8 := [4, 100, 162, 0, 14, 42, 21, 6, 4, 96, 182, 1, 79, 167, 0, 16, 42, 21, 6, 42, 180, 1, 62, 100]
abbrev dktX5_world_5 : List UInt8 := dkwX5_world_5 ++ dktX5_world_6
def dkwX5_world_4 : List UInt8 := [180, 0, 15, 8, 46, 104, 4, 96, 112, 42, 180, 0, 15, 8, 46, 100, 54, 7, 21, 6, 42, 180, 1, 62]
abbrev dktX5_world_4 : List UInt8 := dkwX5_world_4 ++ dktX5_world_5
def dkwX5_world_3 : List UInt8 := [162, 0, 100, 42, 182, 1, 209, 16, 10, 112, 29, 161, 0, 6, 167, 0, 80, 42, 182, 1, 209, 5, 42]
abbrev dktX5_world_3 : List UInt8 := dkwX5_world_3 ++ dktX5_world_4
def dkwX5_world_2 : List UInt8 := [182, 1, 143, 42, 28, 181, 1, 204, 3, 54, 5, 3, 54, 6, 21, 6, 5, 42, 180, 1, 62, 4, 100, 104]
abbrev dktX5_world_2 : List UInt8 := dkwX5_world_2 ++ dktX5_world_3
def dkwX5_world_1 : List UInt8 := [161, 0, 18, 42, 182, 1, 131, 153, 0, 11, 42, 27, 182, 1, 134, 154, 0, 5, 2, 172, 42, 27]
abbrev dktX5_world_1 : List UInt8 := dkwX5_world_1 ++ dktX5_world_2
def dkwX5_world_0 : List UInt8 := [42, 3, 181, 0, 106, 28, 155, 0, 34, 29, 155, 0, 30, 29, 16, 10, 163, 0, 24, 21, 4, 2]
abbrev dktX5_world_0 : List UInt8 := dkwX5_world_0 ++ dktX5_world_1
theorem dksX5_world_0 : cX5_world.data.toList.drop 0 = dktX5_world_0 := by decide +kernel
theorem dksX5_world_1 : cX5_world.data.toList.drop 22 = dktX5_world_1 := dk_seg dksX5_world_0 22 rfl rfl
theorem dksX5_world_2 : cX5_world.data.toList.drop 44 = dktX5_world_2 := dk_seg dksX5_world_1 22 rfl rfl
theorem dksX5_world_3 : cX5_world.data.toList.drop 68 = dktX5_world_3 := dk_seg dksX5_world_2 24 rfl rfl
theorem dksX5_world_4 : cX5_world.data.toList.drop 91 = dktX5_world_4 := dk_seg dksX5_world_3 23 rfl rfl
theorem dksX5_world_5 : cX5_world.data.toList.drop 115 = dktX5_world_5 := dk_seg dksX5_world_4 24 rfl rfl
theorem dksX5_world_6 : cX5_world.data.toList.drop 139 = dktX5_world_6 := dk_seg dksX5_world_5 24 rfl rfl
theorem dksX5_world_7 : cX5_world.data.toList.drop 162 = dktX5_world_7 := dk_seg dksX5_world_6 23 rfl rfl
abbrev cX5_draw : ByteArray := prog_19_method_97_code
def dkwX5_draw_1 : List UInt8 := [16, 16, 122, 172]
abbrev dktX5_draw_1 : List UInt8 := dkwX5_draw_1 ++ []
def dkwX5_draw_0 : List UInt8 := [42, 42, 180, 1, 204, 19, 1, 207, 104, 17, 48, 57, 96, 19, 1, 208, 126, 181, 1, 204, 42, 180, 1, 204]
abbrev dktX5_draw_0 : List UInt8 := dkwX5_draw_0 ++ dktX5_draw_1
theorem dksX5_draw_0 : cX5_draw.data.toList.drop 0 = dktX5_draw_0 := by decide +kernel
theorem dksX5_draw_1 : cX5_draw.data.toList.drop 24 = dktX5_draw_1 := dk_seg dksX5_draw_0 24 rfl rfl
abbrev cX5_keep : ByteArray := prog_19_method_99_code
def dkwX5_keep_3 : List UInt8 := [180, 0, 82, 27, 42, 180, 0, 72, 27, 51, 84, 132, 1, 1, 167, 255, 209, 42, 180, 1, 16, 172]
abbrev dktX5_keep_3 : List UInt8 := dkwX5_keep_3 ++ []
def dkwX5_keep_2 : List UInt8 := [180, 0, 76, 27, 42, 180, 0, 66, 27, 46, 79, 42, 180, 0, 79, 27, 42, 180, 0, 69, 27, 46, 79, 42]
abbrev dktX5_keep_2 : List UInt8 := dkwX5_keep_2 ++ dktX5_keep_3
def dkwX5_keep_1 : List UInt8 := [181, 1, 215, 42, 42, 180, 0, 63, 181, 1, 218, 3, 60, 27, 42, 180, 1, 16, 162, 0, 45, 42]
abbrev dktX5_keep_1 : List UInt8 := dkwX5_keep_1 ++ dktX5_keep_2
def dkwX5_keep_0 : List UInt8 := [42, 3, 181, 0, 106, 42, 4, 181, 1, 19, 42, 42, 180, 1, 13, 181, 1, 212, 42, 42, 180, 1, 16]
abbrev dktX5_keep_0 : List UInt8 := dkwX5_keep_0 ++ dktX5_keep_1
theorem dksX5_keep_0 : cX5_keep.data.toList.drop 0 = dktX5_keep_0 := by decide +kernel
theorem dksX5_keep_1 : cX5_keep.data.toList.drop 23 = dktX5_keep_1 := dk_seg dksX5_keep_0 23 rfl rfl
theorem dksX5_keep_2 : cX5_keep.data.toList.drop 45 = dktX5_keep_2 := dk_seg dksX5_keep_1 22 rfl rfl
theorem dksX5_keep_3 : cX5_keep.data.toList.drop 69 = dktX5_keep_3 := dk_seg dksX5_keep_2 24 rfl rfl
abbrev cX5_back : ByteArray := prog_19_method_100_code
def dkwX5_back_3 : List UInt8 := [42, 180, 0, 72, 27, 42, 180, 0, 82, 27, 51, 84, 132, 1, 1, 167, 255, 209, 42, 180, 1, 16, 172]
abbrev dktX5_back_3 : List UInt8 := dkwX5_back_3 ++ []
def dkwX5_back_2 : List UInt8 := [42, 180, 0, 66, 27, 42, 180, 0, 76, 27, 46, 79, 42, 180, 0, 69, 27, 42, 180, 0, 79, 27, 46, 79]
abbrev dktX5_back_2 : List UInt8 := dkwX5_back_2 ++ dktX5_back_3
def dkwX5_back_1 : List UInt8 := [180, 1, 215, 181, 1, 16, 42, 42, 180, 1, 218, 181, 0, 63, 3, 60, 27, 42, 180, 1, 16, 162, 0, 45]
abbrev dktX5_back_1 : List UInt8 := dkwX5_back_1 ++ dktX5_back_2
def dkwX5_back_0 : List UInt8 := [42, 3, 181, 0, 106, 42, 180, 1, 19, 154, 0, 5, 2, 172, 42, 42, 180, 1, 212, 181, 1, 13, 42, 42]
abbrev dktX5_back_0 : List UInt8 := dkwX5_back_0 ++ dktX5_back_1
theorem dksX5_back_0 : cX5_back.data.toList.drop 0 = dktX5_back_0 := by decide +kernel
theorem dksX5_back_1 : cX5_back.data.toList.drop 24 = dktX5_back_1 := dk_seg dksX5_back_0 24 rfl rfl
theorem dksX5_back_2 : cX5_back.data.toList.drop 48 = dktX5_back_2 := dk_seg dksX5_back_1 24 rfl rfl
theorem dksX5_back_3 : cX5_back.data.toList.drop 72 = dktX5_back_3 := dk_seg dksX5_back_2 24 rfl rfl
abbrev cX5_count : ByteArray := prog_19_method_101_code
def dkwX5_count_5 : List UInt8 := [132, 3, 1, 167, 255, 229, 28, 172, 42, 180, 1, 13, 172, 42, 180, 0, 15, 16, 8, 46, 172, 2, 172]
abbrev dktX5_count_5 : List UInt8 := dkwX5_count_5 ++ []
def dkwX5_count_4 : List UInt8 := [180, 1, 16, 162, 0, 25, 28, 42, 29, 182, 1, 103, 153, 0, 7, 4, 167, 0, 4, 3, 96, 61]
abbrev dktX5_count_4 : List UInt8 := dkwX5_count_4 ++ dktX5_count_5
def dkwX5_count_3 : List UInt8 := [46, 172, 42, 180, 0, 15, 16, 9, 46, 172, 42, 180, 1, 16, 172, 42, 182, 1, 59, 172, 3, 62, 29, 42]
abbrev dktX5_count_3 : List UInt8 := dkwX5_count_3 ++ dktX5_count_4
def dkwX5_count_2 : List UInt8 := [42, 180, 0, 15, 3, 46, 172, 42, 180, 0, 15, 4, 46, 172, 42, 180, 0, 249, 172, 42, 180, 0, 15, 5]
abbrev dktX5_count_2 : List UInt8 := dkwX5_count_2 ++ dktX5_count_3
def dkwX5_count_1 : List UInt8 := [170, 0, 0, 0, 0, 0, 0, 147, 0, 0, 0, 0, 0, 0, 0, 9, 0, 0, 0, 56, 0, 0, 0, 63, 0, 0, 0, 70, 0, 0, 0, 75, 0, 0, 0, 82, 0, 0, 0, 90, 0, 0, 0, 95, 0, 0, 0, 100, 0, 0, 0, 134, 0, 0, 0, 139]
abbrev dktX5_count_1 : List UInt8 := dkwX5_count_1 ++ dktX5_count_2
def dkwX5_count_0 : List UInt8 := [42, 3, 181, 0, 106, 3, 61, 27]
abbrev dktX5_count_0 : List UInt8 := dkwX5_count_0 ++ dktX5_count_1
theorem dksX5_count_0 : cX5_count.data.toList.drop 0 = dktX5_count_0 := by decide +kernel
theorem dksX5_count_1 : cX5_count.data.toList.drop 8 = dktX5_count_1 := dk_seg dksX5_count_0 8 rfl rfl
theorem dksX5_count_2 : cX5_count.data.toList.drop 64 = dktX5_count_2 := dk_seg dksX5_count_1 56 rfl rfl
theorem dksX5_count_3 : cX5_count.data.toList.drop 88 = dktX5_count_3 := dk_seg dksX5_count_2 24 rfl rfl
theorem dksX5_count_4 : cX5_count.data.toList.drop 112 = dktX5_count_4 := dk_seg dksX5_count_3 24 rfl rfl
theorem dksX5_count_5 : cX5_count.data.toList.drop 134 = dktX5_count_5 := dk_seg dksX5_count_4 22 rfl rfl
abbrev cX6_init : ByteArray := prog_13_method_1_code
def dkwX6_init_1 : List UInt8 := [181, 0, 22, 177]
abbrev dktX6_init_1 : List UInt8 := dkwX6_init_1 ++ []
def dkwX6_init_0 : List UInt8 := [42, 43, 181, 0, 3, 42, 183, 0, 9, 42, 187, 0, 15, 89, 183, 0, 17, 181, 0, 18, 42, 28]
abbrev dktX6_init_0 : List UInt8 := dkwX6_init_0 ++ dktX6_init_1
theorem dksX6_init_0 : cX6_init.data.toList.drop 0 = dktX6_init_0 := by decide +kernel
theorem dksX6_init_1 : cX6_init.data.toList.drop 22 = dktX6_init_1 := dk_seg dksX6_init_0 22 rfl rfl
abbrev cX6_text : ByteArray := prog_13_method_19_code
def dkwX6_text_3 : List UInt8 := [42, 180, 0, 18, 176]
abbrev dktX6_text_3 : List UInt8 := dkwX6_text_3 ++ []
def dkwX6_text_2 : List UInt8 := [182, 0, 99, 191, 42, 182, 0, 107, 42, 180, 0, 18, 89, 180, 0, 119, 4, 96, 181, 0, 119, 167, 255, 192]
abbrev dktX6_text_2 : List UInt8 := dkwX6_text_2 ++ dktX6_text_3
def dkwX6_text_1 : List UInt8 := [16, 8, 164, 0, 8, 42, 182, 0, 99, 191, 42, 182, 0, 113, 42, 16, 59, 182, 0, 116, 154, 0, 8, 42]
abbrev dktX6_text_1 : List UInt8 := dkwX6_text_1 ++ dktX6_text_2
def dkwX6_text_0 : List UInt8 := [42, 182, 0, 107, 42, 180, 0, 44, 153, 0, 63, 42, 180, 0, 44, 4, 160, 0, 12, 42, 180, 0, 66]
abbrev dktX6_text_0 : List UInt8 := dkwX6_text_0 ++ dktX6_text_1
theorem dksX6_text_0 : cX6_text.data.toList.drop 0 = dktX6_text_0 := by decide +kernel
theorem dksX6_text_1 : cX6_text.data.toList.drop 23 = dktX6_text_1 := dk_seg dksX6_text_0 23 rfl rfl
theorem dksX6_text_2 : cX6_text.data.toList.drop 47 = dktX6_text_2 := dk_seg dksX6_text_1 24 rfl rfl
theorem dksX6_text_3 : cX6_text.data.toList.drop 71 = dktX6_text_3 := dk_seg dksX6_text_2 24 rfl rfl
abbrev cX6_take : ByteArray := prog_13_method_5_code
def dkwX6_take_4 : List UInt8 := [42, 182, 0, 57, 167, 0, 7, 42, 182, 0, 60, 177]
abbrev dktX6_take_4 : List UInt8 := dkwX6_take_4 ++ []
def dkwX6_take_3 : List UInt8 := [182, 0, 47, 153, 0, 10, 42, 182, 0, 51, 167, 0, 25, 42, 42, 180, 0, 38, 182, 0, 54, 153, 0, 10]
abbrev dktX6_take_3 : List UInt8 := dkwX6_take_3 ++ dktX6_take_4
def dkwX6_take_2 : List UInt8 := [42, 180, 0, 38, 42, 180, 0, 22, 161, 0, 11, 42, 3, 181, 0, 44, 167, 0, 43, 42, 42, 180, 0, 38]
abbrev dktX6_take_2 : List UInt8 := dkwX6_take_2 ++ dktX6_take_3
def dkwX6_take_1 : List UInt8 := [160, 0, 16, 42, 89, 180, 0, 38, 4, 96, 181, 0, 38, 167, 255, 220, 42, 42, 180, 0, 38, 181, 0, 41]
abbrev dktX6_take_1 : List UInt8 := dkwX6_take_1 ++ dktX6_take_2
def dkwX6_take_0 : List UInt8 := [42, 42, 180, 0, 38, 182, 0, 30, 16, 10, 159, 0, 16, 42, 42, 180, 0, 38, 182, 0, 30, 16, 32]
abbrev dktX6_take_0 : List UInt8 := dkwX6_take_0 ++ dktX6_take_1
theorem dksX6_take_0 : cX6_take.data.toList.drop 0 = dktX6_take_0 := by decide +kernel
theorem dksX6_take_1 : cX6_take.data.toList.drop 23 = dktX6_take_1 := dk_seg dksX6_take_0 23 rfl rfl
theorem dksX6_take_2 : cX6_take.data.toList.drop 47 = dktX6_take_2 := dk_seg dksX6_take_1 24 rfl rfl
theorem dksX6_take_3 : cX6_take.data.toList.drop 71 = dktX6_take_3 := dk_seg dksX6_take_2 24 rfl rfl
theorem dksX6_take_4 : cX6_take.data.toList.drop 95 = dktX6_take_4 := dk_seg dksX6_take_3 24 rfl rfl
abbrev cX6_see : ByteArray := prog_13_method_2_code
def dkwX6_see_1 : List UInt8 := [2, 172]
abbrev dktX6_see_1 : List UInt8 := dkwX6_see_1 ++ []
def dkwX6_see_0 : List UInt8 := [27, 42, 180, 0, 22, 162, 0, 19, 42, 180, 0, 3, 180, 0, 26, 27, 51, 17, 0, 255, 126, 167, 0, 4]
abbrev dktX6_see_0 : List UInt8 := dkwX6_see_0 ++ dktX6_see_1
theorem dksX6_see_0 : cX6_see.data.toList.drop 0 = dktX6_see_0 := by decide +kernel
theorem dksX6_see_1 : cX6_see.data.toList.drop 24 = dktX6_see_1 := dk_seg dksX6_see_0 24 rfl rfl
abbrev cX6_isSmall : ByteArray := prog_13_method_3_code
def dkwX6_isSmall_0 : List UInt8 := [42, 27, 182, 0, 30, 16, 97, 16, 122, 184, 0, 34, 172]
abbrev dktX6_isSmall_0 : List UInt8 := dkwX6_isSmall_0 ++ []
theorem dksX6_isSmall_0 : cX6_isSmall.data.toList.drop 0 = dktX6_isSmall_0 := by decide +kernel
abbrev cX6_takeWord : ByteArray := prog_13_method_6_code
def dkwX6_takeWord_5 : List UInt8 := [182, 0, 30, 16, 96, 100, 167, 0, 4, 3, 128, 181, 0, 66, 132, 1, 1, 167, 255, 211, 177]
abbrev dktX6_takeWord_5 : List UInt8 := dkwX6_takeWord_5 ++ []
def dkwX6_takeWord_4 : List UInt8 := [16, 6, 96, 162, 0, 40, 42, 42, 180, 0, 66, 8, 120, 27, 42, 180, 0, 38, 162, 0, 14, 42, 27]
abbrev dktX6_takeWord_4 : List UInt8 := dkwX6_takeWord_4 ++ dktX6_takeWord_5
def dkwX6_takeWord_3 : List UInt8 := [180, 0, 44, 5, 159, 0, 4, 177, 42, 3, 181, 0, 66, 42, 180, 0, 41, 60, 27, 42, 180, 0, 41]
abbrev dktX6_takeWord_3 : List UInt8 := dkwX6_takeWord_3 ++ dktX6_takeWord_4
def dkwX6_takeWord_2 : List UInt8 := [42, 180, 0, 38, 42, 180, 0, 41, 100, 16, 6, 164, 0, 8, 16, 6, 167, 0, 4, 5, 181, 0, 44, 42]
abbrev dktX6_takeWord_2 : List UInt8 := dkwX6_takeWord_2 ++ dktX6_takeWord_3
def dkwX6_takeWord_1 : List UInt8 := [42, 42, 42, 180, 0, 41, 182, 0, 63, 181, 0, 66, 42, 42, 180, 0, 66, 155, 0, 7, 4, 167, 0, 23]
abbrev dktX6_takeWord_1 : List UInt8 := dkwX6_takeWord_1 ++ dktX6_takeWord_2
def dkwX6_takeWord_0 : List UInt8 := [42, 42, 180, 0, 38, 182, 0, 47, 153, 0, 16, 42, 89, 180, 0, 38, 4, 96, 181, 0, 38, 167, 255, 235]
abbrev dktX6_takeWord_0 : List UInt8 := dkwX6_takeWord_0 ++ dktX6_takeWord_1
theorem dksX6_takeWord_0 : cX6_takeWord.data.toList.drop 0 = dktX6_takeWord_0 := by decide +kernel
theorem dksX6_takeWord_1 : cX6_takeWord.data.toList.drop 24 = dktX6_takeWord_1 := dk_seg dksX6_takeWord_0 24 rfl rfl
theorem dksX6_takeWord_2 : cX6_takeWord.data.toList.drop 48 = dktX6_takeWord_2 := dk_seg dksX6_takeWord_1 24 rfl rfl
theorem dksX6_takeWord_3 : cX6_takeWord.data.toList.drop 72 = dktX6_takeWord_3 := dk_seg dksX6_takeWord_2 24 rfl rfl
theorem dksX6_takeWord_4 : cX6_takeWord.data.toList.drop 95 = dktX6_takeWord_4 := dk_seg dksX6_takeWord_3 23 rfl rfl
theorem dksX6_takeWord_5 : cX6_takeWord.data.toList.drop 118 = dktX6_takeWord_5 := dk_seg dksX6_takeWord_4 23 rfl rfl
abbrev cX6_key : ByteArray := prog_13_method_7_code
def dkwX6_key_5 : List UInt8 := [132, 3, 1, 167, 255, 140, 2, 172]
abbrev dktX6_key_5 : List UInt8 := dkwX6_key_5 ++ []
def dkwX6_key_4 : List UInt8 := [167, 0, 4, 3, 54, 5, 132, 6, 1, 167, 255, 212, 21, 5, 153, 0, 5, 29, 172, 21, 4, 4, 96, 61]
abbrev dktX6_key_4 : List UInt8 := dkwX6_key_4 ++ dktX6_key_5
def dkwX6_key_3 : List UInt8 := [153, 0, 36, 18, 69, 28, 21, 6, 96, 182, 0, 81, 42, 27, 21, 6, 96, 182, 0, 30, 160, 0, 7, 4]
abbrev dktX6_key_3 : List UInt8 := dkwX6_key_3 ++ dktX6_key_4
def dkwX6_key_2 : List UInt8 := [160, 0, 7, 4, 167, 0, 4, 3, 54, 5, 3, 54, 6, 21, 6, 21, 4, 28, 100, 162, 0, 41, 21, 5]
abbrev dktX6_key_2 : List UInt8 := dkwX6_key_2 ++ dktX6_key_3
def dkwX6_key_1 : List UInt8 := [21, 4, 156, 0, 10, 18, 69, 182, 0, 71, 54, 4, 21, 4, 28, 100, 42, 180, 0, 38, 27, 100]
abbrev dktX6_key_1 : List UInt8 := dkwX6_key_1 ++ dktX6_key_2
def dkwX6_key_0 : List UInt8 := [3, 61, 3, 62, 28, 18, 69, 182, 0, 71, 162, 0, 113, 18, 69, 16, 32, 28, 182, 0, 77, 54, 4]
abbrev dktX6_key_0 : List UInt8 := dkwX6_key_0 ++ dktX6_key_1
theorem dksX6_key_0 : cX6_key.data.toList.drop 0 = dktX6_key_0 := by decide +kernel
theorem dksX6_key_1 : cX6_key.data.toList.drop 23 = dktX6_key_1 := dk_seg dksX6_key_0 23 rfl rfl
theorem dksX6_key_2 : cX6_key.data.toList.drop 45 = dktX6_key_2 := dk_seg dksX6_key_1 22 rfl rfl
theorem dksX6_key_3 : cX6_key.data.toList.drop 69 = dktX6_key_3 := dk_seg dksX6_key_2 24 rfl rfl
theorem dksX6_key_4 : cX6_key.data.toList.drop 93 = dktX6_key_4 := dk_seg dksX6_key_3 24 rfl rfl
theorem dksX6_key_5 : cX6_key.data.toList.drop 117 = dktX6_key_5 := dk_seg dksX6_key_4 24 rfl rfl
abbrev cX6_isDigit : ByteArray := prog_13_method_4_code
def dkwX6_isDigit_0 : List UInt8 := [42, 27, 182, 0, 30, 16, 48, 16, 57, 184, 0, 34, 172]
abbrev dktX6_isDigit_0 : List UInt8 := dkwX6_isDigit_0 ++ []
theorem dksX6_isDigit_0 : cX6_isDigit.data.toList.drop 0 = dktX6_isDigit_0 := by decide +kernel
abbrev cX6_takeNumber : ByteArray := prog_13_method_8_code
def dkwX6_takeNumber_2 : List UInt8 := [181, 0, 66, 42, 89, 180, 0, 38, 4, 96, 181, 0, 38, 167, 255, 206, 177]
abbrev dktX6_takeNumber_2 : List UInt8 := dkwX6_takeNumber_2 ++ []
def dkwX6_takeNumber_1 : List UInt8 := [42, 180, 0, 66, 104, 42, 42, 180, 0, 38, 182, 0, 30, 96, 16, 48, 100, 17, 39, 16, 184, 0, 85]
abbrev dktX6_takeNumber_1 : List UInt8 := dkwX6_takeNumber_1 ++ dktX6_takeNumber_2
def dkwX6_takeNumber_0 : List UInt8 := [42, 6, 181, 0, 44, 42, 3, 181, 0, 66, 42, 42, 180, 0, 38, 182, 0, 54, 153, 0, 45, 42, 16, 10]
abbrev dktX6_takeNumber_0 : List UInt8 := dkwX6_takeNumber_0 ++ dktX6_takeNumber_1
theorem dksX6_takeNumber_0 : cX6_takeNumber.data.toList.drop 0 = dktX6_takeNumber_0 := by decide +kernel
theorem dksX6_takeNumber_1 : cX6_takeNumber.data.toList.drop 24 = dktX6_takeNumber_1 := dk_seg dksX6_takeNumber_0 24 rfl rfl
theorem dksX6_takeNumber_2 : cX6_takeNumber.data.toList.drop 47 = dktX6_takeNumber_2 := dk_seg dksX6_takeNumber_1 23 rfl rfl
abbrev cX6_takeSign : ByteArray := prog_13_method_9_code
def dkwX6_takeSign_8 : List UInt8 := [182, 0, 92, 155, 0, 7, 7, 167, 0, 5, 16, 6, 181, 0, 44, 177]
abbrev dktX6_takeSign_8 : List UInt8 := dkwX6_takeSign_8 ++ []
def dkwX6_takeSign_7 : List UInt8 := [167, 0, 4, 8, 181, 0, 66, 42, 8, 181, 0, 44, 167, 0, 25, 42, 18, 90, 42, 180, 0, 66]
abbrev dktX6_takeSign_7 : List UInt8 := dkwX6_takeSign_7 ++ dktX6_takeSign_8
def dkwX6_takeSign_6 : List UInt8 := [153, 0, 7, 4, 167, 0, 24, 29, 153, 0, 7, 6, 167, 0, 16, 3, 167, 0, 12, 28, 153, 0, 7, 7]
abbrev dktX6_takeSign_6 : List UInt8 := dkwX6_takeSign_6 ++ dktX6_takeSign_7
def dkwX6_takeSign_5 : List UInt8 := [42, 42, 180, 0, 66, 16, 61, 160, 0, 7, 5, 167, 0, 41, 42, 180, 0, 66, 16, 60, 160, 0, 23, 28]
abbrev dktX6_takeSign_5 : List UInt8 := dkwX6_takeSign_5 ++ dktX6_takeSign_6
def dkwX6_takeSign_4 : List UInt8 := [4, 167, 0, 4, 3, 62, 28, 154, 0, 7, 29, 153, 0, 13, 42, 89, 180, 0, 38, 4, 96, 181, 0, 38]
abbrev dktX6_takeSign_4 : List UInt8 := dkwX6_takeSign_4 ++ dktX6_takeSign_5
def dkwX6_takeSign_3 : List UInt8 := [160, 0, 7, 4, 167, 0, 4, 3, 61, 42, 180, 0, 66, 16, 60, 160, 0, 13, 27, 16, 62, 160, 0, 7]
abbrev dktX6_takeSign_3 : List UInt8 := dkwX6_takeSign_3 ++ dktX6_takeSign_4
def dkwX6_takeSign_2 : List UInt8 := [159, 0, 12, 42, 180, 0, 66, 16, 61, 160, 0, 126, 42, 180, 0, 66, 16, 61, 159, 0, 13, 27, 16, 61]
abbrev dktX6_takeSign_2 : List UInt8 := dkwX6_takeSign_2 ++ dktX6_takeSign_3
def dkwX6_takeSign_1 : List UInt8 := [180, 0, 38, 182, 0, 30, 60, 42, 180, 0, 66, 16, 60, 159, 0, 21, 42, 180, 0, 66, 16, 62]
abbrev dktX6_takeSign_1 : List UInt8 := dkwX6_takeSign_1 ++ dktX6_takeSign_2
def dkwX6_takeSign_0 : List UInt8 := [42, 42, 42, 180, 0, 38, 182, 0, 30, 181, 0, 66, 42, 89, 180, 0, 38, 4, 96, 181, 0, 38, 42, 42]
abbrev dktX6_takeSign_0 : List UInt8 := dkwX6_takeSign_0 ++ dktX6_takeSign_1
theorem dksX6_takeSign_0 : cX6_takeSign.data.toList.drop 0 = dktX6_takeSign_0 := by decide +kernel
theorem dksX6_takeSign_1 : cX6_takeSign.data.toList.drop 24 = dktX6_takeSign_1 := dk_seg dksX6_takeSign_0 24 rfl rfl
theorem dksX6_takeSign_2 : cX6_takeSign.data.toList.drop 46 = dktX6_takeSign_2 := dk_seg dksX6_takeSign_1 22 rfl rfl
theorem dksX6_takeSign_3 : cX6_takeSign.data.toList.drop 70 = dktX6_takeSign_3 := dk_seg dksX6_takeSign_2 24 rfl rfl
theorem dksX6_takeSign_4 : cX6_takeSign.data.toList.drop 94 = dktX6_takeSign_4 := dk_seg dksX6_takeSign_3 24 rfl rfl
theorem dksX6_takeSign_5 : cX6_takeSign.data.toList.drop 118 = dktX6_takeSign_5 := dk_seg dksX6_takeSign_4 24 rfl rfl
theorem dksX6_takeSign_6 : cX6_takeSign.data.toList.drop 142 = dktX6_takeSign_6 := dk_seg dksX6_takeSign_5 24 rfl rfl
theorem dksX6_takeSign_7 : cX6_takeSign.data.toList.drop 166 = dktX6_takeSign_7 := dk_seg dksX6_takeSign_6 24 rfl rfl
theorem dksX6_takeSign_8 : cX6_takeSign.data.toList.drop 188 = dktX6_takeSign_8 := dk_seg dksX6_takeSign_7 22 rfl rfl
abbrev cX6_wrong : ByteArray := prog_13_method_10_code
def dkwX6_wrong_0 : List UInt8 := [187, 0, 94, 89, 4, 42, 180, 0, 41, 183, 0, 96, 176]
abbrev dktX6_wrong_0 : List UInt8 := dkwX6_wrong_0 ++ []
theorem dksX6_wrong_0 : cX6_wrong.data.toList.drop 0 = dktX6_wrong_0 := by decide +kernel
abbrev cX6_line : ByteArray := prog_13_method_20_code
def dkwX6_line_16 : List UInt8 := [167, 0, 4, 3, 182, 0, 110, 42, 182, 0, 107, 42, 180, 0, 18, 42, 182, 0, 193, 181, 0, 189, 177]
abbrev dktX6_line_16 : List UInt8 := dkwX6_line_16 ++ []
def dkwX6_line_15 : List UInt8 := [4, 181, 0, 186, 42, 182, 0, 107, 167, 0, 37, 42, 42, 180, 0, 18, 180, 0, 189, 198, 0, 7, 4]
abbrev dktX6_line_15 : List UInt8 := dkwX6_line_15 ++ dktX6_line_16
def dkwX6_line_14 : List UInt8 := [182, 0, 144, 181, 0, 183, 167, 0, 63, 42, 42, 180, 0, 18, 180, 0, 186, 182, 0, 110, 42, 180, 0, 18]
abbrev dktX6_line_14 : List UInt8 := dkwX6_line_14 ++ dktX6_line_15
def dkwX6_line_13 : List UInt8 := [182, 0, 110, 42, 180, 0, 18, 4, 181, 0, 180, 42, 182, 0, 107, 42, 180, 0, 18, 42, 3, 7]
abbrev dktX6_line_13 : List UInt8 := dkwX6_line_13 ++ dktX6_line_14
def dkwX6_line_12 : List UInt8 := [180, 0, 18, 42, 3, 6, 182, 0, 144, 181, 0, 177, 167, 0, 102, 42, 42, 180, 0, 18, 180, 0, 180]
abbrev dktX6_line_12 : List UInt8 := dkwX6_line_12 ++ dktX6_line_13
def dkwX6_line_11 : List UInt8 := [180, 0, 18, 180, 0, 174, 182, 0, 110, 42, 180, 0, 18, 4, 181, 0, 174, 42, 182, 0, 107, 42]
abbrev dktX6_line_11 : List UInt8 := dkwX6_line_11 ++ dktX6_line_12
def dkwX6_line_10 : List UInt8 := [182, 0, 107, 42, 180, 0, 18, 42, 3, 16, 9, 182, 0, 144, 181, 0, 171, 167, 0, 141, 42, 42]
abbrev dktX6_line_10 : List UInt8 := dkwX6_line_10 ++ dktX6_line_11
def dkwX6_line_9 : List UInt8 := [167, 0, 181, 42, 42, 180, 0, 18, 180, 0, 168, 182, 0, 110, 42, 180, 0, 18, 4, 181, 0, 168, 42]
abbrev dktX6_line_9 : List UInt8 := dkwX6_line_9 ++ dktX6_line_10
def dkwX6_line_8 : List UInt8 := [16, 99, 182, 0, 144, 181, 0, 162, 42, 180, 0, 18, 42, 3, 16, 99, 182, 0, 144, 181, 0, 165]
abbrev dktX6_line_8 : List UInt8 := dkwX6_line_8 ++ dktX6_line_9
def dkwX6_line_7 : List UInt8 := [180, 0, 158, 182, 0, 110, 42, 180, 0, 18, 4, 181, 0, 158, 42, 182, 0, 107, 42, 180, 0, 18, 42, 3]
abbrev dktX6_line_7 : List UInt8 := dkwX6_line_7 ++ dktX6_line_8
def dkwX6_line_6 : List UInt8 := [167, 0, 249, 42, 182, 0, 152, 167, 0, 242, 42, 182, 0, 155, 167, 0, 235, 42, 42, 180, 0, 18]
abbrev dktX6_line_6 : List UInt8 := dkwX6_line_6 ++ dktX6_line_7
def dkwX6_line_5 : List UInt8 := [180, 0, 122, 187, 0, 142, 89, 28, 42, 4, 17, 0, 200, 182, 0, 144, 183, 0, 147, 182, 0, 148, 87]
abbrev dktX6_line_5 : List UInt8 := dkwX6_line_5 ++ dktX6_line_6
def dkwX6_line_4 : List UInt8 := [16, 12, 160, 0, 7, 4, 167, 0, 4, 3, 182, 0, 103, 42, 27, 182, 0, 139, 61, 42, 180, 0, 18]
abbrev dktX6_line_4 : List UInt8 := dkwX6_line_4 ++ dktX6_line_5
def dkwX6_line_3 : List UInt8 := [42, 182, 0, 107, 42, 180, 0, 18, 42, 182, 0, 130, 182, 0, 133, 60, 42, 42, 180, 0, 18, 182, 0, 136]
abbrev dktX6_line_3 : List UInt8 := dkwX6_line_3 ++ dktX6_line_4
def dkwX6_line_2 : List UInt8 := [42, 42, 180, 0, 18, 180, 0, 122, 182, 0, 126, 16, 6, 160, 0, 7, 4, 167, 0, 4, 3, 182, 0, 103]
abbrev dktX6_line_2 : List UInt8 := dkwX6_line_2 ++ dktX6_line_3
def dkwX6_line_1 : List UInt8 := [170, 0, 0, 0, 0, 0, 1, 101, 0, 0, 0, 0, 0, 0, 0, 7, 0, 0, 0, 48, 0, 0, 0, 145, 0, 0, 0, 152, 0, 0, 0, 159, 0, 0, 0, 213, 0, 0, 0, 253, 0, 0, 1, 36, 0, 0, 1, 75]
abbrev dktX6_line_1 : List UInt8 := dkwX6_line_1 ++ dktX6_line_2
def dkwX6_line_0 : List UInt8 := [42, 180, 0, 66]
abbrev dktX6_line_0 : List UInt8 := dkwX6_line_0 ++ dktX6_line_1
theorem dksX6_line_0 : cX6_line.data.toList.drop 0 = dktX6_line_0 := by decide +kernel
theorem dksX6_line_1 : cX6_line.data.toList.drop 4 = dktX6_line_1 := dk_seg dksX6_line_0 4 rfl rfl
theorem dksX6_line_2 : cX6_line.data.toList.drop 52 = dktX6_line_2 := dk_seg dksX6_line_1 48 rfl rfl
theorem dksX6_line_3 : cX6_line.data.toList.drop 76 = dktX6_line_3 := dk_seg dksX6_line_2 24 rfl rfl
theorem dksX6_line_4 : cX6_line.data.toList.drop 100 = dktX6_line_4 := dk_seg dksX6_line_3 24 rfl rfl
theorem dksX6_line_5 : cX6_line.data.toList.drop 123 = dktX6_line_5 := dk_seg dksX6_line_4 23 rfl rfl
theorem dksX6_line_6 : cX6_line.data.toList.drop 146 = dktX6_line_6 := dk_seg dksX6_line_5 23 rfl rfl
theorem dksX6_line_7 : cX6_line.data.toList.drop 168 = dktX6_line_7 := dk_seg dksX6_line_6 22 rfl rfl
theorem dksX6_line_8 : cX6_line.data.toList.drop 192 = dktX6_line_8 := dk_seg dksX6_line_7 24 rfl rfl
theorem dksX6_line_9 : cX6_line.data.toList.drop 214 = dktX6_line_9 := dk_seg dksX6_line_8 22 rfl rfl
theorem dksX6_line_10 : cX6_line.data.toList.drop 237 = dktX6_line_10 := dk_seg dksX6_line_9 23 rfl rfl
theorem dksX6_line_11 : cX6_line.data.toList.drop 259 = dktX6_line_11 := dk_seg dksX6_line_10 22 rfl rfl
theorem dksX6_line_12 : cX6_line.data.toList.drop 281 = dktX6_line_12 := dk_seg dksX6_line_11 22 rfl rfl
theorem dksX6_line_13 : cX6_line.data.toList.drop 304 = dktX6_line_13 := dk_seg dksX6_line_12 23 rfl rfl
theorem dksX6_line_14 : cX6_line.data.toList.drop 326 = dktX6_line_14 := dk_seg dksX6_line_13 22 rfl rfl
theorem dksX6_line_15 : cX6_line.data.toList.drop 350 = dktX6_line_15 := dk_seg dksX6_line_14 24 rfl rfl
theorem dksX6_line_16 : cX6_line.data.toList.drop 373 = dktX6_line_16 := dk_seg dksX6_line_15 23 rfl rfl
abbrev cX6_much : ByteArray := prog_13_method_11_code
def dkwX6_much_0 : List UInt8 := [27, 153, 0, 16, 187, 0, 94, 89, 5, 42, 180, 0, 41, 183, 0, 96, 191, 177]
abbrev dktX6_much_0 : List UInt8 := dkwX6_much_0 ++ []
theorem dksX6_much_0 : cX6_much.data.toList.drop 0 = dktX6_much_0 := by decide +kernel
abbrev cX6_name : ByteArray := prog_13_method_16_code
def dkwX6_name_0 : List UInt8 := [42, 180, 0, 44, 5, 159, 0, 8, 42, 182, 0, 99, 191, 42, 180, 0, 66, 172]
abbrev dktX6_name_0 : List UInt8 := dkwX6_name_0 ++ []
theorem dksX6_name_0 : cX6_name.data.toList.drop 0 = dktX6_name_0 := by decide +kernel
abbrev cX6_newName : ByteArray := prog_13_method_17_code
def dkwX6_newName_0 : List UInt8 := [42, 27, 155, 0, 7, 4, 167, 0, 4, 3, 182, 0, 110, 42, 180, 0, 66, 61, 42, 182, 0, 107, 28, 172]
abbrev dktX6_newName_0 : List UInt8 := dkwX6_newName_0 ++ []
theorem dksX6_newName_0 : cX6_newName.data.toList.drop 0 = dktX6_newName_0 := by decide +kernel
abbrev cX6_told : ByteArray := prog_13_method_12_code
def dkwX6_told_0 : List UInt8 := [27, 153, 0, 16, 187, 0, 94, 89, 6, 42, 180, 0, 41, 183, 0, 96, 191, 177]
abbrev dktX6_told_0 : List UInt8 := dkwX6_told_0 ++ []
theorem dksX6_told_0 : cX6_told.data.toList.drop 0 = dktX6_told_0 := by decide +kernel
abbrev cX6_number : ByteArray := prog_13_method_15_code
def dkwX6_number_1 : List UInt8 := [154, 0, 7, 4, 167, 0, 4, 3, 182, 0, 103, 42, 180, 0, 66, 62, 42, 182, 0, 107, 29, 172]
abbrev dktX6_number_1 : List UInt8 := dkwX6_number_1 ++ []
def dkwX6_number_0 : List UInt8 := [42, 180, 0, 44, 6, 159, 0, 8, 42, 182, 0, 99, 191, 42, 42, 180, 0, 66, 27, 28, 184, 0, 34]
abbrev dktX6_number_0 : List UInt8 := dkwX6_number_0 ++ dktX6_number_1
theorem dksX6_number_0 : cX6_number.data.toList.drop 0 = dktX6_number_0 := by decide +kernel
theorem dksX6_number_1 : cX6_number.data.toList.drop 23 = dktX6_number_1 := dk_seg dksX6_number_0 23 rfl rfl
abbrev cX6_dust : ByteArray := prog_13_method_21_code
def dkwX6_dust_10 : List UInt8 := [182, 0, 148, 87, 177]
abbrev dktX6_dust_10 : List UInt8 := dkwX6_dust_10 ++ []
def dkwX6_dust_9 : List UInt8 := [42, 180, 0, 44, 5, 159, 255, 115, 42, 180, 0, 18, 180, 0, 197, 187, 0, 224, 89, 27, 28, 183, 0, 226]
abbrev dktX6_dust_9 : List UInt8 := dkwX6_dust_9 ++ dktX6_dust_10
def dkwX6_dust_8 : List UInt8 := [180, 0, 218, 28, 96, 21, 4, 42, 180, 0, 18, 180, 0, 197, 182, 0, 126, 183, 0, 221, 182, 0, 148, 87]
abbrev dktX6_dust_8 : List UInt8 := dkwX6_dust_8 ++ dktX6_dust_9
def dkwX6_dust_7 : List UInt8 := [180, 0, 209, 187, 0, 212, 89, 42, 180, 0, 18, 180, 0, 122, 21, 4, 182, 0, 214, 192, 0, 142]
abbrev dktX6_dust_7 : List UInt8 := dkwX6_dust_7 ++ dktX6_dust_8
def dkwX6_dust_6 : List UInt8 := [180, 0, 41, 183, 0, 96, 191, 42, 182, 0, 107, 29, 4, 21, 4, 120, 128, 62, 42, 180, 0, 18]
abbrev dktX6_dust_6 : List UInt8 := dkwX6_dust_6 ++ dktX6_dust_7
def dkwX6_dust_5 : List UInt8 := [153, 0, 7, 4, 167, 0, 4, 3, 182, 0, 110, 21, 4, 156, 0, 16, 187, 0, 94, 89, 7, 42]
abbrev dktX6_dust_5 : List UInt8 := dkwX6_dust_5 ++ dktX6_dust_6
def dkwX6_dust_4 : List UInt8 := [160, 0, 7, 4, 167, 0, 4, 3, 182, 0, 103, 42, 21, 4, 155, 0, 16, 29, 21, 4, 184, 0, 205]
abbrev dktX6_dust_4 : List UInt8 := dkwX6_dust_4 ++ dktX6_dust_5
def dkwX6_dust_3 : List UInt8 := [42, 180, 0, 18, 42, 182, 0, 130, 182, 0, 133, 54, 4, 42, 42, 180, 0, 18, 182, 0, 136, 16, 12]
abbrev dktX6_dust_3 : List UInt8 := dkwX6_dust_3 ++ dktX6_dust_4
def dkwX6_dust_2 : List UInt8 := [182, 0, 144, 61, 42, 16, 9, 182, 0, 202, 154, 0, 8, 42, 182, 0, 99, 191, 42, 182, 0, 107, 3, 62]
abbrev dktX6_dust_2 : List UInt8 := dkwX6_dust_2 ++ dktX6_dust_3
def dkwX6_dust_1 : List UInt8 := [182, 0, 107, 42, 42, 180, 0, 18, 42, 182, 0, 130, 182, 0, 200, 182, 0, 139, 60, 42, 4, 16, 99]
abbrev dktX6_dust_1 : List UInt8 := dkwX6_dust_1 ++ dktX6_dust_2
def dkwX6_dust_0 : List UInt8 := [42, 42, 180, 0, 18, 180, 0, 197, 182, 0, 126, 6, 160, 0, 7, 4, 167, 0, 4, 3, 182, 0, 103, 42]
abbrev dktX6_dust_0 : List UInt8 := dkwX6_dust_0 ++ dktX6_dust_1
theorem dksX6_dust_0 : cX6_dust.data.toList.drop 0 = dktX6_dust_0 := by decide +kernel
theorem dksX6_dust_1 : cX6_dust.data.toList.drop 24 = dktX6_dust_1 := dk_seg dksX6_dust_0 24 rfl rfl
theorem dksX6_dust_2 : cX6_dust.data.toList.drop 47 = dktX6_dust_2 := dk_seg dksX6_dust_1 23 rfl rfl
theorem dksX6_dust_3 : cX6_dust.data.toList.drop 71 = dktX6_dust_3 := dk_seg dksX6_dust_2 24 rfl rfl
theorem dksX6_dust_4 : cX6_dust.data.toList.drop 94 = dktX6_dust_4 := dk_seg dksX6_dust_3 23 rfl rfl
theorem dksX6_dust_5 : cX6_dust.data.toList.drop 117 = dktX6_dust_5 := dk_seg dksX6_dust_4 23 rfl rfl
theorem dksX6_dust_6 : cX6_dust.data.toList.drop 139 = dktX6_dust_6 := dk_seg dksX6_dust_5 22 rfl rfl
theorem dksX6_dust_7 : cX6_dust.data.toList.drop 161 = dktX6_dust_7 := dk_seg dksX6_dust_6 22 rfl rfl
theorem dksX6_dust_8 : cX6_dust.data.toList.drop 183 = dktX6_dust_8 := dk_seg dksX6_dust_7 22 rfl rfl
theorem dksX6_dust_9 : cX6_dust.data.toList.drop 207 = dktX6_dust_9 := dk_seg dksX6_dust_8 24 rfl rfl
theorem dksX6_dust_10 : cX6_dust.data.toList.drop 231 = dktX6_dust_10 := dk_seg dksX6_dust_9 24 rfl rfl
abbrev cX6_isKey : ByteArray := prog_13_method_14_code
def dkwX6_isKey_0 : List UInt8 := [42, 180, 0, 44, 4, 160, 0, 15, 42, 180, 0, 66, 27, 160, 0, 7, 4, 167, 0, 4, 3, 172]
abbrev dktX6_isKey_0 : List UInt8 := dkwX6_isKey_0 ++ []
theorem dksX6_isKey_0 : cX6_isKey.data.toList.drop 0 = dktX6_isKey_0 := by decide +kernel
abbrev cX6_apart : ByteArray := prog_13_method_22_code
def dkwX6_apart_5 : List UInt8 := [181, 0, 227, 177]
abbrev dktX6_apart_5 : List UInt8 := dkwX6_apart_5 ++ []
def dkwX6_apart_4 : List UInt8 := [180, 0, 18, 180, 0, 233, 27, 92, 46, 4, 28, 120, 128, 79, 42, 180, 0, 18, 89, 180, 0, 227, 4, 96]
abbrev dktX6_apart_4 : List UInt8 := dkwX6_apart_4 ++ dktX6_apart_5
def dkwX6_apart_3 : List UInt8 := [42, 42, 180, 0, 18, 180, 0, 233, 27, 46, 28, 184, 0, 205, 182, 0, 110, 42, 182, 0, 107, 42]
abbrev dktX6_apart_3 : List UInt8 := dkwX6_apart_3 ++ dktX6_apart_4
def dkwX6_apart_2 : List UInt8 := [182, 0, 130, 182, 0, 133, 61, 28, 156, 0, 16, 187, 0, 94, 89, 7, 42, 180, 0, 41, 183, 0, 96, 191]
abbrev dktX6_apart_2 : List UInt8 := dkwX6_apart_2 ++ dktX6_apart_3
def dkwX6_apart_1 : List UInt8 := [182, 0, 107, 42, 42, 180, 0, 18, 42, 182, 0, 130, 182, 0, 133, 182, 0, 230, 60, 42, 180, 0, 18, 42]
abbrev dktX6_apart_1 : List UInt8 := dkwX6_apart_1 ++ dktX6_apart_2
def dkwX6_apart_0 : List UInt8 := [42, 42, 180, 0, 18, 180, 0, 227, 16, 12, 160, 0, 7, 4, 167, 0, 4, 3, 182, 0, 103, 42]
abbrev dktX6_apart_0 : List UInt8 := dkwX6_apart_0 ++ dktX6_apart_1
theorem dksX6_apart_0 : cX6_apart.data.toList.drop 0 = dktX6_apart_0 := by decide +kernel
theorem dksX6_apart_1 : cX6_apart.data.toList.drop 22 = dktX6_apart_1 := dk_seg dksX6_apart_0 22 rfl rfl
theorem dksX6_apart_2 : cX6_apart.data.toList.drop 46 = dktX6_apart_2 := dk_seg dksX6_apart_1 24 rfl rfl
theorem dksX6_apart_3 : cX6_apart.data.toList.drop 70 = dktX6_apart_3 := dk_seg dksX6_apart_2 24 rfl rfl
theorem dksX6_apart_4 : cX6_apart.data.toList.drop 92 = dktX6_apart_4 := dk_seg dksX6_apart_3 22 rfl rfl
theorem dksX6_apart_5 : cX6_apart.data.toList.drop 116 = dktX6_apart_5 := dk_seg dksX6_apart_4 24 rfl rfl
abbrev cX6_there : ByteArray := prog_13_method_18_code
def dkwX6_there_0 : List UInt8 := [27, 156, 0, 16, 187, 0, 94, 89, 7, 42, 180, 0, 41, 183, 0, 96, 191, 42, 182, 0, 107, 27, 172]
abbrev dktX6_there_0 : List UInt8 := dkwX6_there_0 ++ []
theorem dksX6_there_0 : cX6_there.data.toList.drop 0 = dktX6_there_0 := by decide +kernel
abbrev cX6_or : ByteArray := prog_13_method_24_code
def dkwX6_or_1 : List UInt8 := [187, 0, 245, 89, 3, 43, 42, 182, 0, 239, 183, 0, 247, 76, 167, 255, 225, 43, 176]
abbrev dktX6_or_1 : List UInt8 := dkwX6_or_1 ++ []
def dkwX6_or_0 : List UInt8 := [42, 182, 0, 239, 76, 42, 16, 11, 182, 0, 202, 153, 0, 28, 42, 182, 0, 242, 42, 182, 0, 107]
abbrev dktX6_or_0 : List UInt8 := dkwX6_or_0 ++ dktX6_or_1
theorem dksX6_or_0 : cX6_or.data.toList.drop 0 = dktX6_or_0 := by decide +kernel
theorem dksX6_or_1 : cX6_or.data.toList.drop 22 = dktX6_or_1 := dk_seg dksX6_or_0 22 rfl rfl
abbrev cX6_and : ByteArray := prog_13_method_25_code
def dkwX6_and_1 : List UInt8 := [187, 0, 245, 89, 4, 43, 42, 182, 0, 250, 183, 0, 247, 76, 167, 255, 225, 43, 176]
abbrev dktX6_and_1 : List UInt8 := dkwX6_and_1 ++ []
def dkwX6_and_0 : List UInt8 := [42, 182, 0, 250, 76, 42, 16, 10, 182, 0, 202, 153, 0, 28, 42, 182, 0, 242, 42, 182, 0, 107]
abbrev dktX6_and_0 : List UInt8 := dkwX6_and_0 ++ dktX6_and_1
theorem dksX6_and_0 : cX6_and.data.toList.drop 0 = dktX6_and_0 := by decide +kernel
theorem dksX6_and_1 : cX6_and.data.toList.drop 22 = dktX6_and_1 := dk_seg dksX6_and_0 22 rfl rfl
abbrev cX6_not : ByteArray := prog_13_method_26_code
def dkwX6_not_2 : List UInt8 := [132, 3, 1, 167, 255, 239, 44, 176]
abbrev dktX6_not_2 : List UInt8 := dkwX6_not_2 ++ []
def dkwX6_not_1 : List UInt8 := [167, 255, 236, 42, 182, 0, 253, 77, 3, 62, 29, 27, 162, 0, 18, 187, 1, 0, 89, 44, 183, 1, 2, 77]
abbrev dktX6_not_1 : List UInt8 := dkwX6_not_1 ++ dktX6_not_2
def dkwX6_not_0 : List UInt8 := [3, 60, 42, 16, 12, 182, 0, 202, 153, 0, 17, 42, 182, 0, 242, 42, 182, 0, 107, 132, 1, 1]
abbrev dktX6_not_0 : List UInt8 := dkwX6_not_0 ++ dktX6_not_1
theorem dksX6_not_0 : cX6_not.data.toList.drop 0 = dktX6_not_0 := by decide +kernel
theorem dksX6_not_1 : cX6_not.data.toList.drop 22 = dktX6_not_1 := dk_seg dksX6_not_0 22 rfl rfl
theorem dksX6_not_2 : cX6_not.data.toList.drop 46 = dktX6_not_2 := dk_seg dksX6_not_1 24 rfl rfl
abbrev cX6_knot : ByteArray := prog_13_method_23_code
def dkwX6_knot_1 : List UInt8 := [180, 0, 18, 89, 180, 0, 236, 4, 96, 181, 0, 236, 177]
abbrev dktX6_knot_1 : List UInt8 := dkwX6_knot_1 ++ []
def dkwX6_knot_0 : List UInt8 := [42, 42, 180, 0, 18, 180, 0, 236, 16, 64, 160, 0, 7, 4, 167, 0, 4, 3, 182, 0, 103, 42]
abbrev dktX6_knot_0 : List UInt8 := dkwX6_knot_0 ++ dktX6_knot_1
theorem dksX6_knot_0 : cX6_knot.data.toList.drop 0 = dktX6_knot_0 := by decide +kernel
theorem dksX6_knot_1 : cX6_knot.data.toList.drop 22 = dktX6_knot_1 := dk_seg dksX6_knot_0 22 rfl rfl
abbrev cX6_compared : ByteArray := prog_13_method_27_code
def dkwX6_compared_1 : List UInt8 := [42, 182, 0, 107, 187, 1, 8, 89, 28, 43, 42, 182, 1, 5, 183, 1, 10, 176]
abbrev dktX6_compared_1 : List UInt8 := dkwX6_compared_1 ++ []
def dkwX6_compared_0 : List UInt8 := [42, 182, 1, 5, 76, 42, 180, 0, 44, 8, 159, 0, 5, 43, 176, 42, 180, 0, 66, 61, 42, 182, 0, 242]
abbrev dktX6_compared_0 : List UInt8 := dkwX6_compared_0 ++ dktX6_compared_1
theorem dksX6_compared_0 : cX6_compared.data.toList.drop 0 = dktX6_compared_0 := by decide +kernel
theorem dksX6_compared_1 : cX6_compared.data.toList.drop 24 = dktX6_compared_1 := dk_seg dksX6_compared_0 24 rfl rfl
abbrev cX6_sum : ByteArray := prog_13_method_28_code
def dkwX6_sum_2 : List UInt8 := [183, 1, 18, 76, 167, 255, 211, 43, 176]
abbrev dktX6_sum_2 : List UInt8 := dkwX6_sum_2 ++ []
def dkwX6_sum_1 : List UInt8 := [180, 0, 66, 61, 42, 182, 0, 242, 42, 182, 0, 107, 187, 1, 16, 89, 28, 43, 42, 182, 1, 13]
abbrev dktX6_sum_1 : List UInt8 := dkwX6_sum_1 ++ dktX6_sum_2
def dkwX6_sum_0 : List UInt8 := [42, 182, 1, 13, 76, 42, 16, 43, 182, 0, 116, 154, 0, 12, 42, 16, 45, 182, 0, 116, 153, 0, 33, 42]
abbrev dktX6_sum_0 : List UInt8 := dkwX6_sum_0 ++ dktX6_sum_1
theorem dksX6_sum_0 : cX6_sum.data.toList.drop 0 = dktX6_sum_0 := by decide +kernel
theorem dksX6_sum_1 : cX6_sum.data.toList.drop 24 = dktX6_sum_1 := dk_seg dksX6_sum_0 24 rfl rfl
theorem dksX6_sum_2 : cX6_sum.data.toList.drop 46 = dktX6_sum_2 := dk_seg dksX6_sum_1 22 rfl rfl
abbrev cX6_product : ByteArray := prog_13_method_29_code
def dkwX6_product_2 : List UInt8 := [183, 1, 18, 76, 167, 255, 211, 43, 176]
abbrev dktX6_product_2 : List UInt8 := dkwX6_product_2 ++ []
def dkwX6_product_1 : List UInt8 := [180, 0, 66, 61, 42, 182, 0, 242, 42, 182, 0, 107, 187, 1, 16, 89, 28, 43, 42, 182, 1, 19]
abbrev dktX6_product_1 : List UInt8 := dkwX6_product_1 ++ dktX6_product_2
def dkwX6_product_0 : List UInt8 := [42, 182, 1, 19, 76, 42, 16, 42, 182, 0, 116, 154, 0, 12, 42, 16, 47, 182, 0, 116, 153, 0, 33, 42]
abbrev dktX6_product_0 : List UInt8 := dkwX6_product_0 ++ dktX6_product_1
theorem dksX6_product_0 : cX6_product.data.toList.drop 0 = dktX6_product_0 := by decide +kernel
theorem dksX6_product_1 : cX6_product.data.toList.drop 24 = dktX6_product_1 := dk_seg dksX6_product_0 24 rfl rfl
theorem dksX6_product_2 : cX6_product.data.toList.drop 46 = dktX6_product_2 := dk_seg dksX6_product_1 22 rfl rfl
abbrev cX6_one : ByteArray := prog_13_method_30_code
def dkwX6_one_7 : List UInt8 := [133, 183, 1, 32, 176]
abbrev dktX6_one_7 : List UInt8 := dkwX6_one_7 ++ []
def dkwX6_one_6 : List UInt8 := [4, 167, 0, 4, 3, 182, 0, 103, 42, 182, 0, 242, 187, 1, 30, 89, 42, 3, 17, 39, 15, 182, 0, 144]
abbrev dktX6_one_6 : List UInt8 := dkwX6_one_6 ++ dktX6_one_7
def dkwX6_one_5 : List UInt8 := [42, 180, 0, 44, 6, 159, 0, 8, 42, 182, 0, 99, 191, 42, 42, 180, 0, 66, 17, 39, 15, 164, 0, 7]
abbrev dktX6_one_5 : List UInt8 := dkwX6_one_5 ++ dktX6_one_6
def dkwX6_one_4 : List UInt8 := [182, 0, 242, 42, 180, 0, 66, 16, 13, 100, 60, 42, 182, 0, 107, 187, 1, 25, 89, 27, 183, 1, 27, 176]
abbrev dktX6_one_4 : List UInt8 := dkwX6_one_4 ++ dktX6_one_5
def dkwX6_one_3 : List UInt8 := [182, 0, 107, 43, 176, 42, 180, 0, 44, 4, 160, 0, 37, 42, 180, 0, 66, 16, 13, 161, 0, 28, 42]
abbrev dktX6_one_3 : List UInt8 := dkwX6_one_3 ++ dktX6_one_4
def dkwX6_one_2 : List UInt8 := [16, 41, 182, 0, 116, 154, 0, 8, 42, 182, 0, 99, 191, 42, 89, 180, 1, 22, 4, 100, 181, 1, 22, 42]
abbrev dktX6_one_2 : List UInt8 := dkwX6_one_2 ++ dktX6_one_3
def dkwX6_one_1 : List UInt8 := [182, 0, 103, 42, 89, 180, 1, 22, 4, 96, 181, 1, 22, 42, 182, 0, 107, 42, 182, 0, 193, 76, 42]
abbrev dktX6_one_1 : List UInt8 := dkwX6_one_1 ++ dktX6_one_2
def dkwX6_one_0 : List UInt8 := [42, 16, 40, 182, 0, 116, 153, 0, 70, 42, 42, 180, 1, 22, 16, 8, 160, 0, 7, 4, 167, 0, 4, 3]
abbrev dktX6_one_0 : List UInt8 := dkwX6_one_0 ++ dktX6_one_1
theorem dksX6_one_0 : cX6_one.data.toList.drop 0 = dktX6_one_0 := by decide +kernel
theorem dksX6_one_1 : cX6_one.data.toList.drop 24 = dktX6_one_1 := dk_seg dksX6_one_0 24 rfl rfl
theorem dksX6_one_2 : cX6_one.data.toList.drop 47 = dktX6_one_2 := dk_seg dksX6_one_1 23 rfl rfl
theorem dksX6_one_3 : cX6_one.data.toList.drop 71 = dktX6_one_3 := dk_seg dksX6_one_2 24 rfl rfl
theorem dksX6_one_4 : cX6_one.data.toList.drop 94 = dktX6_one_4 := dk_seg dksX6_one_3 23 rfl rfl
theorem dksX6_one_5 : cX6_one.data.toList.drop 118 = dktX6_one_5 := dk_seg dksX6_one_4 24 rfl rfl
theorem dksX6_one_6 : cX6_one.data.toList.drop 142 = dktX6_one_6 := dk_seg dksX6_one_5 24 rfl rfl
theorem dksX6_one_7 : cX6_one.data.toList.drop 166 = dktX6_one_7 := dk_seg dksX6_one_6 24 rfl rfl
abbrev cX6_isSign : ByteArray := prog_13_method_13_code
def dkwX6_isSign_0 : List UInt8 := [42, 180, 0, 44, 7, 160, 0, 15, 42, 180, 0, 66, 27, 160, 0, 7, 4, 167, 0, 4, 3, 172]
abbrev dktX6_isSign_0 : List UInt8 := dkwX6_isSign_0 ++ []
theorem dksX6_isSign_0 : cX6_isSign.data.toList.drop 0 = dktX6_isSign_0 := by decide +kernel
abbrev cX7_init : ByteArray := prog_8_method_1_code
def dkwX7_init_0 : List UInt8 := [42, 1, 1, 3, 3, 183, 0, 1, 42, 27, 181, 0, 7, 42, 28, 181, 0, 13, 177]
abbrev dktX7_init_0 : List UInt8 := dkwX7_init_0 ++ []
theorem dksX7_init_0 : cX7_init.data.toList.drop 0 = dktX7_init_0 := by decide +kernel
abbrev cX8_init : ByteArray := prog_2_method_1_code
def dkwX8_init_0 : List UInt8 := [42, 183, 0, 1, 42, 27, 181, 0, 7, 42, 28, 181, 0, 13, 177]
abbrev dktX8_init_0 : List UInt8 := dkwX8_init_0 ++ []
theorem dksX8_init_0 : cX8_init.data.toList.drop 0 = dktX8_init_0 := by decide +kernel
abbrev cX9_init : ByteArray := prog_9_method_1_code
def dkwX9_init_0 : List UInt8 := [42, 183, 0, 1, 42, 27, 181, 0, 7, 42, 28, 181, 0, 13, 42, 29, 181, 0, 16, 177]
abbrev dktX9_init_0 : List UInt8 := dkwX9_init_0 ++ []
theorem dksX9_init_0 : cX9_init.data.toList.drop 0 = dktX9_init_0 := by decide +kernel
abbrev cX10_init : ByteArray := prog_7_method_1_code
def dkwX10_init_0 : List UInt8 := [42, 183, 0, 1, 42, 27, 181, 0, 7, 42, 28, 181, 0, 13, 177]
abbrev dktX10_init_0 : List UInt8 := dkwX10_init_0 ++ []
theorem dksX10_init_0 : cX10_init.data.toList.drop 0 = dktX10_init_0 := by decide +kernel
abbrev cX11_init : ByteArray := prog_10_method_1_code
def dkwX11_init_0 : List UInt8 := [42, 183, 0, 1, 42, 27, 181, 0, 7, 177]
abbrev dktX11_init_0 : List UInt8 := dkwX11_init_0 ++ []
theorem dksX11_init_0 : cX11_init.data.toList.drop 0 = dktX11_init_0 := by decide +kernel
abbrev cX11_value : ByteArray := prog_10_method_2_code
def dkwX11_value_0 : List UInt8 := [43, 180, 0, 13, 42, 180, 0, 7, 47, 173]
abbrev dktX11_value_0 : List UInt8 := dkwX11_value_0 ++ []
theorem dksX11_value_0 : cX11_value.data.toList.drop 0 = dktX11_value_0 := by decide +kernel
abbrev cX12_init : ByteArray := prog_6_method_1_code
def dkwX12_init_0 : List UInt8 := [42, 183, 0, 1, 42, 31, 181, 0, 7, 177]
abbrev dktX12_init_0 : List UInt8 := dkwX12_init_0 ++ []
theorem dksX12_init_0 : cX12_init.data.toList.drop 0 = dktX12_init_0 := by decide +kernel
abbrev cX12_value : ByteArray := prog_6_method_2_code
abbrev cX13_init : ByteArray := prog_16_method_1_code
def dkwX13_init_0 : List UInt8 := [42, 183, 0, 1, 42, 43, 181, 0, 7, 42, 44, 181, 0, 13, 177]
abbrev dktX13_init_0 : List UInt8 := dkwX13_init_0 ++ []
theorem dksX13_init_0 : cX13_init.data.toList.drop 0 = dktX13_init_0 := by decide +kernel
abbrev cX13_value : ByteArray := prog_16_method_2_code
def dkwX13_value_1 : List UInt8 := [182, 0, 22, 173]
abbrev dktX13_value_1 : List UInt8 := dkwX13_value_1 ++ []
def dkwX13_value_0 : List UInt8 := [42, 180, 0, 7, 43, 185, 0, 16, 2, 0, 65, 42, 43, 32, 42, 180, 0, 13, 43, 185, 0, 16, 2, 0]
abbrev dktX13_value_0 : List UInt8 := dkwX13_value_0 ++ dktX13_value_1
theorem dksX13_value_0 : cX13_value.data.toList.drop 0 = dktX13_value_0 := by decide +kernel
theorem dksX13_value_1 : cX13_value.data.toList.drop 24 = dktX13_value_1 := dk_seg dksX13_value_0 24 rfl rfl
abbrev cX14_init : ByteArray := prog_17_method_1_code
def dkwX14_init_0 : List UInt8 := [42, 44, 45, 183, 0, 3, 42, 27, 181, 0, 9, 177]
abbrev dktX14_init_0 : List UInt8 := dkwX14_init_0 ++ []
theorem dksX14_init_0 : cX14_init.data.toList.drop 0 = dktX14_init_0 := by decide +kernel
abbrev cX14_of : ByteArray := prog_17_method_2_code
def dkwX14_of_6 : List UInt8 := [181, 0, 21, 43, 180, 0, 21, 153, 0, 7, 9, 167, 0, 7, 32, 22, 4, 109, 173]
abbrev dktX14_of_6 : List UInt8 := dkwX14_of_6 ++ []
def dkwX14_of_5 : List UInt8 := [22, 4, 105, 173, 43, 43, 180, 0, 21, 154, 0, 10, 22, 4, 9, 148, 154, 0, 7, 4, 167, 0, 4, 3]
abbrev dktX14_of_5 : List UInt8 := dkwX14_of_5 ++ dktX14_of_6
def dkwX14_of_4 : List UInt8 := [158, 0, 7, 4, 167, 0, 4, 3, 181, 0, 21, 43, 180, 0, 21, 153, 0, 7, 9, 167, 0, 7, 32]
abbrev dktX14_of_4 : List UInt8 := dkwX14_of_4 ++ dktX14_of_5
def dkwX14_of_3 : List UInt8 := [154, 0, 26, 32, 9, 148, 153, 0, 24, 22, 4, 184, 0, 25, 20, 0, 30, 32, 184, 0, 25, 109, 148]
abbrev dktX14_of_3 : List UInt8 := dkwX14_of_3 ++ dktX14_of_4
def dkwX14_of_2 : List UInt8 := [43, 32, 22, 4, 97, 182, 0, 15, 173, 43, 32, 22, 4, 101, 182, 0, 15, 173, 43, 43, 180, 0, 21]
abbrev dktX14_of_2 : List UInt8 := dkwX14_of_2 ++ dktX14_of_3
def dkwX14_of_1 : List UInt8 := [170, 0, 0, 0, 0, 0, 0, 105, 0, 0, 0, 42, 0, 0, 0, 45, 0, 0, 0, 50, 0, 0, 0, 32, 0, 0, 0, 105, 0, 0, 0, 41]
abbrev dktX14_of_1 : List UInt8 := dkwX14_of_1 ++ dktX14_of_2
def dkwX14_of_0 : List UInt8 := [42, 180, 0, 9]
abbrev dktX14_of_0 : List UInt8 := dkwX14_of_0 ++ dktX14_of_1
theorem dksX14_of_0 : cX14_of.data.toList.drop 0 = dktX14_of_0 := by decide +kernel
theorem dksX14_of_1 : cX14_of.data.toList.drop 4 = dktX14_of_1 := dk_seg dksX14_of_0 4 rfl rfl
theorem dksX14_of_2 : cX14_of.data.toList.drop 36 = dktX14_of_2 := dk_seg dksX14_of_1 32 rfl rfl
theorem dksX14_of_3 : cX14_of.data.toList.drop 59 = dktX14_of_3 := dk_seg dksX14_of_2 23 rfl rfl
theorem dksX14_of_4 : cX14_of.data.toList.drop 82 = dktX14_of_4 := dk_seg dksX14_of_3 23 rfl rfl
theorem dksX14_of_5 : cX14_of.data.toList.drop 105 = dktX14_of_5 := dk_seg dksX14_of_4 23 rfl rfl
theorem dksX14_of_6 : cX14_of.data.toList.drop 129 = dktX14_of_6 := dk_seg dksX14_of_5 24 rfl rfl
abbrev cX15_init : ByteArray := prog_5_method_1_code
def dkwX15_init_0 : List UInt8 := [42, 44, 45, 183, 0, 1, 42, 27, 181, 0, 7, 177]
abbrev dktX15_init_0 : List UInt8 := dkwX15_init_0 ++ []
theorem dksX15_init_0 : cX15_init.data.toList.drop 0 = dktX15_init_0 := by decide +kernel
abbrev cX15_of : ByteArray := prog_5_method_2_code
def dkwX15_of_5 : List UInt8 := [22, 4, 148, 158, 0, 7, 4, 167, 0, 4, 3, 54, 6, 21, 6, 153, 0, 7, 10, 167, 0, 4, 9, 173]
abbrev dktX15_of_5 : List UInt8 := dkwX15_of_5 ++ []
def dkwX15_of_4 : List UInt8 := [180, 0, 7, 7, 160, 0, 18, 32, 22, 4, 148, 155, 0, 7, 4, 167, 0, 19, 3, 167, 0, 15, 32]
abbrev dktX15_of_4 : List UInt8 := dkwX15_of_4 ++ dktX15_of_5
def dkwX15_of_3 : List UInt8 := [180, 0, 7, 6, 160, 0, 18, 32, 22, 4, 148, 153, 0, 7, 4, 167, 0, 42, 3, 167, 0, 38, 42]
abbrev dktX15_of_3 : List UInt8 := dkwX15_of_3 ++ dktX15_of_4
def dkwX15_of_2 : List UInt8 := [180, 0, 7, 5, 160, 0, 18, 32, 22, 4, 148, 154, 0, 7, 4, 167, 0, 65, 3, 167, 0, 61, 42]
abbrev dktX15_of_2 : List UInt8 := dkwX15_of_2 ++ dktX15_of_3
def dkwX15_of_1 : List UInt8 := [180, 0, 7, 4, 160, 0, 18, 32, 22, 4, 148, 157, 0, 7, 4, 167, 0, 88, 3, 167, 0, 84, 42]
abbrev dktX15_of_1 : List UInt8 := dkwX15_of_1 ++ dktX15_of_2
def dkwX15_of_0 : List UInt8 := [42, 180, 0, 7, 154, 0, 18, 32, 22, 4, 148, 156, 0, 7, 4, 167, 0, 111, 3, 167, 0, 107, 42]
abbrev dktX15_of_0 : List UInt8 := dkwX15_of_0 ++ dktX15_of_1
theorem dksX15_of_0 : cX15_of.data.toList.drop 0 = dktX15_of_0 := by decide +kernel
theorem dksX15_of_1 : cX15_of.data.toList.drop 23 = dktX15_of_1 := dk_seg dksX15_of_0 23 rfl rfl
theorem dksX15_of_2 : cX15_of.data.toList.drop 46 = dktX15_of_2 := dk_seg dksX15_of_1 23 rfl rfl
theorem dksX15_of_3 : cX15_of.data.toList.drop 69 = dktX15_of_3 := dk_seg dksX15_of_2 23 rfl rfl
theorem dksX15_of_4 : cX15_of.data.toList.drop 92 = dktX15_of_4 := dk_seg dksX15_of_3 23 rfl rfl
theorem dksX15_of_5 : cX15_of.data.toList.drop 115 = dktX15_of_5 := dk_seg dksX15_of_4 23 rfl rfl
abbrev cX16_init : ByteArray := prog_12_method_1_code
def dkwX16_init_0 : List UInt8 := [42, 183, 0, 1, 42, 43, 181, 0, 7, 177]
abbrev dktX16_init_0 : List UInt8 := dkwX16_init_0 ++ []
theorem dksX16_init_0 : cX16_init.data.toList.drop 0 = dktX16_init_0 := by decide +kernel
abbrev cX16_value : ByteArray := prog_12_method_2_code
def dkwX16_value_0 : List UInt8 := [42, 180, 0, 7, 43, 185, 0, 13, 2, 0, 9, 148, 154, 0, 7, 10, 167, 0, 4, 9, 173]
abbrev dktX16_value_0 : List UInt8 := dkwX16_value_0 ++ []
theorem dksX16_value_0 : cX16_value.data.toList.drop 0 = dktX16_value_0 := by decide +kernel
abbrev cX17_init : ByteArray := prog_4_method_1_code
def dkwX17_init_0 : List UInt8 := [42, 44, 45, 183, 0, 1, 42, 27, 181, 0, 7, 177]
abbrev dktX17_init_0 : List UInt8 := dkwX17_init_0 ++ []
theorem dksX17_init_0 : cX17_init.data.toList.drop 0 = dktX17_init_0 := by decide +kernel
abbrev cX17_of : ByteArray := prog_4_method_2_code
def dkwX17_of_1 : List UInt8 := [9, 167, 0, 21, 32, 9, 148, 154, 0, 10, 22, 4, 9, 148, 153, 0, 7, 10, 167, 0, 4, 9, 173]
abbrev dktX17_of_1 : List UInt8 := dkwX17_of_1 ++ []
def dkwX17_of_0 : List UInt8 := [42, 180, 0, 7, 153, 0, 24, 32, 9, 148, 153, 0, 14, 22, 4, 9, 148, 153, 0, 7, 10, 167, 0, 25]
abbrev dktX17_of_0 : List UInt8 := dkwX17_of_0 ++ dktX17_of_1
theorem dksX17_of_0 : cX17_of.data.toList.drop 0 = dktX17_of_0 := by decide +kernel
theorem dksX17_of_1 : cX17_of.data.toList.drop 24 = dktX17_of_1 := dk_seg dksX17_of_0 24 rfl rfl
abbrev cJ0_init : ByteArray := prog_42_method_1_code
abbrev cJ1_init : ByteArray := prog_43_method_1_code
def dkwJ1_init_0 : List UInt8 := [42, 183, 0, 1, 42, 3, 181, 0, 7, 177]
abbrev dktJ1_init_0 : List UInt8 := dkwJ1_init_0 ++ []
theorem dksJ1_init_0 : cJ1_init.data.toList.drop 0 = dktJ1_init_0 := by decide +kernel
abbrev cJ2_init : ByteArray := prog_44_method_2_code
def dkwJ2_init_0 : List UInt8 := [42, 183, 0, 1, 42, 178, 0, 39, 181, 0, 9, 177]
abbrev dktJ2_init_0 : List UInt8 := dkwJ2_init_0 ++ []
theorem dksJ2_init_0 : cJ2_init.data.toList.drop 0 = dktJ2_init_0 := by decide +kernel
abbrev cJ2_size : ByteArray := prog_44_method_8_code
abbrev cJ2_get : ByteArray := prog_44_method_20_code
def dkwJ2_get_0 : List UInt8 := [27, 42, 180, 0, 48, 184, 0, 118, 87, 42, 27, 182, 0, 123, 176]
abbrev dktJ2_get_0 : List UInt8 := dkwJ2_get_0 ++ []
theorem dksJ2_get_0 : cJ2_get.data.toList.drop 0 = dktJ2_get_0 := by decide +kernel
abbrev cJ2_elementData : ByteArray := prog_44_method_18_code
def dkwJ2_elementData_0 : List UInt8 := [42, 180, 0, 9, 27, 50, 176]
abbrev dktJ2_elementData_0 : List UInt8 := dkwJ2_elementData_0 ++ []
theorem dksJ2_elementData_0 : cJ2_elementData.data.toList.drop 0 = dktJ2_elementData_0 := by decide +kernel
abbrev cJ2_add : ByteArray := prog_44_method_25_code
def dkwJ2_add_1 : List UInt8 := [172]
abbrev dktJ2_add_1 : List UInt8 := dkwJ2_add_1 ++ []
def dkwJ2_add_0 : List UInt8 := [42, 89, 180, 0, 63, 4, 96, 181, 0, 63, 42, 43, 42, 180, 0, 9, 42, 180, 0, 48, 182, 0, 131, 4]
abbrev dktJ2_add_0 : List UInt8 := dkwJ2_add_0 ++ dktJ2_add_1
theorem dksJ2_add_0 : cJ2_add.data.toList.drop 0 = dktJ2_add_0 := by decide +kernel
theorem dksJ2_add_1 : cJ2_add.data.toList.drop 24 = dktJ2_add_1 := dk_seg dksJ2_add_0 24 rfl rfl
abbrev cJ2_add_2 : ByteArray := prog_44_method_24_code
def dkwJ2_add_2_0 : List UInt8 := [29, 44, 190, 160, 0, 8, 42, 182, 0, 129, 77, 44, 29, 43, 83, 42, 29, 4, 96, 181, 0, 48, 177]
abbrev dktJ2_add_2_0 : List UInt8 := dkwJ2_add_2_0 ++ []
theorem dksJ2_add_2_0 : cJ2_add_2.data.toList.drop 0 = dktJ2_add_2_0 := by decide +kernel
abbrev cJ2_grow : ByteArray := prog_44_method_7_code
def dkwJ2_grow_0 : List UInt8 := [42, 42, 180, 0, 48, 4, 96, 182, 0, 69, 176]
abbrev dktJ2_grow_0 : List UInt8 := dkwJ2_grow_0 ++ []
theorem dksJ2_grow_0 : cJ2_grow.data.toList.drop 0 = dktJ2_grow_0 := by decide +kernel
abbrev cJ2_grow_2 : ByteArray := prog_44_method_6_code
def dkwJ2_grow_2_2 : List UInt8 := [27, 184, 0, 79, 189, 0, 7, 90, 181, 0, 9, 176]
abbrev dktJ2_grow_2_2 : List UInt8 := dkwJ2_grow_2_2 ++ []
def dkwJ2_grow_2_1 : List UInt8 := [28, 4, 122, 184, 0, 73, 62, 42, 42, 180, 0, 9, 29, 184, 0, 66, 90, 181, 0, 9, 176, 42, 16, 10]
abbrev dktJ2_grow_2_1 : List UInt8 := dkwJ2_grow_2_1 ++ dktJ2_grow_2_2
def dkwJ2_grow_2_0 : List UInt8 := [42, 180, 0, 9, 190, 61, 28, 157, 0, 13, 42, 180, 0, 9, 178, 0, 39, 165, 0, 28, 28, 27, 28, 100]
abbrev dktJ2_grow_2_0 : List UInt8 := dkwJ2_grow_2_0 ++ dktJ2_grow_2_1
theorem dksJ2_grow_2_0 : cJ2_grow_2.data.toList.drop 0 = dktJ2_grow_2_0 := by decide +kernel
theorem dksJ2_grow_2_1 : cJ2_grow_2.data.toList.drop 24 = dktJ2_grow_2_1 := dk_seg dksJ2_grow_2_0 24 rfl rfl
theorem dksJ2_grow_2_2 : cJ2_grow_2.data.toList.drop 48 = dktJ2_grow_2_2 := dk_seg dksJ2_grow_2_1 24 rfl rfl
abbrev cJ3_checkIndex : ByteArray := prog_49_method_17_code
def dkwJ3_checkIndex_0 : List UInt8 := [26, 27, 1, 184, 0, 105, 172]
abbrev dktJ3_checkIndex_0 : List UInt8 := dkwJ3_checkIndex_0 ++ []
theorem dksJ3_checkIndex_0 : cJ3_checkIndex.data.toList.drop 0 = dktJ3_checkIndex_0 := by decide +kernel
abbrev cJ4_checkIndex : ByteArray := prog_53_method_11_code
def dkwJ4_checkIndex_0 : List UInt8 := [26, 155, 0, 8, 26, 27, 161, 0, 10, 44, 26, 27, 184, 0, 95, 191, 26, 172]
abbrev dktJ4_checkIndex_0 : List UInt8 := dkwJ4_checkIndex_0 ++ []
theorem dksJ4_checkIndex_0 : cJ4_checkIndex.data.toList.drop 0 = dktJ4_checkIndex_0 := by decide +kernel
abbrev cJ4_checkFromToIndex : ByteArray := prog_53_method_12_code
def dkwJ4_checkFromToIndex_0 : List UInt8 := [26, 155, 0, 13, 26, 27, 163, 0, 8, 27, 28, 164, 0, 11, 45, 26, 27, 28, 184, 0, 99, 191, 26, 172]
abbrev dktJ4_checkFromToIndex_0 : List UInt8 := dkwJ4_checkFromToIndex_0 ++ []
theorem dksJ4_checkFromToIndex_0 : cJ4_checkFromToIndex.data.toList.drop 0 = dktJ4_checkFromToIndex_0 := by decide +kernel
abbrev cJ5_length : ByteArray := prog_35_method_54_code
def dkwJ5_length_0 : List UInt8 := [42, 180, 0, 9, 190, 42, 182, 1, 79, 122, 172]
abbrev dktJ5_length_0 : List UInt8 := dkwJ5_length_0 ++ []
theorem dksJ5_length_0 : cJ5_length.data.toList.drop 0 = dktJ5_length_0 := by decide +kernel
abbrev cJ5_coder : ByteArray := prog_35_method_152_code
def dkwJ5_coder_0 : List UInt8 := [178, 0, 38, 153, 0, 10, 42, 180, 0, 15, 167, 0, 4, 4, 172]
abbrev dktJ5_coder_0 : List UInt8 := dkwJ5_coder_0 ++ []
theorem dksJ5_coder_0 : cJ5_coder.data.toList.drop 0 = dktJ5_coder_0 := by decide +kernel
abbrev cJ5_indexOf : ByteArray := prog_35_method_80_code
def dkwJ5_indexOf_1 : List UInt8 := [180, 0, 9, 27, 28, 42, 182, 1, 249, 184, 2, 128, 172]
abbrev dktJ5_indexOf_1 : List UInt8 := dkwJ5_indexOf_1 ++ []
def dkwJ5_indexOf_0 : List UInt8 := [42, 182, 1, 236, 153, 0, 19, 42, 180, 0, 9, 27, 28, 42, 182, 1, 249, 184, 2, 125, 167, 0, 16, 42]
abbrev dktJ5_indexOf_0 : List UInt8 := dkwJ5_indexOf_0 ++ dktJ5_indexOf_1
theorem dksJ5_indexOf_0 : cJ5_indexOf.data.toList.drop 0 = dktJ5_indexOf_0 := by decide +kernel
theorem dksJ5_indexOf_1 : cJ5_indexOf.data.toList.drop 24 = dktJ5_indexOf_1 := dk_seg dksJ5_indexOf_0 24 rfl rfl
abbrev cJ5_isLatin1 : ByteArray := prog_35_method_154_code
def dkwJ5_isLatin1_0 : List UInt8 := [178, 0, 38, 153, 0, 14, 42, 180, 0, 15, 154, 0, 7, 4, 167, 0, 4, 3, 172]
abbrev dktJ5_isLatin1_0 : List UInt8 := dkwJ5_isLatin1_0 ++ []
theorem dksJ5_isLatin1_0 : cJ5_isLatin1.data.toList.drop 0 = dktJ5_isLatin1_0 := by decide +kernel
abbrev cJ5_checkBoundsBeginEnd : ByteArray := prog_35_method_158_code
def dkwJ5_checkBoundsBeginEnd_0 : List UInt8 := [26, 27, 28, 178, 4, 29, 184, 4, 38, 87, 177]
abbrev dktJ5_checkBoundsBeginEnd_0 : List UInt8 := dkwJ5_checkBoundsBeginEnd_0 ++ []
theorem dksJ5_checkBoundsBeginEnd_0 : cJ5_checkBoundsBeginEnd.data.toList.drop 0 = dktJ5_checkBoundsBeginEnd_0 := by decide +kernel
abbrev cJ5_charAt : ByteArray := prog_35_method_56_code
def dkwJ5_charAt_1 : List UInt8 := [172]
abbrev dktJ5_charAt_1 : List UInt8 := dkwJ5_charAt_1 ++ []
def dkwJ5_charAt_0 : List UInt8 := [42, 182, 1, 236, 153, 0, 12, 42, 180, 0, 9, 27, 184, 1, 239, 172, 42, 180, 0, 9, 27, 184, 1, 242]
abbrev dktJ5_charAt_0 : List UInt8 := dkwJ5_charAt_0 ++ dktJ5_charAt_1
theorem dksJ5_charAt_0 : cJ5_charAt.data.toList.drop 0 = dktJ5_charAt_0 := by decide +kernel
theorem dksJ5_charAt_1 : cJ5_charAt.data.toList.drop 24 = dktJ5_charAt_1 := dk_seg dksJ5_charAt_0 24 rfl rfl
abbrev cJ5_checkIndex : ByteArray := prog_35_method_155_code
def dkwJ5_checkIndex_0 : List UInt8 := [26, 27, 178, 4, 29, 184, 4, 35, 87, 177]
abbrev dktJ5_checkIndex_0 : List UInt8 := dkwJ5_checkIndex_0 ++ []
theorem dksJ5_checkIndex_0 : cJ5_checkIndex.data.toList.drop 0 = dktJ5_checkIndex_0 := by decide +kernel
abbrev cJ5_indexOf_2 : ByteArray := prog_35_method_79_code
def dkwJ5_indexOf_2_0 : List UInt8 := [42, 27, 3, 182, 2, 121, 172]
abbrev dktJ5_indexOf_2_0 : List UInt8 := dkwJ5_indexOf_2_0 ++ []
theorem dksJ5_indexOf_2_0 : cJ5_indexOf_2.data.toList.drop 0 = dktJ5_indexOf_2_0 := by decide +kernel
abbrev cJ6_indexOf : ByteArray := prog_36_method_22_code
def dkwJ6_indexOf_1 : List UInt8 := [161, 0, 5, 2, 172, 42, 27, 28, 29, 184, 0, 95, 172]
abbrev dktJ6_indexOf_1 : List UInt8 := dkwJ6_indexOf_1 ++ []
def dkwJ6_indexOf_0 : List UInt8 := [27, 184, 0, 88, 154, 0, 5, 2, 172, 28, 3, 184, 0, 92, 61, 29, 42, 190, 184, 0, 38, 62, 28, 29]
abbrev dktJ6_indexOf_0 : List UInt8 := dkwJ6_indexOf_0 ++ dktJ6_indexOf_1
theorem dksJ6_indexOf_0 : cJ6_indexOf.data.toList.drop 0 = dktJ6_indexOf_0 := by decide +kernel
theorem dksJ6_indexOf_1 : cJ6_indexOf.data.toList.drop 24 = dktJ6_indexOf_1 := dk_seg dksJ6_indexOf_0 24 rfl rfl
abbrev cJ6_canEncode : ByteArray := prog_36_method_4_code
def dkwJ6_canEncode_0 : List UInt8 := [26, 155, 0, 14, 26, 17, 0, 255, 163, 0, 7, 4, 167, 0, 4, 3, 172]
abbrev dktJ6_canEncode_0 : List UInt8 := dkwJ6_canEncode_0 ++ []
theorem dksJ6_canEncode_0 : cJ6_canEncode.data.toList.drop 0 = dktJ6_canEncode_0 := by decide +kernel
abbrev cJ6_indexOfChar : ByteArray := prog_36_method_23_code
def dkwJ6_indexOfChar_1 : List UInt8 := [172, 132, 5, 1, 167, 255, 235, 2, 172]
abbrev dktJ6_indexOfChar_1 : List UInt8 := dkwJ6_indexOfChar_1 ++ []
def dkwJ6_indexOfChar_0 : List UInt8 := [27, 145, 54, 4, 28, 54, 5, 21, 5, 29, 162, 0, 21, 42, 21, 5, 51, 21, 4, 160, 0, 6, 21, 5]
abbrev dktJ6_indexOfChar_0 : List UInt8 := dkwJ6_indexOfChar_0 ++ dktJ6_indexOfChar_1
theorem dksJ6_indexOfChar_0 : cJ6_indexOfChar.data.toList.drop 0 = dktJ6_indexOfChar_0 := by decide +kernel
theorem dksJ6_indexOfChar_1 : cJ6_indexOfChar.data.toList.drop 24 = dktJ6_indexOfChar_1 := dk_seg dksJ6_indexOfChar_0 24 rfl rfl
abbrev cJ6_charAt : ByteArray := prog_36_method_2_code
def dkwJ6_charAt_0 : List UInt8 := [27, 42, 190, 184, 0, 9, 42, 27, 51, 17, 0, 255, 126, 146, 172]
abbrev dktJ6_charAt_0 : List UInt8 := dkwJ6_charAt_0 ++ []
theorem dksJ6_charAt_0 : cJ6_charAt.data.toList.drop 0 = dktJ6_charAt_0 := by decide +kernel
abbrev cJ7_max : ByteArray := prog_31_method_65_code
def dkwJ7_max_0 : List UInt8 := [26, 27, 161, 0, 7, 26, 167, 0, 4, 27, 172]
abbrev dktJ7_max_0 : List UInt8 := dkwJ7_max_0 ++ []
theorem dksJ7_max_0 : cJ7_max.data.toList.drop 0 = dktJ7_max_0 := by decide +kernel
abbrev cJ7_min : ByteArray := prog_31_method_69_code
def dkwJ7_min_0 : List UInt8 := [26, 27, 163, 0, 7, 26, 167, 0, 4, 27, 172]
abbrev dktJ7_min_0 : List UInt8 := dkwJ7_min_0 ++ []
theorem dksJ7_min_0 : cJ7_min.data.toList.drop 0 = dktJ7_min_0 := by decide +kernel
abbrev cJ7_abs : ByteArray := prog_31_method_59_code
def dkwJ7_abs_0 : List UInt8 := [26, 156, 0, 8, 26, 116, 167, 0, 4, 26, 172]
abbrev dktJ7_abs_0 : List UInt8 := dkwJ7_abs_0 ++ []
theorem dksJ7_abs_0 : cJ7_abs.data.toList.drop 0 = dktJ7_abs_0 := by decide +kernel
abbrev cJ7_abs_2 : ByteArray := prog_31_method_61_code
def dkwJ7_abs_2_0 : List UInt8 := [30, 9, 148, 156, 0, 8, 30, 117, 167, 0, 4, 30, 173]
abbrev dktJ7_abs_2_0 : List UInt8 := dkwJ7_abs_2_0 ++ []
theorem dksJ7_abs_2_0 : cJ7_abs_2.data.toList.drop 0 = dktJ7_abs_2_0 := by decide +kernel
abbrev cJ8_indexOf : ByteArray := prog_37_method_40_code
def dkwJ8_indexOf_1 : List UInt8 := [18, 227, 162, 0, 11, 42, 27, 28, 29, 184, 0, 228, 172, 42, 27, 28, 29, 184, 0, 232, 172]
abbrev dktJ8_indexOf_1 : List UInt8 := dkwJ8_indexOf_1 ++ []
def dkwJ8_indexOf_0 : List UInt8 := [28, 3, 184, 0, 224, 61, 29, 42, 190, 4, 122, 184, 0, 183, 62, 28, 29, 161, 0, 5, 2, 172, 27]
abbrev dktJ8_indexOf_0 : List UInt8 := dkwJ8_indexOf_0 ++ dktJ8_indexOf_1
theorem dksJ8_indexOf_0 : cJ8_indexOf.data.toList.drop 0 = dktJ8_indexOf_0 := by decide +kernel
theorem dksJ8_indexOf_1 : cJ8_indexOf.data.toList.drop 23 = dktJ8_indexOf_1 := dk_seg dksJ8_indexOf_0 23 rfl rfl
abbrev cJ8_indexOfChar : ByteArray := prog_37_method_47_code
def dkwJ8_indexOfChar_0 : List UInt8 := [28, 29, 42, 184, 0, 96, 42, 27, 28, 29, 184, 0, 244, 172]
abbrev dktJ8_indexOfChar_0 : List UInt8 := dkwJ8_indexOfChar_0 ++ []
theorem dksJ8_indexOfChar_0 : cJ8_indexOfChar.data.toList.drop 0 = dktJ8_indexOfChar_0 := by decide +kernel
abbrev cJ8_checkBoundsBeginEnd : ByteArray := prog_37_method_93_code
def dkwJ8_checkBoundsBeginEnd_0 : List UInt8 := [26, 27, 44, 184, 0, 48, 184, 0, 241, 177]
abbrev dktJ8_checkBoundsBeginEnd_0 : List UInt8 := dkwJ8_checkBoundsBeginEnd_0 ++ []
theorem dksJ8_checkBoundsBeginEnd_0 : cJ8_checkBoundsBeginEnd.data.toList.drop 0 = dktJ8_checkBoundsBeginEnd_0 := by decide +kernel
abbrev cJ8_length : ByteArray := prog_37_method_6_code
def dkwJ8_length_0 : List UInt8 := [42, 190, 4, 122, 172]
abbrev dktJ8_length_0 : List UInt8 := dkwJ8_length_0 ++ []
theorem dksJ8_length_0 : cJ8_length.data.toList.drop 0 = dktJ8_length_0 := by decide +kernel
abbrev cJ8_indexOfCharUnsafe : ByteArray := prog_37_method_48_code
def dkwJ8_indexOfCharUnsafe_1 : List UInt8 := [132, 4, 1, 167, 255, 234, 2, 172]
abbrev dktJ8_indexOfCharUnsafe_1 : List UInt8 := dkwJ8_indexOfCharUnsafe_1 ++ []
def dkwJ8_indexOfCharUnsafe_0 : List UInt8 := [28, 54, 4, 21, 4, 29, 162, 0, 22, 42, 21, 4, 184, 0, 71, 27, 160, 0, 6, 21, 4, 172]
abbrev dktJ8_indexOfCharUnsafe_0 : List UInt8 := dkwJ8_indexOfCharUnsafe_0 ++ dktJ8_indexOfCharUnsafe_1
theorem dksJ8_indexOfCharUnsafe_0 : cJ8_indexOfCharUnsafe.data.toList.drop 0 = dktJ8_indexOfCharUnsafe_0 := by decide +kernel
theorem dksJ8_indexOfCharUnsafe_1 : cJ8_indexOfCharUnsafe.data.toList.drop 22 = dktJ8_indexOfCharUnsafe_1 := dk_seg dksJ8_indexOfCharUnsafe_0 22 rfl rfl
abbrev cJ8_getChar : ByteArray := prog_37_method_5_code
def dkwJ8_getChar_2 : List UInt8 := [51, 17, 0, 255, 126, 178, 0, 63, 120, 128, 146, 172]
abbrev dktJ8_getChar_2 : List UInt8 := dkwJ8_getChar_2 ++ []
def dkwJ8_getChar_1 : List UInt8 := [183, 0, 56, 191, 27, 4, 120, 60, 42, 27, 132, 1, 1, 51, 17, 0, 255, 126, 178, 0, 59, 120, 42, 27]
abbrev dktJ8_getChar_1 : List UInt8 := dkwJ8_getChar_1 ++ dktJ8_getChar_2
def dkwJ8_getChar_0 : List UInt8 := [178, 0, 44, 154, 0, 25, 27, 155, 0, 11, 27, 42, 184, 0, 48, 161, 0, 13, 187, 0, 52, 89, 18, 54]
abbrev dktJ8_getChar_0 : List UInt8 := dkwJ8_getChar_0 ++ dktJ8_getChar_1
theorem dksJ8_getChar_0 : cJ8_getChar.data.toList.drop 0 = dktJ8_getChar_0 := by decide +kernel
theorem dksJ8_getChar_1 : cJ8_getChar.data.toList.drop 24 = dktJ8_getChar_1 := dk_seg dksJ8_getChar_0 24 rfl rfl
theorem dksJ8_getChar_2 : cJ8_getChar.data.toList.drop 48 = dktJ8_getChar_2 := dk_seg dksJ8_getChar_1 24 rfl rfl
abbrev cJ8_indexOfSupplementary : ByteArray := prog_37_method_49_code
def dkwJ8_indexOfSupplementary_3 : List UInt8 := [167, 255, 218, 2, 172]
abbrev dktJ8_indexOfSupplementary_3 : List UInt8 := dkwJ8_indexOfSupplementary_3 ++ []
def dkwJ8_indexOfSupplementary_2 : List UInt8 := [160, 0, 19, 42, 21, 6, 4, 96, 184, 0, 71, 21, 5, 160, 0, 6, 21, 6, 172, 132, 6, 1]
abbrev dktJ8_indexOfSupplementary_2 : List UInt8 := dkwJ8_indexOfSupplementary_2 ++ dktJ8_indexOfSupplementary_3
def dkwJ8_indexOfSupplementary_1 : List UInt8 := [184, 0, 96, 28, 54, 6, 21, 6, 29, 4, 100, 162, 0, 36, 42, 21, 6, 184, 0, 71, 21, 4]
abbrev dktJ8_indexOfSupplementary_1 : List UInt8 := dkwJ8_indexOfSupplementary_1 ++ dktJ8_indexOfSupplementary_2
def dkwJ8_indexOfSupplementary_0 : List UInt8 := [27, 184, 0, 164, 153, 0, 65, 27, 184, 0, 157, 54, 4, 27, 184, 0, 161, 54, 5, 28, 29, 42]
abbrev dktJ8_indexOfSupplementary_0 : List UInt8 := dkwJ8_indexOfSupplementary_0 ++ dktJ8_indexOfSupplementary_1
theorem dksJ8_indexOfSupplementary_0 : cJ8_indexOfSupplementary.data.toList.drop 0 = dktJ8_indexOfSupplementary_0 := by decide +kernel
theorem dksJ8_indexOfSupplementary_1 : cJ8_indexOfSupplementary.data.toList.drop 22 = dktJ8_indexOfSupplementary_1 := dk_seg dksJ8_indexOfSupplementary_0 22 rfl rfl
theorem dksJ8_indexOfSupplementary_2 : cJ8_indexOfSupplementary.data.toList.drop 44 = dktJ8_indexOfSupplementary_2 := dk_seg dksJ8_indexOfSupplementary_1 22 rfl rfl
theorem dksJ8_indexOfSupplementary_3 : cJ8_indexOfSupplementary.data.toList.drop 66 = dktJ8_indexOfSupplementary_3 := dk_seg dksJ8_indexOfSupplementary_2 22 rfl rfl
abbrev cJ8_charAt : ByteArray := prog_37_method_83_code
def dkwJ8_charAt_0 : List UInt8 := [27, 42, 184, 0, 67, 42, 27, 184, 0, 71, 172]
abbrev dktJ8_charAt_0 : List UInt8 := dkwJ8_charAt_0 ++ []
theorem dksJ8_charAt_0 : cJ8_charAt.data.toList.drop 0 = dktJ8_charAt_0 := by decide +kernel
abbrev cJ8_checkIndex : ByteArray := prog_37_method_91_code
def dkwJ8_checkIndex_0 : List UInt8 := [26, 43, 184, 0, 48, 184, 1, 158, 177]
abbrev dktJ8_checkIndex_0 : List UInt8 := dkwJ8_checkIndex_0 ++ []
theorem dksJ8_checkIndex_0 : cJ8_checkIndex.data.toList.drop 0 = dktJ8_checkIndex_0 := by decide +kernel
abbrev cJ9_isValidCodePoint : ByteArray := prog_23_method_11_code
def dkwJ9_isValidCodePoint_0 : List UInt8 := [26, 16, 16, 124, 60, 27, 16, 17, 162, 0, 7, 4, 167, 0, 4, 3, 172]
abbrev dktJ9_isValidCodePoint_0 : List UInt8 := dkwJ9_isValidCodePoint_0 ++ []
theorem dksJ9_isValidCodePoint_0 : cJ9_isValidCodePoint.data.toList.drop 0 = dktJ9_isValidCodePoint_0 := by decide +kernel
abbrev cJ9_highSurrogate : ByteArray := prog_23_method_28_code
def dkwJ9_highSurrogate_0 : List UInt8 := [26, 16, 10, 124, 18, 110, 96, 146, 172]
abbrev dktJ9_highSurrogate_0 : List UInt8 := dkwJ9_highSurrogate_0 ++ []
theorem dksJ9_highSurrogate_0 : cJ9_highSurrogate.data.toList.drop 0 = dktJ9_highSurrogate_0 := by decide +kernel
abbrev cJ9_lowSurrogate : ByteArray := prog_23_method_29_code
def dkwJ9_lowSurrogate_0 : List UInt8 := [26, 17, 3, 255, 126, 18, 76, 96, 146, 172]
abbrev dktJ9_lowSurrogate_0 : List UInt8 := dkwJ9_lowSurrogate_0 ++ []
theorem dksJ9_lowSurrogate_0 : cJ9_lowSurrogate.data.toList.drop 0 = dktJ9_lowSurrogate_0 := by decide +kernel
abbrev cJ10_init : ByteArray := prog_39_method_1_code
def dkwJ10_init_1 : List UInt8 := [182, 0, 27, 87, 177]
abbrev dktJ10_init_1 : List UInt8 := dkwJ10_init_1 ++ []
def dkwJ10_init_0 : List UInt8 := [42, 183, 0, 1, 42, 42, 181, 0, 7, 42, 178, 0, 13, 181, 0, 17, 42, 178, 0, 20, 181, 0, 24, 42]
abbrev dktJ10_init_0 : List UInt8 := dkwJ10_init_0 ++ dktJ10_init_1
theorem dksJ10_init_0 : cJ10_init.data.toList.drop 0 = dktJ10_init_0 := by decide +kernel
theorem dksJ10_init_1 : cJ10_init.data.toList.drop 24 = dktJ10_init_1 := dk_seg dksJ10_init_0 24 rfl rfl
abbrev cJ10_init_2 : ByteArray := prog_39_method_5_code
def dkwJ10_init_2_2 : List UInt8 := [44, 181, 0, 7, 29, 154, 0, 8, 42, 1, 181, 0, 24, 177]
abbrev dktJ10_init_2_2 : List UInt8 := dkwJ10_init_2_2 ++ []
def dkwJ10_init_2_1 : List UInt8 := [21, 4, 153, 0, 11, 42, 182, 0, 27, 87, 167, 0, 8, 42, 1, 181, 0, 17, 42, 43, 181, 0, 31, 42]
abbrev dktJ10_init_2_1 : List UInt8 := dkwJ10_init_2_1 ++ dktJ10_init_2_2
def dkwJ10_init_2_0 : List UInt8 := [42, 183, 0, 1, 42, 42, 181, 0, 7, 42, 178, 0, 13, 181, 0, 17, 42, 178, 0, 20, 181, 0, 24]
abbrev dktJ10_init_2_0 : List UInt8 := dkwJ10_init_2_0 ++ dktJ10_init_2_1
theorem dksJ10_init_2_0 : cJ10_init_2.data.toList.drop 0 = dktJ10_init_2_0 := by decide +kernel
theorem dksJ10_init_2_1 : cJ10_init_2.data.toList.drop 23 = dktJ10_init_2_1 := dk_seg dksJ10_init_2_0 23 rfl rfl
theorem dksJ10_init_2_2 : cJ10_init_2.data.toList.drop 47 = dktJ10_init_2_2 := dk_seg dksJ10_init_2_1 24 rfl rfl
abbrev cJ10_init_3 : ByteArray := prog_39_method_2_code
def dkwJ10_init_3_1 : List UInt8 := [182, 0, 27, 87, 42, 43, 181, 0, 31, 177]
abbrev dktJ10_init_3_1 : List UInt8 := dkwJ10_init_3_1 ++ []
def dkwJ10_init_3_0 : List UInt8 := [42, 183, 0, 1, 42, 42, 181, 0, 7, 42, 178, 0, 13, 181, 0, 17, 42, 178, 0, 20, 181, 0, 24, 42]
abbrev dktJ10_init_3_0 : List UInt8 := dkwJ10_init_3_0 ++ dktJ10_init_3_1
theorem dksJ10_init_3_0 : cJ10_init_3.data.toList.drop 0 = dktJ10_init_3_0 := by decide +kernel
theorem dksJ10_init_3_1 : cJ10_init_3.data.toList.drop 24 = dktJ10_init_3_1 := dk_seg dksJ10_init_3_0 24 rfl rfl
abbrev cJ11_init : ByteArray := prog_26_method_5_code
def dkwJ11_init_0 : List UInt8 := [42, 43, 44, 29, 21, 4, 183, 0, 16, 177]
abbrev dktJ11_init_0 : List UInt8 := dkwJ11_init_0 ++ []
theorem dksJ11_init_0 : cJ11_init.data.toList.drop 0 = dktJ11_init_0 := by decide +kernel
abbrev cJ11_init_2 : ByteArray := prog_26_method_2_code
def dkwJ11_init_2_0 : List UInt8 := [42, 43, 183, 0, 7, 177]
abbrev dktJ11_init_2_0 : List UInt8 := dkwJ11_init_2_0 ++ []
theorem dksJ11_init_2_0 : cJ11_init_2.data.toList.drop 0 = dktJ11_init_2_0 := by decide +kernel
abbrev cJ11_init_3 : ByteArray := prog_26_method_1_code
abbrev cJ12_init : ByteArray := prog_33_method_1_code
abbrev cJ13_newLength : ByteArray := prog_52_method_27_code
def dkwJ13_newLength_1 : List UInt8 := [184, 0, 201, 172]
abbrev dktJ13_newLength_1 : List UInt8 := dkwJ13_newLength_1 ++ []
def dkwJ13_newLength_0 : List UInt8 := [26, 27, 28, 184, 0, 194, 96, 62, 3, 29, 162, 0, 11, 29, 18, 200, 163, 0, 5, 29, 172, 26, 27]
abbrev dktJ13_newLength_0 : List UInt8 := dkwJ13_newLength_0 ++ dktJ13_newLength_1
theorem dksJ13_newLength_0 : cJ13_newLength.data.toList.drop 0 = dktJ13_newLength_0 := by decide +kernel
theorem dksJ13_newLength_1 : cJ13_newLength.data.toList.drop 23 = dktJ13_newLength_1 := dk_seg dksJ13_newLength_0 23 rfl rfl
abbrev cJ13_hugeLength : ByteArray := prog_52_method_28_code
def dkwJ13_hugeLength_2 : List UInt8 := [191, 28, 18, 200, 163, 0, 6, 18, 200, 172, 28, 172]
abbrev dktJ13_hugeLength_2 : List UInt8 := dkwJ13_hugeLength_2 ++ []
def dkwJ13_hugeLength_1 : List UInt8 := [26, 182, 0, 98, 18, 208, 182, 0, 94, 27, 182, 0, 98, 18, 210, 182, 0, 94, 182, 0, 101, 183, 0, 212]
abbrev dktJ13_hugeLength_1 : List UInt8 := dkwJ13_hugeLength_1 ++ dktJ13_hugeLength_2
def dkwJ13_hugeLength_0 : List UInt8 := [26, 27, 96, 61, 28, 156, 0, 44, 187, 0, 204, 89, 187, 0, 89, 89, 183, 0, 91, 18, 206, 182, 0, 94]
abbrev dktJ13_hugeLength_0 : List UInt8 := dkwJ13_hugeLength_0 ++ dktJ13_hugeLength_1
theorem dksJ13_hugeLength_0 : cJ13_hugeLength.data.toList.drop 0 = dktJ13_hugeLength_0 := by decide +kernel
theorem dksJ13_hugeLength_1 : cJ13_hugeLength.data.toList.drop 24 = dktJ13_hugeLength_1 := dk_seg dksJ13_hugeLength_0 24 rfl rfl
theorem dksJ13_hugeLength_2 : cJ13_hugeLength.data.toList.drop 48 = dktJ13_hugeLength_2 := dk_seg dksJ13_hugeLength_1 24 rfl rfl
abbrev cJ14_copyOf : ByteArray := prog_45_method_119_code
def dkwJ14_copyOf_0 : List UInt8 := [42, 27, 42, 182, 0, 86, 184, 1, 44, 176]
abbrev dktJ14_copyOf_0 : List UInt8 := dkwJ14_copyOf_0 ++ []
theorem dksJ14_copyOf_0 : cJ14_copyOf.data.toList.drop 0 = dktJ14_copyOf_0 := by decide +kernel
abbrev cJ14_copyOf_2 : ByteArray := prog_45_method_120_code
def dkwJ14_copyOf_2_1 : List UInt8 := [78, 42, 3, 45, 3, 42, 190, 27, 184, 1, 48, 184, 0, 150, 45, 176]
abbrev dktJ14_copyOf_2_1 : List UInt8 := dkwJ14_copyOf_2_1 ++ []
def dkwJ14_copyOf_2_0 : List UInt8 := [44, 18, 110, 166, 0, 10, 27, 189, 0, 2, 167, 0, 14, 44, 182, 0, 90, 27, 184, 0, 95, 192, 0, 110]
abbrev dktJ14_copyOf_2_0 : List UInt8 := dkwJ14_copyOf_2_0 ++ dktJ14_copyOf_2_1
theorem dksJ14_copyOf_2_0 : cJ14_copyOf_2.data.toList.drop 0 = dktJ14_copyOf_2_0 := by decide +kernel
theorem dksJ14_copyOf_2_1 : cJ14_copyOf_2.data.toList.drop 24 = dktJ14_copyOf_2_1 := dk_seg dksJ14_copyOf_2_0 24 rfl rfl
abbrev cJ15_init : ByteArray := prog_34_method_2_code
def dkwJ15_init_0 : List UInt8 := [42, 43, 183, 0, 7, 177]
abbrev dktJ15_init_0 : List UInt8 := dkwJ15_init_0 ++ []
theorem dksJ15_init_0 : cJ15_init.data.toList.drop 0 = dktJ15_init_0 := by decide +kernel
abbrev cJ15_init_2 : ByteArray := prog_34_method_1_code
abbrev cJ16_init : ByteArray := prog_27_method_2_code
def dkwJ16_init_0 : List UInt8 := [42, 43, 183, 0, 7, 177]
abbrev dktJ16_init_0 : List UInt8 := dkwJ16_init_0 ++ []
theorem dksJ16_init_0 : cJ16_init.data.toList.drop 0 = dktJ16_init_0 := by decide +kernel
abbrev cJ16_init_2 : ByteArray := prog_27_method_1_code
abbrev cJ17_init : ByteArray := prog_21_method_2_code
def dkwJ17_init_0 : List UInt8 := [42, 43, 183, 0, 7, 177]
abbrev dktJ17_init_0 : List UInt8 := dkwJ17_init_0 ++ []
theorem dksJ17_init_0 : cJ17_init.data.toList.drop 0 = dktJ17_init_0 := by decide +kernel
abbrev cJ18_init : ByteArray := prog_48_method_1_code
abbrev cJ19_numberOfTrailingZeros : ByteArray := prog_30_method_49_code
def dkwJ19_numberOfTrailingZeros_1 : List UInt8 := [184, 1, 55, 172]
abbrev dktJ19_numberOfTrailingZeros_1 : List UInt8 := dkwJ19_numberOfTrailingZeros_1 ++ []
def dkwJ19_numberOfTrailingZeros_0 : List UInt8 := [30, 136, 61, 28, 154, 0, 17, 16, 32, 30, 16, 32, 125, 136, 184, 1, 55, 96, 167, 0, 7, 28]
abbrev dktJ19_numberOfTrailingZeros_0 : List UInt8 := dkwJ19_numberOfTrailingZeros_0 ++ dktJ19_numberOfTrailingZeros_1
theorem dksJ19_numberOfTrailingZeros_0 : cJ19_numberOfTrailingZeros.data.toList.drop 0 = dktJ19_numberOfTrailingZeros_0 := by decide +kernel
theorem dksJ19_numberOfTrailingZeros_1 : cJ19_numberOfTrailingZeros.data.toList.drop 22 = dktJ19_numberOfTrailingZeros_1 := dk_seg dksJ19_numberOfTrailingZeros_0 22 rfl rfl
abbrev cJ19_bitCount : ByteArray := prog_30_method_50_code
def dkwJ19_bitCount_2 : List UInt8 := [30, 30, 16, 32, 125, 97, 63, 30, 136, 16, 127, 126, 172]
abbrev dktJ19_bitCount_2 : List UInt8 := dkwJ19_bitCount_2 ++ []
def dkwJ19_bitCount_1 : List UInt8 := [30, 30, 7, 125, 97, 20, 1, 62, 127, 63, 30, 30, 16, 8, 125, 97, 63, 30, 30, 16, 16, 125, 97, 63]
abbrev dktJ19_bitCount_1 : List UInt8 := dkwJ19_bitCount_1 ++ dktJ19_bitCount_2
def dkwJ19_bitCount_0 : List UInt8 := [30, 30, 4, 125, 20, 1, 58, 127, 101, 63, 30, 20, 1, 60, 127, 30, 5, 125, 20, 1, 60, 127, 97, 63]
abbrev dktJ19_bitCount_0 : List UInt8 := dkwJ19_bitCount_0 ++ dktJ19_bitCount_1
theorem dksJ19_bitCount_0 : cJ19_bitCount.data.toList.drop 0 = dktJ19_bitCount_0 := by decide +kernel
theorem dksJ19_bitCount_1 : cJ19_bitCount.data.toList.drop 24 = dktJ19_bitCount_1 := dk_seg dksJ19_bitCount_0 24 rfl rfl
theorem dksJ19_bitCount_2 : cJ19_bitCount.data.toList.drop 48 = dktJ19_bitCount_2 := dk_seg dksJ19_bitCount_1 24 rfl rfl
abbrev cJ20_numberOfTrailingZeros : ByteArray := prog_28_method_48_code
def dkwJ20_numberOfTrailingZeros_3 : List UInt8 := [5, 124, 59, 27, 26, 4, 124, 96, 172]
abbrev dktJ20_numberOfTrailingZeros_3 : List UInt8 := dkwJ20_numberOfTrailingZeros_3 ++ []
def dkwJ20_numberOfTrailingZeros_2 : List UInt8 := [124, 59, 26, 16, 16, 164, 0, 10, 132, 1, 4, 26, 7, 124, 59, 26, 7, 164, 0, 10, 132, 1, 2, 26]
abbrev dktJ20_numberOfTrailingZeros_2 : List UInt8 := dkwJ20_numberOfTrailingZeros_2 ++ dktJ20_numberOfTrailingZeros_3
def dkwJ20_numberOfTrailingZeros_1 : List UInt8 := [164, 0, 11, 132, 1, 16, 26, 16, 16, 124, 59, 26, 17, 1, 0, 164, 0, 11, 132, 1, 8, 26, 16, 8]
abbrev dktJ20_numberOfTrailingZeros_1 : List UInt8 := dkwJ20_numberOfTrailingZeros_1 ++ dktJ20_numberOfTrailingZeros_2
def dkwJ20_numberOfTrailingZeros_0 : List UInt8 := [26, 2, 130, 26, 4, 100, 126, 59, 26, 157, 0, 8, 26, 16, 32, 126, 172, 4, 60, 26, 19, 1, 8]
abbrev dktJ20_numberOfTrailingZeros_0 : List UInt8 := dkwJ20_numberOfTrailingZeros_0 ++ dktJ20_numberOfTrailingZeros_1
theorem dksJ20_numberOfTrailingZeros_0 : cJ20_numberOfTrailingZeros.data.toList.drop 0 = dktJ20_numberOfTrailingZeros_0 := by decide +kernel
theorem dksJ20_numberOfTrailingZeros_1 : cJ20_numberOfTrailingZeros.data.toList.drop 23 = dktJ20_numberOfTrailingZeros_1 := dk_seg dksJ20_numberOfTrailingZeros_0 23 rfl rfl
theorem dksJ20_numberOfTrailingZeros_2 : cJ20_numberOfTrailingZeros.data.toList.drop 47 = dktJ20_numberOfTrailingZeros_2 := dk_seg dksJ20_numberOfTrailingZeros_1 24 rfl rfl
theorem dksJ20_numberOfTrailingZeros_3 : cJ20_numberOfTrailingZeros.data.toList.drop 71 = dktJ20_numberOfTrailingZeros_3 := dk_seg dksJ20_numberOfTrailingZeros_2 24 rfl rfl
abbrev cJ21_init : ByteArray := object_method_1_code
end
section
/-! ===== THE ABSTRACT MACHINE: a pure interpreter of the decoded bytes ===== -/
/-- an int, a long, a reference (0: null), nothing -/
abbrev AV : Type := Int ⊕ Int ⊕ Nat ⊕ Unit
abbrev vI (z : Int) : AV := Sum.inl z
abbrev vJ (z : Int) : AV := Sum.inr (Sum.inl z)
abbrev vR (a : Nat) : AV := Sum.inr (Sum.inr (Sum.inl a))
abbrev vX : AV := Sum.inr (Sum.inr (Sum.inr ()))
/-- an outcome: returned (perhaps a value), threw -/
abbrev AO : Type := Option AV ⊕ Nat
abbrev oV : AO := Sum.inl none
abbrev oR (v : AV) : AO := Sum.inl (some v)
abbrev oT (a : Nat) : AO := Sum.inr a
/-- the heap: next address, slots used, kinds, lengths, ints (and longs), references -/
abbrev AH : Type := Nat × Nat × (Nat → Nat) × (Nat → Int) × (Nat → Int → Int) × (Nat → Int → Nat)
def hN (h : AH) : Nat := h.1
def hU (h : AH) : Nat := h.2.1
def hK (h : AH) (a : Nat) : Nat := h.2.2.1 a
def hL (h : AH) (a : Nat) : Int := h.2.2.2.1 a
def gI (h : AH) (a : Nat) (k : Int) : Int := h.2.2.2.2.1 a k
def gR (h : AH) (a : Nat) (k : Int) : Nat := h.2.2.2.2.2 a k
def sI (h : AH) (a : Nat) (k v : Int) : AH := (h.1, h.2.1, h.2.2.1, h.2.2.2.1, (fun b j => if b = a ∧ j = k then v else h.2.2.2.2.1 b j), h.2.2.2.2.2)
def sR (h : AH) (a : Nat) (k : Int) (v : Nat) : AH := (h.1, h.2.1, h.2.2.1, h.2.2.2.1, h.2.2.2.2.1, (fun b j => if b = a ∧ j = k then v else h.2.2.2.2.2 b j))
/-- a new cell of kind c, length n, u slots -/
def nw (h : AH) (c : Nat) (n : Int) (u : Nat) : AH := (h.1 + 1, h.2.1 + u, (fun b => if b = h.1 then c else h.2.2.1 b), (fun b => if b = h.1 then n else h.2.2.2.1 b), (fun b j => if b = h.1 then 0 else h.2.2.2.2.1 b j), (fun b j => if b = h.1 then 0 else h.2.2.2.2.2 b j))
/-- part of an array copied into another -/
def cpI (h : AH) (s : Nat) (sp : Int) (t : Nat) (tp n : Int) : AH := (h.1, h.2.1, h.2.2.1, h.2.2.2.1, (fun b j => if b = t ∧ tp ≤ j ∧ j < tp + n then h.2.2.2.2.1 s (sp + (j - tp)) else h.2.2.2.2.1 b j), h.2.2.2.2.2)
def cpR (h : AH) (s : Nat) (sp : Int) (t : Nat) (tp n : Int) : AH := (h.1, h.2.1, h.2.2.1, h.2.2.2.1, h.2.2.2.2.1, (fun b j => if b = t ∧ tp ≤ j ∧ j < tp + n then h.2.2.2.2.2 s (sp + (j - tp)) else h.2.2.2.2.2 b j))
/-- arithmetic -/
def w32 (z : Int) : Int := Int.bmod z 4294967296
def w64 (z : Int) : Int := Int.bmod z 18446744073709551616
def iAnd (a b : Int) : Int := (Int32.ofInt a &&& Int32.ofInt b).toInt
def iOr (a b : Int) : Int := (Int32.ofInt a ||| Int32.ofInt b).toInt
def iXor (a b : Int) : Int := (Int32.ofInt a ^^^ Int32.ofInt b).toInt
def iShl (a b : Int) : Int := (Int32.ofInt a <<< (Int32.ofInt b &&& 31)).toInt
def iShr (a b : Int) : Int := (Int32.ofInt a >>> (Int32.ofInt b &&& 31)).toInt
def iUshr (a b : Int) : Int := ((Int32.ofInt a).toUInt32 >>> ((Int32.ofInt b).toUInt32 &&& Int32.toUInt32 31)).toInt32.toInt
def jAnd (a b : Int) : Int := (Int64.ofInt a &&& Int64.ofInt b).toInt
def jOr (a b : Int) : Int := (Int64.ofInt a ||| Int64.ofInt b).toInt
def jXor (a b : Int) : Int := (Int64.ofInt a ^^^ Int64.ofInt b).toInt
def jShl (a b : Int) : Int := (Int64.ofInt a <<< ((Int32.ofInt b).toInt64 &&& 63)).toInt
def jShr (a b : Int) : Int := (Int64.ofInt a >>> ((Int32.ofInt b).toInt64 &&& 63)).toInt
def jUshr (a b : Int) : Int := ((Int64.ofInt a).toUInt64 >>> ((Int32.ofInt b).toInt64.toUInt64 &&& Int64.toUInt64 63)).toInt64.toInt
def i2bZ (a : Int) : Int := (Int32.ofInt a).toInt8.toInt32.toInt
def i2cZ (a : Int) : Int := ((Int32.ofInt a).toUInt32 % 65536).toInt32.toInt
def jCmp (a b : Int) : Int := if a < b then -1 else if a = b then 0 else 1
abbrev b01 (z : Int) : Prop := z = 0 ∨ z = 1
/-- what an instruction does: goes on, ends, calls -/
abbrev NX : Type := (Nat × List AV × List AV × AH) ⊕ AO ⊕ (Nat × List AV × List AV)
def bc_go (pc len : Nat) (ls : List AV) (h : AH) : Option (List AV) → Option NX
  | some st => some (.inl (pc + len, ls, st, h))
  | none => none
def bc_i2 (f : Int → Int → Int) : List AV → Option (List AV)
  | .inl b :: .inl a :: r => some (vI (f a b) :: r)
  | _ => none
def bc_j2 (f : Int → Int → Int) : List AV → Option (List AV)
  | .inr (.inl b) :: .inr (.inl a) :: r => some (vJ (f a b) :: r)
  | _ => none
def bc_ji (f : Int → Int → Int) : List AV → Option (List AV)
  | .inl b :: .inr (.inl a) :: r => some (vJ (f a b) :: r)
  | _ => none
def bc_i1 (f : Int → AV) : List AV → Option (List AV)
  | .inl a :: r => some (f a :: r)
  | _ => none
def bc_j1 (f : Int → AV) : List AV → Option (List AV)
  | .inr (.inl a) :: r => some (f a :: r)
  | _ => none
def bc_idiv : List AV → Option (List AV)
  | .inl b :: .inl a :: r => if b = 0 then none else some (vI (w32 (Int.tdiv a b)) :: r)
  | _ => none
def bc_irem : List AV → Option (List AV)
  | .inl b :: .inl a :: r => if b = 0 then none else some (vI (Int.tmod a b) :: r)
  | _ => none
def bc_jdiv : List AV → Option (List AV)
  | .inr (.inl b) :: .inr (.inl a) :: r => if b = 0 then none else some (vJ (w64 (Int.tdiv a b)) :: r)
  | _ => none
def bc_jrem : List AV → Option (List AV)
  | .inr (.inl b) :: .inr (.inl a) :: r => if b = 0 then none else some (vJ (Int.tmod a b) :: r)
  | _ => none
def bc_lcmp : List AV → Option (List AV)
  | .inr (.inl b) :: .inr (.inl a) :: r => some (vI (jCmp a b) :: r)
  | _ => none
def bc_ldI (ls : List AV) (n : Nat) (st : List AV) : Option (List AV) := match ls[n]? with
  | some (.inl z) => some (vI z :: st)
  | _ => none
def bc_ldJ (ls : List AV) (n : Nat) (st : List AV) : Option (List AV) := match ls[n]? with
  | some (.inr (.inl z)) => some (vJ z :: st)
  | _ => none
def bc_ldR (ls : List AV) (n : Nat) (st : List AV) : Option (List AV) := match ls[n]? with
  | some (.inr (.inr (.inl z))) => some (vR z :: st)
  | _ => none
/-- a long's second half is overwritten -/
def bc_kill (ls : List AV) : Nat → List AV
  | 0 => ls
  | m + 1 => match ls[m]? with
    | some (.inr (.inl _)) => ls.set m vX
    | _ => ls
def bc_st1 (ls : List AV) (n : Nat) (v : AV) : Option (List AV) := if n < ls.length then some ((bc_kill ls n).set n v) else none
def bc_st2 (ls : List AV) (n : Nat) (v : AV) : Option (List AV) := if n + 1 < ls.length then some (((bc_kill ls n).set n v).set (n + 1) vX) else none
def bc_stI (pc len : Nat) (ls : List AV) (h : AH) (n : Nat) : List AV → Option NX
  | .inl z :: r => match bc_st1 ls n (vI z) with
    | some ls' => some (.inl (pc + len, ls', r, h))
    | none => none
  | _ => none
def bc_stR (pc len : Nat) (ls : List AV) (h : AH) (n : Nat) : List AV → Option NX
  | .inr (.inr (.inl z)) :: r => match bc_st1 ls n (vR z) with
    | some ls' => some (.inl (pc + len, ls', r, h))
    | none => none
  | _ => none
def bc_stJ (pc len : Nat) (ls : List AV) (h : AH) (n : Nat) : List AV → Option NX
  | .inr (.inl z) :: r => match bc_st2 ls n (vJ z) with
    | some ls' => some (.inl (pc + len, ls', r, h))
    | none => none
  | _ => none
def bc_inc (pc len : Nat) (ls : List AV) (h : AH) (n : Nat) (z : Int) (st : List AV) : Option NX := match ls[n]? with
  | some (.inl a) => match bc_st1 ls n (vI (w32 (a + z))) with
    | some ls' => some (.inl (pc + len, ls', st, h))
    | none => none
  | _ => none
def bc_isC2 : AV → Bool
  | .inr (.inl _) => true
  | _ => false
def bc_isX : AV → Bool
  | .inr (.inr (.inr _)) => true
  | _ => false
def bc_dup : List AV → Option (List AV)
  | a :: r => if bc_isC2 a || bc_isX a then none else some (a :: a :: r)
  | _ => none
def bc_dupx1 : List AV → Option (List AV)
  | a :: b :: r => if bc_isC2 a || bc_isX a || bc_isC2 b || bc_isX b then none else some (a :: b :: a :: r)
  | _ => none
def bc_dup2 : List AV → Option (List AV)
  | .inr (.inl z) :: r => some (vJ z :: vJ z :: r)
  | a :: b :: r => if bc_isC2 a || bc_isX a || bc_isC2 b || bc_isX b then none else some (a :: b :: a :: b :: r)
  | _ => none
def bc_pop : List AV → Option (List AV)
  | a :: r => if bc_isC2 a || bc_isX a then none else some r
  | _ => none
def bc_cc (c : Jvm.ClassFile.Cond) (a b : Int) : Bool := match c with
  | .eq => decide (a = b)
  | .ne => decide (¬ a = b)
  | .lt => decide (a < b)
  | .ge => decide (b ≤ a)
  | .gt => decide (b < a)
  | .le => decide (a ≤ b)
def bc_jmp (pc : Nat) (off : Int) (ls st : List AV) (h : AH) : Option NX := if 0 ≤ (pc : Int) + off then some (.inl (((pc : Int) + off).toNat, ls, st, h)) else none
def bc_br (b : Bool) (pc : Nat) (off : Int) (ls st : List AV) (h : AH) : Option NX := if b then bc_jmp pc off ls st h else some (.inl (pc + 3, ls, st, h))
/-- of a value, in a place of a type (0 int, 1 boolean, 2 byte, 3 long, 4 reference) -/
def bc_rd (h : AH) (a : Nat) (j : Int) : Nat → AV
  | 3 => vJ (gI h a j)
  | 4 => vR (gR h a j)
  | _ => vI (gI h a j)
def bc_wr (h : AH) (a : Nat) (j : Int) : Nat → AV → Option AH
  | 0, .inl z => some (sI h a j z)
  | 1, .inl z => if z = 0 ∨ z = 1 then some (sI h a j z) else none
  | 2, .inl z => if -128 ≤ z ∧ z ≤ 127 then some (sI h a j z) else none
  | 3, .inr (.inl z) => some (sI h a j z)
  | 4, .inr (.inr (.inl z)) => some (sR h a j z)
  | _, _ => none
def bc_getf (pc : Nat) (ls : List AV) (h : AH) (fl : Nat → Option (Int × Nat × Nat)) : List AV → Option NX
  | .inr (.inr (.inl a)) :: r => match fl (hK h a) with
    | some (j, t, _) => some (.inl (pc + 3, ls, bc_rd h a j t :: r, h))
    | none => none
  | _ => none
def bc_putf (pc : Nat) (ls : List AV) (h : AH) (fl : Nat → Option (Int × Nat × Nat)) (ini : Nat) : List AV → Option NX
  | v :: .inr (.inr (.inl a)) :: r => match fl (hK h a) with
    | some (j, t, f) => if f = 0 ∨ f = ini then (match bc_wr h a j t v with
      | some h' => some (.inl (pc + 3, ls, r, h'))
      | none => none) else none
    | none => none
  | _ => none
/-- arrays: kinds 101 int, 102 long, 103 byte, 104 boolean, 105 Object, 106 Row; not to be written: 107 the script, 108 a text's bytes, 109 the empty array of ArrayList -/
def bc_ald (pc : Nat) (ls : List AV) (h : AH) (ok : Nat → Bool) (t : Nat) : List AV → Option NX
  | .inl i :: .inr (.inr (.inl a)) :: r => if ok (hK h a) = true ∧ 0 ≤ i ∧ i < hL h a then some (.inl (pc + 1, ls, bc_rd h a i t :: r, h)) else none
  | _ => none
def bc_iast (pc : Nat) (ls : List AV) (h : AH) : List AV → Option NX
  | .inl z :: .inl i :: .inr (.inr (.inl a)) :: r => if hK h a = 101 ∧ 0 ≤ i ∧ i < hL h a then some (.inl (pc + 1, ls, r, sI h a i z)) else none
  | _ => none
def bc_jast (pc : Nat) (ls : List AV) (h : AH) : List AV → Option NX
  | .inr (.inl z) :: .inl i :: .inr (.inr (.inl a)) :: r => if hK h a = 102 ∧ 0 ≤ i ∧ i < hL h a then some (.inl (pc + 1, ls, r, sI h a i z)) else none
  | _ => none
def bc_bast (pc : Nat) (ls : List AV) (h : AH) : List AV → Option NX
  | .inl z :: .inl i :: .inr (.inr (.inl a)) :: r =>
    if hK h a = 103 ∧ 0 ≤ i ∧ i < hL h a then some (.inl (pc + 1, ls, r, sI h a i (i2bZ z)))
    else if hK h a = 104 ∧ 0 ≤ i ∧ i < hL h a ∧ (z = 0 ∨ z = 1) then some (.inl (pc + 1, ls, r, sI h a i z)) else none
  | _ => none
def bc_aast (rowK pc : Nat) (ls : List AV) (h : AH) : List AV → Option NX
  | .inr (.inr (.inl z)) :: .inl i :: .inr (.inr (.inl a)) :: r =>
    if (hK h a = 105 ∧ 1 ≤ hK h z ∧ hK h z ≤ 40 ∨ hK h a = 106 ∧ hK h z = rowK) ∧ 0 ≤ i ∧ i < hL h a then some (.inl (pc + 1, ls, r, sR h a i z)) else none
  | _ => none
def bc_alen (pc : Nat) (ls : List AV) (h : AH) : List AV → Option NX
  | .inr (.inr (.inl a)) :: r => if 101 ≤ hK h a ∧ hK h a ≤ 109 then some (.inl (pc + 1, ls, vI (hL h a) :: r, h)) else none
  | _ => none
def bc_newa (pc len : Nat) (ls : List AV) (h : AH) (c : Nat) : List AV → Option NX
  | .inl n :: r => if 0 ≤ n ∧ n ≤ 100000 then some (.inl (pc + len, ls, vR (hN h) :: r, nw h c n n.toNat)) else none
  | _ => none
def bc_nul (pc : Nat) (off : Int) (ls : List AV) (h : AH) (b : Bool) : List AV → Option NX
  | .inr (.inr (.inl a)) :: r => if a = 0 ∨ hK h a ≠ 0 then bc_br (decide (a = 0) == b) pc off ls r h else none
  | _ => none
def bc_acmp (pc : Nat) (off : Int) (ls : List AV) (h : AH) (b : Bool) : List AV → Option NX
  | .inr (.inr (.inl y)) :: .inr (.inr (.inl x)) :: r => if (hK h x = 105 ∨ hK h x = 109) ∧ (hK h y = 105 ∨ hK h y = 109) then bc_br (decide (x = y) == b) pc off ls r h else none
  | _ => none
def bc_tsw (pc : Nat) (dflt lo hi : Int) (offs : Array Int) (ls : List AV) (h : AH) : List AV → Option NX
  | .inl a :: r => if a < lo ∨ hi < a then bc_jmp pc dflt ls r h else (match offs[(a - lo).toNat]? with
    | some off => bc_jmp pc off ls r h
    | none => none)
  | _ => none
def bc_lsw (pc : Nat) (dflt : Int) (ps : Array (Int × Int)) (ls : List AV) (h : AH) : List AV → Option NX
  | .inl a :: r => if (ps.toList.zip (ps.toList.drop 1)).all (fun (a, next) => a.1 < next.1) = true then bc_jmp pc (Op.lookupswitch.offset ps.toList dflt a) ls r h else none
  | _ => none
/-- an answer of a type: 0 none, 1 int, 2 boolean, 3 char, 4 byte, 5 long, 6 reference -/
def bc_ret : Nat → List AV → Option NX
  | 1, [.inl z] => some (.inr (.inl (oR (vI z))))
  | 2, [.inl z] => if z = 0 ∨ z = 1 then some (.inr (.inl (oR (vI z)))) else none
  | 3, [.inl z] => if 0 ≤ z ∧ z < 65536 then some (.inr (.inl (oR (vI z)))) else none
  | 4, [.inl z] => if -128 ≤ z ∧ z < 128 then some (.inr (.inl (oR (vI z)))) else none
  | 5, [.inr (.inl z)] => some (.inr (.inl (oR (vJ z))))
  | 6, [.inr (.inr (.inl z))] => some (.inr (.inl (oR (vR z))))
  | _, _ => none
def bc_cat (v : AV) : Nat := if bc_isC2 v then 2 else 1
/-- the last n of the stack, in order; what is left -/
def bc_pops : Nat → List AV → List AV → Option (List AV × List AV)
  | 0, acc, st => some (acc, st)
  | n + 1, acc, v :: st => bc_pops n (v :: acc) st
  | _ + 1, _, [] => none
def bc_kopy (h : AH) : List AV → Option AH
  | [.inr (.inr (.inl s)), .inl sp, .inr (.inr (.inl t)), .inl tp, .inl n] =>
    if hK h s = 101 ∧ hK h t = 101 ∧ s ≠ t ∧ 0 ≤ sp ∧ 0 ≤ tp ∧ 0 ≤ n ∧ sp + n ≤ hL h s ∧ tp + n ≤ hL h t then some (cpI h s sp t tp n) else none
  | _ => none
def bc_kopyOf (h : AH) : List AV → Option (AV × AH)
  | [.inr (.inr (.inl s)), .inl n] =>
    if hK h s = 105 ∧ 0 ≤ n ∧ hL h s ≤ n ∧ n ≤ 1000 then some (vR (hN h), cpR (nw h 105 n n.toNat) s 0 (hN h) 0 (hL h s)) else none
  | _ => none
/-- a call: methods, and what is taken as one step: 1000 arraycopy, 1001 copyOf, 1002 a constructor of the JDK's exceptions -/
def bc_inv (pc len : Nat) (ls : List AV) (h : AH) (cal : Nat) (args rest : List AV) : Option NX :=
  if cal = 1000 then (match bc_kopy h args with
    | some h' => some (.inl (pc + len, ls, rest, h'))
    | none => none)
  else if cal = 1001 then (match bc_kopyOf h args with
    | some (v, h') => some (.inl (pc + len, ls, v :: rest, h'))
    | none => none)
  else if cal = 1002 then some (.inl (pc + len, ls, rest, h))
  else if (rest.map bc_cat).sum ≤ 8 then some (.inr (.inr (cal, args, rest))) else none
def bc_invS (pc : Nat) (ls : List AV) (h : AH) (st : List AV) : Option (Nat × Nat) → Option NX
  | some (cal, n) => match bc_pops n [] st with
    | some (args, rest) => bc_inv pc 3 ls h cal args rest
    | none => none
  | none => none
def bc_invV (pc len : Nat) (ls : List AV) (h : AH) (st : List AV) (n : Nat) (f : Nat → Option (Nat × Nat)) : Option NX := match bc_pops (n + 1) [] st with
  | some (.inr (.inr (.inl a)) :: args, rest) => match f (hK h a) with
    | some (cal, _) => bc_inv pc len ls h cal (vR a :: args) rest
    | none => none
  | _ => none
def bc_slots : List AV → List AV
  | [] => []
  | v :: r => if bc_isC2 v then v :: vX :: bc_slots r else v :: bc_slots r
def bc_entry (args : List AV) (n : Nat) : List AV := bc_slots args ++ List.replicate (n - (bc_slots args).length) vX
def bc_tab : List (MethodName × ByteArray × Nat × Nat × Nat) := [(⟨"BeadChainsLaw", "look", "(LBeadChains;II[J)I"⟩, cX0_look, 5, 1, 1), (⟨"BeadChainsLaw", "law", "([I)Z"⟩, cL_law, 7, 2, 1), (⟨"BeadChains", "<init>", "()V"⟩, cX1_init, 1, 0, 2), (⟨"BeadChains", "lay", "()V"⟩, cX1_lay, 4, 0, 2), (⟨"BeadChains", "at", "(III)I"⟩, cX1_at, 3, 1, 2), (⟨"BeadChains", "sumOf", "(III)J"⟩, cX1_sumOf, 9, 5, 2), (⟨"BeadChains", "goesOn", "(III)Z"⟩, cX1_goesOn, 4, 2, 2), (⟨"BeadChains", "isOf", "(II)Z"⟩, cX1_isOf, 2, 2, 2), (⟨"BeadChains", "isDusty", "(I)Z"⟩, cX1_isDusty, 2, 2, 2), (⟨"BeadChains", "feed", "(IIIII)I"⟩, cX1_feed, 6, 1, 2), (⟨"BeadChains", "four", "(I)V"⟩, cX1_four, 3, 0, 2), (⟨"BeadChains", "text", "(I)I"⟩, cX1_text, 3, 1, 2), (⟨"BeadChains", "isIn", "(III)Z"⟩, cX1_isIn, 3, 2, 2), (⟨"BeadChains", "fault", "(I)I"⟩, cX1_fault, 2, 1, 2), (⟨"BeadChains", "named", "(II)I"⟩, cX1_named, 3, 1, 2), (⟨"BeadChains", "sticks", "(II)I"⟩, cX1_sticks, 3, 1, 2), (⟨"BeadChains", "isLetter", "(I)Z"⟩, cX1_isLetter, 2, 2, 2), (⟨"BeadChains", "many", "(I)J"⟩, cX1_many, 4, 5, 2), (⟨"BeadChains", "kth", "(IJI)I"⟩, cX1_kth, 14, 1, 2), (⟨"BeadChains", "whole", "(I)Z"⟩, cX1_whole, 2, 2, 2), (⟨"BeadChains", "crumb", "(II)I"⟩, cX1_crumb, 3, 1, 2), (⟨"BeadChains", "strike", "(I)Z"⟩, cX1_strike, 2, 2, 2), (⟨"BeadChains", "known", "(I)Z"⟩, cX1_known, 2, 2, 2), (⟨"BeadChains", "found", "()I"⟩, cX1_found, 1, 1, 2), (⟨"BeadChains", "find", "()V"⟩, cX1_find, 3, 0, 2), (⟨"BeadChains", "grow", "()V"⟩, cX1_grow, 2, 0, 2), (⟨"BeadChains", "keep1", "()V"⟩, cX1_keep1, 1, 0, 2), (⟨"BeadChains", "knownBy", "()I"⟩, cX1_knownBy, 1, 1, 2), (⟨"BeadChains", "isKnown", "(I)Z"⟩, cX1_isKnown, 2, 2, 2), (⟨"BeadChains", "scoreOf", "(LBeadChains$Row;)J"⟩, cX1_scoreOf, 6, 5, 2), (⟨"BeadChains", "string", "(II)I"⟩, cX1_string, 4, 1, 2), (⟨"BeadChains", "isFound", "(I)Z"⟩, cX1_isFound, 2, 2, 2), (⟨"BeadChains", "looks", "()I"⟩, cX1_looks, 1, 1, 2), (⟨"BeadChains", "judge", "(IJI)I"⟩, cX1_judge, 6, 1, 2), (⟨"BeadChains", "isString", "(IJ)Z"⟩, cX1_isString, 6, 2, 2), (⟨"BeadChains", "firstStray", "()I"⟩, cX1_firstStray, 2, 1, 2), (⟨"BeadChains", "whence", "(III)I"⟩, cX1_whence, 9, 1, 2), (⟨"BeadChains", "told", "(IIIII)I"⟩, cX1_told, 6, 1, 2), (⟨"BeadChains", "score", "(I)J"⟩, cX1_score, 2, 5, 2), (⟨"BeadChains", "rank", "(I)I"⟩, cX1_rank, 3, 1, 2), (⟨"BeadChains", "ties", "()I"⟩, cX1_ties, 3, 1, 2), (⟨"BeadChains", "has", "(II)I"⟩, cX1_has, 5, 1, 2), (⟨"BeadChains", "tree", "(I)I"⟩, cX1_tree, 6, 1, 2), (⟨"BeadChains", "leavesOne", "(JI)Z"⟩, cX1_leavesOne, 5, 2, 2), (⟨"BeadChains", "parts1", "(JII)Z"⟩, cX1_parts1, 11, 2, 2), (⟨"BeadChains", "likeOf", "(JIII)J"⟩, cX1_likeOf, 9, 5, 2), (⟨"BeadChains", "tells", "(III)I"⟩, cX1_tells, 5, 1, 2), (⟨"BeadChains", "plan", "(II)I"⟩, cX1_plan, 8, 1, 2), (⟨"BeadChains", "alike", "(I)I"⟩, cX1_alike, 5, 1, 2), (⟨"BeadChains", "placeOf", "(LBeadChains$Row;LBeadChains$Row;)I"⟩, cX1_placeOf, 4, 1, 2), (⟨"BeadChains", "parts", "(II)I"⟩, cX1_parts, 3, 1, 2), (⟨"BeadChains", "shifts", "(II)I"⟩, cX1_shifts, 6, 1, 2), (⟨"BeadChains", "isShift", "(I)Z"⟩, cX1_isShift, 1, 2, 2), (⟨"BeadChains", "shift", "(I)I"⟩, cX1_shift, 6, 1, 2), (⟨"BeadChains", "world", "(IIII)I"⟩, cX1_world, 10, 1, 2), (⟨"BeadChains", "draw", "(I)I"⟩, cX1_draw, 2, 1, 2), (⟨"BeadChains", "keep", "()I"⟩, cX1_keep, 1, 1, 2), (⟨"BeadChains", "back", "()I"⟩, cX1_back, 1, 1, 2), (⟨"BeadChains", "count", "(I)I"⟩, cX1_count, 4, 1, 2), (⟨"BeadChains", "look", "(II)I"⟩, cX1_look, 3, 1, 2), (⟨"BeadChains$Box", "<init>", "()V"⟩, cX2_init, 1, 0, 3), (⟨"BeadChains$Box", "many", "()I"⟩, cX2_many, 1, 1, 3), (⟨"BeadChains$Box", "weight", "(I)I"⟩, cX2_weight, 2, 1, 3), (⟨"BeadChains$Box", "sticks", "(II)Z"⟩, cX2_sticks, 3, 2, 3), (⟨"BeadChains$Box", "beadOf", "(I)I"⟩, cX2_beadOf, 2, 1, 3), (⟨"BeadChains$Box", "dustOf", "(I)I"⟩, cX2_dustOf, 2, 1, 3), (⟨"BeadChains$Box", "bead", "(I)I"⟩, cX2_bead, 3, 1, 3), (⟨"BeadChains$Box", "dust", "(I)I"⟩, cX2_dust, 3, 1, 3), (⟨"BeadChains$Row", "<init>", "(LBeadChains;)V"⟩, cX3_init, 2, 0, 4), (⟨"BeadChains$Row", "clear", "()V"⟩, cX3_clear, 1, 0, 4), (⟨"BeadChains$Row", "weight", "()I"⟩, cX3_weight, 1, 1, 4), (⟨"BeadChains$Row", "last", "()I"⟩, cX3_last, 1, 1, 4), (⟨"BeadChains$Row", "add", "(I)V"⟩, cX3_add, 2, 0, 4), (⟨"BeadChains$Row", "isClosed", "()Z"⟩, cX3_isClosed, 1, 2, 4), (⟨"BeadChains$Row", "stray", "()I"⟩, cX3_stray, 3, 1, 4), (⟨"BeadChains$Row", "explains", "(I)Z"⟩, cX3_explains, 4, 2, 4), (⟨"BeadChains$Row", "sideOf", "(II)I"⟩, cX3_sideOf, 6, 1, 4), (⟨"BeadChains$Row", "side", "(II)I"⟩, cX3_side, 3, 1, 4), (⟨"BeadChains$Row", "beginOf", "(I)I"⟩, cX3_beginOf, 3, 1, 4), (⟨"BeadChains$Row", "manyOf", "(II)I"⟩, cX3_manyOf, 4, 1, 4), (⟨"BeadChains$Row", "middle", "(II)I"⟩, cX3_middle, 4, 1, 4), (⟨"BeadChains$Row", "copy", "(LBeadChains$Row;)V"⟩, cX3_copy, 3, 0, 4), (⟨"BeadChains$Row", "drop", "()V"⟩, cX3_drop, 1, 0, 4), (⟨"BeadChains$Row", "came", "()I"⟩, cX3_came, 4, 1, 4), (⟨"BeadChains$Row", "isThere", "(II)Z"⟩, cX3_isThere, 4, 2, 4), (⟨"BeadChains$Scene", "<init>", "()V"⟩, cX4_init, 1, 0, 5), (⟨"BeadChains$Scene", "inBound", "(J)J"⟩, cX4_inBound, 3, 5, 5), (⟨"BeadChainsModel", "<init>", "()V"⟩, cX5_init, 1, 0, 6), (⟨"BeadChainsModel", "thrown", "()I"⟩, cX5_thrown, 1, 1, 6), (⟨"BeadChainsModel", "feed", "(IIIII)I"⟩, cX5_feed, 8, 1, 6), (⟨"BeadChainsModel", "text", "(I)I"⟩, cX5_text, 3, 1, 6), (⟨"BeadChainsModel", "reads", "(II)V"⟩, cX5_reads, 3, 0, 6), (⟨"BeadChainsModel", "token", "()V"⟩, cX5_token, 2, 0, 6), (⟨"BeadChainsModel", "here", "()I"⟩, cX5_here, 1, 1, 6), (⟨"BeadChainsModel", "isSmall", "(I)Z"⟩, cX5_isSmall, 1, 2, 6), (⟨"BeadChainsModel", "word", "()I"⟩, cX5_word, 4, 1, 6), (⟨"BeadChainsModel", "name", "()V"⟩, cX5_name, 2, 0, 6), (⟨"BeadChainsModel", "isDigit", "(I)Z"⟩, cX5_isDigit, 1, 2, 6), (⟨"BeadChainsModel", "sign", "(I)V"⟩, cX5_sign, 2, 0, 6), (⟨"BeadChainsModel", "line", "()V"⟩, cX5_line, 2, 0, 6), (⟨"BeadChainsModel", "wrong", "(I)V"⟩, cX5_wrong, 2, 0, 6), (⟨"BeadChainsModel", "fresher", "(I)I"⟩, cX5_fresher, 2, 1, 6), (⟨"BeadChainsModel", "isFull", "()Z"⟩, cX5_isFull, 1, 2, 6), (⟨"BeadChainsModel", "fresh", "([IIIZ)I"⟩, cX5_fresh, 6, 1, 6), (⟨"BeadChainsModel", "found", "([IIII)I"⟩, cX5_found, 5, 1, 6), (⟨"BeadChainsModel", "numeral", "(II)I"⟩, cX5_numeral, 4, 1, 6), (⟨"BeadChainsModel", "dustLine", "()V"⟩, cX5_dustLine, 4, 0, 6), (⟨"BeadChainsModel", "isWord", "(I)Z"⟩, cX5_isWord, 2, 2, 6), (⟨"BeadChainsModel", "goOn", "()V"⟩, cX5_goOn, 1, 0, 6), (⟨"BeadChainsModel", "bead", "()I"⟩, cX5_bead, 2, 1, 6), (⟨"BeadChainsModel", "apartLine", "()V"⟩, cX5_apartLine, 3, 0, 6), (⟨"BeadChainsModel", "expression", "()V"⟩, cX5_expression, 1, 0, 6), (⟨"BeadChainsModel", "conjunction", "()V"⟩, cX5_conjunction, 1, 0, 6), (⟨"BeadChainsModel", "negation", "()V"⟩, cX5_negation, 2, 0, 6), (⟨"BeadChainsModel", "knot", "()V"⟩, cX5_knot, 1, 0, 6), (⟨"BeadChainsModel", "puts", "(II)V"⟩, cX5_puts, 3, 0, 6), (⟨"BeadChainsModel", "sum", "()V"⟩, cX5_sum, 2, 0, 6), (⟨"BeadChainsModel", "product", "()V"⟩, cX5_product, 2, 0, 6), (⟨"BeadChainsModel", "primary", "()V"⟩, cX5_primary, 2, 0, 6), (⟨"BeadChainsModel", "isSign", "(I)Z"⟩, cX5_isSign, 2, 2, 6), (⟨"BeadChainsModel", "half", "([I)V"⟩, cX5_half, 3, 0, 6), (⟨"BeadChainsModel", "layLetters", "()V"⟩, cX5_layLetters, 2, 0, 6), (⟨"BeadChainsModel", "addLetter", "(III)V"⟩, cX5_addLetter, 4, 0, 6), (⟨"BeadChainsModel", "fault", "(I)I"⟩, cX5_fault, 2, 1, 6), (⟨"BeadChainsModel", "named", "(II)I"⟩, cX5_named, 3, 1, 6), (⟨"BeadChainsModel", "look", "(II)I"⟩, cX5_look, 3, 1, 6), (⟨"BeadChainsModel", "isLetter", "(I)Z"⟩, cX5_isLetter, 2, 2, 6), (⟨"BeadChainsModel", "sticks", "(II)I"⟩, cX5_sticks, 3, 1, 6), (⟨"BeadChainsModel", "mayFollow", "(II)Z"⟩, cX5_mayFollow, 3, 2, 6), (⟨"BeadChainsModel", "many", "(I)J"⟩, cX5_many, 4, 5, 6), (⟨"BeadChainsModel", "isWeight", "(I)Z"⟩, cX5_isWeight, 1, 2, 6), (⟨"BeadChainsModel", "layTable", "(I)V"⟩, cX5_layTable, 8, 0, 6), (⟨"BeadChainsModel", "atTable", "(III)I"⟩, cX5_atTable, 3, 1, 6), (⟨"BeadChainsModel", "behind", "(IIII)J"⟩, cX5_behind, 5, 5, 6), (⟨"BeadChainsModel", "dustOf", "(I)I"⟩, cX5_dustOf, 2, 1, 6), (⟨"BeadChainsModel", "more", "(JJ)J"⟩, cX5_more, 4, 5, 6), (⟨"BeadChainsModel", "kth", "(IJI)I"⟩, cX5_kth, 14, 1, 6), (⟨"BeadChainsModel", "whole", "(I)Z"⟩, cX5_whole, 2, 2, 6), (⟨"BeadChainsModel", "crumb", "(II)I"⟩, cX5_crumb, 3, 1, 6), (⟨"BeadChainsModel", "strike", "(I)Z"⟩, cX5_strike, 2, 2, 6), (⟨"BeadChainsModel", "known", "(I)Z"⟩, cX5_known, 2, 2, 6), (⟨"BeadChainsModel", "found", "()I"⟩, cX5_found_2, 1, 1, 6), (⟨"BeadChainsModel", "search", "()Z"⟩, cX5_search, 1, 2, 6), (⟨"BeadChainsModel", "goes", "(II)V"⟩, cX5_goes, 4, 0, 6), (⟨"BeadChainsModel", "isClosed", "()Z"⟩, cX5_isClosed, 1, 2, 6), (⟨"BeadChainsModel", "strays", "()I"⟩, cX5_strays, 3, 1, 6), (⟨"BeadChainsModel", "isKnown", "(I)Z"⟩, cX5_isKnown, 2, 2, 6), (⟨"BeadChainsModel", "knownMany", "()I"⟩, cX5_knownMany, 1, 1, 6), (⟨"BeadChainsModel", "finds", "(I)Z"⟩, cX5_finds, 6, 2, 6), (⟨"BeadChainsModel", "isOf", "(II)Z"⟩, cX5_isOf, 3, 2, 6), (⟨"BeadChainsModel", "fromLeft", "(I)I"⟩, cX5_fromLeft, 2, 1, 6), (⟨"BeadChainsModel", "weighs", "(II)I"⟩, cX5_weighs, 5, 1, 6), (⟨"BeadChainsModel", "isNear", "(II)Z"⟩, cX5_isNear, 3, 2, 6), (⟨"BeadChainsModel", "lays", "(III)V"⟩, cX5_lays, 4, 0, 6), (⟨"BeadChainsModel", "fromRight", "(I)I"⟩, cX5_fromRight, 2, 1, 6), (⟨"BeadChainsModel", "looks", "()I"⟩, cX5_looks, 1, 1, 6), (⟨"BeadChainsModel", "string", "(II)I"⟩, cX5_string, 3, 1, 6), (⟨"BeadChainsModel", "isFound", "(I)Z"⟩, cX5_isFound, 2, 2, 6), (⟨"BeadChainsModel", "judge", "(IJI)I"⟩, cX5_judge, 8, 1, 6), (⟨"BeadChainsModel", "dusted", "()I"⟩, cX5_dusted, 3, 1, 6), (⟨"BeadChainsModel", "whence", "(III)I"⟩, cX5_whence, 4, 1, 6), (⟨"BeadChainsModel", "takes", "(I)V"⟩, cX5_takes, 3, 0, 6), (⟨"BeadChainsModel", "score", "(I)J"⟩, cX5_score, 2, 5, 6), (⟨"BeadChainsModel", "scoreOf", "(I)J"⟩, cX5_scoreOf, 5, 5, 6), (⟨"BeadChainsModel", "came", "()I"⟩, cX5_came, 6, 1, 6), (⟨"BeadChainsModel", "works", "(I)Z"⟩, cX5_works, 8, 2, 6), (⟨"BeadChainsModel", "is", "(Z)J"⟩, cX5_is, 1, 5, 6), (⟨"BeadChainsModel", "rank", "(I)I"⟩, cX5_rank, 5, 1, 6), (⟨"BeadChainsModel", "scoreAll", "()V"⟩, cX5_scoreAll, 2, 0, 6), (⟨"BeadChainsModel", "ties", "()I"⟩, cX5_ties, 5, 1, 6), (⟨"BeadChainsModel", "has", "(II)I"⟩, cX5_has, 3, 1, 6), (⟨"BeadChainsModel", "tree", "(I)I"⟩, cX5_tree, 5, 1, 6), (⟨"BeadChainsModel", "weighAll", "()V"⟩, cX5_weighAll, 4, 0, 6), (⟨"BeadChainsModel", "tells", "(JIZ)Z"⟩, cX5_tells, 12, 2, 6), (⟨"BeadChainsModel", "bitsOf", "(J)I"⟩, cX5_bitsOf, 4, 1, 6), (⟨"BeadChainsModel", "group", "(JII)J"⟩, cX5_group, 8, 5, 6), (⟨"BeadChainsModel", "plan", "(II)I"⟩, cX5_plan, 10, 1, 6), (⟨"BeadChainsModel", "alike", "(I)I"⟩, cX5_alike, 4, 1, 6), (⟨"BeadChainsModel", "partsAt", "(II)I"⟩, cX5_partsAt, 5, 1, 6), (⟨"BeadChainsModel", "parts", "(II)I"⟩, cX5_parts, 3, 1, 6), (⟨"BeadChainsModel", "shifts", "(II)I"⟩, cX5_shifts, 3, 1, 6), (⟨"BeadChainsModel", "shiftsOf", "(II)I"⟩, cX5_shiftsOf, 6, 1, 6), (⟨"BeadChainsModel", "shift", "(I)I"⟩, cX5_shift, 6, 1, 6), (⟨"BeadChainsModel", "world", "(IIII)I"⟩, cX5_world, 9, 1, 6), (⟨"BeadChainsModel", "draw", "()I"⟩, cX5_draw, 1, 1, 6), (⟨"BeadChainsModel", "keep", "()I"⟩, cX5_keep, 2, 1, 6), (⟨"BeadChainsModel", "back", "()I"⟩, cX5_back, 2, 1, 6), (⟨"BeadChainsModel", "count", "(I)I"⟩, cX5_count, 4, 1, 6), (⟨"BeadChains$Reader", "<init>", "(LBeadChains;I)V"⟩, cX6_init, 3, 0, 7), (⟨"BeadChains$Reader", "text", "()LBeadChains$Box;"⟩, cX6_text, 1, 6, 7), (⟨"BeadChains$Reader", "take", "()V"⟩, cX6_take, 1, 0, 7), (⟨"BeadChains$Reader", "see", "(I)I"⟩, cX6_see, 2, 1, 7), (⟨"BeadChains$Reader", "isSmall", "(I)Z"⟩, cX6_isSmall, 2, 2, 7), (⟨"BeadChains$Reader", "takeWord", "()V"⟩, cX6_takeWord, 2, 0, 7), (⟨"BeadChains$Reader", "key", "(I)I"⟩, cX6_key, 7, 1, 7), (⟨"BeadChains$Reader", "isDigit", "(I)Z"⟩, cX6_isDigit, 2, 2, 7), (⟨"BeadChains$Reader", "takeNumber", "()V"⟩, cX6_takeNumber, 1, 0, 7), (⟨"BeadChains$Reader", "takeSign", "()V"⟩, cX6_takeSign, 4, 0, 7), (⟨"BeadChains$Reader", "wrong", "()LBeadChains$Fault;"⟩, cX6_wrong, 1, 6, 7), (⟨"BeadChains$Reader", "line", "()V"⟩, cX6_line, 3, 0, 7), (⟨"BeadChains$Reader", "much", "(Z)V"⟩, cX6_much, 2, 0, 7), (⟨"BeadChains$Reader", "name", "()I"⟩, cX6_name, 1, 1, 7), (⟨"BeadChains$Reader", "newName", "(I)I"⟩, cX6_newName, 3, 1, 7), (⟨"BeadChains$Reader", "told", "(Z)V"⟩, cX6_told, 2, 0, 7), (⟨"BeadChains$Reader", "number", "(II)I"⟩, cX6_number, 4, 1, 7), (⟨"BeadChains$Reader", "dust", "()V"⟩, cX6_dust, 5, 0, 7), (⟨"BeadChains$Reader", "isKey", "(I)Z"⟩, cX6_isKey, 2, 2, 7), (⟨"BeadChains$Reader", "apart", "()V"⟩, cX6_apart, 3, 0, 7), (⟨"BeadChains$Reader", "there", "(I)I"⟩, cX6_there, 2, 1, 7), (⟨"BeadChains$Reader", "or", "()LBeadChains$Node;"⟩, cX6_or, 2, 6, 7), (⟨"BeadChains$Reader", "and", "()LBeadChains$Node;"⟩, cX6_and, 2, 6, 7), (⟨"BeadChains$Reader", "not", "()LBeadChains$Node;"⟩, cX6_not, 4, 6, 7), (⟨"BeadChains$Reader", "knot", "()V"⟩, cX6_knot, 1, 0, 7), (⟨"BeadChains$Reader", "compared", "()LBeadChains$Node;"⟩, cX6_compared, 3, 6, 7), (⟨"BeadChains$Reader", "sum", "()LBeadChains$Node;"⟩, cX6_sum, 3, 6, 7), (⟨"BeadChains$Reader", "product", "()LBeadChains$Node;"⟩, cX6_product, 3, 6, 7), (⟨"BeadChains$Reader", "one", "()LBeadChains$Node;"⟩, cX6_one, 2, 6, 7), (⟨"BeadChains$Reader", "isSign", "(I)Z"⟩, cX6_isSign, 2, 2, 7), (⟨"BeadChains$Fault", "<init>", "(II)V"⟩, cX7_init, 3, 0, 8), (⟨"BeadChains$Bead", "<init>", "(II)V"⟩, cX8_init, 3, 0, 9), (⟨"BeadChains$Letter", "<init>", "(III)V"⟩, cX9_init, 4, 0, 10), (⟨"BeadChains$Dust", "<init>", "(II)V"⟩, cX10_init, 3, 0, 11), (⟨"BeadChains$Name", "<init>", "(I)V"⟩, cX11_init, 2, 0, 12), (⟨"BeadChains$Name", "value", "(LBeadChains$Scene;)J"⟩, cX11_value, 2, 5, 12), (⟨"BeadChains$Constant", "<init>", "(J)V"⟩, cX12_init, 3, 0, 13), (⟨"BeadChains$Constant", "value", "(LBeadChains$Scene;)J"⟩, cX12_value, 2, 5, 13), (⟨"BeadChains$Two", "<init>", "(LBeadChains$Node;LBeadChains$Node;)V"⟩, cX13_init, 3, 0, 14), (⟨"BeadChains$Two", "value", "(LBeadChains$Scene;)J"⟩, cX13_value, 4, 5, 14), (⟨"BeadChains$Worked", "<init>", "(ILBeadChains$Node;LBeadChains$Node;)V"⟩, cX14_init, 4, 0, 15), (⟨"BeadChains$Worked", "of", "(LBeadChains$Scene;JJ)J"⟩, cX14_of, 6, 5, 15), (⟨"BeadChains$Compared", "<init>", "(ILBeadChains$Node;LBeadChains$Node;)V"⟩, cX15_init, 4, 0, 16), (⟨"BeadChains$Compared", "of", "(LBeadChains$Scene;JJ)J"⟩, cX15_of, 7, 5, 16), (⟨"BeadChains$Not", "<init>", "(LBeadChains$Node;)V"⟩, cX16_init, 2, 0, 17), (⟨"BeadChains$Not", "value", "(LBeadChains$Scene;)J"⟩, cX16_value, 2, 5, 17), (⟨"BeadChains$Choice", "<init>", "(ZLBeadChains$Node;LBeadChains$Node;)V"⟩, cX17_init, 4, 0, 18), (⟨"BeadChains$Choice", "of", "(LBeadChains$Scene;JJ)J"⟩, cX17_of, 6, 5, 18), (⟨"java/util/AbstractCollection", "<init>", "()V"⟩, cJ0_init, 1, 0, 19), (⟨"java/util/AbstractList", "<init>", "()V"⟩, cJ1_init, 1, 0, 20), (⟨"java/util/ArrayList", "<init>", "()V"⟩, cJ2_init, 1, 0, 21), (⟨"java/util/ArrayList", "size", "()I"⟩, cJ2_size, 1, 1, 21), (⟨"java/util/ArrayList", "get", "(I)Ljava/lang/Object;"⟩, cJ2_get, 2, 6, 21), (⟨"java/util/ArrayList", "elementData", "(I)Ljava/lang/Object;"⟩, cJ2_elementData, 2, 6, 21), (⟨"java/util/ArrayList", "add", "(Ljava/lang/Object;)Z"⟩, cJ2_add, 2, 2, 21), (⟨"java/util/ArrayList", "add", "(Ljava/lang/Object;[Ljava/lang/Object;I)V"⟩, cJ2_add_2, 4, 0, 21), (⟨"java/util/ArrayList", "grow", "()[Ljava/lang/Object;"⟩, cJ2_grow, 1, 6, 21), (⟨"java/util/ArrayList", "grow", "(I)[Ljava/lang/Object;"⟩, cJ2_grow_2, 4, 6, 21), (⟨"java/util/Objects", "checkIndex", "(II)I"⟩, cJ3_checkIndex, 2, 1, 22), (⟨"jdk/internal/util/Preconditions", "checkIndex", "(IILjava/util/function/BiFunction;)I"⟩, cJ4_checkIndex, 3, 1, 23), (⟨"jdk/internal/util/Preconditions", "checkFromToIndex", "(IIILjava/util/function/BiFunction;)I"⟩, cJ4_checkFromToIndex, 4, 1, 23), (⟨"java/lang/String", "length", "()I"⟩, cJ5_length, 1, 1, 24), (⟨"java/lang/String", "coder", "()B"⟩, cJ5_coder, 1, 4, 24), (⟨"java/lang/String", "indexOf", "(II)I"⟩, cJ5_indexOf, 3, 1, 24), (⟨"java/lang/String", "isLatin1", "()Z"⟩, cJ5_isLatin1, 1, 2, 24), (⟨"java/lang/String", "checkBoundsBeginEnd", "(III)V"⟩, cJ5_checkBoundsBeginEnd, 3, 0, 24), (⟨"java/lang/String", "charAt", "(I)C"⟩, cJ5_charAt, 2, 3, 24), (⟨"java/lang/String", "checkIndex", "(II)V"⟩, cJ5_checkIndex, 2, 0, 24), (⟨"java/lang/String", "indexOf", "(I)I"⟩, cJ5_indexOf_2, 2, 1, 24), (⟨"java/lang/StringLatin1", "indexOf", "([BIII)I"⟩, cJ6_indexOf, 4, 1, 25), (⟨"java/lang/StringLatin1", "canEncode", "(I)Z"⟩, cJ6_canEncode, 1, 2, 25), (⟨"java/lang/StringLatin1", "indexOfChar", "([BIII)I"⟩, cJ6_indexOfChar, 6, 1, 25), (⟨"java/lang/StringLatin1", "charAt", "([BI)C"⟩, cJ6_charAt, 2, 3, 25), (⟨"java/lang/Math", "max", "(II)I"⟩, cJ7_max, 2, 1, 26), (⟨"java/lang/Math", "min", "(II)I"⟩, cJ7_min, 2, 1, 26), (⟨"java/lang/Math", "abs", "(I)I"⟩, cJ7_abs, 1, 1, 26), (⟨"java/lang/Math", "abs", "(J)J"⟩, cJ7_abs_2, 2, 5, 26), (⟨"java/lang/StringUTF16", "indexOf", "([BIII)I"⟩, cJ8_indexOf, 4, 1, 27), (⟨"java/lang/StringUTF16", "indexOfChar", "([BIII)I"⟩, cJ8_indexOfChar, 4, 1, 27), (⟨"java/lang/StringUTF16", "checkBoundsBeginEnd", "(II[B)V"⟩, cJ8_checkBoundsBeginEnd, 3, 0, 27), (⟨"java/lang/StringUTF16", "length", "([B)I"⟩, cJ8_length, 1, 1, 27), (⟨"java/lang/StringUTF16", "indexOfCharUnsafe", "([BIII)I"⟩, cJ8_indexOfCharUnsafe, 5, 1, 27), (⟨"java/lang/StringUTF16", "getChar", "([BI)C"⟩, cJ8_getChar, 2, 3, 27), (⟨"java/lang/StringUTF16", "indexOfSupplementary", "([BIII)I"⟩, cJ8_indexOfSupplementary, 7, 1, 27), (⟨"java/lang/StringUTF16", "charAt", "([BI)C"⟩, cJ8_charAt, 2, 3, 27), (⟨"java/lang/StringUTF16", "checkIndex", "(I[B)V"⟩, cJ8_checkIndex, 2, 0, 27), (⟨"java/lang/Character", "isValidCodePoint", "(I)Z"⟩, cJ9_isValidCodePoint, 2, 2, 28), (⟨"java/lang/Character", "highSurrogate", "(I)C"⟩, cJ9_highSurrogate, 1, 3, 28), (⟨"java/lang/Character", "lowSurrogate", "(I)C"⟩, cJ9_lowSurrogate, 1, 3, 28), (⟨"java/lang/Throwable", "<init>", "()V"⟩, cJ10_init, 1, 0, 29), (⟨"java/lang/Throwable", "<init>", "(Ljava/lang/String;Ljava/lang/Throwable;ZZ)V"⟩, cJ10_init_2, 5, 0, 29), (⟨"java/lang/Throwable", "<init>", "(Ljava/lang/String;)V"⟩, cJ10_init_3, 2, 0, 29), (⟨"java/lang/Exception", "<init>", "(Ljava/lang/String;Ljava/lang/Throwable;ZZ)V"⟩, cJ11_init, 5, 0, 30), (⟨"java/lang/Exception", "<init>", "(Ljava/lang/String;)V"⟩, cJ11_init_2, 2, 0, 30), (⟨"java/lang/Exception", "<init>", "()V"⟩, cJ11_init_3, 1, 0, 30), (⟨"java/lang/Record", "<init>", "()V"⟩, cJ12_init, 1, 0, 31), (⟨"jdk/internal/util/ArraysSupport", "newLength", "(III)I"⟩, cJ13_newLength, 4, 1, 32), (⟨"jdk/internal/util/ArraysSupport", "hugeLength", "(II)I"⟩, cJ13_hugeLength, 3, 1, 32), (⟨"java/util/Arrays", "copyOf", "([Ljava/lang/Object;I)[Ljava/lang/Object;"⟩, cJ14_copyOf, 2, 6, 33), (⟨"java/util/Arrays", "copyOf", "([Ljava/lang/Object;ILjava/lang/Class;)[Ljava/lang/Object;"⟩, cJ14_copyOf_2, 4, 6, 33), (⟨"java/lang/RuntimeException", "<init>", "(Ljava/lang/String;)V"⟩, cJ15_init, 2, 0, 34), (⟨"java/lang/RuntimeException", "<init>", "()V"⟩, cJ15_init_2, 1, 0, 34), (⟨"java/lang/IndexOutOfBoundsException", "<init>", "(Ljava/lang/String;)V"⟩, cJ16_init, 2, 0, 35), (⟨"java/lang/IndexOutOfBoundsException", "<init>", "()V"⟩, cJ16_init_2, 1, 0, 35), (⟨"java/lang/ArrayIndexOutOfBoundsException", "<init>", "(Ljava/lang/String;)V"⟩, cJ17_init, 2, 0, 36), (⟨"java/util/NoSuchElementException", "<init>", "()V"⟩, cJ18_init, 1, 0, 37), (⟨"java/lang/Long", "numberOfTrailingZeros", "(J)I"⟩, cJ19_numberOfTrailingZeros, 3, 1, 38), (⟨"java/lang/Long", "bitCount", "(J)I"⟩, cJ19_bitCount, 2, 1, 38), (⟨"java/lang/Integer", "numberOfTrailingZeros", "(I)I"⟩, cJ20_numberOfTrailingZeros, 2, 1, 39), (⟨"java/lang/Object", "<init>", "()V"⟩, cJ21_init, 1, 0, 40)]
def bc_ft : List ((Nat × Nat × Nat) × (Int × Nat × Nat)) := [((2, 13, 2), (0, 4, 3)), ((2, 17, 2), (3, 0, 0)), ((2, 24, 2), (4, 4, 0)), ((2, 29, 2), (5, 4, 3)), ((2, 33, 2), (9, 0, 0)), ((2, 36, 2), (10, 4, 3)), ((2, 40, 2), (11, 4, 3)), ((2, 48, 2), (16, 4, 3)), ((2, 52, 2), (17, 4, 3)), ((2, 55, 2), (18, 4, 3)), ((2, 59, 2), (19, 4, 3)), ((2, 62, 2), (20, 4, 3)), ((2, 68, 2), (21, 4, 3)), ((2, 72, 2), (28, 4, 3)), ((2, 75, 2), (29, 4, 3)), ((2, 81, 2), (1, 0, 0)), ((2, 92, 2), (2, 0, 0)), ((2, 106, 8), (6, 0, 9)), ((2, 109, 8), (7, 0, 9)), ((2, 112, 2), (6, 0, 0)), ((2, 115, 2), (7, 0, 0)), ((2, 118, 2), (8, 0, 0)), ((2, 121, 2), (23, 1, 0)), ((2, 125, 2), (12, 1, 0)), ((2, 128, 3), (11, 0, 0)), ((2, 168, 3), (9, 0, 0)), ((2, 196, 4), (2, 0, 0)), ((2, 199, 2), (15, 0, 0)), ((2, 208, 4), (3, 0, 0)), ((2, 221, 2), (14, 0, 0)), ((2, 231, 3), (8, 0, 0)), ((2, 241, 3), (17, 4, 0)), ((2, 245, 5), (0, 4, 6)), ((2, 248, 5), (1, 1, 0)), ((2, 260, 2), (13, 1, 0)), ((2, 279, 4), (0, 4, 5)), ((2, 319, 4), (1, 4, 5)), ((2, 357, 2), (22, 3, 0)), ((2, 372, 3), (7, 0, 0)), ((2, 375, 2), (24, 0, 0)), ((2, 378, 2), (25, 0, 0)), ((2, 381, 2), (26, 0, 0)), ((2, 384, 2), (27, 0, 0)), ((2, 393, 3), (0, 4, 4)), ((2, 401, 3), (1, 4, 4)), ((2, 404, 3), (4, 0, 0)), ((2, 407, 3), (10, 0, 0)), ((2, 410, 3), (16, 1, 0)), ((3, 12, 3), (0, 4, 4)), ((3, 18, 3), (1, 4, 4)), ((3, 21, 3), (2, 4, 4)), ((3, 24, 3), (3, 4, 4)), ((3, 28, 3), (9, 0, 0)), ((3, 42, 9), (0, 0, 10)), ((3, 47, 11), (0, 0, 12)), ((3, 48, 9), (1, 0, 10)), ((3, 53, 10), (0, 0, 11)), ((3, 54, 10), (1, 0, 11)), ((3, 57, 10), (2, 0, 11)), ((4, 3, 4), (4, 4, 5)), ((4, 15, 4), (0, 4, 5)), ((4, 19, 4), (1, 4, 5)), ((4, 22, 4), (2, 0, 0)), ((4, 26, 4), (3, 0, 0)), ((4, 29, 2), (4, 4, 0)), ((4, 43, 3), (16, 1, 0)), ((4, 51, 3), (5, 0, 0)), ((4, 57, 3), (6, 0, 0)), ((4, 69, 3), (7, 0, 0)), ((4, 78, 2), (10, 4, 3)), ((4, 81, 2), (11, 4, 3)), ((5, 9, 5), (0, 4, 6)), ((5, 15, 5), (1, 1, 0)), ((6, 11, 6), (1, 4, 7)), ((6, 15, 6), (3, 4, 7)), ((6, 18, 6), (4, 4, 7)), ((6, 21, 6), (5, 4, 7)), ((6, 24, 6), (6, 4, 7)), ((6, 27, 6), (7, 4, 7)), ((6, 30, 6), (8, 4, 7)), ((6, 33, 6), (9, 4, 7)), ((6, 36, 6), (10, 4, 7)), ((6, 39, 6), (11, 4, 7)), ((6, 42, 6), (12, 4, 7)), ((6, 45, 6), (23, 0, 0)), ((6, 49, 6), (27, 4, 7)), ((6, 52, 6), (28, 4, 7)), ((6, 55, 6), (29, 4, 7)), ((6, 59, 6), (30, 4, 7)), ((6, 63, 6), (33, 0, 0)), ((6, 66, 6), (34, 4, 7)), ((6, 69, 6), (35, 4, 7)), ((6, 72, 6), (36, 4, 7)), ((6, 76, 6), (41, 4, 7)), ((6, 79, 6), (42, 4, 7)), ((6, 82, 6), (43, 4, 7)), ((6, 85, 6), (44, 4, 7)), ((6, 88, 6), (54, 4, 7)), ((6, 91, 6), (55, 4, 7)), ((6, 94, 6), (56, 4, 7)), ((6, 97, 6), (57, 4, 7)), ((6, 100, 6), (59, 4, 7)), ((6, 103, 6), (60, 4, 7)), ((6, 106, 6), (0, 0, 0)), ((6, 109, 6), (2, 0, 0)), ((6, 112, 6), (16, 0, 0)), ((6, 115, 6), (15, 0, 0)), ((6, 122, 6), (17, 0, 0)), ((6, 125, 6), (18, 0, 0)), ((6, 135, 6), (19, 0, 0)), ((6, 159, 6), (20, 0, 0)), ((6, 162, 6), (21, 0, 0)), ((6, 179, 6), (13, 0, 0)), ((6, 210, 6), (14, 0, 0)), ((6, 222, 6), (25, 0, 0)), ((6, 246, 6), (24, 0, 0)), ((6, 249, 6), (26, 0, 0)), ((6, 259, 6), (22, 0, 0)), ((6, 269, 6), (31, 0, 0)), ((6, 272, 6), (32, 0, 0)), ((6, 275, 6), (37, 1, 0)), ((6, 318, 6), (45, 0, 0)), ((6, 329, 6), (46, 0, 0)), ((6, 350, 6), (47, 0, 0)), ((6, 353, 6), (48, 0, 0)), ((6, 356, 6), (49, 0, 0)), ((6, 371, 6), (50, 0, 0)), ((6, 374, 6), (53, 1, 0)), ((6, 377, 6), (52, 1, 0)), ((6, 380, 6), (51, 0, 0)), ((6, 402, 6), (58, 0, 0)), ((6, 445, 6), (61, 0, 0)), ((6, 460, 6), (62, 0, 0)), ((6, 468, 6), (38, 0, 0)), ((6, 471, 6), (39, 0, 0)), ((6, 474, 6), (40, 0, 0)), ((7, 3, 7), (7, 4, 8)), ((7, 18, 7), (1, 4, 8)), ((7, 22, 7), (0, 0, 8)), ((7, 26, 2), (0, 4, 3)), ((7, 38, 7), (2, 0, 0)), ((7, 41, 7), (5, 0, 0)), ((7, 44, 7), (3, 0, 0)), ((7, 66, 7), (4, 0, 0)), ((7, 119, 3), (11, 0, 0)), ((7, 122, 3), (0, 4, 4)), ((7, 158, 3), (12, 1, 0)), ((7, 162, 3), (5, 0, 0)), ((7, 165, 3), (6, 0, 0)), ((7, 168, 3), (13, 1, 0)), ((7, 171, 3), (7, 0, 0)), ((7, 174, 3), (14, 1, 0)), ((7, 177, 3), (8, 0, 0)), ((7, 180, 3), (15, 1, 0)), ((7, 183, 3), (9, 0, 0)), ((7, 186, 3), (16, 1, 0)), ((7, 189, 3), (17, 4, 0)), ((7, 197, 3), (1, 4, 4)), ((7, 209, 3), (2, 4, 4)), ((7, 218, 9), (1, 0, 10)), ((7, 227, 3), (4, 0, 0)), ((7, 233, 3), (3, 4, 4)), ((7, 236, 3), (10, 0, 0)), ((7, 278, 7), (6, 0, 0)), ((8, 7, 8), (6, 0, 9)), ((8, 13, 8), (7, 0, 9)), ((9, 7, 9), (0, 0, 10)), ((9, 13, 9), (1, 0, 10)), ((10, 7, 10), (0, 0, 11)), ((10, 13, 10), (1, 0, 11)), ((10, 16, 10), (2, 0, 11)), ((11, 7, 11), (0, 0, 12)), ((11, 13, 11), (1, 0, 12)), ((12, 7, 12), (0, 0, 13)), ((12, 13, 5), (0, 4, 6)), ((13, 7, 13), (0, 3, 14)), ((14, 7, 15), (0, 4, 15)), ((14, 7, 16), (0, 4, 15)), ((14, 7, 18), (0, 4, 15)), ((14, 13, 15), (1, 4, 15)), ((14, 13, 16), (1, 4, 15)), ((14, 13, 18), (1, 4, 15)), ((15, 9, 15), (2, 0, 16)), ((15, 21, 5), (1, 1, 0)), ((16, 7, 16), (2, 0, 17)), ((17, 7, 17), (0, 4, 18)), ((18, 7, 18), (2, 1, 19)), ((20, 7, 21), (0, 0, 0)), ((21, 9, 21), (1, 4, 0)), ((21, 48, 21), (2, 0, 0)), ((21, 63, 21), (0, 0, 0)), ((24, 9, 24), (0, 4, 25)), ((24, 15, 24), (1, 2, 25)), ((29, 7, 29), (0, 4, 0)), ((29, 17, 29), (1, 4, 0)), ((29, 24, 29), (2, 4, 0)), ((29, 31, 29), (3, 4, 0)), ((29, 198, 29), (4, 4, 0))]
def bc_ct : List ((Nat × Nat × Nat) × (Nat × Nat)) := [((1, 7, 2), (59, 2)), ((1, 17, 0), (2, 1)), ((1, 20, 0), (87, 1)), ((1, 21, 2), (9, 5)), ((1, 25, 6), (89, 5)), ((1, 26, 2), (11, 1)), ((1, 30, 6), (90, 1)), ((1, 31, 2), (13, 1)), ((1, 34, 6), (123, 1)), ((1, 35, 2), (14, 2)), ((1, 38, 6), (124, 2)), ((1, 39, 0), (0, 4)), ((1, 44, 6), (125, 2)), ((1, 45, 6), (88, 0)), ((1, 49, 2), (15, 2)), ((1, 52, 6), (127, 2)), ((1, 53, 2), (17, 1)), ((1, 57, 6), (129, 1)), ((1, 60, 2), (18, 3)), ((1, 64, 6), (136, 3)), ((1, 65, 2), (19, 1)), ((1, 69, 6), (137, 1)), ((1, 70, 2), (20, 2)), ((1, 73, 6), (138, 2)), ((1, 74, 2), (21, 1)), ((1, 77, 6), (139, 1)), ((1, 78, 2), (22, 1)), ((1, 81, 6), (140, 1)), ((1, 82, 2), (23, 0)), ((1, 85, 6), (141, 0)), ((1, 86, 2), (30, 2)), ((1, 89, 6), (156, 2)), ((1, 90, 2), (32, 0)), ((1, 93, 6), (155, 0)), ((1, 94, 2), (33, 3)), ((1, 97, 6), (158, 3)), ((1, 98, 2), (36, 3)), ((1, 102, 6), (160, 3)), ((1, 103, 2), (38, 1)), ((1, 106, 6), (162, 1)), ((1, 107, 2), (39, 1)), ((1, 110, 6), (167, 1)), ((1, 111, 2), (40, 0)), ((1, 114, 6), (169, 0)), ((1, 115, 2), (41, 2)), ((1, 118, 6), (170, 2)), ((1, 119, 2), (42, 1)), ((1, 122, 6), (171, 1)), ((1, 123, 2), (47, 2)), ((1, 126, 6), (176, 2)), ((1, 127, 2), (48, 1)), ((1, 130, 6), (177, 1)), ((1, 131, 2), (50, 2)), ((1, 134, 6), (179, 2)), ((1, 135, 2), (51, 2)), ((1, 138, 6), (180, 2)), ((1, 139, 2), (53, 1)), ((1, 142, 6), (182, 1)), ((1, 143, 2), (54, 4)), ((1, 147, 6), (183, 4)), ((1, 148, 2), (56, 0)), ((1, 151, 6), (185, 0)), ((1, 152, 2), (57, 0)), ((1, 155, 6), (186, 0)), ((1, 156, 2), (58, 1)), ((1, 159, 6), (187, 1)), ((2, 5, 0), (297, 1)), ((2, 23, 0), (60, 1)), ((2, 45, 0), (68, 2)), ((2, 67, 0), (85, 1)), ((2, 78, 2), (3, 0)), ((2, 84, 2), (10, 1)), ((2, 88, 0), (12, 3)), ((2, 97, 0), (188, 3)), ((2, 100, 7), (189, 0)), ((2, 131, 3), (66, 1)), ((2, 135, 3), (67, 1)), ((2, 138, 3), (61, 0)), ((2, 142, 2), (16, 1)), ((2, 148, 0), (1002, 1)), ((2, 149, 3), (62, 1)), ((2, 152, 3), (64, 1)), ((2, 155, 3), (65, 1)), ((2, 160, 0), (1002, 1)), ((2, 161, 3), (63, 2)), ((2, 165, 2), (8, 1)), ((2, 171, 0), (4, 3)), ((2, 175, 2), (5, 3)), ((2, 179, 2), (6, 3)), ((2, 190, 0), (7, 2)), ((2, 193, 2), (27, 0)), ((2, 203, 4), (70, 0)), ((2, 205, 4), (71, 0)), ((2, 209, 4), (72, 1)), ((2, 212, 2), (26, 0)), ((2, 215, 2), (25, 0)), ((2, 218, 4), (82, 0)), ((2, 224, 4), (73, 0)), ((2, 228, 4), (74, 0)), ((2, 234, 4), (81, 1)), ((2, 238, 4), (83, 0)), ((2, 251, 12), (223, 1)), ((2, 251, 13), (225, 1)), ((2, 251, 15), (227, 1)), ((2, 251, 16), (227, 1)), ((2, 251, 17), (233, 1)), ((2, 251, 18), (227, 1)), ((2, 257, 4), (69, 0)), ((2, 263, 0), (262, 2)), ((2, 269, 2), (29, 1)), ((2, 273, 2), (24, 0)), ((2, 276, 2), (31, 1)), ((2, 284, 2), (28, 1)), ((2, 287, 4), (75, 1)), ((2, 290, 2), (34, 2)), ((2, 294, 2), (35, 0)), ((2, 298, 4), (76, 2)), ((2, 301, 4), (77, 2)), ((2, 304, 2), (37, 5)), ((2, 308, 4), (78, 1)), ((2, 311, 4), (79, 2)), ((2, 314, 4), (80, 2)), ((2, 322, 2), (46, 3)), ((2, 325, 2), (44, 3)), ((2, 329, 0), (294, 1)), ((2, 333, 2), (45, 4)), ((2, 337, 2), (43, 2)), ((2, 341, 0), (295, 1)), ((2, 344, 0), (261, 2)), ((2, 347, 2), (49, 2)), ((2, 351, 0), (52, 1)), ((2, 354, 2), (51, 2)), ((2, 369, 2), (55, 1)), ((2, 387, 0), (1000, 5)), ((2, 397, 21), (239, 0)), ((3, 3, 0), (297, 1)), ((3, 11, 0), (238, 1)), ((3, 32, 21), (239, 0)), ((3, 36, 21), (240, 1)), ((3, 60, 3), (64, 1)), ((3, 64, 0), (7, 2)), ((4, 9, 0), (297, 1)), ((4, 33, 3), (62, 1)), ((4, 39, 2), (8, 1)), ((4, 47, 3), (63, 2)), ((4, 54, 4), (70, 0)), ((4, 60, 4), (77, 2)), ((4, 64, 0), (263, 1)), ((4, 72, 4), (79, 2)), ((4, 75, 4), (80, 2)), ((4, 84, 4), (76, 2)), ((4, 87, 4), (78, 1)), ((4, 90, 2), (27, 0)), ((4, 93, 2), (28, 1)), ((4, 96, 4), (75, 1)), ((4, 99, 4), (84, 2)), ((4, 102, 4), (69, 0)), ((4, 105, 4), (72, 1)), ((5, 3, 0), (297, 1)), ((5, 19, 0), (264, 1)), ((6, 5, 0), (297, 1)), ((6, 118, 6), (93, 0)), ((6, 128, 0), (94, 1)), ((6, 132, 6), (95, 0)), ((6, 138, 6), (96, 0)), ((6, 141, 0), (97, 1)), ((6, 144, 6), (98, 1)), ((6, 150, 24), (249, 0)), ((6, 155, 24), (254, 1)), ((6, 165, 6), (92, 0)), ((6, 168, 6), (100, 1)), ((6, 171, 0), (104, 4)), ((6, 175, 6), (101, 1)), ((6, 182, 6), (102, 0)), ((6, 186, 6), (103, 4)), ((6, 190, 6), (105, 2)), ((6, 194, 6), (91, 2)), ((6, 198, 6), (106, 0)), ((6, 201, 6), (110, 0)), ((6, 204, 6), (111, 0)), ((6, 207, 6), (119, 1)), ((6, 213, 6), (107, 1)), ((6, 216, 6), (108, 0)), ((6, 219, 6), (109, 0)), ((6, 225, 6), (112, 0)), ((6, 228, 6), (114, 0)), ((6, 231, 6), (115, 2)), ((6, 234, 6), (113, 0)), ((6, 237, 6), (116, 0)), ((6, 240, 6), (117, 0)), ((6, 243, 6), (118, 0)), ((6, 252, 6), (122, 3)), ((6, 256, 6), (99, 0)), ((6, 262, 0), (120, 1)), ((6, 266, 6), (121, 0)), ((6, 279, 6), (126, 1)), ((6, 282, 6), (128, 2)), ((6, 290, 0), (132, 3)), ((6, 294, 6), (133, 4)), ((6, 298, 0), (135, 2)), ((6, 302, 6), (134, 1)), ((6, 305, 0), (130, 1)), ((6, 310, 6), (131, 1)), ((6, 315, 6), (147, 0)), ((6, 321, 0), (263, 1)), ((6, 326, 6), (151, 2)), ((6, 332, 6), (149, 2)), ((6, 335, 6), (150, 1)), ((6, 338, 6), (152, 2)), ((6, 341, 6), (153, 3)), ((6, 344, 6), (154, 1)), ((6, 347, 0), (262, 2)), ((6, 359, 6), (146, 1)), ((6, 362, 6), (148, 1)), ((6, 365, 6), (144, 0)), ((6, 368, 6), (145, 0)), ((6, 384, 6), (143, 2)), ((6, 387, 6), (142, 0)), ((6, 390, 6), (157, 1)), ((6, 395, 6), (159, 0)), ((6, 399, 6), (161, 1)), ((6, 405, 0), (166, 1)), ((6, 409, 0), (264, 1)), ((6, 416, 6), (164, 0)), ((6, 419, 6), (165, 1)), ((6, 426, 6), (163, 1)), ((6, 430, 6), (168, 0)), ((6, 433, 0), (174, 1)), ((6, 437, 6), (175, 3)), ((6, 441, 6), (173, 3)), ((6, 448, 6), (172, 0)), ((6, 451, 0), (261, 2)), ((6, 454, 6), (178, 2)), ((6, 457, 6), (181, 2)), ((6, 465, 6), (184, 0)), ((7, 9, 0), (297, 1)), ((7, 17, 0), (60, 1)), ((7, 30, 7), (191, 1)), ((7, 34, 0), (12, 3)), ((7, 47, 7), (192, 1)), ((7, 51, 7), (193, 0)), ((7, 54, 7), (195, 1)), ((7, 57, 7), (196, 0)), ((7, 60, 7), (197, 0)), ((7, 63, 7), (194, 1)), ((7, 71, 24), (249, 0)), ((7, 77, 24), (251, 2)), ((7, 81, 24), (254, 1)), ((7, 85, 0), (262, 2)), ((7, 92, 24), (256, 1)), ((7, 96, 0), (218, 3)), ((7, 99, 7), (198, 0)), ((7, 103, 7), (200, 1)), ((7, 107, 7), (190, 0)), ((7, 110, 7), (203, 1)), ((7, 113, 7), (199, 0)), ((7, 116, 7), (217, 1)), ((7, 126, 21), (239, 0)), ((7, 130, 7), (201, 0)), ((7, 133, 3), (66, 1)), ((7, 136, 3), (61, 0)), ((7, 139, 7), (202, 1)), ((7, 144, 7), (204, 2)), ((7, 147, 0), (219, 3)), ((7, 148, 21), (242, 1)), ((7, 152, 7), (205, 0)), ((7, 155, 7), (207, 0)), ((7, 193, 7), (209, 0)), ((7, 200, 3), (67, 1)), ((7, 202, 7), (206, 1)), ((7, 205, 0), (7, 2)), ((7, 214, 21), (240, 1)), ((7, 221, 0), (220, 4)), ((7, 226, 0), (221, 3)), ((7, 230, 7), (208, 1)), ((7, 239, 7), (210, 0)), ((7, 242, 7), (212, 0)), ((7, 247, 0), (234, 4)), ((7, 250, 7), (211, 0)), ((7, 253, 7), (213, 0)), ((7, 258, 0), (232, 2)), ((7, 261, 7), (214, 0)), ((7, 266, 0), (230, 4)), ((7, 269, 7), (215, 0)), ((7, 274, 0), (228, 4)), ((7, 275, 7), (216, 0)), ((7, 283, 0), (222, 2)), ((7, 288, 0), (224, 2)), ((8, 1, 0), (280, 5)), ((9, 1, 0), (283, 1)), ((10, 1, 0), (283, 1)), ((11, 1, 0), (283, 1)), ((12, 1, 0), (283, 1)), ((13, 1, 0), (283, 1)), ((14, 1, 0), (297, 1)), ((14, 16, 12), (223, 1)), ((14, 16, 13), (225, 1)), ((14, 16, 15), (227, 1)), ((14, 16, 16), (227, 1)), ((14, 16, 17), (233, 1)), ((14, 16, 18), (227, 1)), ((14, 22, 15), (229, 3)), ((14, 22, 16), (231, 3)), ((14, 22, 18), (235, 3)), ((15, 3, 0), (226, 3)), ((15, 15, 5), (86, 1)), ((15, 25, 0), (264, 1)), ((16, 1, 0), (226, 3)), ((17, 1, 0), (283, 1)), ((17, 13, 12), (223, 1)), ((17, 13, 13), (225, 1)), ((17, 13, 15), (227, 1)), ((17, 13, 16), (227, 1)), ((17, 13, 17), (233, 1)), ((17, 13, 18), (227, 1)), ((18, 1, 0), (226, 3)), ((19, 1, 0), (297, 1)), ((20, 1, 0), (236, 1)), ((21, 1, 0), (237, 1)), ((21, 66, 0), (1001, 2)), ((21, 69, 21), (245, 1)), ((21, 73, 0), (284, 3)), ((21, 79, 0), (261, 2)), ((21, 118, 0), (246, 2)), ((21, 123, 21), (241, 1)), ((21, 129, 21), (244, 0)), ((21, 131, 21), (243, 3)), ((22, 105, 0), (247, 3)), ((24, 335, 24), (250, 0)), ((24, 492, 24), (252, 0)), ((24, 495, 0), (260, 2)), ((24, 498, 0), (272, 2)), ((24, 505, 24), (249, 0)), ((24, 633, 24), (251, 2)), ((24, 637, 0), (257, 4)), ((24, 640, 0), (265, 4)), ((24, 1059, 0), (247, 3)), ((24, 1062, 0), (248, 4)), ((25, 9, 0), (255, 2)), ((25, 38, 0), (262, 2)), ((25, 88, 0), (258, 1)), ((25, 92, 0), (261, 2)), ((25, 95, 0), (259, 4)), ((27, 48, 0), (268, 1)), ((27, 67, 0), (273, 2)), ((27, 71, 0), (270, 2)), ((27, 96, 0), (267, 3)), ((27, 157, 0), (275, 1)), ((27, 161, 0), (276, 1)), ((27, 164, 0), (274, 1)), ((27, 183, 0), (262, 2)), ((27, 224, 0), (261, 2)), ((27, 228, 0), (266, 4)), ((27, 232, 0), (271, 4)), ((27, 241, 0), (253, 3)), ((27, 244, 0), (269, 4)), ((27, 414, 0), (255, 2)), ((29, 1, 0), (297, 1)), ((30, 1, 0), (277, 1)), ((30, 7, 0), (279, 2)), ((30, 16, 0), (278, 5)), ((31, 1, 0), (297, 1)), ((32, 194, 0), (261, 2)), ((32, 201, 0), (285, 2)), ((33, 150, 0), (1000, 5)), ((33, 300, 0), (287, 3)), ((33, 304, 0), (262, 2)), ((34, 1, 0), (282, 1)), ((34, 7, 0), (281, 2)), ((35, 1, 0), (289, 1)), ((35, 7, 0), (288, 2)), ((36, 7, 0), (290, 2)), ((37, 1, 0), (289, 1)), ((38, 311, 0), (296, 1))]
def bc_nt : List ((Nat × Nat) × Nat) := [((1, 7), 2), ((1, 21), 5), ((1, 25), 5), ((1, 26), 1), ((1, 30), 1), ((1, 31), 1), ((1, 34), 1), ((1, 35), 2), ((1, 38), 2), ((1, 44), 2), ((1, 45), 0), ((1, 49), 2), ((1, 52), 2), ((1, 53), 1), ((1, 57), 1), ((1, 60), 3), ((1, 64), 3), ((1, 65), 1), ((1, 69), 1), ((1, 70), 2), ((1, 73), 2), ((1, 74), 1), ((1, 77), 1), ((1, 78), 1), ((1, 81), 1), ((1, 82), 0), ((1, 85), 0), ((1, 86), 2), ((1, 89), 2), ((1, 90), 0), ((1, 93), 0), ((1, 94), 3), ((1, 97), 3), ((1, 98), 3), ((1, 102), 3), ((1, 103), 1), ((1, 106), 1), ((1, 107), 1), ((1, 110), 1), ((1, 111), 0), ((1, 114), 0), ((1, 115), 2), ((1, 118), 2), ((1, 119), 1), ((1, 122), 1), ((1, 123), 2), ((1, 126), 2), ((1, 127), 1), ((1, 130), 1), ((1, 131), 2), ((1, 134), 2), ((1, 135), 2), ((1, 138), 2), ((1, 139), 1), ((1, 142), 1), ((1, 143), 4), ((1, 147), 4), ((1, 148), 0), ((1, 151), 0), ((1, 152), 0), ((1, 155), 0), ((1, 156), 1), ((1, 159), 1), ((2, 78), 0), ((2, 84), 1), ((2, 100), 0), ((2, 131), 1), ((2, 135), 1), ((2, 138), 0), ((2, 142), 1), ((2, 149), 1), ((2, 152), 1), ((2, 155), 1), ((2, 161), 2), ((2, 165), 1), ((2, 175), 3), ((2, 179), 3), ((2, 193), 0), ((2, 203), 0), ((2, 205), 0), ((2, 209), 1), ((2, 212), 0), ((2, 215), 0), ((2, 218), 0), ((2, 224), 0), ((2, 228), 0), ((2, 234), 1), ((2, 238), 0), ((2, 251), 1), ((2, 257), 0), ((2, 269), 1), ((2, 273), 0), ((2, 276), 1), ((2, 284), 1), ((2, 287), 1), ((2, 290), 2), ((2, 294), 0), ((2, 298), 2), ((2, 301), 2), ((2, 304), 5), ((2, 308), 1), ((2, 311), 2), ((2, 314), 2), ((2, 322), 3), ((2, 325), 3), ((2, 333), 4), ((2, 337), 2), ((2, 347), 2), ((2, 354), 2), ((2, 369), 1), ((2, 397), 0), ((3, 32), 0), ((3, 36), 1), ((3, 60), 1), ((4, 33), 1), ((4, 39), 1), ((4, 47), 2), ((4, 54), 0), ((4, 60), 2), ((4, 72), 2), ((4, 75), 2), ((4, 84), 2), ((4, 87), 1), ((4, 90), 0), ((4, 93), 1), ((4, 96), 1), ((4, 99), 2), ((4, 102), 0), ((4, 105), 1), ((6, 118), 0), ((6, 132), 0), ((6, 138), 0), ((6, 144), 1), ((6, 150), 0), ((6, 155), 1), ((6, 165), 0), ((6, 168), 1), ((6, 175), 1), ((6, 182), 0), ((6, 186), 4), ((6, 190), 2), ((6, 194), 2), ((6, 198), 0), ((6, 201), 0), ((6, 204), 0), ((6, 207), 1), ((6, 213), 1), ((6, 216), 0), ((6, 219), 0), ((6, 225), 0), ((6, 228), 0), ((6, 231), 2), ((6, 234), 0), ((6, 237), 0), ((6, 240), 0), ((6, 243), 0), ((6, 252), 3), ((6, 256), 0), ((6, 266), 0), ((6, 279), 1), ((6, 282), 2), ((6, 294), 4), ((6, 302), 1), ((6, 310), 1), ((6, 315), 0), ((6, 326), 2), ((6, 332), 2), ((6, 335), 1), ((6, 338), 2), ((6, 341), 3), ((6, 344), 1), ((6, 359), 1), ((6, 362), 1), ((6, 365), 0), ((6, 368), 0), ((6, 384), 2), ((6, 387), 0), ((6, 390), 1), ((6, 395), 0), ((6, 399), 1), ((6, 416), 0), ((6, 419), 1), ((6, 426), 1), ((6, 430), 0), ((6, 437), 3), ((6, 441), 3), ((6, 448), 0), ((6, 454), 2), ((6, 457), 2), ((6, 465), 0), ((7, 30), 1), ((7, 47), 1), ((7, 51), 0), ((7, 54), 1), ((7, 57), 0), ((7, 60), 0), ((7, 63), 1), ((7, 71), 0), ((7, 77), 2), ((7, 81), 1), ((7, 92), 1), ((7, 99), 0), ((7, 103), 1), ((7, 107), 0), ((7, 110), 1), ((7, 113), 0), ((7, 116), 1), ((7, 126), 0), ((7, 130), 0), ((7, 133), 1), ((7, 136), 0), ((7, 139), 1), ((7, 144), 2), ((7, 148), 1), ((7, 152), 0), ((7, 155), 0), ((7, 193), 0), ((7, 200), 1), ((7, 202), 1), ((7, 214), 1), ((7, 230), 1), ((7, 239), 0), ((7, 242), 0), ((7, 250), 0), ((7, 253), 0), ((7, 261), 0), ((7, 269), 0), ((7, 275), 0), ((14, 16), 1), ((14, 22), 3), ((15, 15), 1), ((17, 13), 1), ((21, 69), 1), ((21, 123), 1), ((21, 129), 0), ((21, 131), 3), ((24, 335), 0), ((24, 492), 0), ((24, 505), 0), ((24, 633), 2), ((29, 27), 0), ((29, 202), 1), ((33, 86), 0)]
def bc_lt : List ((Nat × Nat) × AV) := [((1, 58), vJ 4294967295), ((2, 28), vI 39065), ((2, 182), vJ 9000000000000000001), ((2, 184), vJ (-1)), ((2, 186), vJ 9000000000000000000), ((2, 188), vJ (-2)), ((2, 202), vI 100000), ((2, 282), vJ 15), ((2, 297), vI (-2147483648)), ((2, 317), vJ (-9223372036854775808)), ((2, 361), vJ 1103515245), ((2, 363), vJ 12345), ((2, 365), vJ 2147483647), ((2, 367), vJ 65536), ((5, 25), vJ 1000000000000), ((6, 58), vI 39065), ((6, 148), vR 5), ((6, 286), vJ 9000000000000000000), ((6, 288), vJ 9000000000000000001), ((6, 308), vJ (-1)), ((6, 313), vJ (-2)), ((6, 383), vI 100000), ((6, 393), vJ 15), ((6, 398), vI (-2147483648)), ((6, 412), vJ 1000000000000), ((6, 414), vJ (-1000000000000)), ((6, 424), vJ (-9223372036854775808)), ((6, 463), vI 1103515245), ((6, 464), vI 2147483647), ((7, 69), vR 3), ((7, 90), vR 4), ((15, 30), vJ 1000000000000), ((27, 227), vI 65536), ((28, 76), vI 56320), ((28, 110), vI 55232), ((32, 200), vI 2147483639), ((38, 314), vJ 6148914691236517205), ((38, 316), vJ 3689348814741910323), ((38, 318), vJ 1085102592571150095), ((39, 264), vI 65536)]
def bc_wt : List ((Nat × Nat) × (Nat × Nat)) := [((1, 8), (2, 30)), ((1, 13), (35, 6)), ((1, 15), (37, 6)), ((1, 18), (6, 63)), ((2, 21), (3, 18)), ((2, 43), (4, 5)), ((2, 65), (5, 2)), ((2, 95), (7, 8)), ((2, 104), (8, 8)), ((2, 146), (35, 6)), ((2, 158), (37, 6)), ((3, 9), (21, 3)), ((3, 40), (9, 2)), ((3, 45), (11, 2)), ((3, 51), (10, 3)), ((7, 15), (3, 18)), ((7, 94), (8, 8)), ((7, 142), (9, 2)), ((7, 212), (10, 3)), ((7, 224), (11, 2)), ((7, 245), (18, 3)), ((7, 256), (17, 1)), ((7, 264), (16, 3)), ((7, 272), (15, 3)), ((7, 281), (12, 1)), ((7, 286), (13, 1))]
def bc_gt : List ((Nat × Nat) × AV) := [((21, 39), vR 2), ((24, 38), vI 1), ((24, 1053), vR 9), ((27, 44), vI 1), ((27, 59), vI 0), ((27, 63), vI 8), ((29, 13), vR 10), ((29, 20), vR 11)]
def bc_kt : List ((Nat × Nat) × Nat) := [((2, 43), 106), ((21, 7), 105), ((33, 2), 105)]
def bc_xt : List (Nat × Nat × Nat) := [(1, 8, 2), (1, 13, 35), (1, 15, 37), (1, 18, 6), (2, 21, 3), (2, 43, 4), (2, 65, 5), (2, 95, 7), (2, 104, 8), (2, 146, 35), (2, 158, 37), (3, 9, 21), (3, 40, 9), (3, 45, 11), (3, 51, 10), (7, 15, 3), (7, 94, 8), (7, 142, 9), (7, 212, 10), (7, 224, 11), (7, 245, 18), (7, 256, 17), (7, 264, 16), (7, 272, 15), (7, 281, 12), (7, 286, 13)]
def bc_ht : List (Nat × List (Nat × Nat × Nat × Nat)) := [(11, [(30, 46, 49, 8)]), (0, [(0, 10, 13, 35), (0, 10, 17, 37)])]
def bc_rowK : Nat := 4
def bc_mi (k : Nat) : MethodName × ByteArray × Nat × Nat × Nat := bc_tab.getD k (⟨"", "", ""⟩, ⟨#[]⟩, 0, 0, 0)
def bc_code (k : Nat) : ByteArray := (bc_mi k).2.1
def bc_maxL (k : Nat) : Nat := (bc_mi k).2.2.1
def bc_rt (k : Nat) : Nat := (bc_mi k).2.2.2.1
def bc_own (k : Nat) : Nat := (bc_mi k).2.2.2.2
/-- 0, or one more than the class whose constructor it is -/
def bc_ini (k : Nat) : Nat := if (bc_mi k).1.name = "<init>" then bc_own k + 1 else 0
/-- what is asked of a decoded instruction: its length, its number's range -/
def bc_ok (i : Instr) (len : Nat) : Bool := match i with
  | .iconst z => decide (-1 ≤ z ∧ z ≤ 5) && len == 1
  | .bipush z => decide (-128 ≤ z ∧ z ≤ 127) && len == 2
  | .sipush z => decide (-32768 ≤ z ∧ z ≤ 32767) && len == 3
  | .ldc _ => len == 2
  | .ldc_w _ => len == 3
  | .ldc2_w _ => len == 3
  | .iload _ => len == 2
  | .lload _ => len == 2
  | .aload _ => len == 2
  | .istore _ => len == 2
  | .lstore _ => len == 2
  | .astore _ => len == 2
  | .iinc _ _ => len == 3
  | .goto _ => len == 3
  | .ifCond _ _ => len == 3
  | .if_icmp _ _ => len == 3
  | .ifnull _ => len == 3
  | .ifnonnull _ => len == 3
  | .if_acmp _ _ => len == 3
  | .getfield _ => len == 3
  | .putfield _ => len == 3
  | .getstatic _ => len == 3
  | .new _ => len == 3
  | .anewarray _ => len == 3
  | .checkcast _ => len == 3
  | .invokestatic _ => len == 3
  | .invokespecial _ => len == 3
  | .invokevirtual _ => len == 3
  | .invokeinterface _ _ => len == 5
  | .newarray _ => len == 2
  | .tableswitch _ _ _ _ => true
  | .lookupswitch _ _ => true
  | _ => len == 1
def bc_at (k pc : Nat) : Option (Instr × Nat) := match decode (bc_code k) pc with
  | .ok (i, len) => if bc_ok i len = true then some (i, len) else none
  | .error _ => none
def bc_fl (ci idx c : Nat) : Option (Int × Nat × Nat) := bc_ft.lookup (ci, idx, c)
def bc_cl (ci idx c : Nat) : Option (Nat × Nat) := bc_ct.lookup (ci, idx, c)
def bc_an (ci idx : Nat) : Nat := (bc_nt.lookup (ci, idx)).getD 0
def bc_ld (ci idx : Nat) : Option AV := bc_lt.lookup (ci, idx)
def bc_nc (ci idx : Nat) : Option (Nat × Nat) := bc_wt.lookup (ci, idx)
def bc_gs (ci idx : Nat) : Option AV := bc_gt.lookup (ci, idx)
def bc_ak (ci idx : Nat) : Option Nat := bc_kt.lookup (ci, idx)
def bc_ck (ci idx c : Nat) : Bool := bc_xt.contains (ci, idx, c)
/-- a method's handlers: from, to, at, the kind that is caught -/
def bc_hs (k : Nat) : List (Nat × Nat × Nat × Nat) := (bc_ht.lookup k).getD []
def bc_hfind : List (Nat × Nat × Nat × Nat) → Nat → Nat → Option Nat
  | [], _, _ => none
  | (a, b, t, kd) :: r, pc, c => if a ≤ pc ∧ pc < b ∧ c = kd then some t else bc_hfind r pc c
def bc_hnd (k pc c : Nat) : Option Nat := bc_hfind (bc_hs k) pc c
def bc_nxt (k : Nat) (i : Instr) (pc len : Nat) (ls st : List AV) (h : AH) : Option NX := match i with
  | .iconst z => bc_go pc len ls h (some (vI z :: st))
  | .bipush z => bc_go pc len ls h (some (vI z :: st))
  | .sipush z => bc_go pc len ls h (some (vI z :: st))
  | .lconst z => bc_go pc len ls h (some (vJ (z.val : Nat) :: st))
  | .aconst_null => bc_go pc len ls h (some (vR 0 :: st))
  | .ldc idx => bc_go pc len ls h ((bc_ld (bc_own k) idx).map (· :: st))
  | .ldc_w idx => bc_go pc len ls h ((bc_ld (bc_own k) idx).map (· :: st))
  | .ldc2_w idx => bc_go pc len ls h ((bc_ld (bc_own k) idx).map (· :: st))
  | .iload n => bc_go pc len ls h (bc_ldI ls n st)
  | .iload_n n => bc_go pc len ls h (bc_ldI ls n.val st)
  | .lload n => bc_go pc len ls h (bc_ldJ ls n st)
  | .lload_n n => bc_go pc len ls h (bc_ldJ ls n.val st)
  | .aload n => bc_go pc len ls h (bc_ldR ls n st)
  | .aload_n n => bc_go pc len ls h (bc_ldR ls n.val st)
  | .istore n => bc_stI pc len ls h n st
  | .istore_n n => bc_stI pc len ls h n.val st
  | .lstore n => bc_stJ pc len ls h n st
  | .lstore_n n => bc_stJ pc len ls h n.val st
  | .astore n => bc_stR pc len ls h n st
  | .astore_n n => bc_stR pc len ls h n.val st
  | .iinc n z => if len = 3 then bc_inc pc len ls h n z st else none
  | .iadd => bc_go pc len ls h (bc_i2 (fun a b => w32 (a + b)) st)
  | .isub => bc_go pc len ls h (bc_i2 (fun a b => w32 (a - b)) st)
  | .imul => bc_go pc len ls h (bc_i2 (fun a b => w32 (a * b)) st)
  | .idiv => bc_go pc len ls h (bc_idiv st)
  | .irem => bc_go pc len ls h (bc_irem st)
  | .ineg => bc_go pc len ls h (bc_i1 (fun a => vI (w32 (-a))) st)
  | .iand => bc_go pc len ls h (bc_i2 iAnd st)
  | .ior => bc_go pc len ls h (bc_i2 iOr st)
  | .ixor => bc_go pc len ls h (bc_i2 iXor st)
  | .ishl => bc_go pc len ls h (bc_i2 iShl st)
  | .ishr => bc_go pc len ls h (bc_i2 iShr st)
  | .iushr => bc_go pc len ls h (bc_i2 iUshr st)
  | .ladd => bc_go pc len ls h (bc_j2 (fun a b => w64 (a + b)) st)
  | .lsub => bc_go pc len ls h (bc_j2 (fun a b => w64 (a - b)) st)
  | .lmul => bc_go pc len ls h (bc_j2 (fun a b => w64 (a * b)) st)
  | .ldiv => bc_go pc len ls h (bc_jdiv st)
  | .lrem => bc_go pc len ls h (bc_jrem st)
  | .lneg => bc_go pc len ls h (bc_j1 (fun a => vJ (w64 (-a))) st)
  | .land => bc_go pc len ls h (bc_j2 jAnd st)
  | .lor => bc_go pc len ls h (bc_j2 jOr st)
  | .lxor => bc_go pc len ls h (bc_j2 jXor st)
  | .lshl => bc_go pc len ls h (bc_ji jShl st)
  | .lshr => bc_go pc len ls h (bc_ji jShr st)
  | .lushr => bc_go pc len ls h (bc_ji jUshr st)
  | .lcmp => bc_go pc len ls h (bc_lcmp st)
  | .i2l => bc_go pc len ls h (bc_i1 (fun a => vJ a) st)
  | .l2i => bc_go pc len ls h (bc_j1 (fun a => vI (w32 a)) st)
  | .i2b => bc_go pc len ls h (bc_i1 (fun a => vI (i2bZ a)) st)
  | .i2c => bc_go pc len ls h (bc_i1 (fun a => vI (i2cZ a)) st)
  | .dup => bc_go pc len ls h (bc_dup st)
  | .dup_x1 => bc_go pc len ls h (bc_dupx1 st)
  | .dup2 => bc_go pc len ls h (bc_dup2 st)
  | .pop => bc_go pc len ls h (bc_pop st)
  | .goto off => bc_jmp pc off ls st h
  | .ifCond c off => match st with
    | .inl a :: r => bc_br (bc_cc c a 0) pc off ls r h
    | _ => none
  | .if_icmp c off => match st with
    | .inl b :: .inl a :: r => bc_br (bc_cc c a b) pc off ls r h
    | _ => none
  | .ifnull off => bc_nul pc off ls h true st
  | .ifnonnull off => bc_nul pc off ls h false st
  | .if_acmp c off => bc_acmp pc off ls h (decide (c = .eq)) st
  | .tableswitch dflt lo hi offs => bc_tsw pc dflt lo hi offs ls h st
  | .lookupswitch dflt ps => bc_lsw pc dflt ps ls h st
  | .getfield idx => bc_getf pc ls h (bc_fl (bc_own k) idx) st
  | .putfield idx => bc_putf pc ls h (bc_fl (bc_own k) idx) (bc_ini k) st
  | .getstatic idx => bc_go pc len ls h ((bc_gs (bc_own k) idx).map (· :: st))
  | .iaload => bc_ald pc ls h (fun c => c == 101 || c == 107) 0 st
  | .laload => bc_ald pc ls h (fun c => c == 102) 3 st
  | .baload => bc_ald pc ls h (fun c => c == 103 || c == 104 || c == 108) 0 st
  | .aaload => bc_ald pc ls h (fun c => c == 105 || c == 106) 4 st
  | .iastore => bc_iast pc ls h st
  | .lastore => bc_jast pc ls h st
  | .bastore => bc_bast pc ls h st
  | .aastore => bc_aast bc_rowK pc ls h st
  | .arraylength => bc_alen pc ls h st
  | .newarray ty => match ty with
    | .int => bc_newa pc len ls h 101 st
    | .long => bc_newa pc len ls h 102 st
    | .byte => bc_newa pc len ls h 103 st
    | .boolean => bc_newa pc len ls h 104 st
    | _ => none
  | .anewarray idx => match bc_ak (bc_own k) idx with
    | some c => bc_newa pc len ls h c st
    | none => none
  | .new idx => match bc_nc (bc_own k) idx with
    | some (c, n) => some (.inl (pc + len, ls, vR (hN h) :: st, nw h c 0 n))
    | none => none
  | .checkcast idx => match st with
    | .inr (.inr (.inl a)) :: r => if bc_ck (bc_own k) idx (hK h a) = true then some (.inl (pc + len, ls, vR a :: r, h)) else none
    | _ => none
  | .invokestatic idx => bc_invS pc ls h st (bc_cl (bc_own k) idx 0)
  | .invokespecial idx => bc_invS pc ls h st (bc_cl (bc_own k) idx 0)
  | .invokevirtual idx => bc_invV pc 3 ls h st (bc_an (bc_own k) idx) (bc_cl (bc_own k) idx)
  | .invokeinterface idx _ => bc_invV pc 5 ls h st (bc_an (bc_own k) idx) (bc_cl (bc_own k) idx)
  | .return_ => match st with
    | [] => if bc_rt k = 0 then some (.inr (.inl oV)) else none
    | _ => none
  | .ireturn => bc_ret (bc_rt k) st
  | .lreturn => bc_ret (bc_rt k) st
  | .areturn => bc_ret (bc_rt k) st
  | .athrow => match st with
    | .inr (.inr (.inl a)) :: _ => if hK h a ≠ 0 ∧ bc_hs k = [] then some (.inr (.inl (oT a))) else none
    | _ => none
  | _ => none
/-- the run: fuel, frames left, method, pc, locals, stack, heap -/
def bc_run : Nat → Nat → Nat → Nat → List AV → List AV → AH → Option (AO × AH)
  | 0, _, _, _, _, _, _ => none
  | n + 1, d, k, pc, ls, st, h => match bc_at k pc with
    | none => none
    | some (i, len) => match bc_nxt k i pc len ls st h with
      | none => none
      | some (.inl (pc', ls', st', h')) => bc_run n d k pc' ls' st' h'
      | some (.inr (.inl o)) => some (o, h)
      | some (.inr (.inr (cal, args, rest))) => match d with
        | 0 => none
        | d' + 1 => match bc_run n d' cal 0 (bc_entry args (bc_maxL cal)) [] h with
          | none => none
          | some (.inl none, h') => bc_run n (d' + 1) k (pc + len) ls rest h'
          | some (.inl (some v), h') => bc_run n (d' + 1) k (pc + len) ls (v :: rest) h'
          | some (.inr a, h') => match bc_hnd k pc (hK h' a) with
            | some pt => bc_run n (d' + 1) k pt ls [vR a] h'
            | none => some (.inr a, h')
/-- from here the machine comes to an end in Q -/
def Ev (d k pc : Nat) (ls st : List AV) (h : AH) (Q : AO → AH → Prop) : Prop := ∃ (n : Nat) (o : AO) (h' : AH), bc_run n d k pc ls st h = some (o, h') ∧ Q o h'
/-- what is done with a callee's outcome -/
def kont (d k p0 pc : Nat) (ls st : List AV) (Q : AO → AH → Prop) : AO → AH → Prop
  | .inl none, h => Ev d k pc ls st h Q
  | .inl (some v), h => Ev d k pc ls (v :: st) h Q
  | .inr a, h => match bc_hnd k p0 (hK h a) with
    | some pt => Ev d k pt ls [vR a] h Q
    | none => Q (.inr a) h
theorem kont_v {d k p0 pc : Nat} {ls st : List AV} {Q : AO → AH → Prop} {h : AH} : kont d k p0 pc ls st Q oV h = Ev d k pc ls st h Q := rfl
theorem kont_r {d k p0 pc : Nat} {ls st : List AV} {Q : AO → AH → Prop} {h : AH} {v : AV} : kont d k p0 pc ls st Q (oR v) h = Ev d k pc ls (v :: st) h Q := rfl
theorem kont_t {d k p0 pc : Nat} {ls st : List AV} {Q : AO → AH → Prop} {h : AH} {a : Nat} (hk : bc_hs k = []) : kont d k p0 pc ls st Q (oT a) h = Q (oT a) h := by
  simp only [kont, bc_hnd, hk, bc_hfind]
theorem kont_h {d k p0 pc pt : Nat} {ls st : List AV} {Q : AO → AH → Prop} {h : AH} {a : Nat} (hk : bc_hnd k p0 (hK h a) = some pt) : kont d k p0 pc ls st Q (oT a) h = Ev d k pt ls [vR a] h Q := by
  simp only [kont, hk]
theorem bc_mono : ∀ (n d k pc : Nat) (ls st : List AV) (h : AH) (r : AO × AH), bc_run n d k pc ls st h = some r → bc_run (n + 1) d k pc ls st h = some r := by
  intro n
  induction n with
  | zero => intro d k pc ls st h r e; simp [bc_run] at e
  | succ n ih =>
    intro d k pc ls st h r e
    rw [bc_run] at e ⊢
    cases hi : bc_at k pc with
    | none => rw [hi] at e; cases e
    | some q =>
      obtain ⟨i, len⟩ := q
      rw [hi] at e
      dsimp only at e ⊢
      cases hn : bc_nxt k i pc len ls st h with
      | none => rw [hn] at e; cases e
      | some x =>
        rw [hn] at e
        rcases x with ⟨pc', ls', st', h'⟩ | o | ⟨cal, args, rest⟩
        · exact ih _ _ _ _ _ _ _ e
        · exact e
        · cases d with
          | zero => cases e
          | succ d' =>
            dsimp only at e ⊢
            cases hc : bc_run n d' cal 0 (bc_entry args (bc_maxL cal)) [] h with
            | none => rw [hc] at e; cases e
            | some z =>
              rw [hc] at e
              rw [ih _ _ _ _ _ _ _ hc]
              obtain ⟨o, h'⟩ := z
              rcases o with (_ | v) | a
              · exact ih _ _ _ _ _ _ _ e
              · exact ih _ _ _ _ _ _ _ e
              · dsimp only at e ⊢
                cases hh : bc_hnd k pc (hK h' a) with
                | none => rw [hh] at e; exact e
                | some pt => rw [hh] at e; exact ih _ _ _ _ _ _ _ e
theorem bc_monoL {n m d k pc : Nat} {ls st : List AV} {h : AH} {r : AO × AH} (e : bc_run n d k pc ls st h = some r) (hm : n ≤ m) : bc_run m d k pc ls st h = some r := by
  obtain ⟨j, rfl⟩ := Nat.exists_eq_add_of_le hm
  induction j with
  | zero => exact e
  | succ j ih => exact bc_mono _ _ _ _ _ _ _ _ (ih (Nat.le_add_right _ _))
theorem bc_at_of {k pc len : Nat} {c : ByteArray} {i : Instr} (hc : bc_code k = c) (hd : decode c pc = .ok (i, len)) (hok : bc_ok i len = true) : bc_at k pc = some (i, len) := by
  unfold bc_at
  rw [hc, hd]
  dsimp only
  rw [if_pos hok]
section EV
variable {d k pc len pc' : Nat} {ls ls' st st' : List AV} {h h' : AH} {Q : AO → AH → Prop} {c : ByteArray} {i : Instr}
/-- one step -/
theorem ev_n (hc : bc_code k = c) (hd : decode c pc = .ok (i, len)) (hn : bc_nxt k i pc len ls st h = some (.inl (pc', ls', st', h'))) (hok : bc_ok i len = true := by rfl) : Ev d k pc ls st h Q ↔ Ev d k pc' ls' st' h' Q := by
  have hi := bc_at_of hc hd hok
  constructor
  · rintro ⟨n, o, h1, e, q⟩
    cases n with
    | zero => simp [bc_run] at e
    | succ n =>
      rw [bc_run, hi] at e
      dsimp only at e
      rw [hn] at e
      exact ⟨n, o, h1, e, q⟩
  · rintro ⟨n, o, h1, e, q⟩
    refine ⟨n + 1, o, h1, ?_, q⟩
    rw [bc_run, hi]
    dsimp only
    rw [hn]
    exact e
/-- the end -/
theorem ev_o {o : AO} (hc : bc_code k = c) (hd : decode c pc = .ok (i, len)) (hn : bc_nxt k i pc len ls st h = some (.inr (.inl o))) (hok : bc_ok i len = true := by rfl) : Ev d k pc ls st h Q ↔ Q o h := by
  have hi := bc_at_of hc hd hok
  constructor
  · rintro ⟨n, o1, h1, e, q⟩
    cases n with
    | zero => simp [bc_run] at e
    | succ n =>
      rw [bc_run, hi] at e
      dsimp only at e
      rw [hn] at e
      cases e
      exact q
  · intro q
    refine ⟨1, o, h, ?_, q⟩
    rw [bc_run, hi]
    dsimp only
    rw [hn]
/-- a call -/
theorem ev_c {cal : Nat} {args rest : List AV} (hc : bc_code k = c) (hd : decode c pc = .ok (i, len)) (hn : bc_nxt k i pc len ls st h = some (.inr (.inr (cal, args, rest)))) (hok : bc_ok i len = true := by rfl) : Ev (d + 1) k pc ls st h Q ↔ Ev d cal 0 (bc_entry args (bc_maxL cal)) [] h (kont (d + 1) k pc (pc + len) ls rest Q) := by
  have hi := bc_at_of hc hd hok
  constructor
  · rintro ⟨n, o1, h1, e, q⟩
    cases n with
    | zero => simp [bc_run] at e
    | succ n =>
      rw [bc_run, hi] at e
      dsimp only at e
      rw [hn] at e
      dsimp only at e
      cases hr : bc_run n d cal 0 (bc_entry args (bc_maxL cal)) [] h with
      | none => rw [hr] at e; cases e
      | some z =>
        rw [hr] at e
        obtain ⟨o, h2⟩ := z
        refine ⟨n, o, h2, hr, ?_⟩
        rcases o with (_ | v) | a
        · exact ⟨n, o1, h1, e, q⟩
        · exact ⟨n, o1, h1, e, q⟩
        · dsimp only at e
          unfold kont
          dsimp only
          cases hh : bc_hnd k pc (hK h2 a) with
          | none => rw [hh] at e; cases e; exact q
          | some pt => rw [hh] at e; exact ⟨n, o1, h1, e, q⟩
  · rintro ⟨n, o, h2, hr, q⟩
    rcases o with (_ | v) | a
    · obtain ⟨m, o1, h1, e, q⟩ := q
      refine ⟨max n m + 1, o1, h1, ?_, q⟩
      rw [bc_run, hi]
      dsimp only
      rw [hn]
      dsimp only
      rw [bc_monoL hr (Nat.le_max_left n m)]
      exact bc_monoL e (Nat.le_max_right n m)
    · obtain ⟨m, o1, h1, e, q⟩ := q
      refine ⟨max n m + 1, o1, h1, ?_, q⟩
      rw [bc_run, hi]
      dsimp only
      rw [hn]
      dsimp only
      rw [bc_monoL hr (Nat.le_max_left n m)]
      exact bc_monoL e (Nat.le_max_right n m)
    · unfold kont at q
      dsimp only at q
      cases hh : bc_hnd k pc (hK h2 a) with
      | none =>
        rw [hh] at q
        refine ⟨n + 1, .inr a, h2, ?_, q⟩
        rw [bc_run, hi]
        dsimp only
        rw [hn]
        dsimp only
        rw [hr]
        dsimp only
        rw [hh]
      | some pt =>
        rw [hh] at q
        obtain ⟨m, o1, h1, e, q⟩ := q
        refine ⟨max n m + 1, o1, h1, ?_, q⟩
        rw [bc_run, hi]
        dsimp only
        rw [hn]
        dsimp only
        rw [bc_monoL hr (Nat.le_max_left n m)]
        dsimp only
        rw [hh]
        exact bc_monoL e (Nat.le_max_right n m)
end EV
section EW
variable {d k pc len tgt ci idx cc cal n nl t a : Nat} {ls st args rest ent : List AV} {h h' : AH} {Q : AO → AH → Prop} {c : ByteArray} {j f' : Int} {f : Nat} {v : AV}
theorem ev_jmp {off : Int} (hc : bc_code k = c) (hd : decode c pc = .ok (.goto off, 3)) (ht : (pc : Int) + off = (tgt : Int)) : Ev d k pc ls st h Q ↔ Ev d k tgt ls st h Q := by
  refine ev_n hc hd ?_
  show bc_jmp pc off ls st h = _
  unfold bc_jmp
  rw [ht, if_pos (Int.natCast_nonneg _), Int.toNat_natCast]
theorem bc_jmp_to {off : Int} (ht : (pc : Int) + off = (tgt : Int)) : bc_jmp pc off ls st h = some (.inl (tgt, ls, st, h)) := by
  unfold bc_jmp
  rw [ht, if_pos (Int.natCast_nonneg _), Int.toNat_natCast]
theorem ev_br {b : Bool} {i : Instr} {off : Int} {st0 : List AV} {p : Prop} [Decidable p] (hc : bc_code k = c) (hd : decode c pc = .ok (i, len)) (hn : bc_nxt k i pc len ls st0 h = bc_br b pc off ls st h) (ht : (pc : Int) + off = (tgt : Int)) (hp : b = decide p) (hok : bc_ok i len = true := by rfl) : Ev d k pc ls st0 h Q ↔ (if p then Ev d k tgt ls st h Q else Ev d k (pc + 3) ls st h Q) := by
  by_cases q : p
  · rw [if_pos q]
    refine ev_n hc hd (hn.trans ?_) hok
    rw [hp, decide_eq_true q]
    exact bc_jmp_to ht
  · rw [if_neg q]
    refine ev_n hc hd (hn.trans ?_) hok
    rw [hp, decide_eq_false q]
    rfl
theorem ev_brN {b : Bool} {i : Instr} {off : Int} {st0 : List AV} {p : Prop} [Decidable p] (hc : bc_code k = c) (hd : decode c pc = .ok (i, len)) (hn : bc_nxt k i pc len ls st0 h = bc_br b pc off ls st h) (ht : (pc : Int) + off = (tgt : Int)) (hp : b = decide (¬ p)) (hok : bc_ok i len = true := by rfl) : Ev d k pc ls st0 h Q ↔ (if p then Ev d k (pc + 3) ls st h Q else Ev d k tgt ls st h Q) := by
  rw [ev_br hc hd hn ht hp hok]
  by_cases q : p
  · rw [if_pos q, if_neg (fun z => z q)]
  · rw [if_neg q, if_pos q]
theorem bc_le_not {a b : Int} : decide (b ≤ a) = decide (¬ a < b) := by
  by_cases q : a < b
  · rw [decide_eq_false (by omega), decide_eq_false (by omega)]
  · rw [decide_eq_true (by omega), decide_eq_true (by omega)]
/-- a long's comparison and the branch behind it -/
theorem jc_eq {a b : Int} : decide (jCmp a b = 0) = decide (a = b) := by
  unfold jCmp
  by_cases q : a < b
  · rw [if_pos q, decide_eq_false (by omega), decide_eq_false (by omega)]
  · rw [if_neg q]
    by_cases r : a = b
    · rw [if_pos r, decide_eq_true rfl, decide_eq_true r]
    · rw [if_neg r, decide_eq_false (by omega), decide_eq_false r]
theorem jc_lt {a b : Int} : decide (jCmp a b < 0) = decide (a < b) := by
  unfold jCmp
  by_cases q : a < b
  · rw [if_pos q, decide_eq_true (by omega), decide_eq_true q]
  · rw [if_neg q]
    by_cases r : a = b
    · rw [if_pos r, decide_eq_false (by omega), decide_eq_false (by omega)]
    · rw [if_neg r, decide_eq_false (by omega), decide_eq_false (by omega)]
theorem jc_gt {a b : Int} : decide (0 < jCmp a b) = decide (b < a) := by
  unfold jCmp
  by_cases q : a < b
  · rw [if_pos q, decide_eq_false (by omega), decide_eq_false (by omega)]
  · rw [if_neg q]
    by_cases r : a = b
    · rw [if_pos r, decide_eq_false (by omega), decide_eq_false (by omega)]
    · rw [if_neg r, decide_eq_true (by omega), decide_eq_true (by omega)]
theorem jc_ne {a b : Int} : decide (¬ jCmp a b = 0) = decide (¬ a = b) := by
  have := @jc_eq a b
  rw [decide_not, decide_not, this]
theorem jc_ge {a b : Int} : decide (0 ≤ jCmp a b) = decide (¬ a < b) := by
  rw [bc_le_not, decide_not, decide_not, jc_lt]
theorem jc_le {a b : Int} : decide (jCmp a b ≤ 0) = decide (¬ b < a) := by
  rw [bc_le_not, decide_not, decide_not, jc_gt]
theorem ev_gf (hc : bc_code k = c) (hd : decode c pc = .ok (.getfield idx, 3)) (ho : bc_own k = ci) (hf : bc_fl ci idx cc = some (j, t, f)) (hv : bc_rd h a j t = v) (hk : hK h a = cc) : Ev d k pc ls (vR a :: st) h Q ↔ Ev d k (pc + 3) ls (v :: st) h Q := by
  refine ev_n hc hd ?_
  show bc_getf pc ls h (bc_fl (bc_own k) idx) (vR a :: st) = _
  unfold bc_getf
  dsimp only
  rw [hk, ho, hf]
  dsimp only
  rw [hv]
theorem ev_pf (hc : bc_code k = c) (hd : decode c pc = .ok (.putfield idx, 3)) (ho : bc_own k = ci) (hf : bc_fl ci idx cc = some (j, t, f)) (hi : f = 0 ∨ f = bc_ini k) (hw : bc_wr h a j t v = some h') (hk : hK h a = cc) : Ev d k pc ls (v :: vR a :: st) h Q ↔ Ev d k (pc + 3) ls st h' Q := by
  refine ev_n hc hd ?_
  show bc_putf pc ls h (bc_fl (bc_own k) idx) (bc_ini k) (v :: vR a :: st) = _
  unfold bc_putf
  dsimp only
  rw [hk, ho, hf]
  dsimp only
  rw [if_pos hi, hw]
theorem bc_wr1 {z : Int} (hz : b01 z) : bc_wr h a j 1 (vI z) = some (sI h a j z) := by
  show (if z = 0 ∨ z = 1 then some (sI h a j z) else none) = _
  rw [if_pos hz]
theorem ev_ald {i : Instr} {ok : Nat → Bool} {x : Int} (hc : bc_code k = c) (hd : decode c pc = .ok (i, len)) (hn : bc_nxt k i pc len ls (vI x :: vR a :: st) h = bc_ald pc ls h ok t (vI x :: vR a :: st)) (hv : bc_rd h a x t = v) (hkc : ok cc = true) (hk : hK h a = cc) (h0 : 0 ≤ x) (h1 : x < hL h a) (hok : bc_ok i len = true := by rfl) : Ev d k pc ls (vI x :: vR a :: st) h Q ↔ Ev d k (pc + 1) ls (v :: st) h Q := by
  refine ev_n hc hd (hn.trans ?_) hok
  unfold bc_ald
  dsimp only
  rw [if_pos ⟨by rw [hk]; exact hkc, h0, h1⟩, hv]
theorem ev_iast {x z : Int} (hc : bc_code k = c) (hd : decode c pc = .ok (.iastore, 1)) (hk : hK h a = 101) (h0 : 0 ≤ x) (h1 : x < hL h a) : Ev d k pc ls (vI z :: vI x :: vR a :: st) h Q ↔ Ev d k (pc + 1) ls st (sI h a x z) Q := by
  refine ev_n hc hd ?_
  show bc_iast pc ls h (vI z :: vI x :: vR a :: st) = _
  unfold bc_iast
  dsimp only
  rw [if_pos ⟨hk, h0, h1⟩]
theorem ev_jast {x z : Int} (hc : bc_code k = c) (hd : decode c pc = .ok (.lastore, 1)) (hk : hK h a = 102) (h0 : 0 ≤ x) (h1 : x < hL h a) : Ev d k pc ls (vJ z :: vI x :: vR a :: st) h Q ↔ Ev d k (pc + 1) ls st (sI h a x z) Q := by
  refine ev_n hc hd ?_
  show bc_jast pc ls h (vJ z :: vI x :: vR a :: st) = _
  unfold bc_jast
  dsimp only
  rw [if_pos ⟨hk, h0, h1⟩]
theorem ev_bast {x z : Int} (hc : bc_code k = c) (hd : decode c pc = .ok (.bastore, 1)) (hk : hK h a = 103) (h0 : 0 ≤ x) (h1 : x < hL h a) : Ev d k pc ls (vI z :: vI x :: vR a :: st) h Q ↔ Ev d k (pc + 1) ls st (sI h a x (i2bZ z)) Q := by
  refine ev_n hc hd ?_
  show bc_bast pc ls h (vI z :: vI x :: vR a :: st) = _
  unfold bc_bast
  dsimp only
  rw [if_pos ⟨hk, h0, h1⟩]
theorem ev_zast {x z : Int} (hc : bc_code k = c) (hd : decode c pc = .ok (.bastore, 1)) (hk : hK h a = 104) (h0 : 0 ≤ x) (h1 : x < hL h a) (hz : b01 z) : Ev d k pc ls (vI z :: vI x :: vR a :: st) h Q ↔ Ev d k (pc + 1) ls st (sI h a x z) Q := by
  refine ev_n hc hd ?_
  show bc_bast pc ls h (vI z :: vI x :: vR a :: st) = _
  unfold bc_bast
  dsimp only
  rw [if_neg (fun q => by have := hk.symm.trans q.1; omega), if_pos ⟨hk, h0, h1, hz⟩]
theorem ev_aastO {x : Int} {z : Nat} (hc : bc_code k = c) (hd : decode c pc = .ok (.aastore, 1)) (hk : hK h a = 105) (h0 : 0 ≤ x) (h1 : x < hL h a) (hz : 1 ≤ hK h z) (hz2 : hK h z ≤ 40) : Ev d k pc ls (vR z :: vI x :: vR a :: st) h Q ↔ Ev d k (pc + 1) ls st (sR h a x z) Q := by
  refine ev_n hc hd ?_
  show bc_aast bc_rowK pc ls h (vR z :: vI x :: vR a :: st) = _
  unfold bc_aast
  dsimp only
  rw [if_pos ⟨Or.inl ⟨hk, hz, hz2⟩, h0, h1⟩]
theorem ev_aastR {x : Int} {z : Nat} (hc : bc_code k = c) (hd : decode c pc = .ok (.aastore, 1)) (hk : hK h a = 106) (h0 : 0 ≤ x) (h1 : x < hL h a) (hz : hK h z = bc_rowK) : Ev d k pc ls (vR z :: vI x :: vR a :: st) h Q ↔ Ev d k (pc + 1) ls st (sR h a x z) Q := by
  refine ev_n hc hd ?_
  show bc_aast bc_rowK pc ls h (vR z :: vI x :: vR a :: st) = _
  unfold bc_aast
  dsimp only
  rw [if_pos ⟨Or.inr ⟨hk, hz⟩, h0, h1⟩]
theorem ev_alen (hc : bc_code k = c) (hd : decode c pc = .ok (.arraylength, 1)) (hk : 101 ≤ hK h a) (hk2 : hK h a ≤ 109) : Ev d k pc ls (vR a :: st) h Q ↔ Ev d k (pc + 1) ls (vI (hL h a) :: st) h Q := by
  refine ev_n hc hd ?_
  show bc_alen pc ls h (vR a :: st) = _
  unfold bc_alen
  dsimp only
  rw [if_pos ⟨hk, hk2⟩]
theorem ev_newa {i : Instr} {x : Int} (hc : bc_code k = c) (hd : decode c pc = .ok (i, len)) (hn : bc_nxt k i pc len ls (vI x :: st) h = bc_newa pc len ls h cc (vI x :: st)) (h0 : 0 ≤ x) (h1 : x ≤ 100000) (hok : bc_ok i len = true := by rfl) : Ev d k pc ls (vI x :: st) h Q ↔ Ev d k (pc + len) ls (vR (hN h) :: st) (nw h cc x x.toNat) Q := by
  refine ev_n hc hd (hn.trans ?_) hok
  unfold bc_newa
  dsimp only
  rw [if_pos ⟨h0, h1⟩]
theorem bc_nxt_anew {x : Int} (hf : bc_ak (bc_own k) idx = some cc) : bc_nxt k (.anewarray idx) pc len ls (vI x :: st) h = bc_newa pc len ls h cc (vI x :: st) := by
  show (match bc_ak (bc_own k) idx with | some c => bc_newa pc len ls h c (vI x :: st) | none => none) = _
  rw [hf]
theorem ev_new (hc : bc_code k = c) (hd : decode c pc = .ok (.new idx, 3)) (ho : bc_own k = ci) (hf : bc_nc ci idx = some (cc, n)) : Ev d k pc ls st h Q ↔ Ev d k (pc + 3) ls (vR (hN h) :: st) (nw h cc 0 n) Q := by
  refine ev_n hc hd ?_
  show (match bc_nc (bc_own k) idx with | some (c, n) => some (Sum.inl (pc + 3, ls, vR (hN h) :: st, nw h c 0 n)) | none => none) = _
  rw [ho, hf]
theorem ev_cast (hc : bc_code k = c) (hd : decode c pc = .ok (.checkcast idx, 3)) (ho : bc_own k = ci) (hf : bc_ck ci idx cc = true) (hk : hK h a = cc) : Ev d k pc ls (vR a :: st) h Q ↔ Ev d k (pc + 3) ls (vR a :: st) h Q := by
  refine ev_n hc hd ?_
  show (if bc_ck (bc_own k) idx (hK h a) = true then some (Sum.inl (pc + 3, ls, vR a :: st, h)) else none) = _
  rw [ho, hk, if_pos hf]
theorem ev_cst {i : Instr} (hc : bc_code k = c) (hd : decode c pc = .ok (i, len)) (hn : bc_nxt k i pc len ls st h = bc_go pc len ls h ((bc_ld (bc_own k) idx).map (· :: st))) (ho : bc_own k = ci) (hf : bc_ld ci idx = some v) (hok : bc_ok i len = true := by rfl) : Ev d k pc ls st h Q ↔ Ev d k (pc + len) ls (v :: st) h Q := by
  refine ev_n hc hd (hn.trans ?_) hok
  rw [ho, hf]
  rfl
theorem ev_gs (hc : bc_code k = c) (hd : decode c pc = .ok (.getstatic idx, 3)) (ho : bc_own k = ci) (hf : bc_gs ci idx = some v) : Ev d k pc ls st h Q ↔ Ev d k (pc + 3) ls (v :: st) h Q := by
  refine ev_n hc hd ?_
  show bc_go pc 3 ls h ((bc_gs (bc_own k) idx).map (· :: st)) = _
  rw [ho, hf]
  rfl
theorem ev_cS {i : Instr} (hc : bc_code k = c) (hd : decode c pc = .ok (i, 3)) (hn : bc_nxt k i pc 3 ls st h = bc_invS pc ls h st (bc_cl (bc_own k) idx 0)) (ho : bc_own k = ci) (hf : bc_cl ci idx 0 = some (cal, n)) (hcal : cal < 1000) (hp : bc_pops n [] st = some (args, rest)) (hr : (rest.map bc_cat).sum ≤ 8) (hL : bc_maxL cal = nl) (hm : bc_entry args nl = ent) (hok : bc_ok i 3 = true := by rfl) : Ev (d + 1) k pc ls st h Q ↔ Ev d cal 0 ent [] h (kont (d + 1) k pc (pc + 3) ls rest Q) := by
  have e : bc_nxt k i pc 3 ls st h = some (.inr (.inr (cal, args, rest))) := by
    rw [hn, ho, hf]
    unfold bc_invS
    dsimp only
    rw [hp]
    dsimp only
    unfold bc_inv
    rw [if_neg (by omega), if_neg (by omega), if_neg (by omega), if_pos hr]
  rw [ev_c hc hd e hok, hL, hm]
theorem ev_cV {i : Instr} (hc : bc_code k = c) (hd : decode c pc = .ok (i, len)) (hn : bc_nxt k i pc len ls st h = bc_invV pc len ls h st (bc_an (bc_own k) idx) (bc_cl (bc_own k) idx)) (ho : bc_own k = ci) (ha : bc_an ci idx = n) (hf : bc_cl ci idx cc = some (cal, t)) (hcal : cal < 1000) (hp : bc_pops (n + 1) [] st = some (vR a :: args, rest)) (hr : (rest.map bc_cat).sum ≤ 8) (hL : bc_maxL cal = nl) (hm : bc_entry (vR a :: args) nl = ent) (hk : hK h a = cc) (hok : bc_ok i len = true := by rfl) : Ev (d + 1) k pc ls st h Q ↔ Ev d cal 0 ent [] h (kont (d + 1) k pc (pc + len) ls rest Q) := by
  have e : bc_nxt k i pc len ls st h = some (.inr (.inr (cal, vR a :: args, rest))) := by
    rw [hn, ho, ha]
    unfold bc_invV
    rw [hp]
    dsimp only
    rw [hk, hf]
    dsimp only
    unfold bc_inv
    rw [if_neg (by omega), if_neg (by omega), if_neg (by omega), if_pos hr]
  rw [ev_c hc hd e hok, hL, hm]
theorem ev_ret {i : Instr} {o : AO} (hc : bc_code k = c) (hd : decode c pc = .ok (i, len)) (hn : bc_nxt k i pc len ls st h = bc_ret (bc_rt k) st) (hr : bc_rt k = t) (hx : bc_ret t st = some (.inr (.inl o))) (hok : bc_ok i len = true := by rfl) : Ev d k pc ls st h Q ↔ Q o h := ev_o hc hd (by rw [hn, hr, hx]) hok
theorem ev_vret (hc : bc_code k = c) (hd : decode c pc = .ok (.return_, 1)) (hr : bc_rt k = 0) : Ev d k pc ls [] h Q ↔ Q oV h := ev_o hc hd (by
  show (if bc_rt k = 0 then some (Sum.inr (Sum.inl oV)) else none) = _
  rw [if_pos hr])
theorem bc_ret2 {z : Int} (hz : b01 z) : bc_ret 2 [vI z] = some (.inr (.inl (oR (vI z)))) := by
  show (if z = 0 ∨ z = 1 then some (Sum.inr (Sum.inl (oR (vI z)))) else none) = _
  rw [if_pos hz]
theorem bc_ret3 {z : Int} (h0 : 0 ≤ z) (h1 : z < 65536) : bc_ret 3 [vI z] = some (.inr (.inl (oR (vI z)))) := by
  show (if 0 ≤ z ∧ z < 65536 then some (Sum.inr (Sum.inl (oR (vI z)))) else none) = _
  rw [if_pos ⟨h0, h1⟩]
theorem bc_ret4 {z : Int} (h0 : -128 ≤ z) (h1 : z < 128) : bc_ret 4 [vI z] = some (.inr (.inl (oR (vI z)))) := by
  show (if -128 ≤ z ∧ z < 128 then some (Sum.inr (Sum.inl (oR (vI z)))) else none) = _
  rw [if_pos ⟨h0, h1⟩]
theorem ev_throw (hc : bc_code k = c) (hd : decode c pc = .ok (.athrow, 1)) (hh : bc_hs k = []) (hk : hK h a ≠ 0) : Ev d k pc ls (vR a :: st) h Q ↔ Q (oT a) h := ev_o hc hd (by
  show (if hK h a ≠ 0 ∧ bc_hs k = [] then some (Sum.inr (Sum.inl (oT a))) else none) = _
  rw [if_pos ⟨hk, hh⟩])
theorem ev_div {i : Instr} {x y : Int} {s1 : List AV} (hc : bc_code k = c) (hd : decode c pc = .ok (i, len)) (hn : bc_nxt k i pc len ls st h = bc_go pc len ls h (if y = 0 then none else some s1)) (hy : ¬ y = 0) (hok : bc_ok i len = true := by rfl) : Ev d k pc ls st h Q ↔ Ev d k (pc + len) ls s1 h Q := by
  refine ev_n hc hd (hn.trans ?_) hok
  rw [if_neg hy]
  rfl
theorem ev_nul {off : Int} (hc : bc_code k = c) (hd : decode c pc = .ok (.ifnull off, 3)) (ht : (pc : Int) + off = (tgt : Int)) (hk : a = 0 ∨ hK h a ≠ 0) : Ev d k pc ls (vR a :: st) h Q ↔ (if a = 0 then Ev d k tgt ls st h Q else Ev d k (pc + 3) ls st h Q) := by
  refine ev_br (b := decide (a = 0)) (off := off) hc hd ?_ ht rfl
  show bc_nul pc off ls h true (vR a :: st) = _
  unfold bc_nul
  dsimp only
  rw [if_pos hk]
  cases decide (a = 0) <;> rfl
theorem ev_nnl {off : Int} (hc : bc_code k = c) (hd : decode c pc = .ok (.ifnonnull off, 3)) (ht : (pc : Int) + off = (tgt : Int)) (hk : a = 0 ∨ hK h a ≠ 0) : Ev d k pc ls (vR a :: st) h Q ↔ (if a = 0 then Ev d k (pc + 3) ls st h Q else Ev d k tgt ls st h Q) := by
  refine ev_brN (b := decide (¬ a = 0)) (off := off) hc hd ?_ ht rfl
  show bc_nul pc off ls h false (vR a :: st) = _
  unfold bc_nul
  dsimp only
  rw [if_pos hk, decide_not]
  cases decide (a = 0) <;> rfl
theorem ev_acmpE {off : Int} {x y : Nat} (hc : bc_code k = c) (hd : decode c pc = .ok (.if_acmp .eq off, 3)) (ht : (pc : Int) + off = (tgt : Int)) (hx : hK h x = 105 ∨ hK h x = 109) (hy : hK h y = 105 ∨ hK h y = 109) : Ev d k pc ls (vR y :: vR x :: st) h Q ↔ (if x = y then Ev d k tgt ls st h Q else Ev d k (pc + 3) ls st h Q) := by
  refine ev_br (b := decide (x = y)) (off := off) hc hd ?_ ht rfl
  show bc_acmp pc off ls h (decide (ACond.eq = ACond.eq)) (vR y :: vR x :: st) = _
  unfold bc_acmp
  dsimp only
  rw [if_pos ⟨hx, hy⟩]
  cases decide (x = y) <;> rfl
theorem ev_kopy {s u : Nat} {sp tp m : Int} (hc : bc_code k = c) (hd : decode c pc = .ok (.invokestatic idx, 3)) (ho : bc_own k = ci) (hf : bc_cl ci idx 0 = some (1000, 5)) (hs : hK h s = 101) (hu : hK h u = 101) (hne : s ≠ u) (h0 : 0 ≤ sp) (h1 : 0 ≤ tp) (h2 : 0 ≤ m) (h3 : sp + m ≤ hL h s) (h4 : tp + m ≤ hL h u) : Ev d k pc ls (vI m :: vI tp :: vR u :: vI sp :: vR s :: st) h Q ↔ Ev d k (pc + 3) ls st (cpI h s sp u tp m) Q := by
  refine ev_n hc hd ?_
  show bc_invS pc ls h _ (bc_cl (bc_own k) idx 0) = _
  rw [ho, hf]
  show (match bc_kopy h [vR s, vI sp, vR u, vI tp, vI m] with | some h' => some (Sum.inl (pc + 3, ls, st, h')) | none => none) = _
  unfold bc_kopy
  dsimp only
  rw [if_pos ⟨hs, hu, hne, h0, h1, h2, h3, h4⟩]
theorem ev_kopyOf {s : Nat} {m : Int} (hc : bc_code k = c) (hd : decode c pc = .ok (.invokestatic idx, 3)) (ho : bc_own k = ci) (hf : bc_cl ci idx 0 = some (1001, 2)) (hs : hK h s = 105) (h0 : 0 ≤ m) (h1 : hL h s ≤ m) (h2 : m ≤ 1000) : Ev d k pc ls (vI m :: vR s :: st) h Q ↔ Ev d k (pc + 3) ls (vR (hN h) :: st) (cpR (nw h 105 m m.toNat) s 0 (hN h) 0 (hL h s)) Q := by
  refine ev_n hc hd ?_
  show bc_invS pc ls h _ (bc_cl (bc_own k) idx 0) = _
  rw [ho, hf]
  show (match bc_kopyOf h [vR s, vI m] with | some (v, h') => some (Sum.inl (pc + 3, ls, v :: st, h')) | none => none) = _
  unfold bc_kopyOf
  dsimp only
  rw [if_pos ⟨hs, h0, h1, h2⟩]
theorem ev_exi (hc : bc_code k = c) (hd : decode c pc = .ok (.invokespecial idx, 3)) (ho : bc_own k = ci) (hf : bc_cl ci idx 0 = some (1002, 1)) : Ev d k pc ls (vR a :: st) h Q ↔ Ev d k (pc + 3) ls st h Q := by
  refine ev_n hc hd ?_
  show bc_invS pc ls h _ (bc_cl (bc_own k) idx 0) = _
  rw [ho, hf]
  rfl
theorem ev_tswd {dflt lo hi : Int} {offs : Array Int} {x : Int} (hc : bc_code k = c) (hd : decode c pc = .ok (.tableswitch dflt lo hi offs, len)) (ht : (pc : Int) + dflt = (tgt : Int)) (hx : x < lo ∨ hi < x) : Ev d k pc ls (vI x :: st) h Q ↔ Ev d k tgt ls st h Q := by
  refine ev_n hc hd ?_
  show bc_tsw pc dflt lo hi offs ls h (vI x :: st) = _
  unfold bc_tsw
  dsimp only
  rw [if_pos hx]
  exact bc_jmp_to ht
theorem bc_lsw_none {ps : List (Int × Int)} {dflt x : Int} (hx : ∀ q ∈ ps, ¬ x = q.1) : Op.lookupswitch.offset ps dflt x = dflt := by
  induction ps with
  | nil => rfl
  | cons q r ih =>
    have h1 := hx q List.mem_cons_self
    have h2 := ih (fun z hz => hx z (List.mem_cons_of_mem _ hz))
    obtain ⟨a, o⟩ := q
    simp only [Op.lookupswitch.offset]
    rw [if_neg (fun e => h1 (by simpa using Eq.symm (by simpa using e)))]
    exact h2
theorem ev_lswd {dflt : Int} {ps : Array (Int × Int)} {x : Int} (hc : bc_code k = c) (hd : decode c pc = .ok (.lookupswitch dflt ps, len)) (ht : (pc : Int) + dflt = (tgt : Int)) (hp : (ps.toList.zip (ps.toList.drop 1)).all (fun (a, next) => a.1 < next.1) = true) (hx : ∀ q ∈ ps.toList, ¬ x = q.1) : Ev d k pc ls (vI x :: st) h Q ↔ Ev d k tgt ls st h Q := by
  refine ev_n hc hd ?_
  show bc_lsw pc dflt ps ls h (vI x :: st) = _
  unfold bc_lsw
  dsimp only
  rw [if_pos hp, bc_lsw_none hx]
  exact bc_jmp_to ht
end EW
end
section
/-! ===== CALLS WHOSE CALLEE MAY RETURN OR THROW ===== -/
/-- the end of an invocation, whatever its outcome -/
def EndT (first : State) (t : State) (L : List Loc) (k n : Nat) : Prop := first.WarmedH t.vm ∧ first.sameButNew ({ t with vm := first.vm } : State) L k n
/-- a contract that may end by a throw -/
def MetT (l : Launch) (y : MethodName) (ws : List Cond) (rm : Room) (Pc : Array Value → State → Prop) (Qc : Array Value → State → Outcome → State → Prop) (mc ms : Nat) (free : Addr → Prop) : Prop :=
  MetFree l y (headSpec ws rm) Pc (fun _ _ _ _ _ => True) (fun a st o t => Qc a st o t ∧ ∃ L, EndT st t L mc ms ∧ ∀ q ∈ L, free q.base)
/-- where a caller stands behind a callee's outcome -/
def goT (U : State) (g : JFrame) (len : Nat) : Outcome → State
  | .returned v => U.setTop { g with pc := g.pc + len, stack := v.toList ++ g.stack }
  | .threw x => (U.setTop g).pushFrame (.throwing x)
section CT
variable {l : Launch} {R : Room} {p : Program} {e : Env} {below : List Frame} {s : State} {sargs : Array Value} {y : MethodName} {len : Nat}
theorem callT {ws : List Cond} {rm : Room} {Pc : Array Value → State → Prop} {Qc : Array Value → State → Outcome → State → Prop} {mc ms : Nat} {free : Addr → Prop} {maxL : Nat}
    (hM : MetT l y ws rm Pc Qc mc ms free) (hrc : rm.cells = mc) (hrs : rm.slots = ms) (hframes : rm.frames + 1 ≤ R.frames) (hlocals : 8 + (maxL + 11) + rm.locals ≤ R.locals)
    {m : MethodId} {meth : Method} {c : Code} {U : State} {Ls : List Loc} {c0 s0 : Nat} (X : Stand p l e R s m sargs below meth c U Ls c0 s0)
    {g : JFrame} {ig : Instr} {mk : MethodId} {a : Array Value} (hg : g.method = m) (hsize : g.locals.size = c.maxLocals) (hdg : decode c.code g.pc = .ok (ig, len)) (hW : 2 * g.monitorRoom + (g.stack.map fun v => v.category).sum ≤ 8) (hn : U.methodNamed? y = some mk)
    (hws : ∀ w ∈ ws, w.before a U = true) (hmax : ∃ (methY : Method) (cY : Code), U.vm.method? mk = some methY ∧ methY.code = some cY ∧ cY.maxLocals = maxL) (hini : (Cond.initialized y.cls).before a U = true) (hc0 : c0 + mc ≤ R.cells) (hs0 : s0 + ms ≤ R.slots) (hP : ∀ (g : JFrame) (mk : MethodId), Pc a (U.calling g mk a)) :
    ∃ (o : Outcome) (t U' : State) (L : List Loc) (st₀ : State), st₀.heap = U.heap ∧ Stand p l e R s m sargs below meth c U' (Ls ++ L) (c0 + mc) (s0 + ms) ∧ (∀ q ∈ L, free q.base) ∧ U'.heap = t.heap ∧ U'.vm = t.vm ∧ Qc a st₀ o t ∧
      Steps p.tables e below (doInvoke e (U.setTop g) [] mk a).1 (goT U' g len o) := by
  obtain ⟨methY, cY, hmY, hcY, hlY⟩ := hmax
  obtain ⟨kY, hkY, -⟩ := className_of_methodNamed hn
  have hinitY : kY.init = .initialized := Cond.initialized_spec (findClass_of_methodNamed hn) hkY hini
  have h : At U g.method c below := by rw [hg]; exact X.here
  have happ : (headSpec ws rm).appliesLoose y e.platform (U.calling g mk a) = true :=
    Spec.appliesLoose_calling (g := g) h hdg hn hkY hinitY
      (X.room_calling (g := g) (R' := rm) hsize hmY hcY hframes (by rw [hlY]; omega) (by rw [hrc]; exact hc0) (by rw [hrs]; exact hs0)) (atoms_intro hws)
  obtain ⟨mid, hmid⟩ := h.above
  have hfr : (U.setTop g).frames = (.java g :: mid) ++ below := by rw [State.frames_setTop' g h.top, hmid]; rfl
  obtain ⟨o, s₂, hsteps, -, hend, hq⟩ := Steps.callFree hM p X.admits X.cas X.clock (acts := []) hfr happ (hP g mk) trivial
  rw [State.frames_setTop' g h.top] at hend
  obtain ⟨hq, L, ⟨hW₂, e2, q2, q3, q4, q5, q6⟩, hL⟩ := hq
  have e3 : s₂ = ({ (U.calling g mk a).setFrames s₂.frames with heap := s₂.heap, slotsUsed := s₂.slotsUsed } : State).setVm s₂.vm := by
    have : s₂ = ({ s₂ with vm := (U.calling g mk a).vm } : State).setVm s₂.vm := rfl
    rw [show ({ s₂ with vm := (U.calling g mk a).vm } : State) = _ from e2] at this
    exact this
  have hW' : U.WarmedH s₂.vm := hW₂
  obtain ⟨g₀, hg0⟩ := Option.isSome_iff_exists.mp h.top
  obtain ⟨r, hr⟩ := State.topJava?_eq_some.mp hg0
  have hr' : (({ U with heap := s₂.heap, slotsUsed := s₂.slotsUsed } : State).setVm s₂.vm).frames = .java g₀ :: r := hr
  have hsame : U.sameButNew ({ U with heap := s₂.heap, slotsUsed := s₂.slotsUsed } : State) L mc ms := by
    refine ⟨?_, q2, q3, q4, q5, q6⟩
    obtain ⟨t, ht, -⟩ := State.frames_cons hr
    show ({ U with heap := s₂.heap, slotsUsed := s₂.slotsUsed } : State) = { U.setFrames U.frames with heap := s₂.heap, slotsUsed := s₂.slotsUsed }
    rw [State.setFrames_self ht]
  subst hg
  refine ⟨o, s₂, (({ U with heap := s₂.heap, slotsUsed := s₂.slotsUsed } : State).setVm s₂.vm), L, U.calling g mk a, rfl,
    ⟨X.admits, X.cas, X.clock, X.frames, X.room, X.hears, X.method, X.code, (X.here.setHeapUsed s₂.heap s₂.slotsUsed).setVm hW'.alike, X.tail, State.WarmedH.trans X.warmed hW', X.limits, X.bytes, X.same.trans (hsame.setVm s.vm)⟩, hL, rfl, rfl, hq, ?_⟩
  suffices hs : s₂ = goT (({ U with heap := s₂.heap, slotsUsed := s₂.slotsUsed } : State).setVm s₂.vm) g len o by
    rw [← hs]
    exact hsteps
  cases o with
  | returned v =>
    obtain ⟨c₂, i₂, len₂, hc₂, hd₂, hf₂⟩ := hend
    have hcc : c₂ = c := by
      have h1 : s₂.code? g.method = U.code? g.method := by
        rw [State.code?_eq, State.code?_eq, hW'.alike.method?]
      exact Option.some.inj (hc₂.symm.trans (h1.trans h.code))
    subst hcc
    have hlen : len₂ = len := by rw [hdg] at hd₂; cases hd₂; rfl
    subst hlen
    refine e3.trans ?_
    show _ = (({ U with heap := s₂.heap, slotsUsed := s₂.slotsUsed } : State).setVm s₂.vm).setTop { g with pc := g.pc + len₂, stack := v.toList ++ g.stack }
    rw [hf₂, State.calling_eq h.top, State.setFrames_setFrames, State.setTop_of_frames _ hr', hr]
    rfl
  | threw x =>
    have hf₂ : s₂.frames = .throwing x :: .java g :: U.frames.tail := hend
    refine e3.trans ?_
    have hcur : (({ U with heap := s₂.heap, slotsUsed := s₂.slotsUsed } : State).setVm s₂.vm).cur < (({ U with heap := s₂.heap, slotsUsed := s₂.slotsUsed } : State).setVm s₂.vm).threads.size := State.cur_lt_of_frames hr'
    show _ = ((({ U with heap := s₂.heap, slotsUsed := s₂.slotsUsed } : State).setVm s₂.vm).setTop g).setFrames (.throwing x :: ((({ U with heap := s₂.heap, slotsUsed := s₂.slotsUsed } : State).setVm s₂.vm).setTop g).frames)
    rw [hf₂, State.calling_eq h.top, State.setFrames_setFrames, State.setTop_of_frames _ hr', State.setFrames_setFrames, State.frames_setFrames _ hcur, hr]
    rfl
end CT
section IT
variable {p : Program} {l : Launch} {e : Env} {R : Room} {s : State} {m : MethodId} {args : Array Value} {below : List Frame} {meth : Method} {c : Code} {T : State} {locs : List Loc} {cells slots : Nat}
/-- an invoking instruction comes to the invocation -/
def InvStep (p : Program) (l : Launch) (e : Env) (R : Room) (s : State) (m : MethodId) (args : Array Value) (below : List Frame) (meth : Method) (c : Code) (T : State) (locs : List Loc) (cells slots : Nat) (g : JFrame) (rest : List Value) (y : MethodName) (as : List Value) : Prop :=
  ∃ (vm₁ : Vm) (mk : MethodId), Stand p l e R s m args below meth c (T.setVm vm₁) locs cells slots ∧ (T.setVm vm₁).methodNamed? y = some mk ∧
    ∀ target, Steps p.tables e below (doInvoke e ((T.setVm vm₁).setTop { g with stack := rest }) [] mk as.toArray).1 target → Steps p.tables e below (T.setTop g) target
theorem inv_V (X : Stand p l e R s m args below meth c T locs cells slots) (hexec : p.tables.exec = Jvm.exec) {own C : String} {index : Nat} {y : MethodName}
    (hown : s.vm.findClass own = some m.cls) (hlink : (Cond.methodLink own index y).before args s = true) (hinst : (Cond.instanceMethod y).before args s = true) (hsel : (Cond.selects C y y).before args s = true) (hy : y.cls ≠ "java/lang/invoke/MethodHandle" ∧ y.cls ≠ "java/lang/invoke/VarHandle")
    {n : Nat} (hsig : ∀ (mk : MethodId) (methM : Method), s.methodNamed? y = some mk → s.vm.method? mk = some methM → methM.sig.parameters.length = n)
    {b : Addr} {cellB : Cell} (hcell : T.heap[b]? = some cellB) (hobj : cellB.vm.isStatics = false) (hcls : s.vm.findClass C = some cellB.cls)
    {g : JFrame} (hg : g.method = m) {argsL rest : List Value} (hlen : argsL.length = n)
    (hstack : g.stack = argsL.reverse ++ .ref b :: rest) (hdg : decode c.code g.pc = .ok (.invokevirtual index, 3)) : InvStep p l e R s m args below meth c T locs cells slots g rest y (.ref b :: argsL) := by
  obtain ⟨mk, methM, hnamed, hmethM, hstM, habM⟩ := Cond.instanceMethod_spec hinst
  obtain ⟨c2, r2, m2, q1, q2, q3, q4, kP, hkP, hkPi⟩ := Cond.selects_spec hsel
  cases hcls.symm.trans q1
  cases (State.methodFound?_of_named hnamed hy).symm.trans q2
  cases hnamed.symm.trans q3
  have hselP : selectMethod e.platform s.vm cellB.cls mk = .method mk := by rw [Launch.admits_selectMethod X.admits]; exact q4
  obtain ⟨vm₁, X₁, hstep₁⟩ := X.invokevirtual hexec hown hlink hnamed hmethM hstM hkP hkPi hy (a := b) (cell := cellB) hcell
    (fun z h => by rw [h] at hobj; cases hobj) hselP hmethM habM hkP hkPi (g := g) hg (argsL := argsL) (rest := rest) (hlen.trans (hsig _ _ hnamed hmethM).symm) hstack hdg
  exact ⟨vm₁, mk, X₁, X₁.named hnamed, fun target h => hstep₁ _ fun acts => by rw [doInvoke_state]; exact h⟩
theorem inv_VN (X : Stand p l e R s m args below meth c T locs cells slots) (hexec : p.tables.exec = Jvm.exec) {own C host : String} {index : Nat} {y : MethodName}
    (hown : s.vm.findClass own = some m.cls) (hlink : (Cond.methodLinkNest own index y host).before args s = true) (hinst : (Cond.instanceMethod y).before args s = true) (hsel : (Cond.selects C y y).before args s = true) (hy : y.cls ≠ "java/lang/invoke/MethodHandle" ∧ y.cls ≠ "java/lang/invoke/VarHandle")
    {n : Nat} (hsig : ∀ (mk : MethodId) (methM : Method), s.methodNamed? y = some mk → s.vm.method? mk = some methM → methM.sig.parameters.length = n)
    {b : Addr} {cellB : Cell} (hcell : T.heap[b]? = some cellB) (hobj : cellB.vm.isStatics = false) (hcls : s.vm.findClass C = some cellB.cls)
    {g : JFrame} (hg : g.method = m) {argsL rest : List Value} (hlen : argsL.length = n)
    (hstack : g.stack = argsL.reverse ++ .ref b :: rest) (hdg : decode c.code g.pc = .ok (.invokevirtual index, 3)) : InvStep p l e R s m args below meth c T locs cells slots g rest y (.ref b :: argsL) := by
  obtain ⟨mk, methM, hnamed, hmethM, hstM, habM⟩ := Cond.instanceMethod_spec hinst
  obtain ⟨c2, r2, m2, q1, q2, q3, q4, kP, hkP, hkPi⟩ := Cond.selects_spec hsel
  cases hcls.symm.trans q1
  cases (State.methodFound?_of_named hnamed hy).symm.trans q2
  cases hnamed.symm.trans q3
  have hselP : selectMethod e.platform s.vm cellB.cls mk = .method mk := by rw [Launch.admits_selectMethod X.admits]; exact q4
  obtain ⟨vm₁, X₁, hstep₁⟩ := X.invokevirtualNest hexec hown hlink hnamed hmethM hstM hkP hkPi hy (a := b) (cell := cellB) hcell
    (fun z h => by rw [h] at hobj; cases hobj) hselP hmethM habM hkP hkPi (g := g) hg (argsL := argsL) (rest := rest) (hlen.trans (hsig _ _ hnamed hmethM).symm) hstack hdg
  exact ⟨vm₁, mk, X₁, X₁.named hnamed, fun target h => hstep₁ _ fun acts => by rw [doInvoke_state]; exact h⟩
theorem inv_S (X : Stand p l e R s m args below meth c T locs cells slots) (hexec : p.tables.exec = Jvm.exec) {own : String} {index : Nat} {y : MethodName}
    (hown : s.vm.findClass own = some m.cls) (hlink : (Cond.methodLink own index y).before args s = true) (hstat : (Cond.static y).before args s = true) (hinit : (Cond.initialized y.cls).before args s = true) (hy : y.cls ≠ "java/lang/invoke/MethodHandle" ∧ y.cls ≠ "java/lang/invoke/VarHandle")
    {n : Nat} {mk : MethodId} {methM : Method} (hnamed : s.methodNamed? y = some mk) (hmethM : s.vm.method? mk = some methM) (hsig : methM.sig.parameters.length = n)
    {g : JFrame} (hg : g.method = m) {argsL rest : List Value} (hlen : argsL.length = n)
    (hstack : g.stack = argsL.reverse ++ rest) (hdg : decode c.code g.pc = .ok (.invokestatic index, 3)) : InvStep p l e R s m args below meth c T locs cells slots g rest y argsL := by
  have hstatic : methM.isStatic = true := Cond.static_spec hnamed hmethM hstat
  obtain ⟨kP, hkP, -⟩ := className_of_methodNamed hnamed
  have hinitP : kP.init = .initialized := Cond.initialized_spec (findClass_of_methodNamed hnamed) hkP hinit
  obtain ⟨vm₁, X₁, hstep₁⟩ := X.invokestatic hexec hown hlink hnamed hmethM hstatic hkP hinitP hy (g := g) hg (argsL := argsL) (rest := rest) (hlen.trans hsig.symm) hstack hdg
  exact ⟨vm₁, mk, X₁, X₁.named hnamed, fun target h => hstep₁ _ fun acts => by rw [doInvoke_state]; exact h⟩
theorem inv_SN (X : Stand p l e R s m args below meth c T locs cells slots) (hexec : p.tables.exec = Jvm.exec) {own host : String} {index : Nat} {y : MethodName}
    (hown : s.vm.findClass own = some m.cls) (hlink : (Cond.methodLinkNest own index y host).before args s = true) (hstat : (Cond.static y).before args s = true) (hinit : (Cond.initialized y.cls).before args s = true) (hy : y.cls ≠ "java/lang/invoke/MethodHandle" ∧ y.cls ≠ "java/lang/invoke/VarHandle")
    {n : Nat} {mk : MethodId} {methM : Method} (hnamed : s.methodNamed? y = some mk) (hmethM : s.vm.method? mk = some methM) (hsig : methM.sig.parameters.length = n)
    {g : JFrame} (hg : g.method = m) {argsL rest : List Value} (hlen : argsL.length = n)
    (hstack : g.stack = argsL.reverse ++ rest) (hdg : decode c.code g.pc = .ok (.invokestatic index, 3)) : InvStep p l e R s m args below meth c T locs cells slots g rest y argsL := by
  have hstatic : methM.isStatic = true := Cond.static_spec hnamed hmethM hstat
  obtain ⟨kP, hkP, -⟩ := className_of_methodNamed hnamed
  have hinitP : kP.init = .initialized := Cond.initialized_spec (findClass_of_methodNamed hnamed) hkP hinit
  obtain ⟨vm₁, X₁, hstep₁⟩ := X.invokestaticNest hexec hown hlink hnamed hmethM hstatic hkP hinitP hy (g := g) hg (argsL := argsL) (rest := rest) (hlen.trans hsig.symm) hstack hdg
  exact ⟨vm₁, mk, X₁, X₁.named hnamed, fun target h => hstep₁ _ fun acts => by rw [doInvoke_state]; exact h⟩
theorem inv_I (X : Stand p l e R s m args below meth c T locs cells slots) (hexec : p.tables.exec = Jvm.exec) {own : String} {index : Nat} {y : MethodName} {bytes : ByteArray} {maxL : Nat}
    (hown : s.vm.findClass own = some m.cls) (hy1 : y.name = "<init>") (hlink : (Cond.methodLink own index y).before args s = true) (hinst : (Cond.instanceMethod y).before args s = true)
    (hcode : (Cond.code y bytes maxL none).before args s = true) (hy : y.cls ≠ "java/lang/invoke/MethodHandle" ∧ y.cls ≠ "java/lang/invoke/VarHandle")
    {g : JFrame} (hg : g.method = m) {a : Addr} {argsL rest : List Value} (hlen : ∀ sig, parseMethodDescriptor y.desc = some sig → argsL.length = sig.parameters.length)
    (hstack : g.stack = argsL.reverse ++ .ref a :: rest) (hdg : decode c.code g.pc = .ok (.invokespecial index, 3)) : InvStep p l e R s m args below meth c T locs cells slots g rest y (.ref a :: argsL) := by
  subst hg
  have hpl : e.platform.magicAccessors = ({} : Platform).magicAccessors := by rw [X.admits.platform]
  obtain ⟨mk, methM, cM, kP, vm₁, hnamed, hmethM, hcodeM, -, hlocalsM, -, hkP, -, hW₁, hstep₁⟩ := Steps.initColdArgs (e := e) X.here hexec X.warmed hpl hown hy1 hy hlink hinst hcode (f := g) rfl hlen hstack hdg
  have X₁ := X.noted hW₁
  exact ⟨vm₁, mk, X₁, X₁.named hnamed, fun target h => hstep₁ _ fun acts => by rw [doInvoke_state]; exact h⟩
theorem inv_IN (X : Stand p l e R s m args below meth c T locs cells slots) (hexec : p.tables.exec = Jvm.exec) {own host : String} {index : Nat} {y : MethodName} {bytes : ByteArray} {maxL : Nat}
    (hown : s.vm.findClass own = some m.cls) (hy1 : y.name = "<init>") (hlink : (Cond.methodLinkNest own index y host).before args s = true) (hinst : (Cond.instanceMethod y).before args s = true)
    (hcode : (Cond.code y bytes maxL none).before args s = true) (hy : y.cls ≠ "java/lang/invoke/MethodHandle" ∧ y.cls ≠ "java/lang/invoke/VarHandle")
    {g : JFrame} (hg : g.method = m) {a : Addr} {argsL rest : List Value} (hlen : ∀ sig, parseMethodDescriptor y.desc = some sig → argsL.length = sig.parameters.length)
    (hstack : g.stack = argsL.reverse ++ .ref a :: rest) (hdg : decode c.code g.pc = .ok (.invokespecial index, 3)) : InvStep p l e R s m args below meth c T locs cells slots g rest y (.ref a :: argsL) := by
  subst hg
  have hpl : e.platform.magicAccessors = ({} : Platform).magicAccessors := by rw [X.admits.platform]
  obtain ⟨mk, methM, cM, kP, vm₁, hnamed, hmethM, hcodeM, -, hlocalsM, -, hkP, -, hW₁, hstep₁⟩ := Steps.initColdArgsNest (e := e) X.here hexec X.warmed hpl hown hy1 hy hlink hinst hcode (f := g) rfl hlen hstack hdg
  have X₁ := X.noted hW₁
  exact ⟨vm₁, mk, X₁, X₁.named hnamed, fun target h => hstep₁ _ fun acts => by rw [doInvoke_state]; exact h⟩
end IT
end
section
/-! ===== THE ABSTRACT MACHINE'S VALUES, LOCALS, STACK AGAINST THE MACHINE'S ===== -/
/-- what an abstract address is: null; one of the start's (by σ); one made since (from B on) -/
def rhoV (B : Nat) (σ : Nat → Value) (a : Nat) : Value := if a = 0 then .null else if a < 16 then σ a else .ref (B + (a - 16))
def VR (B : Nat) (σ : Nat → Value) : AV → Value → Prop
  | .inl z, v => ∃ n : Int32, v = .int n ∧ n.toInt = z
  | .inr (.inl z), v => ∃ n : Int64, v = .long n ∧ n.toInt = z
  | .inr (.inr (.inl a)), v => v = rhoV B σ a ∧ (v = .null ∨ ∃ q : Nat, v = .ref q)
  | .inr (.inr (.inr _)), _ => False
def SR (B : Nat) (σ : Nat → Value) : List AV → List Value → Prop
  | [], [] => True
  | x :: r, v :: q => VR B σ x v ∧ SR B σ r q
  | _, _ => False
def LR (B : Nat) (σ : Nat → Value) (ls : List AV) (nL : Nat) (lsr : Array Slot) : Prop :=
  ls.length = nL ∧ ∃ vs : List (Nat × Value), lv_has lsr nL vs ∧ ∀ (i : Nat) (x : AV), ls[i]? = some x → bc_isX x = false → ∃ v, (i, v) ∈ vs ∧ VR B σ x v
theorem VR.cat {B : Nat} {σ : Nat → Value} {x : AV} {v : Value} (h : VR B σ x v) : v.category = bc_cat x := by
  rcases x with z | z | a | u
  · obtain ⟨n, rfl, -⟩ := h; rfl
  · obtain ⟨n, rfl, -⟩ := h; rfl
  · rcases h.2 with rfl | ⟨q, rfl⟩ <;> rfl
  · exact h.elim
theorem SR.len {B : Nat} {σ : Nat → Value} : ∀ {st : List AV} {sr : List Value}, SR B σ st sr → sr.length = st.length
  | [], [], _ => rfl
  | x :: r, v :: q, h => by simp only [List.length_cons]; rw [SR.len h.2]
  | [], _ :: _, h => h.elim
  | _ :: _, [], h => h.elim
theorem SR.cats {B : Nat} {σ : Nat → Value} : ∀ {st : List AV} {sr : List Value}, SR B σ st sr → sr.map (fun v => v.category) = st.map bc_cat
  | [], [], _ => rfl
  | x :: r, v :: q, h => by simp only [List.map_cons]; rw [SR.cats h.2, h.1.cat]
  | [], _ :: _, h => h.elim
  | _ :: _, [], h => h.elim
/-- one on top -/
theorem SR.one {B : Nat} {σ : Nat → Value} {x : AV} {st : List AV} {sr : List Value} (h : SR B σ (x :: st) sr) : ∃ v q, sr = v :: q ∧ VR B σ x v ∧ SR B σ st q := by
  cases sr with
  | nil => exact h.elim
  | cons v q => exact ⟨v, q, rfl, h.1, h.2⟩
theorem SR.i {B : Nat} {σ : Nat → Value} {z : Int} {st : List AV} {sr : List Value} (h : SR B σ (.inl z :: st) sr) : ∃ (n : Int32) (q : List Value), sr = .int n :: q ∧ n.toInt = z ∧ SR B σ st q := by
  obtain ⟨v, q, rfl, ⟨n, rfl, e⟩, h2⟩ := h.one
  exact ⟨n, q, rfl, e, h2⟩
theorem SR.j {B : Nat} {σ : Nat → Value} {z : Int} {st : List AV} {sr : List Value} (h : SR B σ (.inr (.inl z) :: st) sr) : ∃ (n : Int64) (q : List Value), sr = .long n :: q ∧ n.toInt = z ∧ SR B σ st q := by
  obtain ⟨v, q, rfl, ⟨n, rfl, e⟩, h2⟩ := h.one
  exact ⟨n, q, rfl, e, h2⟩
theorem SR.r {B : Nat} {σ : Nat → Value} {a : Nat} {st : List AV} {sr : List Value} (h : SR B σ (.inr (.inr (.inl a)) :: st) sr) : ∃ (v : Value) (q : List Value), sr = v :: q ∧ v = rhoV B σ a ∧ (v = .null ∨ ∃ q : Nat, v = .ref q) ∧ SR B σ st q := by
  obtain ⟨v, q, rfl, ⟨e, f⟩, h2⟩ := h.one
  exact ⟨v, q, rfl, e, f, h2⟩
theorem LR.get {B : Nat} {σ : Nat → Value} {ls : List AV} {nL : Nat} {lsr : Array Slot} (h : LR B σ ls nL lsr) {i : Nat} {x : AV} (hi : ls[i]? = some x) (hx : bc_isX x = false) : ∃ v, lsr[i]? = some (.val v) ∧ VR B σ x v := by
  obtain ⟨-, vs, hv, hm⟩ := h
  obtain ⟨v, m, r⟩ := hm i x hi hx
  exact ⟨v, hv.2.2 _ m, r⟩
theorem bc_kill_len {ls : List AV} {n : Nat} : (bc_kill ls n).length = ls.length := by
  cases n with
  | zero => rfl
  | succ m =>
    show (match ls[m]? with | some (.inr (.inl _)) => ls.set m vX | _ => ls).length = _
    split
    · rw [List.length_set]
    · rfl
/-- what is alive in bc_kill was there -/
theorem bc_kill_get {ls : List AV} {n j : Nat} {y : AV} (h : (bc_kill ls n)[j]? = some y) (hx : bc_isX y = false) : ls[j]? = some y ∧ (j + 1 = n → bc_isC2 y = false) := by
  cases n with
  | zero => exact ⟨h, fun e => by omega⟩
  | succ m =>
    replace h : (match ls[m]? with | some (.inr (.inl _)) => ls.set m vX | _ => ls)[j]? = some y := h
    split at h
    · rename_i z hz
      by_cases e : m = j
      · subst e
        rw [List.getElem?_set_self (List.getElem?_eq_some_iff.mp hz).1] at h
        cases h
        cases hx
      · rw [List.getElem?_set_ne e] at h
        exact ⟨h, fun q => by omega⟩
    · rename_i hz
      refine ⟨h, fun e => ?_⟩
      have e : j = m := by omega
      subst e
      rcases y with z | z | a | u
      · rfl
      · exact absurd h (hz z)
      · rfl
      · rfl
theorem LR.st1 {B : Nat} {σ : Nat → Value} {ls ls' : List AV} {nL i : Nat} {x : AV} {v : Value} {vs : List (Nat × Value)} (hlen : ls.length = nL) (hm : ∀ (i : Nat) (x : AV), ls[i]? = some x → bc_isX x = false → ∃ v, (i, v) ∈ vs ∧ VR B σ x v) (hst : bc_st1 ls i x = some ls') (hv : VR B σ x v) :
    i < nL ∧ ls'.length = nL ∧ ∀ (j : Nat) (y : AV), ls'[j]? = some y → bc_isX y = false → ∃ w, (j, w) ∈ ((i, v) :: vs.filter (fun q => !(q.1 == i) && !(q.1 + 1 == i && q.2.category == 2))) ∧ VR B σ y w := by
  unfold bc_st1 at hst
  split at hst
  · rename_i hi
    cases hst
    refine ⟨by omega, by rw [List.length_set, bc_kill_len, hlen], fun j y hj hy => ?_⟩
    by_cases e : i = j
    · subst e
      rw [List.getElem?_set_self (by rw [bc_kill_len]; exact hi)] at hj
      cases hj
      exact ⟨v, List.mem_cons_self, hv⟩
    · rw [List.getElem?_set_ne e] at hj
      obtain ⟨h1, h2⟩ := bc_kill_get hj hy
      obtain ⟨w, m, r⟩ := hm j y h1 hy
      refine ⟨w, List.mem_cons_of_mem _ (List.mem_filter.mpr ⟨m, ?_⟩), r⟩
      have e1 : (j == i) = false := by simpa using fun q => e q.symm
      rw [e1]
      by_cases f : j + 1 = i
      · have c := h2 f
        have : w.category = 1 := by rw [r.cat]; unfold bc_cat; rw [c]; rfl
        simp [f, this]
      · simp [f]
  · cases hst
theorem LR.st2 {B : Nat} {σ : Nat → Value} {ls ls' : List AV} {nL i : Nat} {x : AV} {v : Value} {vs : List (Nat × Value)} (hlen : ls.length = nL) (hm : ∀ (i : Nat) (x : AV), ls[i]? = some x → bc_isX x = false → ∃ v, (i, v) ∈ vs ∧ VR B σ x v) (hst : bc_st2 ls i x = some ls') (hv : VR B σ x v) :
    i + 1 < nL ∧ ls'.length = nL ∧ ∀ (j : Nat) (y : AV), ls'[j]? = some y → bc_isX y = false → ∃ w, (j, w) ∈ ((i, v) :: vs.filter (fun q => !(q.1 == i) && (!(q.1 == i + 1) && !(q.1 + 1 == i && q.2.category == 2)))) ∧ VR B σ y w := by
  unfold bc_st2 at hst
  split at hst
  · rename_i hi
    cases hst
    refine ⟨by omega, by rw [List.length_set, List.length_set, bc_kill_len, hlen], fun j y hj hy => ?_⟩
    by_cases e2 : i + 1 = j
    · subst e2
      rw [List.getElem?_set_self (by rw [List.length_set, bc_kill_len]; exact hi)] at hj
      cases hj
      cases hy
    · rw [List.getElem?_set_ne e2] at hj
      by_cases e : i = j
      · subst e
        rw [List.getElem?_set_self (by rw [bc_kill_len]; omega)] at hj
        cases hj
        exact ⟨v, List.mem_cons_self, hv⟩
      · rw [List.getElem?_set_ne e] at hj
        obtain ⟨h1, h2⟩ := bc_kill_get hj hy
        obtain ⟨w, m, r⟩ := hm j y h1 hy
        refine ⟨w, List.mem_cons_of_mem _ (List.mem_filter.mpr ⟨m, ?_⟩), r⟩
        have e1 : (j == i) = false := by simpa using fun q => e q.symm
        have e3 : (j == i + 1) = false := by simpa using fun q => e2 q.symm
        rw [e1, e3]
        by_cases f : j + 1 = i
        · have c := h2 f
          have : w.category = 1 := by rw [r.cat]; unfold bc_cat; rw [c]; rfl
          simp [f, this]
        · simp [f]
  · cases hst
/-! numbers -/
theorem t32 {n : Int32} : Int32.ofInt n.toInt = n := Int32.ofInt_toInt n
theorem t64 {n : Int64} : Int64.ofInt n.toInt = n := Int64.ofInt_toInt n
theorem t_add {a b : Int32} : (a + b).toInt = w32 (a.toInt + b.toInt) := by rw [Int32.toInt_add]; rfl
theorem t_sub {a b : Int32} : (a - b).toInt = w32 (a.toInt - b.toInt) := by rw [Int32.toInt_sub]; rfl
theorem t_mul {a b : Int32} : (a * b).toInt = w32 (a.toInt * b.toInt) := by rw [Int32.toInt_mul]; rfl
theorem t_div {a b : Int32} : (a / b).toInt = w32 (Int.tdiv a.toInt b.toInt) := by rw [Int32.toInt_div]; rfl
theorem t_neg {a : Int32} : (-a).toInt = w32 (-a.toInt) := by rw [Int32.toInt_neg]; rfl
theorem u_add {a b : Int64} : (a + b).toInt = w64 (a.toInt + b.toInt) := by rw [Int64.toInt_add]; rfl
theorem u_sub {a b : Int64} : (a - b).toInt = w64 (a.toInt - b.toInt) := by rw [Int64.toInt_sub]; rfl
theorem u_mul {a b : Int64} : (a * b).toInt = w64 (a.toInt * b.toInt) := by rw [Int64.toInt_mul]; rfl
theorem u_div {a b : Int64} : (a / b).toInt = w64 (Int.tdiv a.toInt b.toInt) := by rw [Int64.toInt_div]; rfl
theorem u_neg {a : Int64} : (-a).toInt = w64 (-a.toInt) := by rw [Int64.toInt_neg]; rfl
theorem w32_idR {z : Int} (h0 : -2 ^ 31 ≤ z) (h1 : z < 2 ^ 31) : Int.bmod z 4294967296 = z := by
  rw [Int.bmod_eq_of_le] <;> omega
theorem w64_idR {z : Int} (h0 : -2 ^ 63 ≤ z) (h1 : z < 2 ^ 63) : Int.bmod z 18446744073709551616 = z := by
  rw [Int.bmod_eq_of_le] <;> omega
theorem t_rem {a b : Int32} : (a - a / b * b).toInt = Int.tmod a.toInt b.toInt := by
  have h1 : (a % b).toInt = Int.tmod a.toInt b.toInt := Int32.toInt_mod a b
  have h2 : a - a / b * b = a % b := by
    have e : Int.tmod a.toInt b.toInt = a.toInt - b.toInt * Int.tdiv a.toInt b.toInt := by
      have := Int.tmod_add_mul_tdiv a.toInt b.toInt
      omega
    apply Int32.toInt_inj.mp
    rw [h1, t_sub, t_mul, t_div]
    unfold w32
    rw [Int.bmod_mul_bmod, Int.sub_bmod_bmod, Int.mul_comm, ← e]
    have l1 := Int32.le_toInt (a % b)
    have l2 := Int32.toInt_lt (a % b)
    rw [h1] at l1 l2
    exact w32_idR l1 l2
  rw [h2, h1]
end
section
/-! ===== ONE INSTRUCTION, NO HEAP: what the abstract machine does, the machine does ===== -/
theorem bc_go_inv {pc len pc' : Nat} {ls ls' st' : List AV} {h h' : AH} {o : Option (List AV)} (e : bc_go pc len ls h o = some (.inl (pc', ls', st', h'))) : o = some st' ∧ pc' = pc + len ∧ ls' = ls ∧ h' = h := by
  cases o with
  | none => cases e
  | some st =>
    have e : some (Sum.inl (pc + len, ls, st, h)) = some (Sum.inl (pc', ls', st', h')) := e
    simp only [Option.some.injEq, Sum.inl.injEq, Prod.mk.injEq] at e
    obtain ⟨rfl, rfl, rfl, rfl⟩ := e
    exact ⟨rfl, rfl, rfl, rfl⟩
theorem bc_i2_inv {f : Int → Int → Int} {st st' : List AV} (e : bc_i2 f st = some st') : ∃ (a b : Int) (r : List AV), st = .inl b :: .inl a :: r ∧ st' = vI (f a b) :: r := by
  unfold bc_i2 at e
  split at e
  · cases e; exact ⟨_, _, _, rfl, rfl⟩
  · cases e
theorem bc_j2_inv {f : Int → Int → Int} {st st' : List AV} (e : bc_j2 f st = some st') : ∃ (a b : Int) (r : List AV), st = .inr (.inl b) :: .inr (.inl a) :: r ∧ st' = vJ (f a b) :: r := by
  unfold bc_j2 at e
  split at e
  · cases e; exact ⟨_, _, _, rfl, rfl⟩
  · cases e
theorem bc_ji_inv {f : Int → Int → Int} {st st' : List AV} (e : bc_ji f st = some st') : ∃ (a b : Int) (r : List AV), st = .inl b :: .inr (.inl a) :: r ∧ st' = vJ (f a b) :: r := by
  unfold bc_ji at e
  split at e
  · cases e; exact ⟨_, _, _, rfl, rfl⟩
  · cases e
theorem bc_i1_inv {f : Int → AV} {st st' : List AV} (e : bc_i1 f st = some st') : ∃ (a : Int) (r : List AV), st = .inl a :: r ∧ st' = f a :: r := by
  unfold bc_i1 at e
  split at e
  · cases e; exact ⟨_, _, rfl, rfl⟩
  · cases e
theorem bc_j1_inv {f : Int → AV} {st st' : List AV} (e : bc_j1 f st = some st') : ∃ (a : Int) (r : List AV), st = .inr (.inl a) :: r ∧ st' = f a :: r := by
  unfold bc_j1 at e
  split at e
  · cases e; exact ⟨_, _, rfl, rfl⟩
  · cases e
section SM
variable {p : Program} {l : Launch} {e : Env} {R : Room} {s : State} {m : MethodId} {args : Array Value} {below : List Frame} {meth : Method} {c : Code} {H : Heap} {locs : List Loc} {cells slots : Nat} {Q : State → Prop} {B : Nat} {σ : Nat → Value} {nL : Nat}
variable {cc : ByteArray} {pc len pc' k : Nat} {ls ls' st st' : List AV} {h h' : AH} {lsr : Array Slot} {sr : List Value}
/-- from every frame that stands so, the machine comes to Q -/
def Kn (p : Program) (l : Launch) (e : Env) (R : Room) (s : State) (m : MethodId) (args : Array Value) (below : List Frame) (meth : Method) (c : Code) (H : Heap) (locs : List Loc) (cells slots : Nat) (Q : State → Prop) (B : Nat) (σ : Nat → Value) (nL : Nat) (pc : Nat) (ls st : List AV) : Prop :=
  ∀ (lsr : Array Slot) (sr : List Value), LR B σ ls nL lsr → SR B σ st sr → W p l e R s m args below meth c H locs cells slots Q (F0 m pc lsr sr)
theorem sm_i2 {f : Int → Int → Int} (g : Int32 → Int32 → Int32) (hf : ∀ x y : Int32, (g x y).toInt = f x.toInt y.toInt) (row : ∀ (x y : Int32) (rest : List Value), W p l e R s m args below meth c H locs cells slots Q (F0 m (pc + len) lsr (.int (g x y) :: rest)) → W p l e R s m args below meth c H locs cells slots Q (F0 m pc lsr (.int y :: .int x :: rest)))
    (hn : bc_go pc len ls h (bc_i2 f st) = some (.inl (pc', ls', st', h'))) (hl : LR B σ ls nL lsr) (hs : SR B σ st sr) : h' = h ∧ (Kn p l e R s m args below meth c H locs cells slots Q B σ nL pc' ls' st' → W p l e R s m args below meth c H locs cells slots Q (F0 m pc lsr sr)) := by
  obtain ⟨e1, rfl, rfl, rfl⟩ := bc_go_inv hn
  obtain ⟨a, b, r, rfl, rfl⟩ := bc_i2_inv e1
  obtain ⟨y, q, rfl, ey, hs⟩ := hs.i
  obtain ⟨x, q, rfl, ex, hs⟩ := hs.i
  exact ⟨rfl, fun K => row x y q (K _ _ hl ⟨⟨_, rfl, by rw [hf, ex, ey]⟩, hs⟩)⟩
theorem sm_j2 {f : Int → Int → Int} (g : Int64 → Int64 → Int64) (hf : ∀ x y : Int64, (g x y).toInt = f x.toInt y.toInt) (row : ∀ (x y : Int64) (rest : List Value), W p l e R s m args below meth c H locs cells slots Q (F0 m (pc + len) lsr (.long (g x y) :: rest)) → W p l e R s m args below meth c H locs cells slots Q (F0 m pc lsr (.long y :: .long x :: rest)))
    (hn : bc_go pc len ls h (bc_j2 f st) = some (.inl (pc', ls', st', h'))) (hl : LR B σ ls nL lsr) (hs : SR B σ st sr) : h' = h ∧ (Kn p l e R s m args below meth c H locs cells slots Q B σ nL pc' ls' st' → W p l e R s m args below meth c H locs cells slots Q (F0 m pc lsr sr)) := by
  obtain ⟨e1, rfl, rfl, rfl⟩ := bc_go_inv hn
  obtain ⟨a, b, r, rfl, rfl⟩ := bc_j2_inv e1
  obtain ⟨y, q, rfl, ey, hs⟩ := hs.j
  obtain ⟨x, q, rfl, ex, hs⟩ := hs.j
  exact ⟨rfl, fun K => row x y q (K _ _ hl ⟨⟨_, rfl, by rw [hf, ex, ey]⟩, hs⟩)⟩
theorem sm_ji {f : Int → Int → Int} (g : Int64 → Int32 → Int64) (hf : ∀ (x : Int64) (y : Int32), (g x y).toInt = f x.toInt y.toInt) (row : ∀ (x : Int64) (y : Int32) (rest : List Value), W p l e R s m args below meth c H locs cells slots Q (F0 m (pc + len) lsr (.long (g x y) :: rest)) → W p l e R s m args below meth c H locs cells slots Q (F0 m pc lsr (.int y :: .long x :: rest)))
    (hn : bc_go pc len ls h (bc_ji f st) = some (.inl (pc', ls', st', h'))) (hl : LR B σ ls nL lsr) (hs : SR B σ st sr) : h' = h ∧ (Kn p l e R s m args below meth c H locs cells slots Q B σ nL pc' ls' st' → W p l e R s m args below meth c H locs cells slots Q (F0 m pc lsr sr)) := by
  obtain ⟨e1, rfl, rfl, rfl⟩ := bc_go_inv hn
  obtain ⟨a, b, r, rfl, rfl⟩ := bc_ji_inv e1
  obtain ⟨y, q, rfl, ey, hs⟩ := hs.i
  obtain ⟨x, q, rfl, ex, hs⟩ := hs.j
  exact ⟨rfl, fun K => row x y q (K _ _ hl ⟨⟨_, rfl, by rw [hf, ex, ey]⟩, hs⟩)⟩
theorem sm_i1 {f : Int → AV} (g : Int32 → Value) (hf : ∀ x : Int32, VR B σ (f x.toInt) (g x)) (row : ∀ (x : Int32) (rest : List Value), W p l e R s m args below meth c H locs cells slots Q (F0 m (pc + len) lsr (g x :: rest)) → W p l e R s m args below meth c H locs cells slots Q (F0 m pc lsr (.int x :: rest)))
    (hn : bc_go pc len ls h (bc_i1 f st) = some (.inl (pc', ls', st', h'))) (hl : LR B σ ls nL lsr) (hs : SR B σ st sr) : h' = h ∧ (Kn p l e R s m args below meth c H locs cells slots Q B σ nL pc' ls' st' → W p l e R s m args below meth c H locs cells slots Q (F0 m pc lsr sr)) := by
  obtain ⟨e1, rfl, rfl, rfl⟩ := bc_go_inv hn
  obtain ⟨a, r, rfl, rfl⟩ := bc_i1_inv e1
  obtain ⟨x, q, rfl, ex, hs2⟩ := hs.i
  subst ex
  exact ⟨rfl, fun K => row x q (K _ _ hl ⟨hf x, hs2⟩)⟩
theorem sm_j1 {f : Int → AV} (g : Int64 → Value) (hf : ∀ x : Int64, VR B σ (f x.toInt) (g x)) (row : ∀ (x : Int64) (rest : List Value), W p l e R s m args below meth c H locs cells slots Q (F0 m (pc + len) lsr (g x :: rest)) → W p l e R s m args below meth c H locs cells slots Q (F0 m pc lsr (.long x :: rest)))
    (hn : bc_go pc len ls h (bc_j1 f st) = some (.inl (pc', ls', st', h'))) (hl : LR B σ ls nL lsr) (hs : SR B σ st sr) : h' = h ∧ (Kn p l e R s m args below meth c H locs cells slots Q B σ nL pc' ls' st' → W p l e R s m args below meth c H locs cells slots Q (F0 m pc lsr sr)) := by
  obtain ⟨e1, rfl, rfl, rfl⟩ := bc_go_inv hn
  obtain ⟨a, r, rfl, rfl⟩ := bc_j1_inv e1
  obtain ⟨x, q, rfl, ex, hs2⟩ := hs.j
  subst ex
  exact ⟨rfl, fun K => row x q (K _ _ hl ⟨hf x, hs2⟩)⟩
/-- a value pushed -/
theorem sm_push {x : AV} (v : Value) (hv : VR B σ x v) (row : ∀ (rest : List Value), W p l e R s m args below meth c H locs cells slots Q (F0 m (pc + len) lsr (v :: rest)) → W p l e R s m args below meth c H locs cells slots Q (F0 m pc lsr rest))
    (hn : bc_go pc len ls h (some (x :: st)) = some (.inl (pc', ls', st', h'))) (hl : LR B σ ls nL lsr) (hs : SR B σ st sr) : h' = h ∧ (Kn p l e R s m args below meth c H locs cells slots Q B σ nL pc' ls' st' → W p l e R s m args below meth c H locs cells slots Q (F0 m pc lsr sr)) := by
  obtain ⟨e1, rfl, rfl, rfl⟩ := bc_go_inv hn
  cases e1
  exact ⟨rfl, fun K => row _ (K _ _ hl ⟨hv, hs⟩)⟩
theorem sm_ldI {n : Nat} (row : ∀ (x : Int32) (rest : List Value), lsr[n]? = some (.val (.int x)) → W p l e R s m args below meth c H locs cells slots Q (F0 m (pc + len) lsr (.int x :: rest)) → W p l e R s m args below meth c H locs cells slots Q (F0 m pc lsr rest))
    (hn : bc_go pc len ls h (bc_ldI ls n st) = some (.inl (pc', ls', st', h'))) (hl : LR B σ ls nL lsr) (hs : SR B σ st sr) : h' = h ∧ (Kn p l e R s m args below meth c H locs cells slots Q B σ nL pc' ls' st' → W p l e R s m args below meth c H locs cells slots Q (F0 m pc lsr sr)) := by
  obtain ⟨e1, rfl, rfl, rfl⟩ := bc_go_inv hn
  unfold bc_ldI at e1
  split at e1
  · rename_i z hz
    cases e1
    obtain ⟨v, h1, n, rfl, h2⟩ := hl.get hz rfl
    exact ⟨rfl, fun K => row n _ h1 (K _ _ hl ⟨⟨_, rfl, h2⟩, hs⟩)⟩
  · cases e1
theorem sm_ldJ {n : Nat} (row : ∀ (x : Int64) (rest : List Value), lsr[n]? = some (.val (.long x)) → W p l e R s m args below meth c H locs cells slots Q (F0 m (pc + len) lsr (.long x :: rest)) → W p l e R s m args below meth c H locs cells slots Q (F0 m pc lsr rest))
    (hn : bc_go pc len ls h (bc_ldJ ls n st) = some (.inl (pc', ls', st', h'))) (hl : LR B σ ls nL lsr) (hs : SR B σ st sr) : h' = h ∧ (Kn p l e R s m args below meth c H locs cells slots Q B σ nL pc' ls' st' → W p l e R s m args below meth c H locs cells slots Q (F0 m pc lsr sr)) := by
  obtain ⟨e1, rfl, rfl, rfl⟩ := bc_go_inv hn
  unfold bc_ldJ at e1
  split at e1
  · rename_i z hz
    cases e1
    obtain ⟨v, h1, n, rfl, h2⟩ := hl.get hz rfl
    exact ⟨rfl, fun K => row n _ h1 (K _ _ hl ⟨⟨_, rfl, h2⟩, hs⟩)⟩
  · cases e1
theorem sm_ldR {n : Nat} (row : ∀ (v : Value) (rest : List Value), (v = .null ∨ ∃ q : Nat, v = .ref q) → lsr[n]? = some (.val v) → W p l e R s m args below meth c H locs cells slots Q (F0 m (pc + len) lsr (v :: rest)) → W p l e R s m args below meth c H locs cells slots Q (F0 m pc lsr rest))
    (hn : bc_go pc len ls h (bc_ldR ls n st) = some (.inl (pc', ls', st', h'))) (hl : LR B σ ls nL lsr) (hs : SR B σ st sr) : h' = h ∧ (Kn p l e R s m args below meth c H locs cells slots Q B σ nL pc' ls' st' → W p l e R s m args below meth c H locs cells slots Q (F0 m pc lsr sr)) := by
  obtain ⟨e1, rfl, rfl, rfl⟩ := bc_go_inv hn
  unfold bc_ldR at e1
  split at e1
  · rename_i z hz
    cases e1
    obtain ⟨v, h1, h2⟩ := hl.get hz rfl
    exact ⟨rfl, fun K => row v _ h2.2 h1 (K _ _ hl ⟨h2, hs⟩)⟩
  · cases e1
theorem sm_stI {n : Nat} (row : ∀ (x : Int32) (rest : List Value) (lv : List (Nat × Value)), lv_has lsr nL lv → n < nL → (∀ ls' : Array Slot, lv_has ls' nL ((n, Value.int x) :: lv.filter (fun q => !(q.1 == n) && !(q.1 + 1 == n && q.2.category == 2))) → W p l e R s m args below meth c H locs cells slots Q (F0 m (pc + len) ls' rest)) → W p l e R s m args below meth c H locs cells slots Q (F0 m pc lsr (.int x :: rest)))
    (hn : bc_stI pc len ls h n st = some (.inl (pc', ls', st', h'))) (hl : LR B σ ls nL lsr) (hs : SR B σ st sr) : h' = h ∧ (Kn p l e R s m args below meth c H locs cells slots Q B σ nL pc' ls' st' → W p l e R s m args below meth c H locs cells slots Q (F0 m pc lsr sr)) := by
  unfold bc_stI at hn
  split at hn
  · split at hn
    · rename_i l1 hst
      cases hn
      obtain ⟨x, q, rfl, ex, hs⟩ := hs.i
      obtain ⟨hlen, vs, hv, hm⟩ := hl
      obtain ⟨h1, h2, h3⟩ := LR.st1 (v := .int x) hlen hm hst ⟨_, rfl, ex⟩
      exact ⟨rfl, fun K => row x q vs hv h1 (fun ls2 h4 => K _ _ ⟨h2, _, h4, h3⟩ hs)⟩
    · cases hn
  · cases hn
theorem sm_stR {n : Nat} (row : ∀ (v : Value) (rest : List Value) (lv : List (Nat × Value)), (v = .null ∨ ∃ q : Nat, v = .ref q) → lv_has lsr nL lv → n < nL → (∀ ls' : Array Slot, lv_has ls' nL ((n, v) :: lv.filter (fun q => !(q.1 == n) && !(q.1 + 1 == n && q.2.category == 2))) → W p l e R s m args below meth c H locs cells slots Q (F0 m (pc + len) ls' rest)) → W p l e R s m args below meth c H locs cells slots Q (F0 m pc lsr (v :: rest)))
    (hn : bc_stR pc len ls h n st = some (.inl (pc', ls', st', h'))) (hl : LR B σ ls nL lsr) (hs : SR B σ st sr) : h' = h ∧ (Kn p l e R s m args below meth c H locs cells slots Q B σ nL pc' ls' st' → W p l e R s m args below meth c H locs cells slots Q (F0 m pc lsr sr)) := by
  unfold bc_stR at hn
  split at hn
  · split at hn
    · rename_i l1 hst
      cases hn
      obtain ⟨x, q, rfl, ex, ex2, hs⟩ := hs.r
      obtain ⟨hlen, vs, hv, hm⟩ := hl
      obtain ⟨h1, h2, h3⟩ := LR.st1 (v := x) hlen hm hst ⟨ex, ex2⟩
      exact ⟨rfl, fun K => row x q vs ex2 hv h1 (fun ls2 h4 => K _ _ ⟨h2, _, h4, h3⟩ hs)⟩
    · cases hn
  · cases hn
theorem sm_stJ {n : Nat} (row : ∀ (x : Int64) (rest : List Value) (lv : List (Nat × Value)), lv_has lsr nL lv → n + 1 < nL → (∀ ls' : Array Slot, lv_has ls' nL ((n, Value.long x) :: lv.filter (fun q => !(q.1 == n) && (!(q.1 == n + 1) && !(q.1 + 1 == n && q.2.category == 2)))) → W p l e R s m args below meth c H locs cells slots Q (F0 m (pc + len) ls' rest)) → W p l e R s m args below meth c H locs cells slots Q (F0 m pc lsr (.long x :: rest)))
    (hn : bc_stJ pc len ls h n st = some (.inl (pc', ls', st', h'))) (hl : LR B σ ls nL lsr) (hs : SR B σ st sr) : h' = h ∧ (Kn p l e R s m args below meth c H locs cells slots Q B σ nL pc' ls' st' → W p l e R s m args below meth c H locs cells slots Q (F0 m pc lsr sr)) := by
  unfold bc_stJ at hn
  split at hn
  · split at hn
    · rename_i l1 hst
      cases hn
      obtain ⟨x, q, rfl, ex, hs⟩ := hs.j
      obtain ⟨hlen, vs, hv, hm⟩ := hl
      obtain ⟨h1, h2, h3⟩ := LR.st2 (v := .long x) hlen hm hst ⟨_, rfl, ex⟩
      exact ⟨rfl, fun K => row x q vs hv h1 (fun ls2 h4 => K _ _ ⟨h2, _, h4, h3⟩ hs)⟩
    · cases hn
  · cases hn
theorem sm_inc {n : Nat} {z : Int} (hx : p.tables.exec = Jvm.exec) (hb : c.code = cc) (hdg : decode cc pc = .ok (.iinc n z, 3))
    (hn : bc_inc pc 3 ls h n z st = some (.inl (pc', ls', st', h'))) (hl : LR B σ ls nL lsr) (hs : SR B σ st sr) : h' = h ∧ (Kn p l e R s m args below meth c H locs cells slots Q B σ nL pc' ls' st' → W p l e R s m args below meth c H locs cells slots Q (F0 m pc lsr sr)) := by
  unfold bc_inc at hn
  split at hn
  · rename_i a ha
    split at hn
    · rename_i l1 hst
      cases hn
      obtain ⟨hlen, vs, hv, hm⟩ := hl
      obtain ⟨v, hmem, x, rfl, ex⟩ := hm _ _ ha rfl
      obtain ⟨i, hi⟩ := List.getElem?_of_mem hmem
      obtain ⟨h1, h2, h3⟩ := LR.st1 (v := .int (x + Int32.ofInt z)) hlen hm hst ⟨_, rfl, by rw [t_add, ex, Int32.toInt_ofInt]; exact Int.add_bmod_bmod⟩
      exact ⟨rfl, fun K => lv_iinc hx hb hdg hv hi rfl h1 rfl (fun ls2 h4 => K _ _ ⟨h2, _, h4, h3⟩ hs)⟩
    · cases hn
  · cases hn
end SM
end
section
section SB
variable {p : Program} {l : Launch} {e : Env} {R : Room} {s : State} {m : MethodId} {args : Array Value} {below : List Frame} {meth : Method} {c : Code} {H : Heap} {locs : List Loc} {cells slots : Nat} {Q : State → Prop}
variable {cc : ByteArray} {pc : Nat} {ls : Array Slot} {rest : List Value}
theorem lv_icmpN_eq (hexec : p.tables.exec = Jvm.exec) (hb : c.code = cc) {x y : Int32} {off : Int} (hdg : decode cc pc = .ok (.if_icmp .eq off, 3)) (hc : ¬ (x = y)) (kf : W p l e R s m args below meth c H locs cells slots Q (F0 m (pc + 3) ls rest)) : W p l e R s m args below meth c H locs cells slots Q (F0 m pc ls (.int y :: .int x :: rest)) := by
  intro T hT X
  obtain ⟨t, a, b⟩ := kf T hT X
  refine ⟨t, ?_, b⟩
  jvm_step X.here [X.here.top, hexec, hb, hdg, Op.if_icmp.holds, hc]
  exact a
theorem lv_icmpN_ne (hexec : p.tables.exec = Jvm.exec) (hb : c.code = cc) {x y : Int32} {off : Int} (hdg : decode cc pc = .ok (.if_icmp .ne off, 3)) (hc : ¬ (¬ x = y)) (kf : W p l e R s m args below meth c H locs cells slots Q (F0 m (pc + 3) ls rest)) : W p l e R s m args below meth c H locs cells slots Q (F0 m pc ls (.int y :: .int x :: rest)) := by
  intro T hT X
  obtain ⟨t, a, b⟩ := kf T hT X
  refine ⟨t, ?_, b⟩
  have hc := Classical.not_not.mp hc
  jvm_step X.here [X.here.top, hexec, hb, hdg, Op.if_icmp.holds, hc]
  exact a
theorem lv_icmpN_lt (hexec : p.tables.exec = Jvm.exec) (hb : c.code = cc) {x y : Int32} {off : Int} (hdg : decode cc pc = .ok (.if_icmp .lt off, 3)) (hc : ¬ (x < y)) (kf : W p l e R s m args below meth c H locs cells slots Q (F0 m (pc + 3) ls rest)) : W p l e R s m args below meth c H locs cells slots Q (F0 m pc ls (.int y :: .int x :: rest)) := by
  intro T hT X
  obtain ⟨t, a, b⟩ := kf T hT X
  refine ⟨t, ?_, b⟩
  jvm_step X.here [X.here.top, hexec, hb, hdg, Op.if_icmp.holds, hc]
  exact a
theorem lv_icmpN_ge (hexec : p.tables.exec = Jvm.exec) (hb : c.code = cc) {x y : Int32} {off : Int} (hdg : decode cc pc = .ok (.if_icmp .ge off, 3)) (hc : ¬ (y ≤ x)) (kf : W p l e R s m args below meth c H locs cells slots Q (F0 m (pc + 3) ls rest)) : W p l e R s m args below meth c H locs cells slots Q (F0 m pc ls (.int y :: .int x :: rest)) := by
  intro T hT X
  obtain ⟨t, a, b⟩ := kf T hT X
  refine ⟨t, ?_, b⟩
  jvm_step X.here [X.here.top, hexec, hb, hdg, Op.if_icmp.holds, hc]
  exact a
theorem lv_icmpN_gt (hexec : p.tables.exec = Jvm.exec) (hb : c.code = cc) {x y : Int32} {off : Int} (hdg : decode cc pc = .ok (.if_icmp .gt off, 3)) (hc : ¬ (y < x)) (kf : W p l e R s m args below meth c H locs cells slots Q (F0 m (pc + 3) ls rest)) : W p l e R s m args below meth c H locs cells slots Q (F0 m pc ls (.int y :: .int x :: rest)) := by
  intro T hT X
  obtain ⟨t, a, b⟩ := kf T hT X
  refine ⟨t, ?_, b⟩
  jvm_step X.here [X.here.top, hexec, hb, hdg, Op.if_icmp.holds, hc]
  exact a
theorem lv_icmpN_le (hexec : p.tables.exec = Jvm.exec) (hb : c.code = cc) {x y : Int32} {off : Int} (hdg : decode cc pc = .ok (.if_icmp .le off, 3)) (hc : ¬ (x ≤ y)) (kf : W p l e R s m args below meth c H locs cells slots Q (F0 m (pc + 3) ls rest)) : W p l e R s m args below meth c H locs cells slots Q (F0 m pc ls (.int y :: .int x :: rest)) := by
  intro T hT X
  obtain ⟨t, a, b⟩ := kf T hT X
  refine ⟨t, ?_, b⟩
  jvm_step X.here [X.here.top, hexec, hb, hdg, Op.if_icmp.holds, hc]
  exact a
theorem lv_ifN_eq (hexec : p.tables.exec = Jvm.exec) (hb : c.code = cc) {x : Int32} {off : Int} (hdg : decode cc pc = .ok (.ifCond .eq off, 3)) (hc : ¬ (x = (0 : Int32))) (kf : W p l e R s m args below meth c H locs cells slots Q (F0 m (pc + 3) ls rest)) : W p l e R s m args below meth c H locs cells slots Q (F0 m pc ls (.int x :: rest)) := by
  intro T hT X
  obtain ⟨t, a, b⟩ := kf T hT X
  refine ⟨t, ?_, b⟩
  jvm_step X.here [X.here.top, hexec, hb, hdg, Op.ifCond.holds, hc]
  exact a
theorem lv_ifN_ne (hexec : p.tables.exec = Jvm.exec) (hb : c.code = cc) {x : Int32} {off : Int} (hdg : decode cc pc = .ok (.ifCond .ne off, 3)) (hc : ¬ (¬ x = (0 : Int32))) (kf : W p l e R s m args below meth c H locs cells slots Q (F0 m (pc + 3) ls rest)) : W p l e R s m args below meth c H locs cells slots Q (F0 m pc ls (.int x :: rest)) := by
  intro T hT X
  obtain ⟨t, a, b⟩ := kf T hT X
  refine ⟨t, ?_, b⟩
  have hc := Classical.not_not.mp hc
  jvm_step X.here [X.here.top, hexec, hb, hdg, Op.ifCond.holds, hc]
  exact a
theorem lv_ifN_lt (hexec : p.tables.exec = Jvm.exec) (hb : c.code = cc) {x : Int32} {off : Int} (hdg : decode cc pc = .ok (.ifCond .lt off, 3)) (hc : ¬ (x < (0 : Int32))) (kf : W p l e R s m args below meth c H locs cells slots Q (F0 m (pc + 3) ls rest)) : W p l e R s m args below meth c H locs cells slots Q (F0 m pc ls (.int x :: rest)) := by
  intro T hT X
  obtain ⟨t, a, b⟩ := kf T hT X
  refine ⟨t, ?_, b⟩
  jvm_step X.here [X.here.top, hexec, hb, hdg, Op.ifCond.holds, hc]
  exact a
theorem lv_ifN_ge (hexec : p.tables.exec = Jvm.exec) (hb : c.code = cc) {x : Int32} {off : Int} (hdg : decode cc pc = .ok (.ifCond .ge off, 3)) (hc : ¬ ((0 : Int32) ≤ x)) (kf : W p l e R s m args below meth c H locs cells slots Q (F0 m (pc + 3) ls rest)) : W p l e R s m args below meth c H locs cells slots Q (F0 m pc ls (.int x :: rest)) := by
  intro T hT X
  obtain ⟨t, a, b⟩ := kf T hT X
  refine ⟨t, ?_, b⟩
  jvm_step X.here [X.here.top, hexec, hb, hdg, Op.ifCond.holds, hc]
  exact a
theorem lv_ifN_gt (hexec : p.tables.exec = Jvm.exec) (hb : c.code = cc) {x : Int32} {off : Int} (hdg : decode cc pc = .ok (.ifCond .gt off, 3)) (hc : ¬ ((0 : Int32) < x)) (kf : W p l e R s m args below meth c H locs cells slots Q (F0 m (pc + 3) ls rest)) : W p l e R s m args below meth c H locs cells slots Q (F0 m pc ls (.int x :: rest)) := by
  intro T hT X
  obtain ⟨t, a, b⟩ := kf T hT X
  refine ⟨t, ?_, b⟩
  jvm_step X.here [X.here.top, hexec, hb, hdg, Op.ifCond.holds, hc]
  exact a
theorem lv_ifN_le (hexec : p.tables.exec = Jvm.exec) (hb : c.code = cc) {x : Int32} {off : Int} (hdg : decode cc pc = .ok (.ifCond .le off, 3)) (hc : ¬ (x ≤ (0 : Int32))) (kf : W p l e R s m args below meth c H locs cells slots Q (F0 m (pc + 3) ls rest)) : W p l e R s m args below meth c H locs cells slots Q (F0 m pc ls (.int x :: rest)) := by
  intro T hT X
  obtain ⟨t, a, b⟩ := kf T hT X
  refine ⟨t, ?_, b⟩
  jvm_step X.here [X.here.top, hexec, hb, hdg, Op.ifCond.holds, hc]
  exact a
end SB
section SN
variable {p : Program} {l : Launch} {e : Env} {R : Room} {s : State} {m : MethodId} {args : Array Value} {below : List Frame} {meth : Method} {c : Code} {H : Heap} {locs : List Loc} {cells slots : Nat} {Q : State → Prop} {B : Nat} {σ : Nat → Value} {nL : Nat}
variable {cc : ByteArray} {pc len pc' k : Nat} {ls ls' st st' : List AV} {h h' : AH} {lsr : Array Slot} {sr : List Value}
theorem bc_jmp_inv {off : Int} (e : bc_jmp pc off ls st h = some (.inl (pc', ls', st', h'))) : (pc : Int) + off = (pc' : Int) ∧ ls' = ls ∧ st' = st ∧ h' = h := by
  unfold bc_jmp at e
  split at e
  · rename_i hp
    simp only [Option.some.injEq, Sum.inl.injEq, Prod.mk.injEq] at e
    obtain ⟨rfl, rfl, rfl, rfl⟩ := e
    exact ⟨(Int.toNat_of_nonneg hp).symm, rfl, rfl, rfl⟩
  · cases e
theorem sm_br {b : Bool} {off : Int} {st0 : List AV} {sr0 q : List Value} (hn : bc_br b pc off ls st0 h = some (.inl (pc', ls', st', h'))) (hl : LR B σ ls nL lsr) (hs : SR B σ st0 q)
    (row : ∀ tgt : Nat, (pc : Int) + off = (tgt : Int) → b = true → W p l e R s m args below meth c H locs cells slots Q (F0 m tgt lsr q) → W p l e R s m args below meth c H locs cells slots Q (F0 m pc lsr sr)) (rowN : b = false → W p l e R s m args below meth c H locs cells slots Q (F0 m (pc + 3) lsr q) → W p l e R s m args below meth c H locs cells slots Q (F0 m pc lsr sr)) : h' = h ∧ (Kn p l e R s m args below meth c H locs cells slots Q B σ nL pc' ls' st' → W p l e R s m args below meth c H locs cells slots Q (F0 m pc lsr sr)) := by
  unfold bc_br at hn
  cases b with
  | true =>
    rw [if_pos rfl] at hn
    obtain ⟨h1, rfl, rfl, rfl⟩ := bc_jmp_inv hn
    exact ⟨rfl, fun K => row _ h1 rfl (K _ _ hl hs)⟩
  | false =>
    rw [if_neg (by decide)] at hn
    simp only [Option.some.injEq, Sum.inl.injEq, Prod.mk.injEq] at hn
    obtain ⟨rfl, rfl, rfl, rfl⟩ := hn
    exact ⟨rfl, fun K => rowN rfl (K _ _ hl hs)⟩
theorem t_eq {x y : Int32} : x = y ↔ x.toInt = y.toInt := Int32.toInt_inj.symm
theorem t_lt {x y : Int32} : x < y ↔ x.toInt < y.toInt := Int32.lt_iff_toInt_lt
theorem t_le {x y : Int32} : x ≤ y ↔ x.toInt ≤ y.toInt := Int32.le_iff_toInt_le
theorem t_zero : (0 : Int32).toInt = 0 := rfl
theorem sm_icmp {cnd : Jvm.ClassFile.Cond} {off : Int} (hx : p.tables.exec = Jvm.exec) (hb : c.code = cc) (hdg : decode cc pc = .ok (.if_icmp cnd off, 3)) {x y : Int32} {r : List AV} {q : List Value} (hn : bc_br (bc_cc cnd x.toInt y.toInt) pc off ls r h = some (.inl (pc', ls', st', h'))) (hl : LR B σ ls nL lsr) (hs : SR B σ r q) (hsr : sr = .int y :: .int x :: q) : h' = h ∧ (Kn p l e R s m args below meth c H locs cells slots Q B σ nL pc' ls' st' → W p l e R s m args below meth c H locs cells slots Q (F0 m pc lsr sr)) := by
  subst hsr
  refine sm_br (sr0 := []) hn hl hs (fun tgt ht hbt kk => ?_) (fun hbt kk => ?_)
  · cases cnd
    · exact lv_icmp_eq hx hb hdg ht (fun _ => kk) (fun z => absurd (t_eq.mpr (of_decide_eq_true hbt)) z)
    · exact lv_icmp_ne hx hb hdg ht (fun _ => kk) (fun z => absurd z ((not_congr t_eq).mpr (of_decide_eq_true hbt)))
    · exact lv_icmp_lt hx hb hdg ht (fun _ => kk) (fun z => absurd (t_lt.mpr (of_decide_eq_true hbt)) z)
    · exact lv_icmp_ge hx hb hdg ht (fun _ => kk) (fun z => absurd (t_le.mpr (of_decide_eq_true hbt)) z)
    · exact lv_icmp_gt hx hb hdg ht (fun _ => kk) (fun z => absurd (t_lt.mpr (of_decide_eq_true hbt)) z)
    · exact lv_icmp_le hx hb hdg ht (fun _ => kk) (fun z => absurd (t_le.mpr (of_decide_eq_true hbt)) z)
  · cases cnd
    · exact lv_icmpN_eq hx hb hdg (fun z => of_decide_eq_false hbt (t_eq.mp z)) kk
    · exact lv_icmpN_ne hx hb hdg (fun z => of_decide_eq_false hbt ((not_congr t_eq).mp z)) kk
    · exact lv_icmpN_lt hx hb hdg (fun z => of_decide_eq_false hbt (t_lt.mp z)) kk
    · exact lv_icmpN_ge hx hb hdg (fun z => of_decide_eq_false hbt (t_le.mp z)) kk
    · exact lv_icmpN_gt hx hb hdg (fun z => of_decide_eq_false hbt (t_lt.mp z)) kk
    · exact lv_icmpN_le hx hb hdg (fun z => of_decide_eq_false hbt (t_le.mp z)) kk
theorem sm_if {cnd : Jvm.ClassFile.Cond} {off : Int} (hx : p.tables.exec = Jvm.exec) (hb : c.code = cc) (hdg : decode cc pc = .ok (.ifCond cnd off, 3)) {x : Int32} {r : List AV} {q : List Value} (hn : bc_br (bc_cc cnd x.toInt 0) pc off ls r h = some (.inl (pc', ls', st', h'))) (hl : LR B σ ls nL lsr) (hs : SR B σ r q) (hsr : sr = .int x :: q) : h' = h ∧ (Kn p l e R s m args below meth c H locs cells slots Q B σ nL pc' ls' st' → W p l e R s m args below meth c H locs cells slots Q (F0 m pc lsr sr)) := by
  subst hsr
  refine sm_br (sr0 := []) hn hl hs (fun tgt ht hbt kk => ?_) (fun hbt kk => ?_)
  · cases cnd
    · exact lv_if_eq hx hb hdg ht (fun _ => kk) (fun z => absurd (t_eq.mpr (by rw [t_zero]; exact of_decide_eq_true hbt)) z)
    · exact lv_if_ne hx hb hdg ht (fun _ => kk) (fun z => absurd z ((not_congr t_eq).mpr (by rw [t_zero]; exact of_decide_eq_true hbt)))
    · exact lv_if_lt hx hb hdg ht (fun _ => kk) (fun z => absurd (t_lt.mpr (by rw [t_zero]; exact of_decide_eq_true hbt)) z)
    · exact lv_if_ge hx hb hdg ht (fun _ => kk) (fun z => absurd (t_le.mpr (by rw [t_zero]; exact of_decide_eq_true hbt)) z)
    · exact lv_if_gt hx hb hdg ht (fun _ => kk) (fun z => absurd (t_lt.mpr (by rw [t_zero]; exact of_decide_eq_true hbt)) z)
    · exact lv_if_le hx hb hdg ht (fun _ => kk) (fun z => absurd (t_le.mpr (by rw [t_zero]; exact of_decide_eq_true hbt)) z)
  · cases cnd
    · exact lv_ifN_eq hx hb hdg (fun z => of_decide_eq_false hbt (by have q := t_eq.mp z; rw [t_zero] at q; exact q)) kk
    · exact lv_ifN_ne hx hb hdg (fun z => of_decide_eq_false hbt (by have q := (not_congr t_eq).mp z; rw [t_zero] at q; exact q)) kk
    · exact lv_ifN_lt hx hb hdg (fun z => of_decide_eq_false hbt (by have q := t_lt.mp z; rw [t_zero] at q; exact q)) kk
    · exact lv_ifN_ge hx hb hdg (fun z => of_decide_eq_false hbt (by have q := t_le.mp z; rw [t_zero] at q; exact q)) kk
    · exact lv_ifN_gt hx hb hdg (fun z => of_decide_eq_false hbt (by have q := t_lt.mp z; rw [t_zero] at q; exact q)) kk
    · exact lv_ifN_le hx hb hdg (fun z => of_decide_eq_false hbt (by have q := t_le.mp z; rw [t_zero] at q; exact q)) kk
end SN
end
section
section SO
variable {p : Program} {l : Launch} {e : Env} {R : Room} {s : State} {m : MethodId} {args : Array Value} {below : List Frame} {meth : Method} {c : Code} {H : Heap} {locs : List Loc} {cells slots : Nat} {Q : State → Prop} {B : Nat} {σ : Nat → Value} {nL : Nat}
variable {cc : ByteArray} {pc len pc' k : Nat} {ls ls' st st' : List AV} {h h' : AH} {lsr : Array Slot} {sr : List Value}
theorem sm_div  {st0 : List AV} {x y : Int32} {s1 : AV} {r : List AV} {q : List Value} {v : Value} (hne : bc_go pc 1 ls h (if y.toInt = 0 then none else some (s1 :: r)) = some (.inl (pc', ls', st', h'))) (hl : LR B σ ls nL lsr) (hs : SR B σ r q) (hv : VR B σ s1 v) (row : ¬ y = 0 → W p l e R s m args below meth c H locs cells slots Q (F0 m (pc + 1) lsr (v :: q)) → W p l e R s m args below meth c H locs cells slots Q (F0 m pc lsr sr)) : h' = h ∧ (Kn p l e R s m args below meth c H locs cells slots Q B σ nL pc' ls' st' → W p l e R s m args below meth c H locs cells slots Q (F0 m pc lsr sr)) := by
  obtain ⟨e1, rfl, rfl, rfl⟩ := bc_go_inv hne
  split at e1
  · cases e1
  · rename_i hy
    cases e1
    exact ⟨rfl, fun K => row (fun z => hy (by rw [z]; rfl)) (K _ _ hl ⟨hv, hs⟩)⟩
theorem sm_div64 {st0 : List AV} {y : Int64} {s1 : AV} {r : List AV} {q : List Value} {v : Value} (hne : bc_go pc 1 ls h (if y.toInt = 0 then none else some (s1 :: r)) = some (.inl (pc', ls', st', h'))) (hl : LR B σ ls nL lsr) (hs : SR B σ r q) (hv : VR B σ s1 v) (row : ¬ y = 0 → W p l e R s m args below meth c H locs cells slots Q (F0 m (pc + 1) lsr (v :: q)) → W p l e R s m args below meth c H locs cells slots Q (F0 m pc lsr sr)) : h' = h ∧ (Kn p l e R s m args below meth c H locs cells slots Q B σ nL pc' ls' st' → W p l e R s m args below meth c H locs cells slots Q (F0 m pc lsr sr)) := by
  obtain ⟨e1, rfl, rfl, rfl⟩ := bc_go_inv hne
  split at e1
  · cases e1
  · rename_i hy
    cases e1
    exact ⟨rfl, fun K => row (fun z => hy (by rw [z]; rfl)) (K _ _ hl ⟨hv, hs⟩)⟩
theorem u_rem {a b : Int64} : (a - a / b * b).toInt = Int.tmod a.toInt b.toInt := by
  have h1 : (a % b).toInt = Int.tmod a.toInt b.toInt := Int64.toInt_mod a b
  have h2 : a - a / b * b = a % b := by
    have e : Int.tmod a.toInt b.toInt = a.toInt - b.toInt * Int.tdiv a.toInt b.toInt := by
      have := Int.tmod_add_mul_tdiv a.toInt b.toInt
      omega
    apply Int64.toInt_inj.mp
    rw [h1, u_sub, u_mul, u_div]
    unfold w64
    rw [Int.bmod_mul_bmod, Int.sub_bmod_bmod, Int.mul_comm, ← e]
    have l1 := Int64.le_toInt (a % b)
    have l2 := Int64.toInt_lt (a % b)
    rw [h1] at l1 l2
    exact w64_idR l1 l2
  rw [h2, h1]
theorem u_lt {x y : Int64} : x < y ↔ x.toInt < y.toInt := Int64.lt_iff_toInt_lt
theorem u_eq {x y : Int64} : x = y ↔ x.toInt = y.toInt := Int64.toInt_inj.symm
theorem VR.c1 {x : AV} {v : Value} (h : VR B σ x v) (hc : bc_isC2 x = false) : v.category = 1 := by
  rw [h.cat]; unfold bc_cat; rw [hc]; rfl
theorem bc_dup_inv (e : bc_dup st = some st') : ∃ a r, st = a :: r ∧ bc_isC2 a = false ∧ st' = a :: a :: r := by
  unfold bc_dup at e
  split at e
  · split at e
    · cases e
    · rename_i a r hc
      cases e
      exact ⟨a, r, rfl, by revert hc; cases bc_isC2 a <;> simp, rfl⟩
  · cases e
theorem bc_pop_inv (e : bc_pop st = some st') : ∃ a, st = a :: st' ∧ bc_isC2 a = false := by
  unfold bc_pop at e
  split at e
  · split at e
    · cases e
    · rename_i a r hc
      cases e
      exact ⟨a, rfl, by revert hc; cases bc_isC2 a <;> simp⟩
  · cases e
theorem bc_dupx1_inv (e : bc_dupx1 st = some st') : ∃ a b r, st = a :: b :: r ∧ bc_isC2 a = false ∧ bc_isC2 b = false ∧ st' = a :: b :: a :: r := by
  unfold bc_dupx1 at e
  split at e
  · split at e
    · cases e
    · rename_i a b r hc
      cases e
      exact ⟨a, b, r, rfl, by revert hc; cases bc_isC2 a <;> simp, by revert hc; cases bc_isC2 b <;> simp, rfl⟩
  · cases e
theorem bc_dup2_inv (e : bc_dup2 st = some st') : (∃ z r, st = .inr (.inl z) :: r ∧ st' = vJ z :: vJ z :: r) ∨ ∃ a b r, st = a :: b :: r ∧ bc_isC2 a = false ∧ bc_isC2 b = false ∧ st' = a :: b :: a :: b :: r := by
  unfold bc_dup2 at e
  split at e
  · cases e
    exact Or.inl ⟨_, _, rfl, rfl⟩
  · split at e
    · cases e
    · rename_i a b r _ hc
      cases e
      exact Or.inr ⟨a, b, r, rfl, by revert hc; cases bc_isC2 a <;> simp, by revert hc; cases bc_isC2 b <;> simp, rfl⟩
  · cases e
theorem lg_toInt {x y : Int64} : (lg_cmp x y).toInt = jCmp x.toInt y.toInt := by
  unfold lg_cmp jCmp
  simp only [u_lt, u_eq]
  by_cases h1 : y.toInt < x.toInt
  · rw [if_pos h1, if_neg (by omega), if_neg (by omega)]; rfl
  · rw [if_neg h1]
    by_cases h2 : x.toInt < y.toInt
    · rw [if_neg (by omega), if_pos h2]; rfl
    · rw [if_pos (by omega), if_neg h2, if_pos (by omega)]; rfl
def bc_nh (i : Instr) : Bool := match i with
  | .iconst _ => true
  | .bipush _ => true
  | .sipush _ => true
  | .lconst _ => true
  | .aconst_null => true
  | .iload _ => true
  | .iload_n _ => true
  | .lload _ => true
  | .lload_n _ => true
  | .aload _ => true
  | .aload_n _ => true
  | .istore _ => true
  | .istore_n _ => true
  | .lstore _ => true
  | .lstore_n _ => true
  | .astore _ => true
  | .astore_n _ => true
  | .iinc _ _ => true
  | .iadd => true
  | .isub => true
  | .imul => true
  | .idiv => true
  | .irem => true
  | .ineg => true
  | .iand => true
  | .ior => true
  | .ixor => true
  | .ishl => true
  | .ishr => true
  | .iushr => true
  | .ladd => true
  | .lsub => true
  | .lmul => true
  | .ldiv => true
  | .lrem => true
  | .lneg => true
  | .land => true
  | .lor => true
  | .lxor => true
  | .lshl => true
  | .lshr => true
  | .lushr => true
  | .lcmp => true
  | .i2l => true
  | .l2i => true
  | .i2b => true
  | .i2c => true
  | .dup => true
  | .dup_x1 => true
  | .dup2 => true
  | .pop => true
  | .goto _ => true
  | .ifCond _ _ => true
  | .if_icmp _ _ => true
  | .tableswitch _ _ _ _ => true
  | .lookupswitch _ _ => true
  | _ => false
theorem sim_nh {i : Instr} (hx : p.tables.exec = Jvm.exec) (hb : c.code = cc) (hdg : decode cc pc = .ok (i, len)) (hok : bc_ok i len = true) (hi : bc_nh i = true) (hn : bc_nxt k i pc len ls st h = some (.inl (pc', ls', st', h'))) (hl : LR B σ ls nL lsr) (hs : SR B σ st sr) : h' = h ∧ (Kn p l e R s m args below meth c H locs cells slots Q B σ nL pc' ls' st' → W p l e R s m args below meth c H locs cells slots Q (F0 m pc lsr sr)) := by
  cases i with
  | iconst z =>
    have hk : (-1 ≤ z ∧ z ≤ 5) ∧ len = 1 := by simpa [bc_ok] using hok
    obtain ⟨⟨z0, z1⟩, rfl⟩ := hk
    exact sm_push (x := vI z) (.int (Int32.ofInt z)) ⟨_, rfl, Int32.toInt_ofInt_of_le (by omega) (by omega)⟩ (fun rest kk => lv_iconst hx hb hdg rfl kk) hn hl hs
  | bipush z =>
    have hk : (-128 ≤ z ∧ z ≤ 127) ∧ len = 2 := by simpa [bc_ok] using hok
    obtain ⟨⟨z0, z1⟩, rfl⟩ := hk
    exact sm_push (x := vI z) (.int ((Int8.ofInt z).toInt32)) ⟨_, rfl, by rw [Int8.toInt_toInt32]; exact Int8.toInt_ofInt_of_le (by omega) (by omega)⟩ (fun rest kk => lv_bipush hx hb hdg rfl kk) hn hl hs
  | sipush z =>
    have hk : (-32768 ≤ z ∧ z ≤ 32767) ∧ len = 3 := by simpa [bc_ok] using hok
    obtain ⟨⟨z0, z1⟩, rfl⟩ := hk
    exact sm_push (x := vI z) (.int ((Int16.ofInt z).toInt32)) ⟨_, rfl, by rw [Int16.toInt_toInt32]; exact Int16.toInt_ofInt_of_le (by omega) (by omega)⟩ (fun rest kk => lv_sipush hx hb hdg rfl kk) hn hl hs
  | lconst z =>
    obtain rfl : len = 1 := by simpa [bc_ok] using hok
    exact sm_push (x := vJ ((z.val : Nat) : Int)) (.long (Int64.ofNat (z : Nat))) ⟨_, rfl, Int64.toInt_ofNat_of_lt (Nat.lt_of_lt_of_le z.isLt (by decide))⟩ (fun rest kk => lv_lconst hx hb hdg rfl kk) hn hl hs
  | aconst_null =>
    obtain rfl : len = 1 := by simpa [bc_ok] using hok
    exact sm_push (x := vR 0) .null ⟨rfl, Or.inl rfl⟩ (fun rest kk => lv_null hx hb hdg kk) hn hl hs
  | iload n =>
    obtain rfl : len = 2 := by simpa [bc_ok] using hok
    exact sm_ldI (fun x rest hv kk => lv_iload hx hb hdg hv kk) hn hl hs
  | iload_n n =>
    obtain rfl : len = 1 := by simpa [bc_ok] using hok
    exact sm_ldI (fun x rest hv kk => lv_iload_n hx hb hdg rfl hv kk) hn hl hs
  | lload n =>
    obtain rfl : len = 2 := by simpa [bc_ok] using hok
    exact sm_ldJ (fun x rest hv kk => lv_lload hx hb hdg hv kk) hn hl hs
  | lload_n n =>
    obtain rfl : len = 1 := by simpa [bc_ok] using hok
    exact sm_ldJ (fun x rest hv kk => lv_lload_n hx hb hdg rfl hv kk) hn hl hs
  | aload n =>
    obtain rfl : len = 2 := by simpa [bc_ok] using hok
    exact sm_ldR (fun v rest hr hv kk => by rcases hr with rfl | ⟨q, rfl⟩; exact lv_aloadN hx hb hdg hv kk; exact lv_aload hx hb hdg hv kk) hn hl hs
  | aload_n n =>
    obtain rfl : len = 1 := by simpa [bc_ok] using hok
    exact sm_ldR (fun v rest hr hv kk => by rcases hr with rfl | ⟨q, rfl⟩; exact lv_aload_nN hx hb hdg rfl hv kk; exact lv_aload_n hx hb hdg rfl hv kk) hn hl hs
  | istore n =>
    obtain rfl : len = 2 := by simpa [bc_ok] using hok
    exact sm_stI (fun x rest lv hv hlt kk => lv_istore hx hb hdg hv hlt rfl kk) hn hl hs
  | istore_n n =>
    obtain rfl : len = 1 := by simpa [bc_ok] using hok
    exact sm_stI (fun x rest lv hv hlt kk => lv_istore_n hx hb hdg rfl hv hlt rfl kk) hn hl hs
  | lstore n =>
    obtain rfl : len = 2 := by simpa [bc_ok] using hok
    exact sm_stJ (fun x rest lv hv hlt kk => lv_lstore hx hb hdg hv hlt rfl kk) hn hl hs
  | lstore_n n =>
    obtain rfl : len = 1 := by simpa [bc_ok] using hok
    exact sm_stJ (fun x rest lv hv hlt kk => lv_lstore_n hx hb hdg rfl hv hlt rfl kk) hn hl hs
  | astore n =>
    obtain rfl : len = 2 := by simpa [bc_ok] using hok
    exact sm_stR (fun v rest lv hr hv hlt kk => by rcases hr with rfl | ⟨q, rfl⟩; exact lv_astoreN hx hb hdg hv hlt rfl kk; exact lv_astore hx hb hdg hv hlt rfl kk) hn hl hs
  | astore_n n =>
    obtain rfl : len = 1 := by simpa [bc_ok] using hok
    exact sm_stR (fun v rest lv hr hv hlt kk => by rcases hr with rfl | ⟨q, rfl⟩; exact lv_astore_nN hx hb hdg rfl hv hlt rfl kk; exact lv_astore_n hx hb hdg rfl hv hlt rfl kk) hn hl hs
  | iinc n z =>
    obtain rfl : len = 3 := by simpa [bc_ok] using hok
    exact sm_inc hx hb hdg hn hl hs
  | iadd =>
    obtain rfl : len = 1 := by simpa [bc_ok] using hok
    exact sm_i2 (fun x y => x + y) (fun _ _ => t_add) (fun x y rest kk => lv_iadd hx hb hdg kk) hn hl hs
  | isub =>
    obtain rfl : len = 1 := by simpa [bc_ok] using hok
    exact sm_i2 (fun x y => x - y) (fun _ _ => t_sub) (fun x y rest kk => lv_isub hx hb hdg kk) hn hl hs
  | imul =>
    obtain rfl : len = 1 := by simpa [bc_ok] using hok
    exact sm_i2 (fun x y => x * y) (fun _ _ => t_mul) (fun x y rest kk => lv_imul hx hb hdg kk) hn hl hs
  | iand =>
    obtain rfl : len = 1 := by simpa [bc_ok] using hok
    exact sm_i2 (fun x y => x &&& y) (fun _ _ => by unfold iAnd; rw [t32, t32]) (fun x y rest kk => lv_iand hx hb hdg kk) hn hl hs
  | ior =>
    obtain rfl : len = 1 := by simpa [bc_ok] using hok
    exact sm_i2 (fun x y => x ||| y) (fun _ _ => by unfold iOr; rw [t32, t32]) (fun x y rest kk => lv_ior hx hb hdg kk) hn hl hs
  | ixor =>
    obtain rfl : len = 1 := by simpa [bc_ok] using hok
    exact sm_i2 (fun x y => x ^^^ y) (fun _ _ => by unfold iXor; rw [t32, t32]) (fun x y rest kk => lv_ixor hx hb hdg kk) hn hl hs
  | ishl =>
    obtain rfl : len = 1 := by simpa [bc_ok] using hok
    exact sm_i2 (fun x y => x <<< (y &&& 31)) (fun _ _ => by unfold iShl; rw [t32, t32]) (fun x y rest kk => lv_ishl hx hb hdg kk) hn hl hs
  | ishr =>
    obtain rfl : len = 1 := by simpa [bc_ok] using hok
    exact sm_i2 (fun x y => x >>> (y &&& 31)) (fun _ _ => by unfold iShr; rw [t32, t32]) (fun x y rest kk => lv_ishr hx hb hdg kk) hn hl hs
  | iushr =>
    obtain rfl : len = 1 := by simpa [bc_ok] using hok
    exact sm_i2 (fun x y => (x.toUInt32 >>> (y.toUInt32 &&& Int32.toUInt32 31)).toInt32) (fun _ _ => by unfold iUshr; rw [t32, t32]) (fun x y rest kk => lv_iushr hx hb hdg rfl kk) hn hl hs
  | ladd =>
    obtain rfl : len = 1 := by simpa [bc_ok] using hok
    exact sm_j2 (fun x y => x + y) (fun _ _ => u_add) (fun x y rest kk => lv_ladd hx hb hdg kk) hn hl hs
  | lsub =>
    obtain rfl : len = 1 := by simpa [bc_ok] using hok
    exact sm_j2 (fun x y => x - y) (fun _ _ => u_sub) (fun x y rest kk => lv_lsub hx hb hdg kk) hn hl hs
  | lmul =>
    obtain rfl : len = 1 := by simpa [bc_ok] using hok
    exact sm_j2 (fun x y => x * y) (fun _ _ => u_mul) (fun x y rest kk => lv_lmul hx hb hdg kk) hn hl hs
  | land =>
    obtain rfl : len = 1 := by simpa [bc_ok] using hok
    exact sm_j2 (fun x y => x &&& y) (fun _ _ => by unfold jAnd; rw [t64, t64]) (fun x y rest kk => lv_land hx hb hdg kk) hn hl hs
  | lor =>
    obtain rfl : len = 1 := by simpa [bc_ok] using hok
    exact sm_j2 (fun x y => x ||| y) (fun _ _ => by unfold jOr; rw [t64, t64]) (fun x y rest kk => lv_lor hx hb hdg kk) hn hl hs
  | lxor =>
    obtain rfl : len = 1 := by simpa [bc_ok] using hok
    exact sm_j2 (fun x y => x ^^^ y) (fun _ _ => by unfold jXor; rw [t64, t64]) (fun x y rest kk => lv_lxor hx hb hdg kk) hn hl hs
  | lshl =>
    obtain rfl : len = 1 := by simpa [bc_ok] using hok
    exact sm_ji (fun x y => x <<< (y.toInt64 &&& 63)) (fun _ _ => by unfold jShl; rw [t64, t32]) (fun x y rest kk => lv_lshl hx hb hdg rfl kk) hn hl hs
  | lshr =>
    obtain rfl : len = 1 := by simpa [bc_ok] using hok
    exact sm_ji (fun x y => x >>> (y.toInt64 &&& 63)) (fun _ _ => by unfold jShr; rw [t64, t32]) (fun x y rest kk => lv_lshr hx hb hdg rfl kk) hn hl hs
  | lushr =>
    obtain rfl : len = 1 := by simpa [bc_ok] using hok
    exact sm_ji (fun x y => (x.toUInt64 >>> (y.toInt64.toUInt64 &&& Int64.toUInt64 63)).toInt64) (fun _ _ => by unfold jUshr; rw [t64, t32]) (fun x y rest kk => lv_lushr hx hb hdg rfl kk) hn hl hs
  | ineg =>
    obtain rfl : len = 1 := by simpa [bc_ok] using hok
    exact sm_i1 (f := fun a => vI (w32 (-a))) (fun x => .int (-x)) (fun x => ⟨_, rfl, t_neg⟩) (fun x rest kk => lv_ineg hx hb hdg kk) hn hl hs
  | lneg =>
    obtain rfl : len = 1 := by simpa [bc_ok] using hok
    exact sm_j1 (f := fun a => vJ (w64 (-a))) (fun x => .long (-x)) (fun x => ⟨_, rfl, u_neg⟩) (fun x rest kk => lv_lneg hx hb hdg kk) hn hl hs
  | i2l =>
    obtain rfl : len = 1 := by simpa [bc_ok] using hok
    exact sm_i1 (f := fun a => vJ a) (fun x => .long x.toInt64) (fun x => ⟨_, rfl, Int32.toInt_toInt64 x⟩) (fun x rest kk => lv_i2l hx hb hdg rfl kk) hn hl hs
  | l2i =>
    obtain rfl : len = 1 := by simpa [bc_ok] using hok
    exact sm_j1 (f := fun a => vI (w32 a)) (fun x => .int x.toInt32) (fun x => ⟨_, rfl, by rw [Int64.toInt_toInt32]; rfl⟩) (fun x rest kk => lv_l2i hx hb hdg rfl kk) hn hl hs
  | i2b =>
    obtain rfl : len = 1 := by simpa [bc_ok] using hok
    exact sm_i1 (f := fun a => vI (i2bZ a)) (fun x => .int x.toInt8.toInt32) (fun x => ⟨_, rfl, by unfold i2bZ; rw [t32]⟩) (fun x rest kk => lv_i2b hx hb hdg rfl kk) hn hl hs
  | i2c =>
    obtain rfl : len = 1 := by simpa [bc_ok] using hok
    exact sm_i1 (f := fun a => vI (i2cZ a)) (fun x => .int (x.toUInt32 % 65536).toInt32) (fun x => ⟨_, rfl, by unfold i2cZ; rw [t32]⟩) (fun x rest kk => lv_i2c hx hb hdg rfl kk) hn hl hs
  | idiv =>
    obtain rfl : len = 1 := by simpa [bc_ok] using hok
    have hn : bc_go pc 1 ls h (bc_idiv st) = _ := hn
    unfold bc_idiv at hn
    split at hn
    · obtain ⟨y, q, rfl, rfl, hs2⟩ := hs.i
      obtain ⟨x, q, rfl, rfl, hs3⟩ := hs2.i
      exact sm_div (st0 := []) (x := x) (v := .int (x / y)) hn hl hs3 ⟨_, rfl, t_div⟩ (fun hy kk => lv_idiv hx hb hdg hy kk)
    · cases hn
  | irem =>
    obtain rfl : len = 1 := by simpa [bc_ok] using hok
    have hn : bc_go pc 1 ls h (bc_irem st) = _ := hn
    unfold bc_irem at hn
    split at hn
    · obtain ⟨y, q, rfl, rfl, hs2⟩ := hs.i
      obtain ⟨x, q, rfl, rfl, hs3⟩ := hs2.i
      exact sm_div (st0 := []) (x := x) (v := .int (x - x / y * y)) hn hl hs3 ⟨_, rfl, t_rem⟩ (fun hy kk => lv_irem hx hb hdg hy kk)
    · cases hn
  | ldiv =>
    obtain rfl : len = 1 := by simpa [bc_ok] using hok
    have hn : bc_go pc 1 ls h (bc_jdiv st) = _ := hn
    unfold bc_jdiv at hn
    split at hn
    · obtain ⟨y, q, rfl, rfl, hs2⟩ := hs.j
      obtain ⟨x, q, rfl, rfl, hs3⟩ := hs2.j
      exact sm_div64 (st0 := []) (v := .long (x / y)) hn hl hs3 ⟨_, rfl, u_div⟩ (fun hy kk => lv_ldiv hx hb hdg hy kk)
    · cases hn
  | lrem =>
    obtain rfl : len = 1 := by simpa [bc_ok] using hok
    have hn : bc_go pc 1 ls h (bc_jrem st) = _ := hn
    unfold bc_jrem at hn
    split at hn
    · obtain ⟨y, q, rfl, rfl, hs2⟩ := hs.j
      obtain ⟨x, q, rfl, rfl, hs3⟩ := hs2.j
      exact sm_div64 (st0 := []) (v := .long (x - x / y * y)) hn hl hs3 ⟨_, rfl, u_rem⟩ (fun hy kk => lv_lrem hx hb hdg hy kk)
    · cases hn
  | lcmp =>
    obtain rfl : len = 1 := by simpa [bc_ok] using hok
    have hn : bc_go pc 1 ls h (bc_lcmp st) = _ := hn
    unfold bc_lcmp at hn
    split at hn
    · obtain ⟨y, q, rfl, rfl, hs2⟩ := hs.j
      obtain ⟨x, q, rfl, rfl, hs3⟩ := hs2.j
      obtain ⟨e1, rfl, rfl, rfl⟩ := bc_go_inv hn
      cases e1
      exact ⟨rfl, fun K => W.lcmp hx hb hdg (K _ _ hl ⟨⟨_, rfl, lg_toInt⟩, hs3⟩)⟩
    · cases hn
  | dup =>
    obtain rfl : len = 1 := by simpa [bc_ok] using hok
    obtain ⟨e1, rfl, rfl, rfl⟩ := bc_go_inv (show bc_go pc 1 ls h (bc_dup st) = _ from hn)
    obtain ⟨a, r, rfl, hc, rfl⟩ := bc_dup_inv e1
    obtain ⟨v, q, rfl, hv, hs2⟩ := hs.one
    exact ⟨rfl, fun K => lv_dup hx hb hdg (hv.c1 hc) (K _ _ hl ⟨hv, hv, hs2⟩)⟩
  | pop =>
    obtain rfl : len = 1 := by simpa [bc_ok] using hok
    obtain ⟨e1, rfl, rfl, rfl⟩ := bc_go_inv (show bc_go pc 1 ls h (bc_pop st) = _ from hn)
    obtain ⟨a, rfl, hc⟩ := bc_pop_inv e1
    obtain ⟨v, q, rfl, hv, hs2⟩ := hs.one
    exact ⟨rfl, fun K => lv_pop hx hb hdg (hv.c1 hc) (K _ _ hl hs2)⟩
  | dup_x1 =>
    obtain rfl : len = 1 := by simpa [bc_ok] using hok
    obtain ⟨e1, rfl, rfl, rfl⟩ := bc_go_inv (show bc_go pc 1 ls h (bc_dupx1 st) = _ from hn)
    obtain ⟨a, b, r, rfl, hc, hc2, rfl⟩ := bc_dupx1_inv e1
    obtain ⟨v, q, rfl, hv, hs2⟩ := hs.one
    obtain ⟨v2, q, rfl, hv2, hs3⟩ := hs2.one
    exact ⟨rfl, fun K => lv_dup_x1 hx hb hdg (hv.c1 hc) (hv2.c1 hc2) (K _ _ hl ⟨hv, hv2, hv, hs3⟩)⟩
  | dup2 =>
    obtain rfl : len = 1 := by simpa [bc_ok] using hok
    obtain ⟨e1, rfl, rfl, rfl⟩ := bc_go_inv (show bc_go pc 1 ls h (bc_dup2 st) = _ from hn)
    rcases bc_dup2_inv e1 with ⟨z, r, rfl, rfl⟩ | ⟨a, b, r, rfl, hc, hc2, rfl⟩
    · obtain ⟨v, q, rfl, hv, hs2⟩ := hs.one
      exact ⟨rfl, fun K => lv_dup2_2 hx hb hdg (by rw [hv.cat]; rfl) (K _ _ hl ⟨hv, hv, hs2⟩)⟩
    · obtain ⟨v, q, rfl, hv, hs2⟩ := hs.one
      obtain ⟨v2, q, rfl, hv2, hs3⟩ := hs2.one
      exact ⟨rfl, fun K => lv_dup2_11 hx hb hdg (hv.c1 hc) (hv2.c1 hc2) (K _ _ hl ⟨hv, hv2, hv, hv2, hs3⟩)⟩
  | goto off =>
    obtain rfl : len = 3 := by simpa [bc_ok] using hok
    obtain ⟨h1, rfl, rfl, rfl⟩ := bc_jmp_inv (show bc_jmp pc off ls st h = _ from hn)
    exact ⟨rfl, fun K => lv_goto hx hb hdg h1 (K _ _ hl hs)⟩
  | ifCond cnd off =>
    obtain rfl : len = 3 := by simpa [bc_ok] using hok
    have hn : (match st with | .inl a :: r => bc_br (bc_cc cnd a 0) pc off ls r h | _ => none) = _ := hn
    split at hn
    · obtain ⟨x, q, rfl, rfl, hs2⟩ := hs.i
      exact sm_if hx hb hdg hn hl hs2 rfl
    · cases hn
  | if_icmp cnd off =>
    obtain rfl : len = 3 := by simpa [bc_ok] using hok
    have hn : (match st with | .inl b :: .inl a :: r => bc_br (bc_cc cnd a b) pc off ls r h | _ => none) = _ := hn
    split at hn
    · obtain ⟨y, q, rfl, rfl, hs2⟩ := hs.i
      obtain ⟨x, q, rfl, rfl, hs3⟩ := hs2.i
      exact sm_icmp hx hb hdg hn hl hs3 rfl
    · cases hn
  | tableswitch dflt lo hi2 offs =>
    have hn : bc_tsw pc dflt lo hi2 offs ls h st = _ := hn
    unfold bc_tsw at hn
    split at hn
    · obtain ⟨x, q, rfl, rfl, hs2⟩ := hs.i
      split at hn
      · rename_i hout
        obtain ⟨h1, rfl, rfl, rfl⟩ := bc_jmp_inv hn
        exact ⟨rfl, fun K => lv_tableOut hx hb hdg hout h1 (K _ _ hl hs2)⟩
      · rename_i hin
        split at hn
        · rename_i off ho
          obtain ⟨h1, rfl, rfl, rfl⟩ := bc_jmp_inv hn
          exact ⟨rfl, fun K => lv_tableIn hx hb hdg (fun z => hin (Or.inl z)) (fun z => hin (Or.inr z)) ho h1 (K _ _ hl hs2)⟩
        · cases hn
    · cases hn
  | lookupswitch dflt ps =>
    have hn : bc_lsw pc dflt ps ls h st = _ := hn
    unfold bc_lsw at hn
    split at hn
    · obtain ⟨x, q, rfl, rfl, hs2⟩ := hs.i
      split at hn
      · rename_i hp
        obtain ⟨h1, rfl, rfl, rfl⟩ := bc_jmp_inv hn
        exact ⟨rfl, fun K => lv_lookup hx hb hdg hp rfl h1 (K _ _ hl hs2)⟩
      · cases hn
    · cases hn
  | _ => exact absurd hi Bool.false_ne_true
end SO
end
section
def RX1 : String := "BeadChains"
def TX1 : u_T := fun k => match k with
  | 0 => ("BeadChains", "tape", "[B", true)
  | 1 => ("BeadChains", "taped", "I", false)
  | 2 => ("BeadChains", "fault", "I", false)
  | 3 => ("BeadChains", "faultPlace", "I", false)
  | 4 => ("BeadChains", "box", "LBeadChains$Box;", false)
  | 5 => ("BeadChains", "ways", "[J", true)
  | 6 => ("BeadChains", "whole", "I", false)
  | 7 => ("BeadChains", "crumbs", "I", false)
  | 8 => ("BeadChains", "struck", "I", false)
  | 9 => ("BeadChains", "seen", "I", false)
  | 10 => ("BeadChains", "crumbKind", "[I", true)
  | 11 => ("BeadChains", "crumbWeight", "[I", true)
  | 12 => ("BeadChains", "isFresh", "Z", false)
  | 13 => ("BeadChains", "isSpent", "Z", false)
  | 14 => ("BeadChains", "found", "I", false)
  | 15 => ("BeadChains", "looked", "I", false)
  | 16 => ("BeadChains", "growing", "LBeadChains$Row;", true)
  | 17 => ("BeadChains", "judged", "LBeadChains$Row;", true)
  | 18 => ("BeadChains", "kept", "[LBeadChains$Row;", true)
  | 19 => ("BeadChains", "ranks", "[I", true)
  | 20 => ("BeadChains", "scores", "[J", true)
  | 21 => ("BeadChains", "scene", "LBeadChains$Scene;", true)
  | 22 => ("BeadChains", "drawn", "J", false)
  | 23 => ("BeadChains", "hasImage", "Z", false)
  | 24 => ("BeadChains", "imageWhole", "I", false)
  | 25 => ("BeadChains", "imageCrumbs", "I", false)
  | 26 => ("BeadChains", "imageStruck", "I", false)
  | 27 => ("BeadChains", "imageSeen", "I", false)
  | 28 => ("BeadChains", "imageKind", "[I", true)
  | _ => ("BeadChains", "imageWeight", "[I", true)
def tyX1 : Nat → FieldType := fun k => match k with
  | 0 => .array .byte
  | 1 => .int
  | 2 => .int
  | 3 => .int
  | 4 => .object "BeadChains$Box"
  | 5 => .array .long
  | 6 => .int
  | 7 => .int
  | 8 => .int
  | 9 => .int
  | 10 => .array .int
  | 11 => .array .int
  | 12 => .boolean
  | 13 => .boolean
  | 14 => .int
  | 15 => .int
  | 16 => .object "BeadChains$Row"
  | 17 => .object "BeadChains$Row"
  | 18 => .array (.object "BeadChains$Row")
  | 19 => .array .int
  | 20 => .array .long
  | 21 => .object "BeadChains$Scene"
  | 22 => .long
  | 23 => .boolean
  | 24 => .int
  | 25 => .int
  | 26 => .int
  | 27 => .int
  | 28 => .array .int
  | _ => .array .int
abbrev wsX10 : List Cond := u_ws RX1 TX1 30
theorem nmX1 : ∀ a, a < 30 → ∀ b, b < 30 → a ≠ b → (TX1 a).2.1 ≠ (TX1 b).2.1 := by decide +kernel
theorem tyX1_ok : ∀ k, k < 30 → parseFieldDescriptor (TX1 k).2.2.1 = some (tyX1 k) := by decide +kernel
def RX2 : String := "BeadChains$Box"
def TX2 : u_T := fun k => match k with
  | 0 => ("BeadChains$Box", "beads", "Ljava/util/ArrayList;", true)
  | 1 => ("BeadChains$Box", "dusts", "Ljava/util/ArrayList;", true)
  | 2 => ("BeadChains$Box", "letters", "Ljava/util/ArrayList;", true)
  | 3 => ("BeadChains$Box", "apart", "[I", true)
  | 4 => ("BeadChains$Box", "aparts", "I", false)
  | 5 => ("BeadChains$Box", "left", "I", false)
  | 6 => ("BeadChains$Box", "right", "I", false)
  | 7 => ("BeadChains$Box", "scale", "I", false)
  | 8 => ("BeadChains$Box", "noise", "I", false)
  | 9 => ("BeadChains$Box", "dusty", "I", false)
  | 10 => ("BeadChains$Box", "knots", "I", false)
  | 11 => ("BeadChains$Box", "lines", "I", false)
  | 12 => ("BeadChains$Box", "hasEnds", "Z", false)
  | 13 => ("BeadChains$Box", "hasScale", "Z", false)
  | 14 => ("BeadChains$Box", "hasNoise", "Z", false)
  | 15 => ("BeadChains$Box", "hasDusty", "Z", false)
  | 16 => ("BeadChains$Box", "ring", "Z", false)
  | _ => ("BeadChains$Box", "score", "LBeadChains$Node;", false)
def tyX2 : Nat → FieldType := fun k => match k with
  | 0 => .object "java/util/ArrayList"
  | 1 => .object "java/util/ArrayList"
  | 2 => .object "java/util/ArrayList"
  | 3 => .array .int
  | 4 => .int
  | 5 => .int
  | 6 => .int
  | 7 => .int
  | 8 => .int
  | 9 => .int
  | 10 => .int
  | 11 => .int
  | 12 => .boolean
  | 13 => .boolean
  | 14 => .boolean
  | 15 => .boolean
  | 16 => .boolean
  | _ => .object "BeadChains$Node"
abbrev wsX20 : List Cond := u_ws RX2 TX2 18
theorem nmX2 : ∀ a, a < 18 → ∀ b, b < 18 → a ≠ b → (TX2 a).2.1 ≠ (TX2 b).2.1 := by decide +kernel
theorem tyX2_ok : ∀ k, k < 18 → parseFieldDescriptor (TX2 k).2.2.1 = some (tyX2 k) := by decide +kernel
def RX3 : String := "BeadChains$Row"
def TX3 : u_T := fun k => match k with
  | 0 => ("BeadChains$Row", "letters", "[I", true)
  | 1 => ("BeadChains$Row", "sums", "[I", true)
  | 2 => ("BeadChains$Row", "size", "I", false)
  | 3 => ("BeadChains$Row", "dusty", "I", false)
  | _ => ("BeadChains$Row", "this$0", "LBeadChains;", true)
def tyX3 : Nat → FieldType := fun k => match k with
  | 0 => .array .int
  | 1 => .array .int
  | 2 => .int
  | 3 => .int
  | _ => .object "BeadChains"
abbrev wsX30 : List Cond := u_ws RX3 TX3 5
theorem nmX3 : ∀ a, a < 5 → ∀ b, b < 5 → a ≠ b → (TX3 a).2.1 ≠ (TX3 b).2.1 := by decide +kernel
theorem tyX3_ok : ∀ k, k < 5 → parseFieldDescriptor (TX3 k).2.2.1 = some (tyX3 k) := by decide +kernel
def RX4 : String := "BeadChains$Scene"
def TX4 : u_T := fun k => match k with
  | 0 => ("BeadChains$Scene", "names", "[J", true)
  | _ => ("BeadChains$Scene", "error", "Z", false)
def tyX4 : Nat → FieldType := fun k => match k with
  | 0 => .array .long
  | _ => .boolean
abbrev wsX40 : List Cond := u_ws RX4 TX4 2
theorem nmX4 : ∀ a, a < 2 → ∀ b, b < 2 → a ≠ b → (TX4 a).2.1 ≠ (TX4 b).2.1 := by decide +kernel
theorem tyX4_ok : ∀ k, k < 2 → parseFieldDescriptor (TX4 k).2.2.1 = some (tyX4 k) := by decide +kernel
def RX5 : String := "BeadChainsModel"
def TX5 : u_T := fun k => match k with
  | 0 => ("BeadChainsModel", "thrown", "I", false)
  | 1 => ("BeadChainsModel", "tape", "[I", true)
  | 2 => ("BeadChainsModel", "taped", "I", false)
  | 3 => ("BeadChainsModel", "number", "[I", true)
  | 4 => ("BeadChainsModel", "beadName", "[I", true)
  | 5 => ("BeadChainsModel", "beadWeight", "[I", true)
  | 6 => ("BeadChainsModel", "dustName", "[I", true)
  | 7 => ("BeadChainsModel", "dustWeight", "[I", true)
  | 8 => ("BeadChainsModel", "stainedBead", "[I", true)
  | 9 => ("BeadChainsModel", "stainedDust", "[I", true)
  | 10 => ("BeadChainsModel", "apart", "[I", true)
  | 11 => ("BeadChainsModel", "knotSort", "[I", true)
  | 12 => ("BeadChainsModel", "knotValue", "[I", true)
  | 13 => ("BeadChainsModel", "told", "I", false)
  | 14 => ("BeadChainsModel", "lines", "I", false)
  | 15 => ("BeadChainsModel", "size", "I", false)
  | 16 => ("BeadChainsModel", "at", "I", false)
  | 17 => ("BeadChainsModel", "place", "I", false)
  | 18 => ("BeadChainsModel", "sort", "I", false)
  | 19 => ("BeadChainsModel", "value", "I", false)
  | 20 => ("BeadChainsModel", "fault", "I", false)
  | 21 => ("BeadChainsModel", "faultPlace", "I", false)
  | 22 => ("BeadChainsModel", "lastFault", "I", false)
  | 23 => ("BeadChainsModel", "lastPlace", "I", false)
  | 24 => ("BeadChainsModel", "open", "I", false)
  | 25 => ("BeadChainsModel", "counted", "I", false)
  | 26 => ("BeadChainsModel", "letters", "I", false)
  | 27 => ("BeadChainsModel", "letterWeight", "[I", true)
  | 28 => ("BeadChainsModel", "letterBead", "[I", true)
  | 29 => ("BeadChainsModel", "letterDust", "[I", true)
  | 30 => ("BeadChainsModel", "table", "[J", true)
  | 31 => ("BeadChainsModel", "whole", "I", false)
  | 32 => ("BeadChainsModel", "crumbs", "I", false)
  | 33 => ("BeadChainsModel", "knownBy", "I", false)
  | 34 => ("BeadChainsModel", "kindOf", "[I", true)
  | 35 => ("BeadChainsModel", "weightOf", "[I", true)
  | 36 => ("BeadChainsModel", "isStruck", "[Z", true)
  | 37 => ("BeadChainsModel", "hasImage", "Z", false)
  | 38 => ("BeadChainsModel", "imageWhole", "I", false)
  | 39 => ("BeadChainsModel", "imageCrumbs", "I", false)
  | 40 => ("BeadChainsModel", "imageKnown", "I", false)
  | 41 => ("BeadChainsModel", "imageKind", "[I", true)
  | 42 => ("BeadChainsModel", "imageWeight", "[I", true)
  | 43 => ("BeadChainsModel", "imageStruck", "[Z", true)
  | 44 => ("BeadChainsModel", "row", "[I", true)
  | 45 => ("BeadChainsModel", "rowMany", "I", false)
  | 46 => ("BeadChainsModel", "side", "I", false)
  | 47 => ("BeadChainsModel", "begin", "I", false)
  | 48 => ("BeadChainsModel", "howMany", "I", false)
  | 49 => ("BeadChainsModel", "firstStray", "I", false)
  | 50 => ("BeadChainsModel", "foundMany", "I", false)
  | 51 => ("BeadChainsModel", "lookMany", "I", false)
  | 52 => ("BeadChainsModel", "isSpent", "Z", false)
  | 53 => ("BeadChainsModel", "isTooMany", "Z", false)
  | 54 => ("BeadChainsModel", "foundRow", "[I", true)
  | 55 => ("BeadChainsModel", "foundLength", "[I", true)
  | 56 => ("BeadChainsModel", "names", "[J", true)
  | 57 => ("BeadChainsModel", "worked", "[J", true)
  | 58 => ("BeadChainsModel", "workedMany", "I", false)
  | 59 => ("BeadChainsModel", "scores", "[J", true)
  | 60 => ("BeadChainsModel", "outcome", "[I", true)
  | 61 => ("BeadChainsModel", "firstWeighing", "I", false)
  | _ => ("BeadChainsModel", "drawn", "I", false)
def tyX5 : Nat → FieldType := fun k => match k with
  | 0 => .int
  | 1 => .array .int
  | 2 => .int
  | 3 => .array .int
  | 4 => .array .int
  | 5 => .array .int
  | 6 => .array .int
  | 7 => .array .int
  | 8 => .array .int
  | 9 => .array .int
  | 10 => .array .int
  | 11 => .array .int
  | 12 => .array .int
  | 13 => .int
  | 14 => .int
  | 15 => .int
  | 16 => .int
  | 17 => .int
  | 18 => .int
  | 19 => .int
  | 20 => .int
  | 21 => .int
  | 22 => .int
  | 23 => .int
  | 24 => .int
  | 25 => .int
  | 26 => .int
  | 27 => .array .int
  | 28 => .array .int
  | 29 => .array .int
  | 30 => .array .long
  | 31 => .int
  | 32 => .int
  | 33 => .int
  | 34 => .array .int
  | 35 => .array .int
  | 36 => .array .boolean
  | 37 => .boolean
  | 38 => .int
  | 39 => .int
  | 40 => .int
  | 41 => .array .int
  | 42 => .array .int
  | 43 => .array .boolean
  | 44 => .array .int
  | 45 => .int
  | 46 => .int
  | 47 => .int
  | 48 => .int
  | 49 => .int
  | 50 => .int
  | 51 => .int
  | 52 => .boolean
  | 53 => .boolean
  | 54 => .array .int
  | 55 => .array .int
  | 56 => .array .long
  | 57 => .array .long
  | 58 => .int
  | 59 => .array .long
  | 60 => .array .int
  | 61 => .int
  | _ => .int
abbrev wsX50 : List Cond := u_ws RX5 TX5 63
theorem nmX5 : ∀ a, a < 63 → ∀ b, b < 63 → a ≠ b → (TX5 a).2.1 ≠ (TX5 b).2.1 := by decide +kernel
theorem tyX5_ok : ∀ k, k < 63 → parseFieldDescriptor (TX5 k).2.2.1 = some (tyX5 k) := by decide +kernel
def RX6 : String := "BeadChains$Reader"
def TX6 : u_T := fun k => match k with
  | 0 => ("BeadChains$Reader", "size", "I", true)
  | 1 => ("BeadChains$Reader", "v", "LBeadChains$Box;", true)
  | 2 => ("BeadChains$Reader", "next", "I", false)
  | 3 => ("BeadChains$Reader", "kind", "I", false)
  | 4 => ("BeadChains$Reader", "which", "I", false)
  | 5 => ("BeadChains$Reader", "place", "I", false)
  | 6 => ("BeadChains$Reader", "open", "I", false)
  | _ => ("BeadChains$Reader", "this$0", "LBeadChains;", true)
def tyX6 : Nat → FieldType := fun k => match k with
  | 0 => .int
  | 1 => .object "BeadChains$Box"
  | 2 => .int
  | 3 => .int
  | 4 => .int
  | 5 => .int
  | 6 => .int
  | _ => .object "BeadChains"
abbrev wsX60 : List Cond := u_ws RX6 TX6 8
theorem nmX6 : ∀ a, a < 8 → ∀ b, b < 8 → a ≠ b → (TX6 a).2.1 ≠ (TX6 b).2.1 := by decide +kernel
theorem tyX6_ok : ∀ k, k < 8 → parseFieldDescriptor (TX6 k).2.2.1 = some (tyX6 k) := by decide +kernel
def RX7 : String := "BeadChains$Fault"
def TX7 : u_T := fun k => match k with
  | 0 => ("java/lang/Throwable", "cause", "Ljava/lang/Throwable;", false)
  | 1 => ("java/lang/Throwable", "stackTrace", "[Ljava/lang/StackTraceElement;", false)
  | 2 => ("java/lang/Throwable", "suppressedExceptions", "Ljava/util/List;", false)
  | 3 => ("java/lang/Throwable", "detailMessage", "Ljava/lang/String;", false)
  | 4 => ("java/lang/Throwable", "backtrace", "Ljava/lang/Object;", false)
  | 5 => ("java/lang/Throwable", "depth", "I", false)
  | 6 => ("BeadChains$Fault", "kind", "I", true)
  | _ => ("BeadChains$Fault", "place", "I", true)
def tyX7 : Nat → FieldType := fun k => match k with
  | 0 => .object "java/lang/Throwable"
  | 1 => .array (.object "java/lang/StackTraceElement")
  | 2 => .object "java/util/List"
  | 3 => .object "java/lang/String"
  | 4 => .object "java/lang/Object"
  | 5 => .int
  | 6 => .int
  | _ => .int
abbrev wsX70 : List Cond := u_ws RX7 TX7 8
theorem nmX7 : ∀ a, a < 8 → ∀ b, b < 8 → a ≠ b → (TX7 a).2.1 ≠ (TX7 b).2.1 := by decide +kernel
theorem tyX7_ok : ∀ k, k < 8 → parseFieldDescriptor (TX7 k).2.2.1 = some (tyX7 k) := by decide +kernel
def RX8 : String := "BeadChains$Bead"
def TX8 : u_T := fun k => match k with
  | 0 => ("BeadChains$Bead", "name", "I", true)
  | _ => ("BeadChains$Bead", "weight", "I", true)
def tyX8 : Nat → FieldType := fun k => match k with
  | 0 => .int
  | _ => .int
abbrev wsX80 : List Cond := u_ws RX8 TX8 2
theorem nmX8 : ∀ a, a < 2 → ∀ b, b < 2 → a ≠ b → (TX8 a).2.1 ≠ (TX8 b).2.1 := by decide +kernel
theorem tyX8_ok : ∀ k, k < 2 → parseFieldDescriptor (TX8 k).2.2.1 = some (tyX8 k) := by decide +kernel
def RX9 : String := "BeadChains$Letter"
def TX9 : u_T := fun k => match k with
  | 0 => ("BeadChains$Letter", "weight", "I", true)
  | 1 => ("BeadChains$Letter", "bead", "I", true)
  | _ => ("BeadChains$Letter", "dust", "I", true)
def tyX9 : Nat → FieldType := fun k => match k with
  | 0 => .int
  | 1 => .int
  | _ => .int
abbrev wsX90 : List Cond := u_ws RX9 TX9 3
theorem nmX9 : ∀ a, a < 3 → ∀ b, b < 3 → a ≠ b → (TX9 a).2.1 ≠ (TX9 b).2.1 := by decide +kernel
theorem tyX9_ok : ∀ k, k < 3 → parseFieldDescriptor (TX9 k).2.2.1 = some (tyX9 k) := by decide +kernel
def RX10 : String := "BeadChains$Dust"
def TX10 : u_T := fun k => match k with
  | 0 => ("BeadChains$Dust", "name", "I", true)
  | _ => ("BeadChains$Dust", "weight", "I", true)
def tyX10 : Nat → FieldType := fun k => match k with
  | 0 => .int
  | _ => .int
abbrev wsX100 : List Cond := u_ws RX10 TX10 2
theorem nmX10 : ∀ a, a < 2 → ∀ b, b < 2 → a ≠ b → (TX10 a).2.1 ≠ (TX10 b).2.1 := by decide +kernel
theorem tyX10_ok : ∀ k, k < 2 → parseFieldDescriptor (TX10 k).2.2.1 = some (tyX10 k) := by decide +kernel
def RX11 : String := "BeadChains$Name"
def TX11 : u_T := fun k => match k with
  | _ => ("BeadChains$Name", "which", "I", true)
def tyX11 : Nat → FieldType := fun k => match k with
  | _ => .int
abbrev wsX110 : List Cond := u_ws RX11 TX11 1
theorem nmX11 : ∀ a, a < 1 → ∀ b, b < 1 → a ≠ b → (TX11 a).2.1 ≠ (TX11 b).2.1 := by decide +kernel
theorem tyX11_ok : ∀ k, k < 1 → parseFieldDescriptor (TX11 k).2.2.1 = some (tyX11 k) := by decide +kernel
def RX12 : String := "BeadChains$Constant"
def TX12 : u_T := fun k => match k with
  | _ => ("BeadChains$Constant", "number", "J", true)
def tyX12 : Nat → FieldType := fun k => match k with
  | _ => .long
abbrev wsX120 : List Cond := u_ws RX12 TX12 1
theorem nmX12 : ∀ a, a < 1 → ∀ b, b < 1 → a ≠ b → (TX12 a).2.1 ≠ (TX12 b).2.1 := by decide +kernel
theorem tyX12_ok : ∀ k, k < 1 → parseFieldDescriptor (TX12 k).2.2.1 = some (tyX12 k) := by decide +kernel
def RX14 : String := "BeadChains$Worked"
def TX14 : u_T := fun k => match k with
  | 0 => ("BeadChains$Two", "one", "LBeadChains$Node;", true)
  | 1 => ("BeadChains$Two", "other", "LBeadChains$Node;", true)
  | _ => ("BeadChains$Worked", "sign", "I", true)
def tyX14 : Nat → FieldType := fun k => match k with
  | 0 => .object "BeadChains$Node"
  | 1 => .object "BeadChains$Node"
  | _ => .int
abbrev wsX140 : List Cond := u_ws RX14 TX14 3
theorem nmX14 : ∀ a, a < 3 → ∀ b, b < 3 → a ≠ b → (TX14 a).2.1 ≠ (TX14 b).2.1 := by decide +kernel
theorem tyX14_ok : ∀ k, k < 3 → parseFieldDescriptor (TX14 k).2.2.1 = some (tyX14 k) := by decide +kernel
def RX15 : String := "BeadChains$Compared"
def TX15 : u_T := fun k => match k with
  | 0 => ("BeadChains$Two", "one", "LBeadChains$Node;", true)
  | 1 => ("BeadChains$Two", "other", "LBeadChains$Node;", true)
  | _ => ("BeadChains$Compared", "sign", "I", true)
def tyX15 : Nat → FieldType := fun k => match k with
  | 0 => .object "BeadChains$Node"
  | 1 => .object "BeadChains$Node"
  | _ => .int
abbrev wsX150 : List Cond := u_ws RX15 TX15 3
theorem nmX15 : ∀ a, a < 3 → ∀ b, b < 3 → a ≠ b → (TX15 a).2.1 ≠ (TX15 b).2.1 := by decide +kernel
theorem tyX15_ok : ∀ k, k < 3 → parseFieldDescriptor (TX15 k).2.2.1 = some (tyX15 k) := by decide +kernel
def RX16 : String := "BeadChains$Not"
def TX16 : u_T := fun k => match k with
  | _ => ("BeadChains$Not", "of", "LBeadChains$Node;", true)
def tyX16 : Nat → FieldType := fun k => match k with
  | _ => .object "BeadChains$Node"
abbrev wsX160 : List Cond := u_ws RX16 TX16 1
theorem nmX16 : ∀ a, a < 1 → ∀ b, b < 1 → a ≠ b → (TX16 a).2.1 ≠ (TX16 b).2.1 := by decide +kernel
theorem tyX16_ok : ∀ k, k < 1 → parseFieldDescriptor (TX16 k).2.2.1 = some (tyX16 k) := by decide +kernel
def RX17 : String := "BeadChains$Choice"
def TX17 : u_T := fun k => match k with
  | 0 => ("BeadChains$Two", "one", "LBeadChains$Node;", true)
  | 1 => ("BeadChains$Two", "other", "LBeadChains$Node;", true)
  | _ => ("BeadChains$Choice", "both", "Z", true)
def tyX17 : Nat → FieldType := fun k => match k with
  | 0 => .object "BeadChains$Node"
  | 1 => .object "BeadChains$Node"
  | _ => .boolean
abbrev wsX170 : List Cond := u_ws RX17 TX17 3
theorem nmX17 : ∀ a, a < 3 → ∀ b, b < 3 → a ≠ b → (TX17 a).2.1 ≠ (TX17 b).2.1 := by decide +kernel
theorem tyX17_ok : ∀ k, k < 3 → parseFieldDescriptor (TX17 k).2.2.1 = some (tyX17 k) := by decide +kernel
def RJ2 : String := "java/util/ArrayList"
def TJ2 : u_T := fun k => match k with
  | 0 => ("java/util/AbstractList", "modCount", "I", false)
  | 1 => ("java/util/ArrayList", "elementData", "[Ljava/lang/Object;", false)
  | _ => ("java/util/ArrayList", "size", "I", false)
def tyJ2 : Nat → FieldType := fun k => match k with
  | 0 => .int
  | 1 => .array (.object "java/lang/Object")
  | _ => .int
abbrev wsJ20 : List Cond := u_ws RJ2 TJ2 3
theorem nmJ2 : ∀ a, a < 3 → ∀ b, b < 3 → a ≠ b → (TJ2 a).2.1 ≠ (TJ2 b).2.1 := by decide +kernel
theorem tyJ2_ok : ∀ k, k < 3 → parseFieldDescriptor (TJ2 k).2.2.1 = some (tyJ2 k) := by decide +kernel
def RJ5 : String := "java/lang/String"
def TJ5 : u_T := fun k => match k with
  | 0 => ("java/lang/String", "value", "[B", true)
  | _ => ("java/lang/String", "coder", "B", true)
def tyJ5 : Nat → FieldType := fun k => match k with
  | 0 => .array .byte
  | _ => .byte
abbrev wsJ50 : List Cond := u_ws RJ5 TJ5 2
theorem nmJ5 : ∀ a, a < 2 → ∀ b, b < 2 → a ≠ b → (TJ5 a).2.1 ≠ (TJ5 b).2.1 := by decide +kernel
theorem tyJ5_ok : ∀ k, k < 2 → parseFieldDescriptor (TJ5 k).2.2.1 = some (tyJ5 k) := by decide +kernel
def RJ10 : String := "java/lang/Throwable"
def TJ10 : u_T := fun k => match k with
  | 0 => ("java/lang/Throwable", "cause", "Ljava/lang/Throwable;", false)
  | 1 => ("java/lang/Throwable", "stackTrace", "[Ljava/lang/StackTraceElement;", false)
  | 2 => ("java/lang/Throwable", "suppressedExceptions", "Ljava/util/List;", false)
  | 3 => ("java/lang/Throwable", "detailMessage", "Ljava/lang/String;", false)
  | _ => ("java/lang/Throwable", "backtrace", "Ljava/lang/Object;", false)
def tyJ10 : Nat → FieldType := fun k => match k with
  | 0 => .object "java/lang/Throwable"
  | 1 => .array (.object "java/lang/StackTraceElement")
  | 2 => .object "java/util/List"
  | 3 => .object "java/lang/String"
  | _ => .object "java/lang/Object"
abbrev wsJ100 : List Cond := u_ws RJ10 TJ10 5
theorem nmJ10 : ∀ a, a < 5 → ∀ b, b < 5 → a ≠ b → (TJ10 a).2.1 ≠ (TJ10 b).2.1 := by decide +kernel
theorem tyJ10_ok : ∀ k, k < 5 → parseFieldDescriptor (TJ10 k).2.2.1 = some (tyJ10 k) := by decide +kernel
def RJ16 : String := "java/lang/IndexOutOfBoundsException"
def TJ16 : u_T := fun k => match k with
  | 0 => ("java/lang/Throwable", "cause", "Ljava/lang/Throwable;", false)
  | 1 => ("java/lang/Throwable", "stackTrace", "[Ljava/lang/StackTraceElement;", false)
  | 2 => ("java/lang/Throwable", "suppressedExceptions", "Ljava/util/List;", false)
  | 3 => ("java/lang/Throwable", "detailMessage", "Ljava/lang/String;", false)
  | 4 => ("java/lang/Throwable", "backtrace", "Ljava/lang/Object;", false)
  | _ => ("java/lang/Throwable", "depth", "I", false)
def tyJ16 : Nat → FieldType := fun k => match k with
  | 0 => .object "java/lang/Throwable"
  | 1 => .array (.object "java/lang/StackTraceElement")
  | 2 => .object "java/util/List"
  | 3 => .object "java/lang/String"
  | 4 => .object "java/lang/Object"
  | _ => .int
abbrev wsJ160 : List Cond := u_ws RJ16 TJ16 6
theorem nmJ16 : ∀ a, a < 6 → ∀ b, b < 6 → a ≠ b → (TJ16 a).2.1 ≠ (TJ16 b).2.1 := by decide +kernel
theorem tyJ16_ok : ∀ k, k < 6 → parseFieldDescriptor (TJ16 k).2.2.1 = some (tyJ16 k) := by decide +kernel
def RJ17 : String := "java/lang/ArrayIndexOutOfBoundsException"
def TJ17 : u_T := fun k => match k with
  | 0 => ("java/lang/Throwable", "backtrace", "Ljava/lang/Object;", false)
  | 1 => ("java/lang/Throwable", "detailMessage", "Ljava/lang/String;", false)
  | 2 => ("java/lang/Throwable", "cause", "Ljava/lang/Throwable;", false)
  | 3 => ("java/lang/Throwable", "stackTrace", "[Ljava/lang/StackTraceElement;", false)
  | 4 => ("java/lang/Throwable", "depth", "I", false)
  | _ => ("java/lang/Throwable", "suppressedExceptions", "Ljava/util/List;", false)
def tyJ17 : Nat → FieldType := fun k => match k with
  | 0 => .object "java/lang/Object"
  | 1 => .object "java/lang/String"
  | 2 => .object "java/lang/Throwable"
  | 3 => .array (.object "java/lang/StackTraceElement")
  | 4 => .int
  | _ => .object "java/util/List"
abbrev wsJ170 : List Cond := u_ws RJ17 TJ17 6
theorem nmJ17 : ∀ a, a < 6 → ∀ b, b < 6 → a ≠ b → (TJ17 a).2.1 ≠ (TJ17 b).2.1 := by decide +kernel
theorem tyJ17_ok : ∀ k, k < 6 → parseFieldDescriptor (TJ17 k).2.2.1 = some (tyJ17 k) := by decide +kernel
def RJ18 : String := "java/util/NoSuchElementException"
def TJ18 : u_T := fun k => match k with
  | 0 => ("java/lang/Throwable", "cause", "Ljava/lang/Throwable;", false)
  | 1 => ("java/lang/Throwable", "stackTrace", "[Ljava/lang/StackTraceElement;", false)
  | 2 => ("java/lang/Throwable", "suppressedExceptions", "Ljava/util/List;", false)
  | 3 => ("java/lang/Throwable", "detailMessage", "Ljava/lang/String;", false)
  | 4 => ("java/lang/Throwable", "backtrace", "Ljava/lang/Object;", false)
  | _ => ("java/lang/Throwable", "depth", "I", false)
def tyJ18 : Nat → FieldType := fun k => match k with
  | 0 => .object "java/lang/Throwable"
  | 1 => .array (.object "java/lang/StackTraceElement")
  | 2 => .object "java/util/List"
  | 3 => .object "java/lang/String"
  | 4 => .object "java/lang/Object"
  | _ => .int
abbrev wsJ180 : List Cond := u_ws RJ18 TJ18 6
theorem nmJ18 : ∀ a, a < 6 → ∀ b, b < 6 → a ≠ b → (TJ18 a).2.1 ≠ (TJ18 b).2.1 := by decide +kernel
theorem tyJ18_ok : ∀ k, k < 6 → parseFieldDescriptor (TJ18 k).2.2.1 = some (tyJ18 k) := by decide +kernel
def bc_cls : Nat → Option vw_C
  | 2 => some (RX1, TX1, 30)
  | 3 => some (RX2, TX2, 18)
  | 4 => some (RX3, TX3, 5)
  | 5 => some (RX4, TX4, 2)
  | 6 => some (RX5, TX5, 63)
  | 7 => some (RX6, TX6, 8)
  | 8 => some (RX7, TX7, 8)
  | 9 => some (RX8, TX8, 2)
  | 10 => some (RX9, TX9, 3)
  | 11 => some (RX10, TX10, 2)
  | 12 => some (RX11, TX11, 1)
  | 13 => some (RX12, TX12, 1)
  | 15 => some (RX14, TX14, 3)
  | 16 => some (RX15, TX15, 3)
  | 17 => some (RX16, TX16, 1)
  | 18 => some (RX17, TX17, 3)
  | 21 => some (RJ2, TJ2, 3)
  | 24 => some (RJ5, TJ5, 2)
  | 29 => some (RJ10, TJ10, 5)
  | 35 => some (RJ16, TJ16, 6)
  | 36 => some (RJ17, TJ17, 6)
  | 37 => some (RJ18, TJ18, 6)
  | _ => none
end
section
/-! ===== THE ABSTRACT HEAP AGAINST THE MACHINE'S ===== -/
def bc_tcode (d : String) : Nat := if d = "I" then 0 else if d = "Z" then 1 else if d = "B" then 2 else if d = "J" then 3 else 4
/-- an array kind's component, and how it is read -/
def bc_aty : Nat → FieldType
  | 102 => .long
  | 103 => .byte
  | 104 => .boolean
  | 105 => .object "java/lang/Object"
  | 106 => .object "BeadChains$Row"
  | 108 => .byte
  | 109 => .object "java/lang/Object"
  | _ => .int
def bc_act : Nat → Nat
  | 102 => 3
  | 105 => 4
  | 106 => 4
  | 109 => 4
  | _ => 0
/-- the kinds of the start's own cells: the script, the empty array, three texts, their bytes -/
def bc_spK (a : Nat) : Nat := ([0, 107, 109, 24, 24, 24, 108, 108, 108] : List Nat).getD a 0
/-- an object's cell -/
def OR (D : va_G) (B : Nat) (σ : Nat → Value) (h : AH) (H : Heap) (a c : Nat) : Prop :=
  ∃ (q : Nat) (cell : Cell) (r : vw_C), rhoV B σ a = .ref q ∧ H[q]? = some cell ∧ bc_cls c = some r ∧ cell.cls = D.1 c ∧ cell.vm = .none ∧
    ∀ j : Nat, j < r.2.2 → ∃ v, cell.slots[D.2 c j]? = some v ∧ VR B σ (bc_rd h a (j : Int) (bc_tcode (r.2.1 j).2.2.1)) v
/-- an array's cell -/
def AR (s0 : State) (B : Nat) (σ : Nat → Value) (h : AH) (H : Heap) (a c : Nat) : Prop :=
  ∃ (q : Nat) (cell : Cell), rhoV B σ a = .ref q ∧ H[q]? = some cell ∧ s0.isArrayOf cell (bc_aty c) ∧ va_RA s0 cell.cls (bc_aty c) ∧ cell.vm ≠ .unknown ∧ (∀ z, cell.vm ≠ .statics z) ∧ hL h a = (cell.slots.size : Int) ∧ cell.slots.size < 2 ^ 31 ∧
    ∀ j : Nat, j < cell.slots.size → ∃ v, cell.slots[j]? = some v ∧ VR B σ (bc_rd h a (j : Int) (bc_act c)) v
def CR (s0 : State) (D : va_G) (B : Nat) (σ : Nat → Value) (h : AH) (H : Heap) (a : Nat) : Prop :=
  (hK h a ≤ 40 → OR D B σ h H a (hK h a)) ∧ (40 < hK h a → AR s0 B σ h H a (hK h a))
def HR (s0 : State) (D : va_G) (σ : Nat → Value) (h : AH) (H : Heap) : Prop :=
  16 ≤ hN h ∧ H.size + 16 = s0.heap.size + hN h ∧ (∀ q : Nat, q < s0.heap.size → H[q]? = s0.heap[q]?) ∧ (∀ a, hK h a ≠ 0 → CR s0 D s0.heap.size σ h H a) ∧ (∀ a, a < 16 → hK h a = bc_spK a) ∧ ∀ a, hN h ≤ a → hK h a = 0
/-- the start's own cells lie below -/
def SpOk (B : Nat) (σ : Nat → Value) : Prop := (∀ a, a < 16 → a ≠ 0 → σ a = .null ∨ ∃ q : Nat, σ a = .ref q) ∧ ∀ (a q : Nat), a < 16 → σ a = .ref q → q < B
section HP
variable {s0 : State} {D : va_G} {σ : Nat → Value} {h h' : AH} {H H' : Heap} {a : Nat}
theorem rho_hi {B : Nat} (ha : 16 ≤ a) : rhoV B σ a = .ref (B + (a - 16)) := by
  unfold rhoV
  rw [if_neg (by omega), if_neg (by omega)]
theorem rho_ok {B : Nat} (hσ : SpOk B σ) : rhoV B σ a = .null ∨ ∃ q : Nat, rhoV B σ a = .ref q := by
  unfold rhoV
  split
  · exact Or.inl rfl
  · rename_i h0
    split
    · rename_i h1
      exact hσ.1 a h1 h0
    · exact Or.inr ⟨_, rfl⟩
theorem VR_r {B : Nat} (hσ : SpOk B σ) : VR B σ (vR a) (rhoV B σ a) := ⟨rfl, rho_ok hσ⟩
/-- two addresses that hold something are apart -/
theorem rho_ne {B : Nat} (hσ : SpOk B σ) {b q : Nat} (ha : 16 ≤ a) (hb : b ≠ a) (hq : rhoV B σ b = .ref q) : q ≠ B + (a - 16) := by
  unfold rhoV at hq
  split at hq
  · cases hq
  · split at hq
    · rename_i h0 h1
      have := hσ.2 b q h1 hq
      omega
    · cases hq
      omega
theorem OR.kept {B c b : Nat} (hO : OR D B σ h H b c) (hq : ∀ q, rhoV B σ b = .ref q → H'[q]? = H[q]?) (hI : ∀ j, gI h' b j = gI h b j) (hR : ∀ j, gR h' b j = gR h b j) : OR D B σ h' H' b c := by
  obtain ⟨q, cell, r, h1, h2, h3, h4, h5, h6⟩ := hO
  refine ⟨q, cell, r, h1, by rw [hq q h1]; exact h2, h3, h4, h5, fun j hj => ?_⟩
  obtain ⟨v, e1, e2⟩ := h6 j hj
  refine ⟨v, e1, ?_⟩
  have : bc_rd h' b (j : Int) (bc_tcode (r.2.1 j).2.2.1) = bc_rd h b (j : Int) (bc_tcode (r.2.1 j).2.2.1) := by
    unfold bc_rd
    split <;> simp only [hI, hR]
  rw [this]
  exact e2
theorem AR.kept {B c b : Nat} (hA : AR s0 B σ h H b c) (hq : ∀ q, rhoV B σ b = .ref q → H'[q]? = H[q]?) (hL' : hL h' b = hL h b) (hI : ∀ j, gI h' b j = gI h b j) (hR : ∀ j, gR h' b j = gR h b j) : AR s0 B σ h' H' b c := by
  obtain ⟨q, cell, h1, h2, h3, h3b, h4, h5, h6, h7, h8⟩ := hA
  refine ⟨q, cell, h1, by rw [hq q h1]; exact h2, h3, h3b, h4, h5, by rw [hL']; exact h6, h7, fun j hj => ?_⟩
  obtain ⟨v, e1, e2⟩ := h8 j hj
  refine ⟨v, e1, ?_⟩
  have : bc_rd h' b (j : Int) (bc_act c) = bc_rd h b (j : Int) (bc_act c) := by
    unfold bc_rd
    split <;> simp only [hI, hR]
  rw [this]
  exact e2
/-- one cell that was made since is changed -/
theorem HR.upd (hσ : SpOk s0.heap.size σ) (hh : HR s0 D σ h H) (ha : 16 ≤ a) (eN : hN h' = hN h) (eK : ∀ b, hK h' b = hK h b) (eL : ∀ b, hL h' b = hL h b) (eI : ∀ b j, b ≠ a → gI h' b j = gI h b j) (eR : ∀ b j, b ≠ a → gR h' b j = gR h b j) (hsz : H'.size = H.size) (hoff : ∀ q, q ≠ s0.heap.size + (a - 16) → H'[q]? = H[q]?) (hnew : CR s0 D s0.heap.size σ h' H' a) : HR s0 D σ h' H' := by
  obtain ⟨h1, h2, h3, h4, h5, h6⟩ := hh
  refine ⟨by rw [eN]; exact h1, by rw [eN, hsz]; exact h2, fun q hq => ?_, fun b hb => ?_, fun b hb => ?_, fun b hb => ?_⟩
  · rw [hoff q (by omega)]
    exact h3 q hq
  · by_cases e : b = a
    · rw [e]; exact hnew
    · obtain ⟨k1, k2⟩ := h4 b (by rw [← eK]; exact hb)
      have hq : ∀ q, rhoV s0.heap.size σ b = .ref q → H'[q]? = H[q]? := fun q z => hoff q (rho_ne hσ ha e z)
      unfold CR
      rw [eK]
      exact ⟨fun z => (k1 z).kept hq (fun j => eI b j e) (fun j => eR b j e), fun z => (k2 z).kept hq (eL b) (fun j => eI b j e) (fun j => eR b j e)⟩
  · rw [eK]; exact h5 b hb
  · rw [eK]; exact h6 b (by rw [← eN]; exact hb)
/-- a cell is made -/
theorem HR.push {c u : Nat} {n : Int} {cell : Cell} (hσ : SpOk s0.heap.size σ) (hh : HR s0 D σ h H) (hnew : CR s0 D s0.heap.size σ (nw h c n u) (H.push cell) (hN h)) : HR s0 D σ (nw h c n u) (H.push cell) := by
  obtain ⟨h1, h2, h3, h4, h5, h6⟩ := hh
  have eN : hN (nw h c n u) = hN h + 1 := rfl
  have eK : ∀ b, hK (nw h c n u) b = if b = hN h then c else hK h b := fun b => rfl
  have eL : ∀ b, hL (nw h c n u) b = if b = hN h then n else hL h b := fun b => rfl
  have eI : ∀ b j, gI (nw h c n u) b j = if b = hN h then 0 else gI h b j := fun b j => rfl
  have eR : ∀ b j, gR (nw h c n u) b j = if b = hN h then 0 else gR h b j := fun b j => rfl
  have hp : ∀ q, q < H.size → (H.push cell)[q]? = H[q]? := fun q hq => by rw [Array.getElem?_push, if_neg (by omega)]
  refine ⟨by rw [eN]; omega, by rw [eN, Array.size_push]; omega, fun q hq => ?_, fun b hb => ?_, fun b hb => ?_, fun b hb => ?_⟩
  · rw [hp q (by omega)]
    exact h3 q hq
  · by_cases e : b = hN h
    · rw [e]; exact hnew
    · rw [eK, if_neg e] at hb
      obtain ⟨k1, k2⟩ := h4 b hb
      have hbn : b < hN h := by
        rcases Nat.lt_or_ge b (hN h) with z | z
        · exact z
        · exact absurd (h6 b z) hb
      have hq : ∀ q, rhoV s0.heap.size σ b = .ref q → (H.push cell)[q]? = H[q]? := by
        intro q z
        refine hp q ?_
        unfold rhoV at z
        split at z
        · cases z
        · split at z
          · rename_i _ z1
            have := hσ.2 b q z1 z
            omega
          · cases z
            omega
      unfold CR
      rw [eK, if_neg e]
      exact ⟨fun z => (k1 z).kept hq (fun j => by rw [eI, if_neg e]) (fun j => by rw [eR, if_neg e]), fun z => (k2 z).kept hq (by rw [eL, if_neg e]) (fun j => by rw [eI, if_neg e]) (fun j => by rw [eR, if_neg e])⟩
  · rw [eK, if_neg (by omega)]; exact h5 b hb
  · rw [eK, if_neg (by rw [eN] at hb; omega)]; exact h6 b (by rw [eN] at hb; omega)
/-- what may be written was made since -/
theorem HR.hi (hh : HR s0 D σ h H) (hk : hK h a ≠ 0) (h1 : hK h a ≠ 107) (h2 : hK h a ≠ 108) (h3 : hK h a ≠ 109) (h4 : hK h a ≠ 24) : 16 ≤ a := by
  rcases Nat.lt_or_ge a 16 with z | z
  · exfalso
    have e := hh.2.2.2.2.1 a z
    rw [e] at hk h1 h2 h3 h4
    have : a = 0 ∨ a = 1 ∨ a = 2 ∨ a = 3 ∨ a = 4 ∨ a = 5 ∨ a = 6 ∨ a = 7 ∨ a = 8 ∨ 9 ≤ a := by omega
    rcases this with rfl | rfl | rfl | rfl | rfl | rfl | rfl | rfl | rfl | z9
    · exact hk rfl
    · exact h1 rfl
    · exact h3 rfl
    · exact h4 rfl
    · exact h4 rfl
    · exact h4 rfl
    · exact h2 rfl
    · exact h2 rfl
    · exact h2 rfl
    · refine hk ?_
      unfold bc_spK
      rw [List.getD_eq_getElem?_getD, List.getElem?_eq_none (by simp; omega)]
      rfl
  · exact z
end HP
end
section
/-! ===== ARRAYS ===== -/
section SA
variable {p : Program} {l : Launch} {e : Env} {R : Room} {s : State} {m : MethodId} {args : Array Value} {below : List Frame} {meth : Method} {c : Code} {H : Heap} {locs : List Loc} {cells slots : Nat} {Q : State → Prop} {s0 : State} {D : va_G} {σ : Nat → Value} {nL : Nat}
variable {cc : ByteArray} {pc len pc' k : Nat} {ls ls' st st' : List AV} {h h' : AH} {lsr : Array Slot} {sr : List Value}
def KH (p : Program) (l : Launch) (e : Env) (R : Room) (s : State) (m : MethodId) (args : Array Value) (below : List Frame) (meth : Method) (c : Code) (Q : State → Prop) (s0 : State) (D : va_G) (σ : Nat → Value) (nL : Nat) (h : AH) (cells slots pc : Nat) (ls st : List AV) : Prop :=
  ∀ (H : Heap) (locs : List Loc) (lsr : Array Slot) (sr : List Value), HR s0 D σ h H → (∀ q ∈ locs, s0.heap.size ≤ q.base) → LR s0.heap.size σ ls nL lsr → SR s0.heap.size σ st sr → W p l e R s m args below meth c H locs cells slots Q (F0 m pc lsr sr)
theorem ix_in {n : Int32} {N : Nat} (h0 : 0 ≤ n.toInt) (h1 : n.toInt < (N : Int)) : ¬ (n < 0 ∨ N ≤ n.toNatClampNeg) ∧ n.toNatClampNeg < N ∧ ((n.toNatClampNeg : Nat) : Int) = n.toInt := by
  have e : n.toNatClampNeg = n.toInt.toNat := rfl
  have e2 : ((n.toNatClampNeg : Nat) : Int) = n.toInt := by rw [e]; exact Int.toNat_of_nonneg h0
  refine ⟨?_, by omega, e2⟩
  rintro (z | z)
  · rw [Int32.lt_iff_toInt_lt] at z
    have : (0 : Int32).toInt = 0 := rfl
    omega
  · omega
/-- an array's element is read -/
theorem sh_ald {ok : Nat → Bool} {t : Nat} (hal : s0.vm.Alike s.vm) (hok : ∀ x, ok x = true → 40 < x ∧ bc_act x = t)
    (row : ∀ (x q : Nat) (n : Int32) (cell : Cell) (v : Value) (rest : List Value), ok x = true → H[q]? = some cell → s.isArrayOf cell (bc_aty x) → cell.vm ≠ .unknown → ¬ (n < 0 ∨ cell.slots.size ≤ n.toNatClampNeg) → cell.slots[n.toNatClampNeg]? = some v → W p l e R s m args below meth c H locs cells slots Q (F0 m (pc + 1) lsr (v :: rest)) → W p l e R s m args below meth c H locs cells slots Q (F0 m pc lsr (.int n :: .ref q :: rest)))
    (hn : bc_ald pc ls h ok t st = some (.inl (pc', ls', st', h'))) (hh : HR s0 D σ h H) (hlo : ∀ q ∈ locs, s0.heap.size ≤ q.base) (hl : LR s0.heap.size σ ls nL lsr) (hs : SR s0.heap.size σ st sr) : h' = h ∧ (KH p l e R s m args below meth c Q s0 D σ nL h' cells slots pc' ls' st' → W p l e R s m args below meth c H locs cells slots Q (F0 m pc lsr sr)) := by
  unfold bc_ald at hn
  split at hn
  · rename_i i a r
    split at hn
    · rename_i hc
      obtain ⟨hc1, hc2, hc3⟩ := hc
      simp only [Option.some.injEq, Sum.inl.injEq, Prod.mk.injEq] at hn
      obtain ⟨rfl, rfl, rfl, rfl⟩ := hn
      obtain ⟨n, q1, rfl, rfl, hs2⟩ := hs.i
      obtain ⟨v1, q2, rfl, ev1, -, hs3⟩ := hs2.r
      obtain ⟨g1, g2⟩ := hok _ hc1
      obtain ⟨q, cell, a1, a2, a3, a3b, a4, a5, a6, a7, a8⟩ := (hh.2.2.2.1 a (by omega)).2 g1
      rw [a1] at ev1
      subst ev1
      rw [a6] at hc3
      obtain ⟨x1, x2, x3⟩ := ix_in hc2 hc3
      obtain ⟨v, b1, b2⟩ := a8 _ x2
      rw [x3, g2] at b2
      exact ⟨rfl, fun K => row _ q n cell v q2 hc1 a2 (State.isArrayOf_alike hal a3) a4 x1 b1 (K _ _ _ _ hh hlo hl ⟨b2, hs3⟩)⟩
    · cases hn
  · cases hn
theorem sh_alen (hx : p.tables.exec = Jvm.exec) (hb : c.code = cc) (hdg : decode cc pc = .ok (.arraylength, 1)) (hal : s0.vm.Alike s.vm) (hn : bc_alen pc ls h st = some (.inl (pc', ls', st', h'))) (hh : HR s0 D σ h H) (hlo : ∀ q ∈ locs, s0.heap.size ≤ q.base) (hl : LR s0.heap.size σ ls nL lsr) (hs : SR s0.heap.size σ st sr) : h' = h ∧ (KH p l e R s m args below meth c Q s0 D σ nL h' cells slots pc' ls' st' → W p l e R s m args below meth c H locs cells slots Q (F0 m pc lsr sr)) := by
  unfold bc_alen at hn
  split at hn
  · rename_i a r
    split at hn
    · rename_i hc
      simp only [Option.some.injEq, Sum.inl.injEq, Prod.mk.injEq] at hn
      obtain ⟨rfl, rfl, rfl, rfl⟩ := hn
      obtain ⟨v1, q2, rfl, ev1, -, hs3⟩ := hs.r
      obtain ⟨q, cell, a1, a2, a3, a3b, a4, a5, a6, a7, a8⟩ := (hh.2.2.2.1 a (by omega)).2 (by omega)
      rw [a1] at ev1
      subst ev1
      refine ⟨rfl, fun K => W.alen (n := cell.slots.size.toInt32) hx hb a2 (State.isArrayOf_alike hal a3) rfl rfl rfl hdg (K _ _ _ _ hh hlo hl ⟨⟨_, rfl, ?_⟩, hs3⟩)⟩
      rw [a6]
      exact nI_toInt a7
    · cases hn
  · cases hn
theorem setSlot_get {cell : Cell} {i j : Nat} {v : Value} (hi : i < cell.slots.size) : (cell.setSlot i v).slots[j]? = if j = i then some v else cell.slots[j]? := by
  unfold Cell.setSlot
  dsimp only
  rw [Array.getElem?_setIfInBounds]
  by_cases e : i = j
  · subst e
    rw [if_pos rfl, if_pos hi, if_pos rfl]
  · rw [if_neg e, if_neg (fun z => e z.symm)]
theorem setSlot_size {cell : Cell} {i : Nat} {v : Value} : (cell.setSlot i v).slots.size = cell.slots.size := by
  unfold Cell.setSlot
  simp
/-- an array of ints, longs or truths is written -/
theorem sh_ast {a : Nat} {n : Int32} {x : AV} {v : Value} {q2 : List Value} {r : List AV} {z : Int} (hσ : SpOk s0.heap.size σ) (hal : s0.vm.Alike s.vm) (hk : 101 ≤ hK h a) (hk2 : hK h a ≤ 104) (h0 : 0 ≤ n.toInt) (h1 : n.toInt < hL h a)
    (hv : VR s0.heap.size σ (if bc_act (hK h a) = 3 then vJ z else vI z) v)
    (row : ∀ (q : Nat) (cell : Cell), H[q]? = some cell → s.isArrayOf cell (bc_aty (hK h a)) → cell.vm ≠ .unknown → ¬ (n < 0 ∨ cell.slots.size ≤ n.toNatClampNeg) → rhoV s0.heap.size σ a = .ref q →
      (∀ H' : Heap, H'[q]? = some (cell.setSlot n.toNatClampNeg v) → H'.size = H.size → (∀ q1, q1 ≠ q → H'[q1]? = H[q1]?) → W p l e R s m args below meth c H' (locs ++ [⟨q, n.toNatClampNeg⟩]) cells slots Q (F0 m (pc + 1) lsr q2)) → W p l e R s m args below meth c H locs cells slots Q (F0 m pc lsr sr))
    (hh : HR s0 D σ h H) (hlo : ∀ q ∈ locs, s0.heap.size ≤ q.base) (hl : LR s0.heap.size σ ls nL lsr) (hs : SR s0.heap.size σ r q2) (K : KH p l e R s m args below meth c Q s0 D σ nL (sI h a n.toInt z) cells slots (pc + 1) ls r) : W p l e R s m args below meth c H locs cells slots Q (F0 m pc lsr sr) := by
  have ha : 16 ≤ a := hh.hi (by omega) (by omega) (by omega) (by omega) (by omega)
  obtain ⟨q, cell, a1, a2, a3, a3b, a4, a5, a6, a7, a8⟩ := (hh.2.2.2.1 a (by omega)).2 (by omega)
  have eq : q = s0.heap.size + (a - 16) := by rw [rho_hi ha] at a1; cases a1; rfl
  rw [a6] at h1
  obtain ⟨x1, x2, x3⟩ := ix_in h0 h1
  refine row q cell a2 (State.isArrayOf_alike hal a3) a4 x1 a1 (fun H' e1 e2 e3 => K _ _ _ _ ?_ ?_ hl hs)
  · refine hh.upd hσ ha rfl (fun _ => rfl) (fun _ => rfl) (fun b j hb => ?_) (fun b j hb => rfl) e2 (fun q1 hq1 => e3 q1 (by rw [eq]; exact hq1)) ⟨fun z1 => absurd z1 (by rw [show hK (sI h a n.toInt z) a = hK h a from rfl]; omega), fun _ => ?_⟩
    · show (if b = a ∧ j = n.toInt then z else gI h b j) = _
      rw [if_neg (fun w => hb w.1)]
    · refine ⟨q, cell.setSlot n.toNatClampNeg v, a1, e1, ?_, a3b, a4, a5, by rw [setSlot_size]; exact a6, by rw [setSlot_size]; exact a7, fun j hj => ?_⟩
      · exact a3
      · rw [setSlot_size] at hj
        rw [setSlot_get x2]
        by_cases ej : j = n.toNatClampNeg
        · subst ej
          refine ⟨v, by rw [if_pos rfl], ?_⟩
          rw [x3]
          have e5 : gI (sI h a n.toInt z) a n.toInt = z := by
            show (if a = a ∧ n.toInt = n.toInt then z else gI h a n.toInt) = _
            rw [if_pos ⟨rfl, rfl⟩]
          have e6 : bc_rd (sI h a n.toInt z) a n.toInt (bc_act (hK h a)) = if bc_act (hK h a) = 3 then vJ z else vI z := by
            have : hK h a = 101 ∨ hK h a = 102 ∨ hK h a = 103 ∨ hK h a = 104 := by omega
            rcases this with w | w | w | w <;> rw [w] <;> simp only [bc_act, bc_rd] <;> rw [e5] <;> rfl
          show VR _ _ (bc_rd (sI h a n.toInt z) a n.toInt (bc_act (hK h a))) v
          rw [e6]
          exact hv
        · obtain ⟨w, b1, b2⟩ := a8 j hj
          refine ⟨w, by rw [if_neg ej]; exact b1, ?_⟩
          have e5 : gI (sI h a n.toInt z) a (j : Int) = gI h a (j : Int) := by
            show (if a = a ∧ (j : Int) = n.toInt then z else gI h a (j : Int)) = _
            rw [if_neg (fun w => ej (by omega))]
          have e6 : bc_rd (sI h a n.toInt z) a (j : Int) (bc_act (hK h a)) = bc_rd h a (j : Int) (bc_act (hK h a)) := by
            unfold bc_rd
            split
            · rw [e5]
            · rfl
            · rw [e5]
          show VR _ _ (bc_rd (sI h a n.toInt z) a (j : Int) (bc_act (hK h a))) w
          rw [e6]
          exact b2
  · intro q1 hq1
    rcases List.mem_append.mp hq1 with z1 | z1
    · exact hlo q1 z1
    · rw [List.mem_singleton] at z1
      subst z1
      show s0.heap.size ≤ q
      omega
end SA
end
section
/-! ===== THE ARRAYS' INSTRUCTIONS ===== -/
theorem same3 {h h' : AH} {P : Prop} (X : h' = h ∧ P) : hN h' = hN h ∧ hU h' = hU h ∧ P := by
  obtain ⟨rfl, K⟩ := X
  exact ⟨rfl, rfl, K⟩
section SC
variable {p : Program} {l : Launch} {e : Env} {R : Room} {s : State} {m : MethodId} {args : Array Value} {below : List Frame} {meth : Method} {c : Code} {H : Heap} {locs : List Loc} {cells slots : Nat} {Q : State → Prop} {s0 : State} {D : va_G} {σ : Nat → Value} {nL : Nat}
variable {cc : ByteArray} {pc len pc' k : Nat} {ls ls' st st' : List AV} {h h' : AH} {lsr : Array Slot} {sr : List Value}
theorem si_iald (hσ : SpOk s0.heap.size σ) (hal : s0.vm.Alike s.vm) (hx : p.tables.exec = Jvm.exec) (hb : c.code = cc) (hdg : decode cc pc = .ok (.iaload, 1)) (hn : bc_ald pc ls h (fun c => c == 101 || c == 107) 0 st = some (.inl (pc', ls', st', h'))) (hh : HR s0 D σ h H) (hlo : ∀ q ∈ locs, s0.heap.size ≤ q.base) (hl : LR s0.heap.size σ ls nL lsr) (hs : SR s0.heap.size σ st sr) : hN h' = hN h ∧ hU h' = hU h ∧ (KH p l e R s m args below meth c Q s0 D σ nL h' cells slots pc' ls' st' → W p l e R s m args below meth c H locs cells slots Q (F0 m pc lsr sr)) := by
  refine same3 (sh_ald (cells := cells) (slots := slots) (Q := Q) (D := D) hal (ok := fun c => c == 101 || c == 107) (t := 0) ?_ (fun x q n cell v rest hok h1 h2 h3 h4 h5 kk => ?_) hn hh hlo hl hs)
  · intro x hx1
    have : x = 101 ∨ x = 107 := by simpa using hx1
    rcases this with rfl | rfl <;> exact ⟨by decide, rfl⟩
  · have : x = 101 ∨ x = 107 := by simpa using hok
    rcases this with rfl | rfl
    · exact W.iald hx hb h1 h2 h3 h4 h5 rfl rfl hdg kk
    · exact W.iald hx hb h1 h2 h3 h4 h5 rfl rfl hdg kk
theorem si_lald (hσ : SpOk s0.heap.size σ) (hal : s0.vm.Alike s.vm) (hx : p.tables.exec = Jvm.exec) (hb : c.code = cc) (hdg : decode cc pc = .ok (.laload, 1)) (hn : bc_ald pc ls h (fun c => c == 102) 3 st = some (.inl (pc', ls', st', h'))) (hh : HR s0 D σ h H) (hlo : ∀ q ∈ locs, s0.heap.size ≤ q.base) (hl : LR s0.heap.size σ ls nL lsr) (hs : SR s0.heap.size σ st sr) : hN h' = hN h ∧ hU h' = hU h ∧ (KH p l e R s m args below meth c Q s0 D σ nL h' cells slots pc' ls' st' → W p l e R s m args below meth c H locs cells slots Q (F0 m pc lsr sr)) := by
  refine same3 (sh_ald (cells := cells) (slots := slots) (Q := Q) (D := D) hal (ok := fun c => c == 102) (t := 3) ?_ (fun x q n cell v rest hok h1 h2 h3 h4 h5 kk => ?_) hn hh hlo hl hs)
  · intro x hx1
    have : x = 102 := by simpa using hx1
    rcases this with rfl <;> exact ⟨by decide, rfl⟩
  · have : x = 102 := by simpa using hok
    rcases this with rfl
    · exact W.lald hx hb h1 h2 h3 h4 h5 rfl rfl hdg kk
theorem si_bald (hσ : SpOk s0.heap.size σ) (hal : s0.vm.Alike s.vm) (hx : p.tables.exec = Jvm.exec) (hb : c.code = cc) (hdg : decode cc pc = .ok (.baload, 1)) (hn : bc_ald pc ls h (fun c => c == 103 || c == 104 || c == 108) 0 st = some (.inl (pc', ls', st', h'))) (hh : HR s0 D σ h H) (hlo : ∀ q ∈ locs, s0.heap.size ≤ q.base) (hl : LR s0.heap.size σ ls nL lsr) (hs : SR s0.heap.size σ st sr) : hN h' = hN h ∧ hU h' = hU h ∧ (KH p l e R s m args below meth c Q s0 D σ nL h' cells slots pc' ls' st' → W p l e R s m args below meth c H locs cells slots Q (F0 m pc lsr sr)) := by
  refine same3 (sh_ald (cells := cells) (slots := slots) (Q := Q) (D := D) hal (ok := fun c => c == 103 || c == 104 || c == 108) (t := 0) ?_ (fun x q n cell v rest hok h1 h2 h3 h4 h5 kk => ?_) hn hh hlo hl hs)
  · intro x hx1
    have : x = 103 ∨ x = 104 ∨ x = 108 := by simpa [or_assoc] using hx1
    rcases this with rfl | rfl | rfl <;> exact ⟨by decide, rfl⟩
  · have : x = 103 ∨ x = 104 ∨ x = 108 := by simpa [or_assoc] using hok
    rcases this with rfl | rfl | rfl
    · exact W.bald hx hb h1 h2 h3 h4 h5 rfl rfl hdg kk
    · exact W.zald hx hb h1 h2 h3 h4 h5 rfl rfl hdg kk
    · exact W.bald hx hb h1 h2 h3 h4 h5 rfl rfl hdg kk
theorem si_aald (hσ : SpOk s0.heap.size σ) (hal : s0.vm.Alike s.vm) (hx : p.tables.exec = Jvm.exec) (hb : c.code = cc) (hdg : decode cc pc = .ok (.aaload, 1)) (hn : bc_ald pc ls h (fun c => c == 105 || c == 106) 4 st = some (.inl (pc', ls', st', h'))) (hh : HR s0 D σ h H) (hlo : ∀ q ∈ locs, s0.heap.size ≤ q.base) (hl : LR s0.heap.size σ ls nL lsr) (hs : SR s0.heap.size σ st sr) : hN h' = hN h ∧ hU h' = hU h ∧ (KH p l e R s m args below meth c Q s0 D σ nL h' cells slots pc' ls' st' → W p l e R s m args below meth c H locs cells slots Q (F0 m pc lsr sr)) := by
  refine same3 (sh_ald (cells := cells) (slots := slots) (Q := Q) (D := D) hal (ok := fun c => c == 105 || c == 106) (t := 4) ?_ (fun x q n cell v rest hok h1 h2 h3 h4 h5 kk => ?_) hn hh hlo hl hs)
  · intro x hx1
    have : x = 105 ∨ x = 106 := by simpa using hx1
    rcases this with rfl | rfl <;> exact ⟨by decide, rfl⟩
  · have : x = 105 ∨ x = 106 := by simpa using hok
    rcases this with rfl | rfl
    · exact W.aald hx hb h1 h2 rfl h3 h4 h5 rfl rfl hdg kk
    · exact W.aald hx hb h1 h2 rfl h3 h4 h5 rfl rfl hdg kk
theorem si_alen (hσ : SpOk s0.heap.size σ) (hal : s0.vm.Alike s.vm) (hx : p.tables.exec = Jvm.exec) (hb : c.code = cc) (hdg : decode cc pc = .ok (.arraylength, 1)) (hn : bc_alen pc ls h st = some (.inl (pc', ls', st', h'))) (hh : HR s0 D σ h H) (hlo : ∀ q ∈ locs, s0.heap.size ≤ q.base) (hl : LR s0.heap.size σ ls nL lsr) (hs : SR s0.heap.size σ st sr) : hN h' = hN h ∧ hU h' = hU h ∧ (KH p l e R s m args below meth c Q s0 D σ nL h' cells slots pc' ls' st' → W p l e R s m args below meth c H locs cells slots Q (F0 m pc lsr sr)) := by
  exact same3 (sh_alen (cells := cells) (slots := slots) (Q := Q) (D := D) hx hb hdg hal hn hh hlo hl hs)
theorem si_iast (hσ : SpOk s0.heap.size σ) (hal : s0.vm.Alike s.vm) (hx : p.tables.exec = Jvm.exec) (hb : c.code = cc) (hdg : decode cc pc = .ok (.iastore, 1)) (hn : bc_iast pc ls h st = some (.inl (pc', ls', st', h'))) (hh : HR s0 D σ h H) (hlo : ∀ q ∈ locs, s0.heap.size ≤ q.base) (hl : LR s0.heap.size σ ls nL lsr) (hs : SR s0.heap.size σ st sr) : hN h' = hN h ∧ hU h' = hU h ∧ (KH p l e R s m args below meth c Q s0 D σ nL h' cells slots pc' ls' st' → W p l e R s m args below meth c H locs cells slots Q (F0 m pc lsr sr)) := by
  unfold bc_iast at hn
  split at hn
  · rename_i z i a r
    split at hn
    · rename_i hc
      obtain ⟨k1, k2, k3⟩ := hc
      simp only [Option.some.injEq, Sum.inl.injEq, Prod.mk.injEq] at hn
      obtain ⟨rfl, rfl, rfl, rfl⟩ := hn
      obtain ⟨x, q1, rfl, rfl, hs2⟩ := hs.i
      obtain ⟨n, q2, rfl, rfl, hs3⟩ := hs2.i
      obtain ⟨v1, q3, rfl, ev1, -, hs4⟩ := hs3.r
      refine ⟨rfl, rfl, fun K => sh_ast (x := vX) (v := .int x) hσ hal (by omega) (by omega) k2 k3 (by rw [k1]; exact ⟨_, rfl, rfl⟩) (fun q cell h1 h2 h3 h4 h5 kk => ?_) hh hlo hl hs4 K⟩
      rw [h5] at ev1
      subst ev1
      rw [k1] at h2
      exact W.iast hx hb h1 h2 h3 h4 rfl rfl hdg kk
    · cases hn
  · cases hn
theorem si_jast (hσ : SpOk s0.heap.size σ) (hal : s0.vm.Alike s.vm) (hx : p.tables.exec = Jvm.exec) (hb : c.code = cc) (hdg : decode cc pc = .ok (.lastore, 1)) (hn : bc_jast pc ls h st = some (.inl (pc', ls', st', h'))) (hh : HR s0 D σ h H) (hlo : ∀ q ∈ locs, s0.heap.size ≤ q.base) (hl : LR s0.heap.size σ ls nL lsr) (hs : SR s0.heap.size σ st sr) : hN h' = hN h ∧ hU h' = hU h ∧ (KH p l e R s m args below meth c Q s0 D σ nL h' cells slots pc' ls' st' → W p l e R s m args below meth c H locs cells slots Q (F0 m pc lsr sr)) := by
  unfold bc_jast at hn
  split at hn
  · rename_i z i a r
    split at hn
    · rename_i hc
      obtain ⟨k1, k2, k3⟩ := hc
      simp only [Option.some.injEq, Sum.inl.injEq, Prod.mk.injEq] at hn
      obtain ⟨rfl, rfl, rfl, rfl⟩ := hn
      obtain ⟨x, q1, rfl, rfl, hs2⟩ := hs.j
      obtain ⟨n, q2, rfl, rfl, hs3⟩ := hs2.i
      obtain ⟨v1, q3, rfl, ev1, -, hs4⟩ := hs3.r
      refine ⟨rfl, rfl, fun K => sh_ast (x := vX) (v := .long x) hσ hal (by omega) (by omega) k2 k3 (by rw [k1]; exact ⟨_, rfl, rfl⟩) (fun q cell h1 h2 h3 h4 h5 kk => ?_) hh hlo hl hs4 K⟩
      rw [h5] at ev1
      subst ev1
      rw [k1] at h2
      exact W.last hx hb h1 h2 h3 h4 rfl rfl hdg kk
    · cases hn
  · cases hn
theorem b01_narrow {x : Int32} (hz : x.toInt = 0 ∨ x.toInt = 1) : narrow .boolean (.int x) = .int x := by
  have : x = 0 ∨ x = 1 := by
    rcases hz with z | z
    · exact Or.inl (Int32.toInt_inj.mp (z.trans rfl))
    · exact Or.inr (Int32.toInt_inj.mp (z.trans rfl))
  rcases this with rfl | rfl <;> rfl
theorem si_bast (hσ : SpOk s0.heap.size σ) (hal : s0.vm.Alike s.vm) (hx : p.tables.exec = Jvm.exec) (hb : c.code = cc) (hdg : decode cc pc = .ok (.bastore, 1)) (hn : bc_bast pc ls h st = some (.inl (pc', ls', st', h'))) (hh : HR s0 D σ h H) (hlo : ∀ q ∈ locs, s0.heap.size ≤ q.base) (hl : LR s0.heap.size σ ls nL lsr) (hs : SR s0.heap.size σ st sr) : hN h' = hN h ∧ hU h' = hU h ∧ (KH p l e R s m args below meth c Q s0 D σ nL h' cells slots pc' ls' st' → W p l e R s m args below meth c H locs cells slots Q (F0 m pc lsr sr)) := by
  unfold bc_bast at hn
  split at hn
  · rename_i z i a r
    split at hn
    · rename_i hc
      obtain ⟨k1, k2, k3⟩ := hc
      simp only [Option.some.injEq, Sum.inl.injEq, Prod.mk.injEq] at hn
      obtain ⟨rfl, rfl, rfl, rfl⟩ := hn
      obtain ⟨x, q1, rfl, rfl, hs2⟩ := hs.i
      obtain ⟨n, q2, rfl, rfl, hs3⟩ := hs2.i
      obtain ⟨v1, q3, rfl, ev1, -, hs4⟩ := hs3.r
      refine ⟨rfl, rfl, fun K => sh_ast (x := vX) (v := .int x.toInt8.toInt32) hσ hal (by omega) (by omega) k2 k3 (by rw [k1]; exact ⟨_, rfl, by unfold i2bZ; rw [t32]⟩) (fun q cell h1 h2 h3 h4 h5 kk => ?_) hh hlo hl hs4 K⟩
      rw [h5] at ev1
      subst ev1
      rw [k1] at h2
      exact W.bast hx hb h1 h2 h3 h4 rfl rfl hdg kk
    · split at hn
      · rename_i hc
        obtain ⟨k1, k2, k3, k4⟩ := hc
        simp only [Option.some.injEq, Sum.inl.injEq, Prod.mk.injEq] at hn
        obtain ⟨rfl, rfl, rfl, rfl⟩ := hn
        obtain ⟨x, q1, rfl, rfl, hs2⟩ := hs.i
        obtain ⟨n, q2, rfl, rfl, hs3⟩ := hs2.i
        obtain ⟨v1, q3, rfl, ev1, -, hs4⟩ := hs3.r
        refine ⟨rfl, rfl, fun K => sh_ast (x := vX) (v := .int x) hσ hal (by omega) (by omega) k2 k3 (by rw [k1]; exact ⟨_, rfl, rfl⟩) (fun q cell h1 h2 h3 h4 h5 kk => ?_) hh hlo hl hs4 K⟩
        rw [h5] at ev1
        subst ev1
        rw [k1] at h2
        refine W.zast hx hb h1 h2 h3 h4 rfl rfl hdg ?_
        rw [b01_narrow k4]
        exact kk
      · cases hn
  · cases hn
/-- a new array's cell -/
theorem AR_new {cA : ClassId} {ty0 : Nat} {n : Int} {N u : Nat} {dv : Value} (hA : ∀ slots : Array Value, s0.isArrayOf { cls := cA, slots := slots, vm := .none } (bc_aty ty0)) (hRA : va_RA s0 cA (bc_aty ty0)) (hNn : n = (N : Int)) (hN2 : N < 2 ^ 31) (hv : VR s0.heap.size σ (match bc_act ty0 with | 3 => vJ 0 | 4 => vR 0 | _ => vI 0) dv) (hh : HR s0 D σ h H) (h40 : 40 < ty0) :
    CR s0 D s0.heap.size σ (nw h ty0 n u) (H.push { cls := cA, slots := Array.replicate N dv, vm := .none }) (hN h) := by
  have eK : hK (nw h ty0 n u) (hN h) = ty0 := by
    show (if h.1 = h.1 then ty0 else _) = ty0
    rw [if_pos rfl]
  unfold CR
  rw [eK]
  refine ⟨fun z => absurd z (by omega), fun _ => ?_⟩
  have h16 := hh.1
  refine ⟨H.size, { cls := cA, slots := Array.replicate N dv, vm := .none }, ?_, ?_, hA _, hRA, (fun z => by cases z), (fun _ z => by cases z), ?_, ?_, fun j hj => ?_⟩
  · rw [rho_hi h16]
    have := hh.2.1
    have e9 : s0.heap.size + (hN h - 16) = H.size := by omega
    rw [e9]
  · rw [Array.getElem?_push, if_pos rfl]
  · show (if h.1 = h.1 then n else _) = _
    rw [if_pos rfl, hNn]
    simp
  · simpa using hN2
  · have hj : j < N := by simpa using hj
    refine ⟨dv, by simp [hj], ?_⟩
    have eI : gI (nw h ty0 n u) (hN h) (j : Int) = 0 := by
      show (if h.1 = h.1 then (0 : Int) else _) = 0
      rw [if_pos rfl]
    have eR : gR (nw h ty0 n u) (hN h) (j : Int) = 0 := by
      show (if h.1 = h.1 then (0 : Nat) else _) = 0
      rw [if_pos rfl]
    have e6 : bc_rd (nw h ty0 n u) (hN h) (j : Int) (bc_act ty0) = (match bc_act ty0 with | 3 => vJ 0 | 4 => vR 0 | _ => vI 0) := by
      generalize bc_act ty0 = t
      match t with
      | 3 => show vJ (gI (nw h ty0 n u) (hN h) (j : Int)) = _; rw [eI]; rfl
      | 4 => show vR (gR (nw h ty0 n u) (hN h) (j : Int)) = _; rw [eR]; rfl
      | 0 => show vI (gI (nw h ty0 n u) (hN h) (j : Int)) = _; rw [eI]; rfl
      | 1 => show vI (gI (nw h ty0 n u) (hN h) (j : Int)) = _; rw [eI]; rfl
      | 2 => show vI (gI (nw h ty0 n u) (hN h) (j : Int)) = _; rw [eI]; rfl
      | x + 5 => show vI (gI (nw h ty0 n u) (hN h) (j : Int)) = _; rw [eI]; rfl
    rw [e6]
    exact hv
end SC
end
section
/-! ===== FIELDS ===== -/
def okTy : Nat → FieldType → Bool
  | 0, .int => true
  | 1, .boolean => true
  | 2, .byte => true
  | 3, .long => true
  | 4, .object _ => true
  | 4, .array _ => true
  | _, _ => false
section WR
variable {h h' : AH} {a : Nat} {j : Int} {t : Nat} {y : AV} {B : Nat} {σ : Nat → Value} {v : Value}
theorem bc_wr_inv (hw : bc_wr h a j t y = some h') : (∃ z, y = .inl z ∧ h' = sI h a j z ∧ (t = 0 ∨ (t = 1 ∧ (z = 0 ∨ z = 1)) ∨ (t = 2 ∧ -128 ≤ z ∧ z ≤ 127))) ∨ (∃ z, y = .inr (.inl z) ∧ h' = sI h a j z ∧ t = 3) ∨ (∃ z, y = .inr (.inr (.inl z)) ∧ h' = sR h a j z ∧ t = 4) := by
  unfold bc_wr at hw
  split at hw
  · cases hw
    exact Or.inl ⟨_, rfl, rfl, Or.inl rfl⟩
  · split at hw
    · rename_i hz
      cases hw
      exact Or.inl ⟨_, rfl, rfl, Or.inr (Or.inl ⟨rfl, hz⟩)⟩
    · cases hw
  · split at hw
    · rename_i hz
      cases hw
      exact Or.inl ⟨_, rfl, rfl, Or.inr (Or.inr ⟨rfl, hz⟩)⟩
    · cases hw
  · cases hw
    exact Or.inr (Or.inl ⟨_, rfl, rfl, rfl⟩)
  · cases hw
    exact Or.inr (Or.inr ⟨_, rfl, rfl, rfl⟩)
  · cases hw
theorem wr_N (hw : bc_wr h a j t y = some h') : hN h' = hN h := by
  rcases bc_wr_inv hw with ⟨z, -, rfl, -⟩ | ⟨z, -, rfl, -⟩ | ⟨z, -, rfl, -⟩ <;> rfl
theorem wr_U (hw : bc_wr h a j t y = some h') : hU h' = hU h := by
  rcases bc_wr_inv hw with ⟨z, -, rfl, -⟩ | ⟨z, -, rfl, -⟩ | ⟨z, -, rfl, -⟩ <;> rfl
theorem wr_K (hw : bc_wr h a j t y = some h') (b : Nat) : hK h' b = hK h b := by
  rcases bc_wr_inv hw with ⟨z, -, rfl, -⟩ | ⟨z, -, rfl, -⟩ | ⟨z, -, rfl, -⟩ <;> rfl
theorem wr_L (hw : bc_wr h a j t y = some h') (b : Nat) : hL h' b = hL h b := by
  rcases bc_wr_inv hw with ⟨z, -, rfl, -⟩ | ⟨z, -, rfl, -⟩ | ⟨z, -, rfl, -⟩ <;> rfl
theorem sI_get {z : Int} {b : Nat} {i : Int} : gI (sI h a j z) b i = if b = a ∧ i = j then z else gI h b i := rfl
theorem sR_get {z : Nat} {b : Nat} {i : Int} : gR (sR h a j z) b i = if b = a ∧ i = j then z else gR h b i := rfl
theorem wr_I (hw : bc_wr h a j t y = some h') (b : Nat) (i : Int) (hb : b ≠ a) : gI h' b i = gI h b i := by
  rcases bc_wr_inv hw with ⟨z, -, rfl, -⟩ | ⟨z, -, rfl, -⟩ | ⟨z, -, rfl, -⟩
  · rw [sI_get, if_neg (fun w => hb w.1)]
  · rw [sI_get, if_neg (fun w => hb w.1)]
  · rfl
theorem wr_R (hw : bc_wr h a j t y = some h') (b : Nat) (i : Int) (hb : b ≠ a) : gR h' b i = gR h b i := by
  rcases bc_wr_inv hw with ⟨z, -, rfl, -⟩ | ⟨z, -, rfl, -⟩ | ⟨z, -, rfl, -⟩
  · rfl
  · rfl
  · rw [sR_get, if_neg (fun w => hb w.1)]
theorem wr_same (hw : bc_wr h a j t y = some h') : bc_rd h' a j t = y := by
  rcases bc_wr_inv hw with ⟨z, rfl, rfl, q⟩ | ⟨z, rfl, rfl, rfl⟩ | ⟨z, rfl, rfl, rfl⟩
  · have e : gI (sI h a j z) a j = z := by rw [sI_get, if_pos ⟨rfl, rfl⟩]
    rcases q with rfl | ⟨rfl, -⟩ | ⟨rfl, -⟩ <;> exact congrArg vI e
  · have e : gI (sI h a j z) a j = z := by rw [sI_get, if_pos ⟨rfl, rfl⟩]
    exact congrArg vJ e
  · have e : gR (sR h a j z) a j = z := by rw [sR_get, if_pos ⟨rfl, rfl⟩]
    exact congrArg vR e
theorem wr_other (hw : bc_wr h a j t y = some h') {i : Int} {t2 : Nat} (hi : i ≠ j) : bc_rd h' a i t2 = bc_rd h a i t2 := by
  have e1 : gI h' a i = gI h a i := by
    rcases bc_wr_inv hw with ⟨z, -, rfl, -⟩ | ⟨z, -, rfl, -⟩ | ⟨z, -, rfl, -⟩
    · rw [sI_get, if_neg (fun w => hi w.2)]
    · rw [sI_get, if_neg (fun w => hi w.2)]
    · rfl
  have e2 : gR h' a i = gR h a i := by
    rcases bc_wr_inv hw with ⟨z, -, rfl, -⟩ | ⟨z, -, rfl, -⟩ | ⟨z, -, rfl, -⟩
    · rfl
    · rfl
    · rw [sR_get, if_neg (fun w => hi w.2)]
  unfold bc_rd
  split
  · rw [e1]
  · rw [e2]
  · rw [e1]
theorem wr_fits {ty : FieldType} (ht : okTy t ty = true) (hv : VR B σ y v) (hw : bc_wr h a j t y = some h') : narrow ty v = v ∧ fits ty v = true := by
  rcases bc_wr_inv hw with ⟨z, rfl, -, q⟩ | ⟨z, rfl, -, rfl⟩ | ⟨z, rfl, -, rfl⟩
  · obtain ⟨n, rfl, rfl⟩ := hv
    rcases q with rfl | ⟨rfl, q⟩ | ⟨rfl, q1, q2⟩
    · cases ty <;> first | exact ⟨rfl, rfl⟩ | exact absurd ht (by decide) | (simp [okTy] at ht)
    · cases ty <;> first | (simp [okTy] at ht; done) | skip
      have : n = 0 ∨ n = 1 := by
        rcases q with z | z
        · exact Or.inl (Int32.toInt_inj.mp (z.trans rfl))
        · exact Or.inr (Int32.toInt_inj.mp (z.trans rfl))
      rcases this with rfl | rfl <;> exact ⟨rfl, rfl⟩
    · cases ty <;> first | (simp [okTy] at ht; done) | skip
      refine ⟨?_, ?_⟩
      · show Value.int n.toInt8.toInt32 = Value.int n
        congr 1
        apply Int32.toInt_inj.mp
        rw [Int8.toInt_toInt32, Int32.toInt_toInt8]
        exact Int.bmod_eq_of_le (by omega) (by omega)
      · show (decide (-128 ≤ n) && decide (n ≤ 127)) = true
        rw [Bool.and_eq_true, decide_eq_true_eq, decide_eq_true_eq, Int32.le_iff_toInt_le, Int32.le_iff_toInt_le]
        exact ⟨q1, q2⟩
  · obtain ⟨n, rfl, -⟩ := hv
    cases ty <;> first | exact ⟨rfl, rfl⟩ | (simp [okTy] at ht)
  · rcases hv.2 with rfl | ⟨q, rfl⟩
    · cases ty <;> first | exact ⟨rfl, rfl⟩ | (simp [okTy] at ht)
    · cases ty <;> first | exact ⟨rfl, rfl⟩ | (simp [okTy] at ht)
end WR
/-- what is said of a class by its name and fields alone -/
def ClsTab (r : vw_C) : Prop := (∃ ty : Nat → FieldType, ∀ k, k < r.2.2 → parseFieldDescriptor (r.2.1 k).2.2.1 = some (ty k) ∧ okTy (bc_tcode (r.2.1 k).2.2.1) (ty k) = true) ∧ ∀ a, a < r.2.2 → ∀ b, b < r.2.2 → a ≠ b → (r.2.1 a).2.1 ≠ (r.2.1 b).2.1
/-- what the tables say of a class -/
def ClsAt (s : State) (args : Array Value) (D : va_G) (x : Nat) (r : vw_C) : Prop := u_Kn s r.1 r.2.1 r.2.2 (D.1 x) (D.2 x) ∧ (∀ w ∈ u_ws r.1 r.2.1 r.2.2, w.before args s = true) ∧ ClsTab r
/-- a field's link, the class's own or a nest mate's -/
def FLs (s : State) (args : Array Value) (own : String) (idx : Nat) (ref name desc : String) : Prop := (Cond.fieldLink own idx ref name desc).before args s = true ∨ ∃ host, (Cond.fieldLinkNest own idx ref name desc host).before args s = true
section SF
variable {p : Program} {l : Launch} {e : Env} {R : Room} {s : State} {m : MethodId} {args : Array Value} {below : List Frame} {meth : Method} {c : Code} {H : Heap} {locs : List Loc} {cells slots : Nat} {Q : State → Prop} {s0 : State} {D : va_G} {σ : Nat → Value} {nL : Nat}
variable {cc : ByteArray} {pc len pc' k : Nat} {ls ls' st st' : List AV} {h h' : AH} {lsr : Array Slot} {sr : List Value}
theorem W_getf (hx : p.tables.exec = Jvm.exec) (hb : c.code = cc) {own ref name desc : String} {index : Nat} (hown : s.vm.findClass own = some m.cls) (hlink : FLs s args own index ref name desc)
    {cf i : Nat} {k : Class} {f : Field} (hi : s.fieldFound? ref name desc = some (cf, k, i, f)) (hst : f.isStatic = false) {a : Addr} {cell : Cell} {v : Value} (hcell : H[a]? = some cell) (hknown : cell.vm ≠ .unknown) (hslot : cell.slots[f.slot]? = some v) {rest : List Value} (hdg : decode cc pc = .ok (.getfield index, 3))
    (kk : W p l e R s m args below meth c H locs cells slots Q (F0 m (pc + 3) lsr (v :: rest))) : W p l e R s m args below meth c H locs cells slots Q (F0 m pc lsr (.ref a :: rest)) := by
  rcases hlink with hk | ⟨host, hk⟩
  · exact W.getf hx hb hown hk hi hst hcell hknown hslot rfl rfl hdg kk
  · exact va_Wgetf hx hb hown hk hi hst hcell hknown hslot rfl rfl hdg kk
theorem W_putf (hx : p.tables.exec = Jvm.exec) (hb : c.code = cc) {own ref name desc : String} {index : Nat} (hown : s.vm.findClass own = some m.cls) (hlink : FLs s args own index ref name desc)
    {cf i : Nat} {k : Class} {f : Field} (hi : s.fieldFound? ref name desc = some (cf, k, i, f)) (hst : f.isStatic = false) (hfin : hasFlag f.accessFlags Acc.final = false ∨ (m.cls = cf ∧ meth.name = "<init>")) {a : Addr} {cell : Cell} {v : Value} (hcell : H[a]? = some cell) (hvm : cell.vm = .none) (hlt : f.slot < cell.slots.size) (hnarrow : narrow f.type v = v) (hfit : s.fitsSlot cell.cls .none f.slot v = true) {rest : List Value} (hdg : decode cc pc = .ok (.putfield index, 3))
    (kk : ∀ H' : Heap, H'[a]? = some (cell.setSlot f.slot v) → H'.size = H.size → (∀ q, q ≠ a → H'[q]? = H[q]?) → W p l e R s m args below meth c H' (locs ++ [⟨a, f.slot⟩]) cells slots Q (F0 m (pc + 3) lsr rest)) : W p l e R s m args below meth c H locs cells slots Q (F0 m pc lsr (v :: .ref a :: rest)) := by
  have ha : a < H.size := (Array.getElem?_eq_some_iff.mp hcell).1
  have k2 : W p l e R s m args below meth c (H.setIfInBounds a (cell.setSlot f.slot v)) (locs ++ [⟨a, f.slot⟩]) cells slots Q (F0 m (pc + 3) lsr rest) := by
    refine kk _ ?_ ?_ ?_
    · simp [Array.getElem?_setIfInBounds, ha]
    · simp
    · intro q hq
      simp [Array.getElem?_setIfInBounds, Ne.symm hq]
  rcases hlink with hk | ⟨host, hk⟩
  · exact W.putf hx hb hown hk hi hst hfin hcell (by rw [hvm]; exact fun z => by cases z) hlt hnarrow (by rw [hvm]; exact hfit) rfl rfl hdg k2
  · exact va_Wputf hx hb hown hk hi hst hfin hcell (by rw [hvm]; exact fun z => by cases z) hlt hnarrow (by rw [hvm]; exact hfit) rfl rfl hdg k2
/-- a field is read -/
theorem sh_getf {x jn a : Nat} {r : vw_C} {q2 : List Value} {rs : List AV} {own ref : String} {idx : Nat} (hx : p.tables.exec = Jvm.exec) (hb : c.code = cc) (hdg : decode cc pc = .ok (.getfield idx, 3)) (hown : s.vm.findClass own = some m.cls) (hC : ClsAt s args D x r) (hr : bc_cls x = some r) (hj : jn < r.2.2) (hx40 : x ≤ 40) (hx0 : x ≠ 0) (hk : hK h a = x)
    (hlink : FLs s args own idx ref (r.2.1 jn).2.1 (r.2.1 jn).2.2.1) (hsame : ∀ y, s.fieldFound? (r.2.1 jn).1 (r.2.1 jn).2.1 (r.2.1 jn).2.2.1 = some y → s.fieldFound? ref (r.2.1 jn).2.1 (r.2.1 jn).2.2.1 = some y)
    (hh : HR s0 D σ h H) (hlo : ∀ q ∈ locs, s0.heap.size ≤ q.base) (hl : LR s0.heap.size σ ls nL lsr) (hs : SR s0.heap.size σ rs q2) (K : KH p l e R s m args below meth c Q s0 D σ nL h cells slots (pc + 3) ls (bc_rd h a (jn : Int) (bc_tcode (r.2.1 jn).2.2.1) :: rs)) : W p l e R s m args below meth c H locs cells slots Q (F0 m pc lsr (rhoV s0.heap.size σ a :: q2)) := by
  obtain ⟨q, cell, r', a1, a2, a3, a4, a5, a6⟩ := (hh.2.2.2.1 a (by rw [hk]; exact hx0)).1 (by rw [hk]; exact hx40)
  rw [hk] at a3 a4 a6
  cases hr.symm.trans a3
  obtain ⟨v, b1, b2⟩ := a6 jn hj
  obtain ⟨⟨hS, hfc, kC, hkC, hkind⟩, hws, -⟩ := hC
  obtain ⟨cf, kf, fi, f, hi, hsl⟩ := hS jn hj
  rw [a1]
  refine W_getf hx hb hown hlink (hsame _ hi) (u_facts hfc hkC (u_lays (ws := u_ws r.1 r.2.1 r.2.2) hws (fun _ z => z) hj) hi).1 a2 (by rw [a5]; exact fun z => by cases z) (by rw [hsl]; exact b1) hdg (K _ _ _ _ hh hlo hl ⟨b2, hs⟩)
/-- a field is written -/
theorem sh_putf {x jn a : Nat} {r : vw_C} {q2 : List Value} {rs : List AV} {own ref : String} {idx : Nat} {v : Value} {y : AV} (hσ : SpOk s0.heap.size σ) (hx : p.tables.exec = Jvm.exec) (hb : c.code = cc) (hdg : decode cc pc = .ok (.putfield idx, 3)) (hown : s.vm.findClass own = some m.cls) (hC : ClsAt s args D x r) (hr : bc_cls x = some r) (hj : jn < r.2.2) (hx40 : x ≤ 40) (hx0 : x ≠ 0) (hx24 : x ≠ 24) (hk : hK h a = x)
    (hlink : FLs s args own idx ref (r.2.1 jn).2.1 (r.2.1 jn).2.2.1) (hsame : ∀ y, s.fieldFound? (r.2.1 jn).1 (r.2.1 jn).2.1 (r.2.1 jn).2.2.1 = some y → s.fieldFound? ref (r.2.1 jn).2.1 (r.2.1 jn).2.2.1 = some y)
    (hfin : (r.2.1 jn).2.2.2 = false ∨ ((r.2.1 jn).2.2.2 = true ∧ (r.2.1 jn).1 = own ∧ meth.name = "<init>"))
    (hv : VR s0.heap.size σ y v) (hw : bc_wr h a (jn : Int) (bc_tcode (r.2.1 jn).2.2.1) y = some h')
    (hh : HR s0 D σ h H) (hlo : ∀ q ∈ locs, s0.heap.size ≤ q.base) (hl : LR s0.heap.size σ ls nL lsr) (hs : SR s0.heap.size σ rs q2) (K : KH p l e R s m args below meth c Q s0 D σ nL h' cells slots (pc + 3) ls rs) : W p l e R s m args below meth c H locs cells slots Q (F0 m pc lsr (v :: rhoV s0.heap.size σ a :: q2)) := by
  have ha : 16 ≤ a := hh.hi (by omega) (by omega) (by omega) (by omega) (by omega)
  obtain ⟨q, cell, r', a1, a2, a3, a4, a5, a6⟩ := (hh.2.2.2.1 a (by rw [hk]; exact hx0)).1 (by rw [hk]; exact hx40)
  rw [hk] at a3 a4 a6
  cases hr.symm.trans a3
  have eq : q = s0.heap.size + (a - 16) := by rw [rho_hi ha] at a1; cases a1; rfl
  obtain ⟨⟨hS, hfc, kC, hkC, hkind⟩, hws, ⟨ty, hty⟩, hnm⟩ := hC
  obtain ⟨cf, kf, fi, f, hi, hsl⟩ := hS jn hj
  have hlays := u_lays (ws := u_ws r.1 r.2.1 r.2.2) hws (fun _ z => z) hj
  have hlay := hws _ (u_in_lay hj)
  obtain ⟨ht1, ht2⟩ := hty jn hj
  have hst := (u_facts hfc hkC hlays hi).1
  -- what is written fits
  have hnf : narrow (ty jn) v = v ∧ fits (ty jn) v = true := wr_fits ht2 hv hw
  obtain ⟨hf1, hf2⟩ := u_fits hfc hkC hkind hlays hi ht1 hnf.1 hnf.2
  have hfinal : hasFlag f.accessFlags Acc.final = false ∨ (m.cls = cf ∧ meth.name = "<init>") := by
    rcases hfin with z | ⟨z1, z2, z3⟩
    · unfold u_lay at hlay
      rw [if_neg (by rw [z]; decide)] at hlay
      exact Or.inl (u_store hfc hkC hkind hlay hi ht1 hnf.1 hnf.2).1
    · unfold u_lay at hlay
      rw [if_pos z1] at hlay
      refine Or.inr ⟨?_, z3⟩
      obtain ⟨_, _, c', _, _, _, -, -, hf', -, -, -, hown2, -⟩ := Cond.laysFinal_spec hlay
      have e1 : c' = cf := by have := hi.symm.trans hf'; simp at this; exact this.1.symm
      rw [z2] at hown2
      rw [← e1]
      exact Option.some.inj (hown.symm.trans hown2)
  have hlt : D.2 x jn < cell.slots.size := by
    obtain ⟨w, b1, -⟩ := a6 jn hj
    exact (Array.getElem?_eq_some_iff.mp b1).1
  rw [a1]
  refine W_putf hx hb hown hlink (hsame _ hi) hst hfinal a2 a5 (by rw [hsl]; exact hlt) hf1 (by rw [a4]; exact hf2) hdg (fun H' e1 e2 e3 => K _ _ _ _ ?_ ?_ hl hs)
  · rw [hsl] at e1
    refine hh.upd hσ ha (wr_N hw) (wr_K hw) (wr_L hw) (wr_I hw) (wr_R hw) e2 (fun q1 hq1 => e3 q1 (by rw [eq]; exact hq1)) ?_
    unfold CR
    rw [wr_K hw, hk]
    refine ⟨fun _ => ⟨q, cell.setSlot (D.2 x jn) v, r, a1, e1, hr, a4, a5, fun i hi2 => ?_⟩, fun z => absurd z (by omega)⟩
    rw [setSlot_get hlt]
    by_cases ei : i = jn
    · subst ei
      rw [if_pos rfl]
      exact ⟨v, rfl, by rw [wr_same hw]; exact hv⟩
    · obtain ⟨w, b1, b2⟩ := a6 i hi2
      have hne : D.2 x i ≠ D.2 x jn := by
        obtain ⟨_, _, _, fa, hia, ea⟩ := hS i hi2
        rw [← ea, ← hsl]
        refine u_apart (u_lays (ws := u_ws r.1 r.2.1 r.2.2) hws (fun _ z => z) hi2) hlays hia hi ?_
        rw [(State.fieldFound?_type hia (hty i hi2).1).1, (State.fieldFound?_type hi ht1).1]
        exact hnm i hi2 jn hj ei
      rw [if_neg hne]
      refine ⟨w, b1, ?_⟩
      rw [wr_other hw (by omega)]
      exact b2
  · intro q1 hq1
    rcases List.mem_append.mp hq1 with z1 | z1
    · exact hlo q1 z1
    · rw [List.mem_singleton] at z1
      subst z1
      show s0.heap.size ≤ q
      omega
end SF
end
section
/-! ===== NEW OBJECTS AND ARRAYS ===== -/
section SNW
variable {p : Program} {l : Launch} {e : Env} {R : Room} {s : State} {m : MethodId} {args : Array Value} {below : List Frame} {meth : Method} {c : Code} {H : Heap} {locs : List Loc} {cells slots : Nat} {Q : State → Prop} {s0 : State} {D : va_G} {σ : Nat → Value} {nL : Nat}
variable {cc : ByteArray} {pc len pc' k : Nat} {ls ls' st st' : List AV} {h h' : AH} {lsr : Array Slot} {sr : List Value}
def bc_z (t : Nat) : AV := match t with
  | 3 => vJ 0
  | 4 => vR 0
  | _ => vI 0
theorem rd_zero {t : Nat} {a : Nat} {j : Int} (eI : gI h a j = 0) (eR : gR h a j = 0) : bc_rd h a j t = bc_z t := by
  match t with
  | 3 => show vJ (gI h a j) = _; rw [eI]; rfl
  | 4 => show vR (gR h a j) = _; rw [eR]; rfl
  | 0 => show vI (gI h a j) = _; rw [eI]; rfl
  | 1 => show vI (gI h a j) = _; rw [eI]; rfl
  | 2 => show vI (gI h a j) = _; rw [eI]; rfl
  | x + 5 => show vI (gI h a j) = _; rw [eI]; rfl
theorem VR_dflt {B : Nat} {t : Nat} {ty : FieldType} (ht : okTy t ty = true) : VR B σ (bc_z t) (defaultValue ty) := by
  match t, ty with
  | 0, .int => exact ⟨0, rfl, rfl⟩
  | 1, .boolean => exact ⟨0, rfl, rfl⟩
  | 2, .byte => exact ⟨0, rfl, rfl⟩
  | 3, .long => exact ⟨0, rfl, rfl⟩
  | 4, .object _ => exact ⟨rfl, Or.inl rfl⟩
  | 4, .array _ => exact ⟨rfl, Or.inl rfl⟩
theorem nw_I {x u : Nat} {n j : Int} : gI (nw h x n u) (hN h) j = 0 := by
  show (if h.1 = h.1 then (0 : Int) else _) = 0
  rw [if_pos rfl]
theorem nw_R {x u : Nat} {n j : Int} : gR (nw h x n u) (hN h) j = 0 := by
  show (if h.1 = h.1 then (0 : Nat) else _) = 0
  rw [if_pos rfl]
theorem nw_K {x u : Nat} {n : Int} : hK (nw h x n u) (hN h) = x := by
  show (if h.1 = h.1 then x else _) = x
  rw [if_pos rfl]
theorem rho_new (hh : HR s0 D σ h H) : rhoV s0.heap.size σ (hN h) = .ref H.size := by
  rw [rho_hi hh.1]
  have := hh.2.1
  have := hh.1
  have e9 : s0.heap.size + (hN h - 16) = H.size := by omega
  rw [e9]
/-- an object is made -/
theorem sh_new {x : Nat} {r : vw_C} {own : String} {idx N : Nat} (hσ : SpOk s0.heap.size σ) (hx : p.tables.exec = Jvm.exec) (hb : c.code = cc) (hdg : decode cc pc = .ok (.new idx, 3)) (hown : s.vm.findClass own = some m.cls) (hC : ClsAt s args D x r) (hr : bc_cls x = some r) (hx40 : x ≤ 40)
    (hcl : (Cond.classLink own idx r.1).before args s = true) (hinst : (Cond.instantiable r.1 N).before args s = true) (hini : (Cond.initialized r.1).before args s = true) (hcells : cells + 1 ≤ R.cells) (hslots : slots + N ≤ R.slots)
    (hh : HR s0 D σ h H) (hlo : ∀ q ∈ locs, s0.heap.size ≤ q.base) (hl : LR s0.heap.size σ ls nL lsr) (hs : SR s0.heap.size σ st sr) (K : KH p l e R s m args below meth c Q s0 D σ nL (nw h x 0 N) (cells + 1) (slots + N) (pc + 3) ls (vR (hN h) :: st)) : W p l e R s m args below meth c H locs cells slots Q (F0 m pc lsr sr) := by
  obtain ⟨hKn, hws, ⟨ty, hty⟩, hnm⟩ := hC
  refine W.newc hx hb hown hcl hinst hini rfl hdg hcells hslots (fun cC kC hfc hkC hkind hsz => ?_)
  have ecC : cC = D.1 x := Option.some.inj (hfc.symm.trans hKn.2.1)
  subst ecC
  have hcell : (H.push { cls := D.1 x, slots := kC.instanceTypes.map defaultValue, vm := .none })[H.size]? = some (blank (D.1 x) kC) := by
    rw [Array.getElem?_push, if_pos rfl]
    rfl
  obtain ⟨cell, g1, g2, g3, g4⟩ := u_born ty (ws := u_ws r.1 r.2.1 r.2.2) hws (fun _ z => z) hKn hkC hcell (fun k hk => (hty k hk).1)
  refine K _ _ _ _ (hh.push hσ ?_) hlo hl ⟨⟨by rw [rho_new hh], Or.inr ⟨_, rfl⟩⟩, hs⟩
  unfold CR
  rw [nw_K]
  refine ⟨fun _ => ⟨H.size, cell, r, rho_new hh, g1, hr, g2, g3, fun j hj => ⟨_, g4 j hj, ?_⟩⟩, fun z => absurd z (by omega)⟩
  rw [rd_zero nw_I nw_R]
  exact VR_dflt (hty j hj).2
/-- an array of numbers is made -/
theorem sh_newa {x : Nat} {n : Int32} {q : List Value} {r : List AV} {atype : ArrayType} (hσ : SpOk s0.heap.size σ) (hal : s0.vm.Alike s.vm) (hx : p.tables.exec = Jvm.exec) (hb : c.code = cc) (hdg : decode cc pc = .ok (.newarray atype, 2)) (hty : newarray.typeOf atype = bc_aty x) (hx1 : 101 ≤ x) (hx2 : x ≤ 104) (harr : (Cond.arrayClass (newarray.typeOf atype)).before args s = true) (h0 : 0 ≤ n.toInt) (h1 : n.toInt ≤ 100000) (hcells : cells + 1 ≤ R.cells) (hslots : slots + n.toInt.toNat ≤ R.slots)
    (hh : HR s0 D σ h H) (hlo : ∀ q ∈ locs, s0.heap.size ≤ q.base) (hl : LR s0.heap.size σ ls nL lsr) (hs : SR s0.heap.size σ r q) (K : KH p l e R s m args below meth c Q s0 D σ nL (nw h x n.toInt n.toInt.toNat) (cells + 1) (slots + n.toInt.toNat) (pc + 2) ls (vR (hN h) :: r)) : W p l e R s m args below meth c H locs cells slots Q (F0 m pc lsr (.int n :: q)) := by
  have en : n.toNatClampNeg = n.toInt.toNat := rfl
  have hx3 : x = 101 ∨ x = 102 ∨ x = 103 ∨ x = 104 := by omega
  have hbytes : n.toNatClampNeg * componentBytes (newarray.typeOf atype) ≤ 536870912 := by
    have : componentBytes (newarray.typeOf atype) ≤ 8 := by
      rw [hty]
      rcases hx3 with rfl | rfl | rfl | rfl <;> decide
    have h2 : n.toNatClampNeg ≤ 100000 := by rw [en]; omega
    calc n.toNatClampNeg * componentBytes (newarray.typeOf atype) ≤ 100000 * 8 := Nat.mul_le_mul h2 this
      _ ≤ 536870912 := by decide
  refine W.newa hx hb harr rfl hdg rfl (fun z => ?_) hbytes hcells hslots (fun cA kA comp hfc hkA hkind => ?_)
  · rw [Int32.lt_iff_toInt_lt] at z
    have : (0 : Int32).toInt = 0 := rfl
    omega
  refine K _ _ _ _ (hh.push hσ ?_) hlo hl ⟨⟨by rw [rho_new hh], Or.inr ⟨_, rfl⟩⟩, hs⟩
  rw [hty] at hfc hkind ⊢
  refine AR_new (fun slots => State.isArrayOf_alike hal.symm ⟨(fun _ z => by cases z), kA, hkA, comp, hkind⟩) ?_ (by rw [en]; exact (Int.toNat_of_nonneg h0).symm) (by rw [en]; omega) ?_ hh (by omega)
  · refine va_RA.moved hal.symm ?_
    rcases hx3 with rfl | rfl | rfl | rfl <;> exact hfc
  · rcases hx3 with rfl | rfl | rfl | rfl <;> exact ⟨0, rfl, rfl⟩
end SNW
end
section
/-! ===== A CALL, WHATEVER ITS OUTCOME, IN THE WALK ===== -/
/-- a machine that has thrown q over the frame g comes to Q -/
def WT (p : Program) (l : Launch) (e : Env) (R : Room) (s : State) (m : MethodId) (args : Array Value) (below : List Frame) (meth : Method) (c : Code) (H : Heap) (locs : List Loc) (cells slots : Nat) (Q : State → Prop) (g : JFrame) (q : Addr) : Prop :=
  ∀ T : State, T.heap = H → Stand p l e R s m args below meth c T locs cells slots → ∃ t, Steps p.tables e below ((T.setTop g).pushFrame (.throwing q)) t ∧ Q t
section SCW
variable {p : Program} {l : Launch} {e : Env} {R : Room} {s : State} {m : MethodId} {args : Array Value} {below : List Frame} {meth : Method} {c : Code} {H : Heap} {locs : List Loc} {cells slots : Nat} {Q : State → Prop}
theorem W_callT {y : MethodName} {bytes : ByteArray} {maxL : Nat} {ret : Option FieldType} {rm : Room} {Pc : Array Value → State → Prop} {Qc : Array Value → State → Outcome → State → Prop} {mc ms : Nat} {free : Addr → Prop} {w : Cond} {as rest : List Value} {g : JFrame} {ig : Instr} {len : Nat}
    (hM : MetT l y [w] rm Pc Qc mc ms free) (hrc : rm.cells = mc) (hrs : rm.slots = ms) (hframes : rm.frames + 1 ≤ R.frames) (hlocals : 8 + (maxL + 11) + rm.locals ≤ R.locals)
    (hinv : ∀ T : State, T.heap = H → Stand p l e R s m args below meth c T locs cells slots → InvStep p l e R s m args below meth c T locs cells slots g rest y as)
    (hg : g.method = m) (hsize : g.locals.size = c.maxLocals) (hdg : decode c.code g.pc = .ok (ig, len)) (hW : 2 * g.monitorRoom + (rest.map fun v => v.category).sum ≤ 8)
    (hw : ∀ (a : Array Value) (U : State), s.WarmedH U.vm → w.before a U = true) (hmax : ∀ (U : State) (mk : MethodId), s.WarmedH U.vm → U.methodNamed? y = some mk → ∃ (methY : Method) (cY : Code), U.vm.method? mk = some methY ∧ methY.code = some cY ∧ cY.maxLocals = maxL)
    (hini : ∀ (a : Array Value) (U : State), s.WarmedH U.vm → (Cond.initialized y.cls).before a U = true) (hc0 : cells + mc ≤ R.cells) (hs0 : slots + ms ≤ R.slots) (hP : ∀ U : State, U.heap = H → s.WarmedH U.vm → ∀ (g : JFrame) (mk : MethodId), Pc as.toArray (U.calling g mk as.toArray))
    (kk : ∀ (o : Outcome) (t : State) (H' : Heap) (L : List Loc) (st₀ : State), st₀.heap = H → t.heap = H' → s.WarmedH t.vm → (∀ q ∈ L, free q.base) → Qc as.toArray st₀ o t →
      match o with
      | .returned v => W p l e R s m args below meth c H' (locs ++ L) (cells + mc) (slots + ms) Q { g with pc := g.pc + len, stack := v.toList ++ rest }
      | .threw x => WT p l e R s m args below meth c H' (locs ++ L) (cells + mc) (slots + ms) Q { g with stack := rest } x) : W p l e R s m args below meth c H locs cells slots Q g := by
  intro T hT X
  obtain ⟨vm₁, mk, X₁, hnm, hstep⟩ := hinv T hT X
  have hW1 : s.WarmedH (T.setVm vm₁).vm := X₁.warmed
  obtain ⟨o, t, U', L, st₀, e0, X', hL, e1, e2, hq, hst⟩ := callT (maxL := maxL) hM hrc hrs hframes hlocals X₁ (g := { g with stack := rest }) (a := as.toArray) hg hsize hdg hW hnm
    (fun w' hw' => by rw [List.mem_singleton] at hw'; subst hw'; exact hw _ _ hW1) (hmax _ _ hW1 hnm) (hini _ _ hW1) hc0 hs0 (fun g' mk' => hP (T.setVm vm₁) hT hW1 g' mk')
  have hWt : s.WarmedH t.vm := by rw [← e2]; exact X'.warmed
  have k := kk o t U'.heap L st₀ (e0.trans hT) e1.symm hWt hL hq
  cases o with
  | returned v =>
    obtain ⟨t2, a1, b1⟩ := k U' rfl X'
    exact ⟨t2, hstep t2 (hst.trans a1), b1⟩
  | threw x =>
    obtain ⟨t2, a1, b1⟩ := k U' rfl X'
    exact ⟨t2, hstep t2 (hst.trans a1), b1⟩
/-- the instruction athrow -/
theorem W_athrow {cc : ByteArray} (hx : p.tables.exec = Jvm.exec) (hb : c.code = cc) {pc : Nat} {lsr : Array Slot} {q : Addr} {rest : List Value} (hdg : decode cc pc = .ok (.athrow, 1)) (kk : WT p l e R s m args below meth c H locs cells slots Q (F0 m pc lsr rest) q) : W p l e R s m args below meth c H locs cells slots Q (F0 m pc lsr (.ref q :: rest)) := by
  intro T hT X
  obtain ⟨t, a, b⟩ := kk T hT X
  refine ⟨t, ?_, b⟩
  jvm_step X.here [X.here.top, hx, hb, hdg, Op.athrow.wp_sem]
  exact a
/-- a throw that no handler of the method hears leaves it -/
theorem WT_leave {g : JFrame} {q : Addr} {Qc : Array Value → State → Outcome → State → Prop} {free : Addr → Prop} (hg : g.method = m) (hlk : g.locked = none) (hen : g.entered = []) (hout : ∀ x ∈ c.exceptionTable.toList, covers x g.pc = false) (hlocks : meth.locks = false)
    (hq : ∀ t : State, t.heap = H → s.WarmedH t.vm → Qc args s (.threw q) t) (hf : ∀ z ∈ locs, free z.base) : WT p l e R s m args below meth c H locs cells slots (fun t => ∃ o, t.status = .running ∧ Ended t below o ∧ Qc args s o t ∧ ∃ L, EndT s t L cells slots ∧ ∀ z ∈ L, free z.base) g q := by
  intro T hT X
  obtain ⟨h1, h2, h3, h4, h5⟩ := X.leaveThrown q (g := g) hg hlk hen hout hlocks
  exact ⟨_, h1, .threw q, h2, h3, hq _ hT h4, locs, ⟨h4, h5⟩, hf⟩
/-- a throw that a handler hears -/
theorem WT_catch {g : JFrame} {q : Addr} {pt : Nat} (hg : g.method = m) (hfind : ∀ T : State, T.heap = H → Stand p l e R s m args below meth c T locs cells slots → Finds e ((T.setTop g).pushFrame (.throwing q)) g q (.found pt)) (kk : W p l e R s m args below meth c H locs cells slots Q { g with pc := pt, stack := [.ref q] }) : WT p l e R s m args below meth c H locs cells slots Q g q := by
  intro T hT X
  obtain ⟨t, a, b⟩ := kk T hT X
  exact ⟨t, X.catchAt q hg (hfind T hT X) a, b⟩
end SCW
end
