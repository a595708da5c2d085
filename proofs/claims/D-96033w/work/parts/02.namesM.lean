/-! DECODE ROWS BY BYTES: one lemma an opcode; a method's code is cut into short pieces once, and a row reads its own piece alone. -/
set_option maxRecDepth 100000
/-- the code has just these bytes from pc on -/
def DkAt (code : ByteArray) (pc : Nat) (bs : List UInt8) : Prop := ∀ (j : Nat) (b : UInt8), bs[j]? = some b → code.data.toList[pc + j]? = some b
/-- the piece W has the bytes bs from its place j on -/
def dkIn (W : List UInt8) (j : Nat) (bs : List UInt8) : Bool := decide ((W.drop j).take bs.length = bs)
theorem dk_seg {l W T : List UInt8} {o o2 : Nat} (h : l.drop o = W ++ T) (n : Nat) (hn : W.length = n) (ho : o + n = o2) : l.drop o2 = T := by
  subst ho
  rw [← List.drop_drop, h, List.drop_left' hn]
theorem dk_at {code : ByteArray} {W T bs : List UInt8} {o pc : Nat} (h : code.data.toList.drop o = W ++ T) (j : Nat) (hp : o + j = pc) (hw : dkIn W j bs = true) : DkAt code pc bs := by
  subst hp
  intro i b e
  have h1 := of_decide_eq_true hw
  have h2 : i < bs.length := (List.getElem?_eq_some_iff.mp e).1
  have h3 : W[j + i]? = some b := by
    rw [← h1, List.getElem?_take, if_pos h2, List.getElem?_drop] at e
    exact e
  have h4 : j + i < W.length := (List.getElem?_eq_some_iff.mp h3).1
  have h5 : (code.data.toList.drop o)[j + i]? = some b := by
    rw [h, List.getElem?_append_left h4]
    exact h3
  rw [List.getElem?_drop, ← Nat.add_assoc] at h5
  exact h5
theorem dk_u1 {A : ByteArray} {p : Nat} {b : UInt8} (h : A.data.toList[p]? = some b) : (Reader.u1 : Reader DecodeError Nat) A p = .ok (b.toNat, p + 1) := by
  obtain ⟨h1, h2⟩ := List.getElem?_eq_some_iff.mp h
  have h3 : p < A.size := by simpa using h1
  have h4 : A[p]'h3 = b := h2
  have e : (Reader.u1 : Reader DecodeError Nat) A p = (if h : p < A.size then .ok (A[p].toNat, p + 1) else .error (HasTruncated.truncated p)) := by
    show (do if h : p < A.size then do set (p + 1); Pure.pure A[p].toNat else MonadExcept.throw (HasTruncated.truncated p) : Reader DecodeError Nat) A p = _
    by_cases hi : p < A.size
    · rw [dif_pos hi, dif_pos hi]; rfl
    · rw [dif_neg hi, dif_neg hi]; rfl
  rw [e, dif_pos h3, h4]
theorem dk_bind {α β : Type} {r : Reader DecodeError α} {f : α → Reader DecodeError β} {A : ByteArray} {p s : Nat} {a : α} (h : r A p = .ok (a, s)) : (r >>= f) A p = f a A s := by
  show (do let (a, s) ← r A p; f a A s : Except DecodeError (β × Nat)) = _
  rw [h]
  rfl
theorem dk_map {α β : Type} {r : Reader DecodeError α} {g : α → β} {A : ByteArray} {p s : Nat} {a : α} (h : r A p = .ok (a, s)) : (g <$> r) A p = .ok (g a, s) := by
  show (do let (a, s) ← r A p; .ok (g a, s) : Except DecodeError (β × Nat)) = _
  rw [h]
  rfl
theorem dk_u2 {A : ByteArray} {p : Nat} {a b : UInt8} (h : A.data.toList[p]? = some a) (h2 : A.data.toList[p + 1]? = some b) : (Reader.u2 : Reader DecodeError Nat) A p = .ok (a.toNat * 256 + b.toNat, p + 2) := by
  show (Reader.u1 >>= fun hi => Reader.u1 >>= fun lo => Pure.pure (hi * 256 + lo) : Reader DecodeError Nat) A p = _
  rw [dk_bind (dk_u1 h), dk_bind (dk_u1 h2)]
  rfl
theorem dk_of {code : ByteArray} {pc n : Nat} {i : Instr} (h : Decoder.instr pc code pc = .ok (i, pc + n)) : decode code pc = .ok (i, n) := by
  have e : decode code pc = (match Decoder.instr pc code pc with | .error x => .error x | .ok (j, s) => .ok (j, s - pc)) := by
    show (do let (j, s) ← Decoder.instr pc code pc; Pure.pure (j, s - pc) : Except DecodeError (Instr × Nat)) = _
    cases Decoder.instr pc code pc <;> rfl
  rw [e, h]
  show Except.ok (i, pc + n - pc) = _
  rw [Nat.add_sub_cancel_left]
theorem dk_1 {code : ByteArray} {pc : Nat} (h : DkAt code pc [1]) : decode code pc = .ok (.aconst_null, 1) := dk_of ((dk_bind (dk_u1 (h 0 _ rfl))).trans rfl)
theorem dk_2 {code : ByteArray} {pc : Nat} (h : DkAt code pc [2]) : decode code pc = .ok (.iconst (-1), 1) := dk_of ((dk_bind (dk_u1 (h 0 _ rfl))).trans rfl)
theorem dk_3 {code : ByteArray} {pc : Nat} (h : DkAt code pc [3]) : decode code pc = .ok (.iconst 0, 1) := dk_of ((dk_bind (dk_u1 (h 0 _ rfl))).trans rfl)
theorem dk_4 {code : ByteArray} {pc : Nat} (h : DkAt code pc [4]) : decode code pc = .ok (.iconst 1, 1) := dk_of ((dk_bind (dk_u1 (h 0 _ rfl))).trans rfl)
theorem dk_5 {code : ByteArray} {pc : Nat} (h : DkAt code pc [5]) : decode code pc = .ok (.iconst 2, 1) := dk_of ((dk_bind (dk_u1 (h 0 _ rfl))).trans rfl)
theorem dk_6 {code : ByteArray} {pc : Nat} (h : DkAt code pc [6]) : decode code pc = .ok (.iconst 3, 1) := dk_of ((dk_bind (dk_u1 (h 0 _ rfl))).trans rfl)
theorem dk_7 {code : ByteArray} {pc : Nat} (h : DkAt code pc [7]) : decode code pc = .ok (.iconst 4, 1) := dk_of ((dk_bind (dk_u1 (h 0 _ rfl))).trans rfl)
theorem dk_8 {code : ByteArray} {pc : Nat} (h : DkAt code pc [8]) : decode code pc = .ok (.iconst 5, 1) := dk_of ((dk_bind (dk_u1 (h 0 _ rfl))).trans rfl)
theorem dk_9 {code : ByteArray} {pc : Nat} (h : DkAt code pc [9]) : decode code pc = .ok (.lconst 0, 1) := dk_of ((dk_bind (dk_u1 (h 0 _ rfl))).trans rfl)
theorem dk_10 {code : ByteArray} {pc : Nat} (h : DkAt code pc [10]) : decode code pc = .ok (.lconst 1, 1) := dk_of ((dk_bind (dk_u1 (h 0 _ rfl))).trans rfl)
theorem dk_16 {code : ByteArray} {pc : Nat} (a : UInt8) (h : DkAt code pc [16, a]) : decode code pc = .ok (.bipush (Reader.signed 8 a.toNat), 2) := dk_of ((dk_bind (dk_u1 (h 0 _ rfl))).trans ((dk_bind (dk_map (dk_u1 (h 1 _ rfl)))).trans rfl))
theorem dk_17 {code : ByteArray} {pc : Nat} (a b : UInt8) (h : DkAt code pc [17, a, b]) : decode code pc = .ok (.sipush (Reader.signed 16 (a.toNat * 256 + b.toNat)), 3) := dk_of ((dk_bind (dk_u1 (h 0 _ rfl))).trans ((dk_bind (dk_map (dk_u2 (h 1 _ rfl) (h 2 _ rfl)))).trans rfl))
theorem dk_18 {code : ByteArray} {pc : Nat} (a : UInt8) (h : DkAt code pc [18, a]) : decode code pc = .ok (.ldc a.toNat, 2) := dk_of ((dk_bind (dk_u1 (h 0 _ rfl))).trans ((dk_bind (dk_u1 (h 1 _ rfl))).trans rfl))
theorem dk_19 {code : ByteArray} {pc : Nat} (a b : UInt8) (h : DkAt code pc [19, a, b]) : decode code pc = .ok (.ldc_w (a.toNat * 256 + b.toNat), 3) := dk_of ((dk_bind (dk_u1 (h 0 _ rfl))).trans ((dk_bind (dk_u2 (h 1 _ rfl) (h 2 _ rfl))).trans rfl))
theorem dk_20 {code : ByteArray} {pc : Nat} (a b : UInt8) (h : DkAt code pc [20, a, b]) : decode code pc = .ok (.ldc2_w (a.toNat * 256 + b.toNat), 3) := dk_of ((dk_bind (dk_u1 (h 0 _ rfl))).trans ((dk_bind (dk_u2 (h 1 _ rfl) (h 2 _ rfl))).trans rfl))
theorem dk_21 {code : ByteArray} {pc : Nat} (a : UInt8) (h : DkAt code pc [21, a]) : decode code pc = .ok (.iload a.toNat, 2) := dk_of ((dk_bind (dk_u1 (h 0 _ rfl))).trans ((dk_bind (dk_u1 (h 1 _ rfl))).trans rfl))
theorem dk_22 {code : ByteArray} {pc : Nat} (a : UInt8) (h : DkAt code pc [22, a]) : decode code pc = .ok (.lload a.toNat, 2) := dk_of ((dk_bind (dk_u1 (h 0 _ rfl))).trans ((dk_bind (dk_u1 (h 1 _ rfl))).trans rfl))
theorem dk_25 {code : ByteArray} {pc : Nat} (a : UInt8) (h : DkAt code pc [25, a]) : decode code pc = .ok (.aload a.toNat, 2) := dk_of ((dk_bind (dk_u1 (h 0 _ rfl))).trans ((dk_bind (dk_u1 (h 1 _ rfl))).trans rfl))
theorem dk_26 {code : ByteArray} {pc : Nat} (h : DkAt code pc [26]) : decode code pc = .ok (.iload_n 0, 1) := dk_of ((dk_bind (dk_u1 (h 0 _ rfl))).trans rfl)
theorem dk_27 {code : ByteArray} {pc : Nat} (h : DkAt code pc [27]) : decode code pc = .ok (.iload_n 1, 1) := dk_of ((dk_bind (dk_u1 (h 0 _ rfl))).trans rfl)
theorem dk_28 {code : ByteArray} {pc : Nat} (h : DkAt code pc [28]) : decode code pc = .ok (.iload_n 2, 1) := dk_of ((dk_bind (dk_u1 (h 0 _ rfl))).trans rfl)
theorem dk_29 {code : ByteArray} {pc : Nat} (h : DkAt code pc [29]) : decode code pc = .ok (.iload_n 3, 1) := dk_of ((dk_bind (dk_u1 (h 0 _ rfl))).trans rfl)
theorem dk_30 {code : ByteArray} {pc : Nat} (h : DkAt code pc [30]) : decode code pc = .ok (.lload_n 0, 1) := dk_of ((dk_bind (dk_u1 (h 0 _ rfl))).trans rfl)
theorem dk_31 {code : ByteArray} {pc : Nat} (h : DkAt code pc [31]) : decode code pc = .ok (.lload_n 1, 1) := dk_of ((dk_bind (dk_u1 (h 0 _ rfl))).trans rfl)
theorem dk_32 {code : ByteArray} {pc : Nat} (h : DkAt code pc [32]) : decode code pc = .ok (.lload_n 2, 1) := dk_of ((dk_bind (dk_u1 (h 0 _ rfl))).trans rfl)
theorem dk_33 {code : ByteArray} {pc : Nat} (h : DkAt code pc [33]) : decode code pc = .ok (.lload_n 3, 1) := dk_of ((dk_bind (dk_u1 (h 0 _ rfl))).trans rfl)
theorem dk_42 {code : ByteArray} {pc : Nat} (h : DkAt code pc [42]) : decode code pc = .ok (.aload_n 0, 1) := dk_of ((dk_bind (dk_u1 (h 0 _ rfl))).trans rfl)
theorem dk_43 {code : ByteArray} {pc : Nat} (h : DkAt code pc [43]) : decode code pc = .ok (.aload_n 1, 1) := dk_of ((dk_bind (dk_u1 (h 0 _ rfl))).trans rfl)
theorem dk_44 {code : ByteArray} {pc : Nat} (h : DkAt code pc [44]) : decode code pc = .ok (.aload_n 2, 1) := dk_of ((dk_bind (dk_u1 (h 0 _ rfl))).trans rfl)
theorem dk_45 {code : ByteArray} {pc : Nat} (h : DkAt code pc [45]) : decode code pc = .ok (.aload_n 3, 1) := dk_of ((dk_bind (dk_u1 (h 0 _ rfl))).trans rfl)
theorem dk_46 {code : ByteArray} {pc : Nat} (h : DkAt code pc [46]) : decode code pc = .ok (.iaload, 1) := dk_of ((dk_bind (dk_u1 (h 0 _ rfl))).trans rfl)
theorem dk_47 {code : ByteArray} {pc : Nat} (h : DkAt code pc [47]) : decode code pc = .ok (.laload, 1) := dk_of ((dk_bind (dk_u1 (h 0 _ rfl))).trans rfl)
theorem dk_50 {code : ByteArray} {pc : Nat} (h : DkAt code pc [50]) : decode code pc = .ok (.aaload, 1) := dk_of ((dk_bind (dk_u1 (h 0 _ rfl))).trans rfl)
theorem dk_51 {code : ByteArray} {pc : Nat} (h : DkAt code pc [51]) : decode code pc = .ok (.baload, 1) := dk_of ((dk_bind (dk_u1 (h 0 _ rfl))).trans rfl)
theorem dk_53 {code : ByteArray} {pc : Nat} (h : DkAt code pc [53]) : decode code pc = .ok (.saload, 1) := dk_of ((dk_bind (dk_u1 (h 0 _ rfl))).trans rfl)
theorem dk_54 {code : ByteArray} {pc : Nat} (a : UInt8) (h : DkAt code pc [54, a]) : decode code pc = .ok (.istore a.toNat, 2) := dk_of ((dk_bind (dk_u1 (h 0 _ rfl))).trans ((dk_bind (dk_u1 (h 1 _ rfl))).trans rfl))
theorem dk_55 {code : ByteArray} {pc : Nat} (a : UInt8) (h : DkAt code pc [55, a]) : decode code pc = .ok (.lstore a.toNat, 2) := dk_of ((dk_bind (dk_u1 (h 0 _ rfl))).trans ((dk_bind (dk_u1 (h 1 _ rfl))).trans rfl))
theorem dk_58 {code : ByteArray} {pc : Nat} (a : UInt8) (h : DkAt code pc [58, a]) : decode code pc = .ok (.astore a.toNat, 2) := dk_of ((dk_bind (dk_u1 (h 0 _ rfl))).trans ((dk_bind (dk_u1 (h 1 _ rfl))).trans rfl))
theorem dk_59 {code : ByteArray} {pc : Nat} (h : DkAt code pc [59]) : decode code pc = .ok (.istore_n 0, 1) := dk_of ((dk_bind (dk_u1 (h 0 _ rfl))).trans rfl)
theorem dk_60 {code : ByteArray} {pc : Nat} (h : DkAt code pc [60]) : decode code pc = .ok (.istore_n 1, 1) := dk_of ((dk_bind (dk_u1 (h 0 _ rfl))).trans rfl)
theorem dk_61 {code : ByteArray} {pc : Nat} (h : DkAt code pc [61]) : decode code pc = .ok (.istore_n 2, 1) := dk_of ((dk_bind (dk_u1 (h 0 _ rfl))).trans rfl)
theorem dk_62 {code : ByteArray} {pc : Nat} (h : DkAt code pc [62]) : decode code pc = .ok (.istore_n 3, 1) := dk_of ((dk_bind (dk_u1 (h 0 _ rfl))).trans rfl)
theorem dk_64 {code : ByteArray} {pc : Nat} (h : DkAt code pc [64]) : decode code pc = .ok (.lstore_n 1, 1) := dk_of ((dk_bind (dk_u1 (h 0 _ rfl))).trans rfl)
theorem dk_65 {code : ByteArray} {pc : Nat} (h : DkAt code pc [65]) : decode code pc = .ok (.lstore_n 2, 1) := dk_of ((dk_bind (dk_u1 (h 0 _ rfl))).trans rfl)
theorem dk_66 {code : ByteArray} {pc : Nat} (h : DkAt code pc [66]) : decode code pc = .ok (.lstore_n 3, 1) := dk_of ((dk_bind (dk_u1 (h 0 _ rfl))).trans rfl)
theorem dk_76 {code : ByteArray} {pc : Nat} (h : DkAt code pc [76]) : decode code pc = .ok (.astore_n 1, 1) := dk_of ((dk_bind (dk_u1 (h 0 _ rfl))).trans rfl)
theorem dk_77 {code : ByteArray} {pc : Nat} (h : DkAt code pc [77]) : decode code pc = .ok (.astore_n 2, 1) := dk_of ((dk_bind (dk_u1 (h 0 _ rfl))).trans rfl)
theorem dk_78 {code : ByteArray} {pc : Nat} (h : DkAt code pc [78]) : decode code pc = .ok (.astore_n 3, 1) := dk_of ((dk_bind (dk_u1 (h 0 _ rfl))).trans rfl)
theorem dk_79 {code : ByteArray} {pc : Nat} (h : DkAt code pc [79]) : decode code pc = .ok (.iastore, 1) := dk_of ((dk_bind (dk_u1 (h 0 _ rfl))).trans rfl)
theorem dk_80 {code : ByteArray} {pc : Nat} (h : DkAt code pc [80]) : decode code pc = .ok (.lastore, 1) := dk_of ((dk_bind (dk_u1 (h 0 _ rfl))).trans rfl)
theorem dk_83 {code : ByteArray} {pc : Nat} (h : DkAt code pc [83]) : decode code pc = .ok (.aastore, 1) := dk_of ((dk_bind (dk_u1 (h 0 _ rfl))).trans rfl)
theorem dk_84 {code : ByteArray} {pc : Nat} (h : DkAt code pc [84]) : decode code pc = .ok (.bastore, 1) := dk_of ((dk_bind (dk_u1 (h 0 _ rfl))).trans rfl)
theorem dk_86 {code : ByteArray} {pc : Nat} (h : DkAt code pc [86]) : decode code pc = .ok (.sastore, 1) := dk_of ((dk_bind (dk_u1 (h 0 _ rfl))).trans rfl)
theorem dk_87 {code : ByteArray} {pc : Nat} (h : DkAt code pc [87]) : decode code pc = .ok (.pop, 1) := dk_of ((dk_bind (dk_u1 (h 0 _ rfl))).trans rfl)
theorem dk_89 {code : ByteArray} {pc : Nat} (h : DkAt code pc [89]) : decode code pc = .ok (.dup, 1) := dk_of ((dk_bind (dk_u1 (h 0 _ rfl))).trans rfl)
theorem dk_92 {code : ByteArray} {pc : Nat} (h : DkAt code pc [92]) : decode code pc = .ok (.dup2, 1) := dk_of ((dk_bind (dk_u1 (h 0 _ rfl))).trans rfl)
theorem dk_96 {code : ByteArray} {pc : Nat} (h : DkAt code pc [96]) : decode code pc = .ok (.iadd, 1) := dk_of ((dk_bind (dk_u1 (h 0 _ rfl))).trans rfl)
theorem dk_97 {code : ByteArray} {pc : Nat} (h : DkAt code pc [97]) : decode code pc = .ok (.ladd, 1) := dk_of ((dk_bind (dk_u1 (h 0 _ rfl))).trans rfl)
theorem dk_100 {code : ByteArray} {pc : Nat} (h : DkAt code pc [100]) : decode code pc = .ok (.isub, 1) := dk_of ((dk_bind (dk_u1 (h 0 _ rfl))).trans rfl)
theorem dk_101 {code : ByteArray} {pc : Nat} (h : DkAt code pc [101]) : decode code pc = .ok (.lsub, 1) := dk_of ((dk_bind (dk_u1 (h 0 _ rfl))).trans rfl)
theorem dk_104 {code : ByteArray} {pc : Nat} (h : DkAt code pc [104]) : decode code pc = .ok (.imul, 1) := dk_of ((dk_bind (dk_u1 (h 0 _ rfl))).trans rfl)
theorem dk_105 {code : ByteArray} {pc : Nat} (h : DkAt code pc [105]) : decode code pc = .ok (.lmul, 1) := dk_of ((dk_bind (dk_u1 (h 0 _ rfl))).trans rfl)
theorem dk_108 {code : ByteArray} {pc : Nat} (h : DkAt code pc [108]) : decode code pc = .ok (.idiv, 1) := dk_of ((dk_bind (dk_u1 (h 0 _ rfl))).trans rfl)
theorem dk_109 {code : ByteArray} {pc : Nat} (h : DkAt code pc [109]) : decode code pc = .ok (.ldiv, 1) := dk_of ((dk_bind (dk_u1 (h 0 _ rfl))).trans rfl)
theorem dk_112 {code : ByteArray} {pc : Nat} (h : DkAt code pc [112]) : decode code pc = .ok (.irem, 1) := dk_of ((dk_bind (dk_u1 (h 0 _ rfl))).trans rfl)
theorem dk_113 {code : ByteArray} {pc : Nat} (h : DkAt code pc [113]) : decode code pc = .ok (.lrem, 1) := dk_of ((dk_bind (dk_u1 (h 0 _ rfl))).trans rfl)
theorem dk_116 {code : ByteArray} {pc : Nat} (h : DkAt code pc [116]) : decode code pc = .ok (.ineg, 1) := dk_of ((dk_bind (dk_u1 (h 0 _ rfl))).trans rfl)
theorem dk_120 {code : ByteArray} {pc : Nat} (h : DkAt code pc [120]) : decode code pc = .ok (.ishl, 1) := dk_of ((dk_bind (dk_u1 (h 0 _ rfl))).trans rfl)
theorem dk_121 {code : ByteArray} {pc : Nat} (h : DkAt code pc [121]) : decode code pc = .ok (.lshl, 1) := dk_of ((dk_bind (dk_u1 (h 0 _ rfl))).trans rfl)
theorem dk_122 {code : ByteArray} {pc : Nat} (h : DkAt code pc [122]) : decode code pc = .ok (.ishr, 1) := dk_of ((dk_bind (dk_u1 (h 0 _ rfl))).trans rfl)
theorem dk_124 {code : ByteArray} {pc : Nat} (h : DkAt code pc [124]) : decode code pc = .ok (.iushr, 1) := dk_of ((dk_bind (dk_u1 (h 0 _ rfl))).trans rfl)
theorem dk_126 {code : ByteArray} {pc : Nat} (h : DkAt code pc [126]) : decode code pc = .ok (.iand, 1) := dk_of ((dk_bind (dk_u1 (h 0 _ rfl))).trans rfl)
theorem dk_127 {code : ByteArray} {pc : Nat} (h : DkAt code pc [127]) : decode code pc = .ok (.land, 1) := dk_of ((dk_bind (dk_u1 (h 0 _ rfl))).trans rfl)
theorem dk_128 {code : ByteArray} {pc : Nat} (h : DkAt code pc [128]) : decode code pc = .ok (.ior, 1) := dk_of ((dk_bind (dk_u1 (h 0 _ rfl))).trans rfl)
theorem dk_129 {code : ByteArray} {pc : Nat} (h : DkAt code pc [129]) : decode code pc = .ok (.lor, 1) := dk_of ((dk_bind (dk_u1 (h 0 _ rfl))).trans rfl)
theorem dk_130 {code : ByteArray} {pc : Nat} (h : DkAt code pc [130]) : decode code pc = .ok (.ixor, 1) := dk_of ((dk_bind (dk_u1 (h 0 _ rfl))).trans rfl)
theorem dk_132 {code : ByteArray} {pc : Nat} (a b : UInt8) (h : DkAt code pc [132, a, b]) : decode code pc = .ok (.iinc a.toNat (Reader.signed 8 b.toNat), 3) := dk_of ((dk_bind (dk_u1 (h 0 _ rfl))).trans ((dk_bind (dk_u1 (h 1 _ rfl))).trans ((dk_bind (dk_map (dk_u1 (h 2 _ rfl)))).trans rfl)))
theorem dk_133 {code : ByteArray} {pc : Nat} (h : DkAt code pc [133]) : decode code pc = .ok (.i2l, 1) := dk_of ((dk_bind (dk_u1 (h 0 _ rfl))).trans rfl)
theorem dk_136 {code : ByteArray} {pc : Nat} (h : DkAt code pc [136]) : decode code pc = .ok (.l2i, 1) := dk_of ((dk_bind (dk_u1 (h 0 _ rfl))).trans rfl)
theorem dk_145 {code : ByteArray} {pc : Nat} (h : DkAt code pc [145]) : decode code pc = .ok (.i2b, 1) := dk_of ((dk_bind (dk_u1 (h 0 _ rfl))).trans rfl)
theorem dk_146 {code : ByteArray} {pc : Nat} (h : DkAt code pc [146]) : decode code pc = .ok (.i2c, 1) := dk_of ((dk_bind (dk_u1 (h 0 _ rfl))).trans rfl)
theorem dk_147 {code : ByteArray} {pc : Nat} (h : DkAt code pc [147]) : decode code pc = .ok (.i2s, 1) := dk_of ((dk_bind (dk_u1 (h 0 _ rfl))).trans rfl)
theorem dk_148 {code : ByteArray} {pc : Nat} (h : DkAt code pc [148]) : decode code pc = .ok (.lcmp, 1) := dk_of ((dk_bind (dk_u1 (h 0 _ rfl))).trans rfl)
theorem dk_153 {code : ByteArray} {pc : Nat} (a b : UInt8) (h : DkAt code pc [153, a, b]) : decode code pc = .ok (.ifCond .eq (Reader.signed 16 (a.toNat * 256 + b.toNat)), 3) := dk_of ((dk_bind (dk_u1 (h 0 _ rfl))).trans ((dk_bind (dk_map (dk_u2 (h 1 _ rfl) (h 2 _ rfl)))).trans rfl))
theorem dk_154 {code : ByteArray} {pc : Nat} (a b : UInt8) (h : DkAt code pc [154, a, b]) : decode code pc = .ok (.ifCond .ne (Reader.signed 16 (a.toNat * 256 + b.toNat)), 3) := dk_of ((dk_bind (dk_u1 (h 0 _ rfl))).trans ((dk_bind (dk_map (dk_u2 (h 1 _ rfl) (h 2 _ rfl)))).trans rfl))
theorem dk_155 {code : ByteArray} {pc : Nat} (a b : UInt8) (h : DkAt code pc [155, a, b]) : decode code pc = .ok (.ifCond .lt (Reader.signed 16 (a.toNat * 256 + b.toNat)), 3) := dk_of ((dk_bind (dk_u1 (h 0 _ rfl))).trans ((dk_bind (dk_map (dk_u2 (h 1 _ rfl) (h 2 _ rfl)))).trans rfl))
theorem dk_156 {code : ByteArray} {pc : Nat} (a b : UInt8) (h : DkAt code pc [156, a, b]) : decode code pc = .ok (.ifCond .ge (Reader.signed 16 (a.toNat * 256 + b.toNat)), 3) := dk_of ((dk_bind (dk_u1 (h 0 _ rfl))).trans ((dk_bind (dk_map (dk_u2 (h 1 _ rfl) (h 2 _ rfl)))).trans rfl))
theorem dk_157 {code : ByteArray} {pc : Nat} (a b : UInt8) (h : DkAt code pc [157, a, b]) : decode code pc = .ok (.ifCond .gt (Reader.signed 16 (a.toNat * 256 + b.toNat)), 3) := dk_of ((dk_bind (dk_u1 (h 0 _ rfl))).trans ((dk_bind (dk_map (dk_u2 (h 1 _ rfl) (h 2 _ rfl)))).trans rfl))
theorem dk_158 {code : ByteArray} {pc : Nat} (a b : UInt8) (h : DkAt code pc [158, a, b]) : decode code pc = .ok (.ifCond .le (Reader.signed 16 (a.toNat * 256 + b.toNat)), 3) := dk_of ((dk_bind (dk_u1 (h 0 _ rfl))).trans ((dk_bind (dk_map (dk_u2 (h 1 _ rfl) (h 2 _ rfl)))).trans rfl))
theorem dk_159 {code : ByteArray} {pc : Nat} (a b : UInt8) (h : DkAt code pc [159, a, b]) : decode code pc = .ok (.if_icmp .eq (Reader.signed 16 (a.toNat * 256 + b.toNat)), 3) := dk_of ((dk_bind (dk_u1 (h 0 _ rfl))).trans ((dk_bind (dk_map (dk_u2 (h 1 _ rfl) (h 2 _ rfl)))).trans rfl))
theorem dk_160 {code : ByteArray} {pc : Nat} (a b : UInt8) (h : DkAt code pc [160, a, b]) : decode code pc = .ok (.if_icmp .ne (Reader.signed 16 (a.toNat * 256 + b.toNat)), 3) := dk_of ((dk_bind (dk_u1 (h 0 _ rfl))).trans ((dk_bind (dk_map (dk_u2 (h 1 _ rfl) (h 2 _ rfl)))).trans rfl))
theorem dk_161 {code : ByteArray} {pc : Nat} (a b : UInt8) (h : DkAt code pc [161, a, b]) : decode code pc = .ok (.if_icmp .lt (Reader.signed 16 (a.toNat * 256 + b.toNat)), 3) := dk_of ((dk_bind (dk_u1 (h 0 _ rfl))).trans ((dk_bind (dk_map (dk_u2 (h 1 _ rfl) (h 2 _ rfl)))).trans rfl))
theorem dk_162 {code : ByteArray} {pc : Nat} (a b : UInt8) (h : DkAt code pc [162, a, b]) : decode code pc = .ok (.if_icmp .ge (Reader.signed 16 (a.toNat * 256 + b.toNat)), 3) := dk_of ((dk_bind (dk_u1 (h 0 _ rfl))).trans ((dk_bind (dk_map (dk_u2 (h 1 _ rfl) (h 2 _ rfl)))).trans rfl))
theorem dk_163 {code : ByteArray} {pc : Nat} (a b : UInt8) (h : DkAt code pc [163, a, b]) : decode code pc = .ok (.if_icmp .gt (Reader.signed 16 (a.toNat * 256 + b.toNat)), 3) := dk_of ((dk_bind (dk_u1 (h 0 _ rfl))).trans ((dk_bind (dk_map (dk_u2 (h 1 _ rfl) (h 2 _ rfl)))).trans rfl))
theorem dk_164 {code : ByteArray} {pc : Nat} (a b : UInt8) (h : DkAt code pc [164, a, b]) : decode code pc = .ok (.if_icmp .le (Reader.signed 16 (a.toNat * 256 + b.toNat)), 3) := dk_of ((dk_bind (dk_u1 (h 0 _ rfl))).trans ((dk_bind (dk_map (dk_u2 (h 1 _ rfl) (h 2 _ rfl)))).trans rfl))
theorem dk_167 {code : ByteArray} {pc : Nat} (a b : UInt8) (h : DkAt code pc [167, a, b]) : decode code pc = .ok (.goto (Reader.signed 16 (a.toNat * 256 + b.toNat)), 3) := dk_of ((dk_bind (dk_u1 (h 0 _ rfl))).trans ((dk_bind (dk_map (dk_u2 (h 1 _ rfl) (h 2 _ rfl)))).trans rfl))
theorem dk_172 {code : ByteArray} {pc : Nat} (h : DkAt code pc [172]) : decode code pc = .ok (.ireturn, 1) := dk_of ((dk_bind (dk_u1 (h 0 _ rfl))).trans rfl)
theorem dk_173 {code : ByteArray} {pc : Nat} (h : DkAt code pc [173]) : decode code pc = .ok (.lreturn, 1) := dk_of ((dk_bind (dk_u1 (h 0 _ rfl))).trans rfl)
theorem dk_176 {code : ByteArray} {pc : Nat} (h : DkAt code pc [176]) : decode code pc = .ok (.areturn, 1) := dk_of ((dk_bind (dk_u1 (h 0 _ rfl))).trans rfl)
theorem dk_177 {code : ByteArray} {pc : Nat} (h : DkAt code pc [177]) : decode code pc = .ok (.return_, 1) := dk_of ((dk_bind (dk_u1 (h 0 _ rfl))).trans rfl)
theorem dk_178 {code : ByteArray} {pc : Nat} (a b : UInt8) (h : DkAt code pc [178, a, b]) : decode code pc = .ok (.getstatic (a.toNat * 256 + b.toNat), 3) := dk_of ((dk_bind (dk_u1 (h 0 _ rfl))).trans ((dk_bind (dk_u2 (h 1 _ rfl) (h 2 _ rfl))).trans rfl))
theorem dk_180 {code : ByteArray} {pc : Nat} (a b : UInt8) (h : DkAt code pc [180, a, b]) : decode code pc = .ok (.getfield (a.toNat * 256 + b.toNat), 3) := dk_of ((dk_bind (dk_u1 (h 0 _ rfl))).trans ((dk_bind (dk_u2 (h 1 _ rfl) (h 2 _ rfl))).trans rfl))
theorem dk_181 {code : ByteArray} {pc : Nat} (a b : UInt8) (h : DkAt code pc [181, a, b]) : decode code pc = .ok (.putfield (a.toNat * 256 + b.toNat), 3) := dk_of ((dk_bind (dk_u1 (h 0 _ rfl))).trans ((dk_bind (dk_u2 (h 1 _ rfl) (h 2 _ rfl))).trans rfl))
theorem dk_182 {code : ByteArray} {pc : Nat} (a b : UInt8) (h : DkAt code pc [182, a, b]) : decode code pc = .ok (.invokevirtual (a.toNat * 256 + b.toNat), 3) := dk_of ((dk_bind (dk_u1 (h 0 _ rfl))).trans ((dk_bind (dk_u2 (h 1 _ rfl) (h 2 _ rfl))).trans rfl))
theorem dk_183 {code : ByteArray} {pc : Nat} (a b : UInt8) (h : DkAt code pc [183, a, b]) : decode code pc = .ok (.invokespecial (a.toNat * 256 + b.toNat), 3) := dk_of ((dk_bind (dk_u1 (h 0 _ rfl))).trans ((dk_bind (dk_u2 (h 1 _ rfl) (h 2 _ rfl))).trans rfl))
theorem dk_184 {code : ByteArray} {pc : Nat} (a b : UInt8) (h : DkAt code pc [184, a, b]) : decode code pc = .ok (.invokestatic (a.toNat * 256 + b.toNat), 3) := dk_of ((dk_bind (dk_u1 (h 0 _ rfl))).trans ((dk_bind (dk_u2 (h 1 _ rfl) (h 2 _ rfl))).trans rfl))
theorem dk_187 {code : ByteArray} {pc : Nat} (a b : UInt8) (h : DkAt code pc [187, a, b]) : decode code pc = .ok (.new (a.toNat * 256 + b.toNat), 3) := dk_of ((dk_bind (dk_u1 (h 0 _ rfl))).trans ((dk_bind (dk_u2 (h 1 _ rfl) (h 2 _ rfl))).trans rfl))
theorem dk_188_4 {code : ByteArray} {pc : Nat} (h : DkAt code pc [188, 4]) : decode code pc = .ok (.newarray .boolean, 2) := dk_of ((dk_bind (dk_u1 (h 0 _ rfl))).trans ((dk_bind (dk_u1 (h 1 _ rfl))).trans rfl))
theorem dk_188_8 {code : ByteArray} {pc : Nat} (h : DkAt code pc [188, 8]) : decode code pc = .ok (.newarray .byte, 2) := dk_of ((dk_bind (dk_u1 (h 0 _ rfl))).trans ((dk_bind (dk_u1 (h 1 _ rfl))).trans rfl))
theorem dk_188_9 {code : ByteArray} {pc : Nat} (h : DkAt code pc [188, 9]) : decode code pc = .ok (.newarray .short, 2) := dk_of ((dk_bind (dk_u1 (h 0 _ rfl))).trans ((dk_bind (dk_u1 (h 1 _ rfl))).trans rfl))
theorem dk_188_10 {code : ByteArray} {pc : Nat} (h : DkAt code pc [188, 10]) : decode code pc = .ok (.newarray .int, 2) := dk_of ((dk_bind (dk_u1 (h 0 _ rfl))).trans ((dk_bind (dk_u1 (h 1 _ rfl))).trans rfl))
theorem dk_188_11 {code : ByteArray} {pc : Nat} (h : DkAt code pc [188, 11]) : decode code pc = .ok (.newarray .long, 2) := dk_of ((dk_bind (dk_u1 (h 0 _ rfl))).trans ((dk_bind (dk_u1 (h 1 _ rfl))).trans rfl))
theorem dk_189 {code : ByteArray} {pc : Nat} (a b : UInt8) (h : DkAt code pc [189, a, b]) : decode code pc = .ok (.anewarray (a.toNat * 256 + b.toNat), 3) := dk_of ((dk_bind (dk_u1 (h 0 _ rfl))).trans ((dk_bind (dk_u2 (h 1 _ rfl) (h 2 _ rfl))).trans rfl))
theorem dk_190 {code : ByteArray} {pc : Nat} (h : DkAt code pc [190]) : decode code pc = .ok (.arraylength, 1) := dk_of ((dk_bind (dk_u1 (h 0 _ rfl))).trans rfl)
theorem dk_191 {code : ByteArray} {pc : Nat} (h : DkAt code pc [191]) : decode code pc = .ok (.athrow, 1) := dk_of ((dk_bind (dk_u1 (h 0 _ rfl))).trans rfl)
theorem dk_192 {code : ByteArray} {pc : Nat} (a b : UInt8) (h : DkAt code pc [192, a, b]) : decode code pc = .ok (.checkcast (a.toNat * 256 + b.toNat), 3) := dk_of ((dk_bind (dk_u1 (h 0 _ rfl))).trans ((dk_bind (dk_u2 (h 1 _ rfl) (h 2 _ rfl))).trans rfl))
theorem dk_198 {code : ByteArray} {pc : Nat} (a b : UInt8) (h : DkAt code pc [198, a, b]) : decode code pc = .ok (.ifnull (Reader.signed 16 (a.toNat * 256 + b.toNat)), 3) := dk_of ((dk_bind (dk_u1 (h 0 _ rfl))).trans ((dk_bind (dk_map (dk_u2 (h 1 _ rfl) (h 2 _ rfl)))).trans rfl))
theorem dk_199 {code : ByteArray} {pc : Nat} (a b : UInt8) (h : DkAt code pc [199, a, b]) : decode code pc = .ok (.ifnonnull (Reader.signed 16 (a.toNat * 256 + b.toNat)), 3) := dk_of ((dk_bind (dk_u1 (h 0 _ rfl))).trans ((dk_bind (dk_map (dk_u2 (h 1 _ rfl) (h 2 _ rfl)))).trans rfl))
/-! ChairOldModel -/
set_option maxRecDepth 100000
def RX4 : String := "ChairOldModel"
def TX4 : u_T := fun k => match k with
  | 0 => ("ChairOldModel", "may", "[I", true)
  | 1 => ("ChairOldModel", "changeAt", "[I", true)
  | 2 => ("ChairOldModel", "changeWas", "[I", true)
  | 3 => ("ChairOldModel", "changeIs", "[I", true)
  | 4 => ("ChairOldModel", "keptMany", "I", false)
  | 5 => ("ChairOldModel", "done", "I", false)
  | 6 => ("ChairOldModel", "parts", "I", false)
  | 7 => ("ChairOldModel", "wood", "[I", true)
  | 8 => ("ChairOldModel", "place", "[I", true)
  | 9 => ("ChairOldModel", "found", "[I", true)
  | 10 => ("ChairOldModel", "tape", "[I", true)
  | 11 => ("ChairOldModel", "tapeMany", "I", false)
  | 12 => ("ChairOldModel", "text", "[I", true)
  | 13 => ("ChairOldModel", "textMany", "[I", true)
  | 14 => ("ChairOldModel", "base", "I", false)
  | 15 => ("ChairOldModel", "at", "I", false)
  | 16 => ("ChairOldModel", "ends", "I", false)
  | 17 => ("ChairOldModel", "fault", "I", false)
  | 18 => ("ChairOldModel", "opened", "I", false)
  | 19 => ("ChairOldModel", "names", "[I", true)
  | 20 => ("ChairOldModel", "numbers", "[I", true)
  | 21 => ("ChairOldModel", "way", "[I", true)
  | 22 => ("ChairOldModel", "weight", "[J", true)
  | 23 => ("ChairOldModel", "kindSum", "[J", true)
  | 24 => ("ChairOldModel", "allSum", "J", false)
  | 25 => ("ChairOldModel", "trueWhen", "[I", true)
  | 26 => ("ChairOldModel", "sorted", "[I", true)
  | 27 => ("ChairOldModel", "papers", "I", false)
  | 28 => ("ChairOldModel", "paperFrom", "[I", true)
  | 29 => ("ChairOldModel", "paperTo", "[I", true)
  | 30 => ("ChairOldModel", "paperHouse", "[I", true)
  | 31 => ("ChairOldModel", "image", "[I", true)
  | 32 => ("ChairOldModel", "imageParts", "I", false)
  | 33 => ("ChairOldModel", "isKept", "Z", false)
  | 34 => ("ChairOldModel", "bodies", "I", false)
  | 35 => ("ChairOldModel", "bodyKind", "[I", true)
  | 36 => ("ChairOldModel", "trace", "[I", true)
  | 37 => ("ChairOldModel", "ran", "I", false)
  | 38 => ("ChairOldModel", "ownKind", "I", false)
  | 39 => ("ChairOldModel", "ownNumber", "I", false)
  | 40 => ("ChairOldModel", "shelf", "[I", true)
  | 41 => ("ChairOldModel", "many", "[I", true)
  | 42 => ("ChairOldModel", "items", "[J", true)
  | _ => ("ChairOldModel", "carried", "[J", true)
def tyX4 : Nat → FieldType := fun k => match k with
  | 0 => .array .int
  | 1 => .array .int
  | 2 => .array .int
  | 3 => .array .int
  | 4 => .int
  | 5 => .int
  | 6 => .int
  | 7 => .array .int
  | 8 => .array .int
  | 9 => .array .int
  | 10 => .array .int
  | 11 => .int
  | 12 => .array .int
  | 13 => .array .int
  | 14 => .int
  | 15 => .int
  | 16 => .int
  | 17 => .int
  | 18 => .int
  | 19 => .array .int
  | 20 => .array .int
  | 21 => .array .int
  | 22 => .array .long
  | 23 => .array .long
  | 24 => .long
  | 25 => .array .int
  | 26 => .array .int
  | 27 => .int
  | 28 => .array .int
  | 29 => .array .int
  | 30 => .array .int
  | 31 => .array .int
  | 32 => .int
  | 33 => .boolean
  | 34 => .int
  | 35 => .array .int
  | 36 => .array .int
  | 37 => .int
  | 38 => .int
  | 39 => .int
  | 40 => .array .int
  | 41 => .array .int
  | 42 => .array .long
  | _ => .array .long
abbrev wsX40 : List Cond := u_ws RX4 TX4 44
set_option maxRecDepth 100000 in
theorem nmX4 : ∀ a, a < 44 → ∀ b, b < 44 → a ≠ b → (TX4 a).2.1 ≠ (TX4 b).2.1 := by decide +kernel
set_option maxRecDepth 100000 in
theorem tyX4_ok : ∀ k, k < 44 → parseFieldDescriptor (TX4 k).2.2.1 = some (tyX4 k) := by decide +kernel
abbrev cX4_init : ByteArray := prog_34_method_2_code
def yX4_init : MethodName := ⟨RX4, "<init>", "()V"⟩
def dkwX4_init_13 : List UInt8 := [167, 255, 240, 177]
abbrev dktX4_init_13 : List UInt8 := dkwX4_init_13 ++ []
def dkwX4_init_12 : List UInt8 := [132, 1, 1, 167, 255, 219, 3, 60, 27, 16, 6, 162, 0, 16, 42, 180, 0, 9, 27, 4, 79, 132, 1, 1]
abbrev dktX4_init_12 : List UInt8 := dkwX4_init_12 ++ dktX4_init_13
def dkwX4_init_11 : List UInt8 := [27, 2, 79, 42, 180, 0, 9, 16, 12, 27, 96, 4, 79, 42, 180, 0, 9, 16, 18, 27, 96, 16, 10, 79]
abbrev dktX4_init_11 : List UInt8 := dkwX4_init_11 ++ dktX4_init_12
def dkwX4_init_10 : List UInt8 := [180, 0, 80, 27, 2, 79, 132, 1, 1, 167, 255, 240, 3, 60, 27, 16, 6, 162, 0, 37, 42, 180, 0, 37]
abbrev dktX4_init_10 : List UInt8 := dkwX4_init_10 ++ dktX4_init_11
def dkwX4_init_9 : List UInt8 := [188, 11, 181, 0, 86, 42, 16, 60, 188, 11, 181, 0, 89, 3, 60, 27, 16, 6, 162, 0, 16, 42]
abbrev dktX4_init_9 : List UInt8 := dkwX4_init_9 ++ dktX4_init_10
def dkwX4_init_8 : List UInt8 := [181, 0, 77, 42, 16, 6, 188, 10, 181, 0, 80, 42, 16, 6, 188, 10, 181, 0, 83, 42, 17, 1, 104]
abbrev dktX4_init_8 : List UInt8 := dkwX4_init_8 ++ dktX4_init_9
def dkwX4_init_7 : List UInt8 := [181, 0, 68, 42, 16, 48, 188, 10, 181, 0, 71, 42, 16, 50, 188, 10, 181, 0, 74, 42, 16, 24, 188, 10]
abbrev dktX4_init_7 : List UInt8 := dkwX4_init_7 ++ dktX4_init_8
def dkwX4_init_6 : List UInt8 := [181, 0, 59, 42, 16, 10, 188, 10, 181, 0, 62, 42, 16, 10, 188, 10, 181, 0, 65, 42, 16, 10, 188, 10]
abbrev dktX4_init_6 : List UInt8 := dkwX4_init_6 ++ dktX4_init_7
def dkwX4_init_5 : List UInt8 := [181, 0, 49, 42, 16, 6, 188, 11, 181, 0, 53, 42, 16, 8, 188, 10, 181, 0, 56, 42, 16, 8, 188, 10]
abbrev dktX4_init_5 : List UInt8 := dkwX4_init_5 ++ dktX4_init_6
def dkwX4_init_4 : List UInt8 := [17, 4, 56, 188, 10, 181, 0, 43, 42, 16, 6, 188, 10, 181, 0, 46, 42, 17, 0, 180, 188, 11]
abbrev dktX4_init_4 : List UInt8 := dkwX4_init_4 ++ dktX4_init_5
def dkwX4_init_3 : List UInt8 := [17, 2, 208, 188, 10, 181, 0, 34, 42, 16, 6, 188, 10, 181, 0, 37, 42, 7, 188, 10, 181, 0, 40, 42]
abbrev dktX4_init_3 : List UInt8 := dkwX4_init_3 ++ dktX4_init_4
def dkwX4_init_2 : List UInt8 := [188, 10, 181, 0, 25, 42, 16, 48, 188, 10, 181, 0, 28, 42, 16, 120, 188, 10, 181, 0, 31, 42]
abbrev dktX4_init_2 : List UInt8 := dkwX4_init_2 ++ dktX4_init_3
def dkwX4_init_1 : List UInt8 := [188, 10, 181, 0, 16, 42, 16, 40, 188, 10, 181, 0, 19, 42, 16, 8, 188, 10, 181, 0, 22, 42, 16, 8]
abbrev dktX4_init_1 : List UInt8 := dkwX4_init_1 ++ dktX4_init_2
def dkwX4_init_0 : List UInt8 := [42, 183, 0, 3, 42, 16, 24, 188, 10, 181, 0, 9, 42, 16, 40, 188, 10, 181, 0, 13, 42, 16, 40]
abbrev dktX4_init_0 : List UInt8 := dkwX4_init_0 ++ dktX4_init_1
theorem dksX4_init_0 : cX4_init.data.toList.drop 0 = dktX4_init_0 := by decide +kernel
theorem dksX4_init_1 : cX4_init.data.toList.drop 23 = dktX4_init_1 := dk_seg dksX4_init_0 23 rfl rfl
theorem dksX4_init_2 : cX4_init.data.toList.drop 47 = dktX4_init_2 := dk_seg dksX4_init_1 24 rfl rfl
theorem dksX4_init_3 : cX4_init.data.toList.drop 69 = dktX4_init_3 := dk_seg dksX4_init_2 22 rfl rfl
theorem dksX4_init_4 : cX4_init.data.toList.drop 93 = dktX4_init_4 := dk_seg dksX4_init_3 24 rfl rfl
theorem dksX4_init_5 : cX4_init.data.toList.drop 115 = dktX4_init_5 := dk_seg dksX4_init_4 22 rfl rfl
theorem dksX4_init_6 : cX4_init.data.toList.drop 139 = dktX4_init_6 := dk_seg dksX4_init_5 24 rfl rfl
theorem dksX4_init_7 : cX4_init.data.toList.drop 163 = dktX4_init_7 := dk_seg dksX4_init_6 24 rfl rfl
theorem dksX4_init_8 : cX4_init.data.toList.drop 187 = dktX4_init_8 := dk_seg dksX4_init_7 24 rfl rfl
theorem dksX4_init_9 : cX4_init.data.toList.drop 210 = dktX4_init_9 := dk_seg dksX4_init_8 23 rfl rfl
theorem dksX4_init_10 : cX4_init.data.toList.drop 232 = dktX4_init_10 := dk_seg dksX4_init_9 22 rfl rfl
theorem dksX4_init_11 : cX4_init.data.toList.drop 256 = dktX4_init_11 := dk_seg dksX4_init_10 24 rfl rfl
theorem dksX4_init_12 : cX4_init.data.toList.drop 280 = dktX4_init_12 := dk_seg dksX4_init_11 24 rfl rfl
theorem dksX4_init_13 : cX4_init.data.toList.drop 304 = dktX4_init_13 := dk_seg dksX4_init_12 24 rfl rfl
theorem dX4_init_0 : decode cX4_init 0 = .ok (.aload_n 0, 1) := dk_42 (dk_at dksX4_init_0 0 rfl rfl)
theorem dX4_init_1 : decode cX4_init 1 = .ok (.invokespecial 3, 3) := dk_183 0 3 (dk_at dksX4_init_0 1 rfl rfl)
theorem dX4_init_4 : decode cX4_init 4 = .ok (.aload_n 0, 1) := dk_42 (dk_at dksX4_init_0 4 rfl rfl)
theorem dX4_init_5 : decode cX4_init 5 = .ok (.bipush 24, 2) := dk_16 24 (dk_at dksX4_init_0 5 rfl rfl)
theorem dX4_init_7 : decode cX4_init 7 = .ok (.newarray .int, 2) := dk_188_10 (dk_at dksX4_init_0 7 rfl rfl)
theorem dX4_init_9 : decode cX4_init 9 = .ok (.putfield 9, 3) := dk_181 0 9 (dk_at dksX4_init_0 9 rfl rfl)
theorem dX4_init_12 : decode cX4_init 12 = .ok (.aload_n 0, 1) := dk_42 (dk_at dksX4_init_0 12 rfl rfl)
theorem dX4_init_13 : decode cX4_init 13 = .ok (.bipush 40, 2) := dk_16 40 (dk_at dksX4_init_0 13 rfl rfl)
theorem dX4_init_15 : decode cX4_init 15 = .ok (.newarray .int, 2) := dk_188_10 (dk_at dksX4_init_0 15 rfl rfl)
theorem dX4_init_17 : decode cX4_init 17 = .ok (.putfield 13, 3) := dk_181 0 13 (dk_at dksX4_init_0 17 rfl rfl)
theorem dX4_init_20 : decode cX4_init 20 = .ok (.aload_n 0, 1) := dk_42 (dk_at dksX4_init_0 20 rfl rfl)
theorem dX4_init_21 : decode cX4_init 21 = .ok (.bipush 40, 2) := dk_16 40 (dk_at dksX4_init_0 21 rfl rfl)
theorem dX4_init_23 : decode cX4_init 23 = .ok (.newarray .int, 2) := dk_188_10 (dk_at dksX4_init_1 0 rfl rfl)
theorem dX4_init_25 : decode cX4_init 25 = .ok (.putfield 16, 3) := dk_181 0 16 (dk_at dksX4_init_1 2 rfl rfl)
theorem dX4_init_28 : decode cX4_init 28 = .ok (.aload_n 0, 1) := dk_42 (dk_at dksX4_init_1 5 rfl rfl)
theorem dX4_init_29 : decode cX4_init 29 = .ok (.bipush 40, 2) := dk_16 40 (dk_at dksX4_init_1 6 rfl rfl)
theorem dX4_init_31 : decode cX4_init 31 = .ok (.newarray .int, 2) := dk_188_10 (dk_at dksX4_init_1 8 rfl rfl)
theorem dX4_init_33 : decode cX4_init 33 = .ok (.putfield 19, 3) := dk_181 0 19 (dk_at dksX4_init_1 10 rfl rfl)
theorem dX4_init_36 : decode cX4_init 36 = .ok (.aload_n 0, 1) := dk_42 (dk_at dksX4_init_1 13 rfl rfl)
theorem dX4_init_37 : decode cX4_init 37 = .ok (.bipush 8, 2) := dk_16 8 (dk_at dksX4_init_1 14 rfl rfl)
theorem dX4_init_39 : decode cX4_init 39 = .ok (.newarray .int, 2) := dk_188_10 (dk_at dksX4_init_1 16 rfl rfl)
theorem dX4_init_41 : decode cX4_init 41 = .ok (.putfield 22, 3) := dk_181 0 22 (dk_at dksX4_init_1 18 rfl rfl)
theorem dX4_init_44 : decode cX4_init 44 = .ok (.aload_n 0, 1) := dk_42 (dk_at dksX4_init_1 21 rfl rfl)
theorem dX4_init_45 : decode cX4_init 45 = .ok (.bipush 8, 2) := dk_16 8 (dk_at dksX4_init_1 22 rfl rfl)
theorem dX4_init_47 : decode cX4_init 47 = .ok (.newarray .int, 2) := dk_188_10 (dk_at dksX4_init_2 0 rfl rfl)
theorem dX4_init_49 : decode cX4_init 49 = .ok (.putfield 25, 3) := dk_181 0 25 (dk_at dksX4_init_2 2 rfl rfl)
theorem dX4_init_52 : decode cX4_init 52 = .ok (.aload_n 0, 1) := dk_42 (dk_at dksX4_init_2 5 rfl rfl)
theorem dX4_init_53 : decode cX4_init 53 = .ok (.bipush 48, 2) := dk_16 48 (dk_at dksX4_init_2 6 rfl rfl)
theorem dX4_init_55 : decode cX4_init 55 = .ok (.newarray .int, 2) := dk_188_10 (dk_at dksX4_init_2 8 rfl rfl)
theorem dX4_init_57 : decode cX4_init 57 = .ok (.putfield 28, 3) := dk_181 0 28 (dk_at dksX4_init_2 10 rfl rfl)
theorem dX4_init_60 : decode cX4_init 60 = .ok (.aload_n 0, 1) := dk_42 (dk_at dksX4_init_2 13 rfl rfl)
theorem dX4_init_61 : decode cX4_init 61 = .ok (.bipush 120, 2) := dk_16 120 (dk_at dksX4_init_2 14 rfl rfl)
theorem dX4_init_63 : decode cX4_init 63 = .ok (.newarray .int, 2) := dk_188_10 (dk_at dksX4_init_2 16 rfl rfl)
theorem dX4_init_65 : decode cX4_init 65 = .ok (.putfield 31, 3) := dk_181 0 31 (dk_at dksX4_init_2 18 rfl rfl)
theorem dX4_init_68 : decode cX4_init 68 = .ok (.aload_n 0, 1) := dk_42 (dk_at dksX4_init_2 21 rfl rfl)
theorem dX4_init_69 : decode cX4_init 69 = .ok (.sipush 720, 3) := dk_17 2 208 (dk_at dksX4_init_3 0 rfl rfl)
theorem dX4_init_72 : decode cX4_init 72 = .ok (.newarray .int, 2) := dk_188_10 (dk_at dksX4_init_3 3 rfl rfl)
theorem dX4_init_74 : decode cX4_init 74 = .ok (.putfield 34, 3) := dk_181 0 34 (dk_at dksX4_init_3 5 rfl rfl)
theorem dX4_init_77 : decode cX4_init 77 = .ok (.aload_n 0, 1) := dk_42 (dk_at dksX4_init_3 8 rfl rfl)
theorem dX4_init_78 : decode cX4_init 78 = .ok (.bipush 6, 2) := dk_16 6 (dk_at dksX4_init_3 9 rfl rfl)
theorem dX4_init_80 : decode cX4_init 80 = .ok (.newarray .int, 2) := dk_188_10 (dk_at dksX4_init_3 11 rfl rfl)
theorem dX4_init_82 : decode cX4_init 82 = .ok (.putfield 37, 3) := dk_181 0 37 (dk_at dksX4_init_3 13 rfl rfl)
theorem dX4_init_85 : decode cX4_init 85 = .ok (.aload_n 0, 1) := dk_42 (dk_at dksX4_init_3 16 rfl rfl)
theorem dX4_init_86 : decode cX4_init 86 = .ok (.iconst 4, 1) := dk_7 (dk_at dksX4_init_3 17 rfl rfl)
theorem dX4_init_87 : decode cX4_init 87 = .ok (.newarray .int, 2) := dk_188_10 (dk_at dksX4_init_3 18 rfl rfl)
theorem dX4_init_89 : decode cX4_init 89 = .ok (.putfield 40, 3) := dk_181 0 40 (dk_at dksX4_init_3 20 rfl rfl)
theorem dX4_init_92 : decode cX4_init 92 = .ok (.aload_n 0, 1) := dk_42 (dk_at dksX4_init_3 23 rfl rfl)
theorem dX4_init_93 : decode cX4_init 93 = .ok (.sipush 1080, 3) := dk_17 4 56 (dk_at dksX4_init_4 0 rfl rfl)
theorem dX4_init_96 : decode cX4_init 96 = .ok (.newarray .int, 2) := dk_188_10 (dk_at dksX4_init_4 3 rfl rfl)
theorem dX4_init_98 : decode cX4_init 98 = .ok (.putfield 43, 3) := dk_181 0 43 (dk_at dksX4_init_4 5 rfl rfl)
theorem dX4_init_101 : decode cX4_init 101 = .ok (.aload_n 0, 1) := dk_42 (dk_at dksX4_init_4 8 rfl rfl)
theorem dX4_init_102 : decode cX4_init 102 = .ok (.bipush 6, 2) := dk_16 6 (dk_at dksX4_init_4 9 rfl rfl)
theorem dX4_init_104 : decode cX4_init 104 = .ok (.newarray .int, 2) := dk_188_10 (dk_at dksX4_init_4 11 rfl rfl)
theorem dX4_init_106 : decode cX4_init 106 = .ok (.putfield 46, 3) := dk_181 0 46 (dk_at dksX4_init_4 13 rfl rfl)
theorem dX4_init_109 : decode cX4_init 109 = .ok (.aload_n 0, 1) := dk_42 (dk_at dksX4_init_4 16 rfl rfl)
theorem dX4_init_110 : decode cX4_init 110 = .ok (.sipush 180, 3) := dk_17 0 180 (dk_at dksX4_init_4 17 rfl rfl)
theorem dX4_init_113 : decode cX4_init 113 = .ok (.newarray .long, 2) := dk_188_11 (dk_at dksX4_init_4 20 rfl rfl)
theorem dX4_init_115 : decode cX4_init 115 = .ok (.putfield 49, 3) := dk_181 0 49 (dk_at dksX4_init_5 0 rfl rfl)
theorem dX4_init_118 : decode cX4_init 118 = .ok (.aload_n 0, 1) := dk_42 (dk_at dksX4_init_5 3 rfl rfl)
theorem dX4_init_119 : decode cX4_init 119 = .ok (.bipush 6, 2) := dk_16 6 (dk_at dksX4_init_5 4 rfl rfl)
theorem dX4_init_121 : decode cX4_init 121 = .ok (.newarray .long, 2) := dk_188_11 (dk_at dksX4_init_5 6 rfl rfl)
theorem dX4_init_123 : decode cX4_init 123 = .ok (.putfield 53, 3) := dk_181 0 53 (dk_at dksX4_init_5 8 rfl rfl)
theorem dX4_init_126 : decode cX4_init 126 = .ok (.aload_n 0, 1) := dk_42 (dk_at dksX4_init_5 11 rfl rfl)
theorem dX4_init_127 : decode cX4_init 127 = .ok (.bipush 8, 2) := dk_16 8 (dk_at dksX4_init_5 12 rfl rfl)
theorem dX4_init_129 : decode cX4_init 129 = .ok (.newarray .int, 2) := dk_188_10 (dk_at dksX4_init_5 14 rfl rfl)
theorem dX4_init_131 : decode cX4_init 131 = .ok (.putfield 56, 3) := dk_181 0 56 (dk_at dksX4_init_5 16 rfl rfl)
theorem dX4_init_134 : decode cX4_init 134 = .ok (.aload_n 0, 1) := dk_42 (dk_at dksX4_init_5 19 rfl rfl)
theorem dX4_init_135 : decode cX4_init 135 = .ok (.bipush 8, 2) := dk_16 8 (dk_at dksX4_init_5 20 rfl rfl)
theorem dX4_init_137 : decode cX4_init 137 = .ok (.newarray .int, 2) := dk_188_10 (dk_at dksX4_init_5 22 rfl rfl)
theorem dX4_init_139 : decode cX4_init 139 = .ok (.putfield 59, 3) := dk_181 0 59 (dk_at dksX4_init_6 0 rfl rfl)
theorem dX4_init_142 : decode cX4_init 142 = .ok (.aload_n 0, 1) := dk_42 (dk_at dksX4_init_6 3 rfl rfl)
theorem dX4_init_143 : decode cX4_init 143 = .ok (.bipush 10, 2) := dk_16 10 (dk_at dksX4_init_6 4 rfl rfl)
theorem dX4_init_145 : decode cX4_init 145 = .ok (.newarray .int, 2) := dk_188_10 (dk_at dksX4_init_6 6 rfl rfl)
theorem dX4_init_147 : decode cX4_init 147 = .ok (.putfield 62, 3) := dk_181 0 62 (dk_at dksX4_init_6 8 rfl rfl)
theorem dX4_init_150 : decode cX4_init 150 = .ok (.aload_n 0, 1) := dk_42 (dk_at dksX4_init_6 11 rfl rfl)
theorem dX4_init_151 : decode cX4_init 151 = .ok (.bipush 10, 2) := dk_16 10 (dk_at dksX4_init_6 12 rfl rfl)
theorem dX4_init_153 : decode cX4_init 153 = .ok (.newarray .int, 2) := dk_188_10 (dk_at dksX4_init_6 14 rfl rfl)
theorem dX4_init_155 : decode cX4_init 155 = .ok (.putfield 65, 3) := dk_181 0 65 (dk_at dksX4_init_6 16 rfl rfl)
theorem dX4_init_158 : decode cX4_init 158 = .ok (.aload_n 0, 1) := dk_42 (dk_at dksX4_init_6 19 rfl rfl)
theorem dX4_init_159 : decode cX4_init 159 = .ok (.bipush 10, 2) := dk_16 10 (dk_at dksX4_init_6 20 rfl rfl)
theorem dX4_init_161 : decode cX4_init 161 = .ok (.newarray .int, 2) := dk_188_10 (dk_at dksX4_init_6 22 rfl rfl)
theorem dX4_init_163 : decode cX4_init 163 = .ok (.putfield 68, 3) := dk_181 0 68 (dk_at dksX4_init_7 0 rfl rfl)
theorem dX4_init_166 : decode cX4_init 166 = .ok (.aload_n 0, 1) := dk_42 (dk_at dksX4_init_7 3 rfl rfl)
theorem dX4_init_167 : decode cX4_init 167 = .ok (.bipush 48, 2) := dk_16 48 (dk_at dksX4_init_7 4 rfl rfl)
theorem dX4_init_169 : decode cX4_init 169 = .ok (.newarray .int, 2) := dk_188_10 (dk_at dksX4_init_7 6 rfl rfl)
theorem dX4_init_171 : decode cX4_init 171 = .ok (.putfield 71, 3) := dk_181 0 71 (dk_at dksX4_init_7 8 rfl rfl)
theorem dX4_init_174 : decode cX4_init 174 = .ok (.aload_n 0, 1) := dk_42 (dk_at dksX4_init_7 11 rfl rfl)
theorem dX4_init_175 : decode cX4_init 175 = .ok (.bipush 50, 2) := dk_16 50 (dk_at dksX4_init_7 12 rfl rfl)
theorem dX4_init_177 : decode cX4_init 177 = .ok (.newarray .int, 2) := dk_188_10 (dk_at dksX4_init_7 14 rfl rfl)
theorem dX4_init_179 : decode cX4_init 179 = .ok (.putfield 74, 3) := dk_181 0 74 (dk_at dksX4_init_7 16 rfl rfl)
theorem dX4_init_182 : decode cX4_init 182 = .ok (.aload_n 0, 1) := dk_42 (dk_at dksX4_init_7 19 rfl rfl)
theorem dX4_init_183 : decode cX4_init 183 = .ok (.bipush 24, 2) := dk_16 24 (dk_at dksX4_init_7 20 rfl rfl)
theorem dX4_init_185 : decode cX4_init 185 = .ok (.newarray .int, 2) := dk_188_10 (dk_at dksX4_init_7 22 rfl rfl)
theorem dX4_init_187 : decode cX4_init 187 = .ok (.putfield 77, 3) := dk_181 0 77 (dk_at dksX4_init_8 0 rfl rfl)
theorem dX4_init_190 : decode cX4_init 190 = .ok (.aload_n 0, 1) := dk_42 (dk_at dksX4_init_8 3 rfl rfl)
theorem dX4_init_191 : decode cX4_init 191 = .ok (.bipush 6, 2) := dk_16 6 (dk_at dksX4_init_8 4 rfl rfl)
theorem dX4_init_193 : decode cX4_init 193 = .ok (.newarray .int, 2) := dk_188_10 (dk_at dksX4_init_8 6 rfl rfl)
theorem dX4_init_195 : decode cX4_init 195 = .ok (.putfield 80, 3) := dk_181 0 80 (dk_at dksX4_init_8 8 rfl rfl)
theorem dX4_init_198 : decode cX4_init 198 = .ok (.aload_n 0, 1) := dk_42 (dk_at dksX4_init_8 11 rfl rfl)
theorem dX4_init_199 : decode cX4_init 199 = .ok (.bipush 6, 2) := dk_16 6 (dk_at dksX4_init_8 12 rfl rfl)
theorem dX4_init_201 : decode cX4_init 201 = .ok (.newarray .int, 2) := dk_188_10 (dk_at dksX4_init_8 14 rfl rfl)
theorem dX4_init_203 : decode cX4_init 203 = .ok (.putfield 83, 3) := dk_181 0 83 (dk_at dksX4_init_8 16 rfl rfl)
theorem dX4_init_206 : decode cX4_init 206 = .ok (.aload_n 0, 1) := dk_42 (dk_at dksX4_init_8 19 rfl rfl)
theorem dX4_init_207 : decode cX4_init 207 = .ok (.sipush 360, 3) := dk_17 1 104 (dk_at dksX4_init_8 20 rfl rfl)
theorem dX4_init_210 : decode cX4_init 210 = .ok (.newarray .long, 2) := dk_188_11 (dk_at dksX4_init_9 0 rfl rfl)
theorem dX4_init_212 : decode cX4_init 212 = .ok (.putfield 86, 3) := dk_181 0 86 (dk_at dksX4_init_9 2 rfl rfl)
theorem dX4_init_215 : decode cX4_init 215 = .ok (.aload_n 0, 1) := dk_42 (dk_at dksX4_init_9 5 rfl rfl)
theorem dX4_init_216 : decode cX4_init 216 = .ok (.bipush 60, 2) := dk_16 60 (dk_at dksX4_init_9 6 rfl rfl)
theorem dX4_init_218 : decode cX4_init 218 = .ok (.newarray .long, 2) := dk_188_11 (dk_at dksX4_init_9 8 rfl rfl)
theorem dX4_init_220 : decode cX4_init 220 = .ok (.putfield 89, 3) := dk_181 0 89 (dk_at dksX4_init_9 10 rfl rfl)
theorem dX4_init_223 : decode cX4_init 223 = .ok (.iconst 0, 1) := dk_3 (dk_at dksX4_init_9 13 rfl rfl)
theorem dX4_init_224 : decode cX4_init 224 = .ok (.istore_n 1, 1) := dk_60 (dk_at dksX4_init_9 14 rfl rfl)
theorem dX4_init_225 : decode cX4_init 225 = .ok (.iload_n 1, 1) := dk_27 (dk_at dksX4_init_9 15 rfl rfl)
theorem dX4_init_226 : decode cX4_init 226 = .ok (.bipush 6, 2) := dk_16 6 (dk_at dksX4_init_9 16 rfl rfl)
theorem dX4_init_228 : decode cX4_init 228 = .ok (.if_icmp .ge 16, 3) := dk_162 0 16 (dk_at dksX4_init_9 18 rfl rfl)
theorem dX4_init_231 : decode cX4_init 231 = .ok (.aload_n 0, 1) := dk_42 (dk_at dksX4_init_9 21 rfl rfl)
theorem dX4_init_232 : decode cX4_init 232 = .ok (.getfield 80, 3) := dk_180 0 80 (dk_at dksX4_init_10 0 rfl rfl)
theorem dX4_init_235 : decode cX4_init 235 = .ok (.iload_n 1, 1) := dk_27 (dk_at dksX4_init_10 3 rfl rfl)
theorem dX4_init_236 : decode cX4_init 236 = .ok (.iconst (-1), 1) := dk_2 (dk_at dksX4_init_10 4 rfl rfl)
theorem dX4_init_237 : decode cX4_init 237 = .ok (.iastore, 1) := dk_79 (dk_at dksX4_init_10 5 rfl rfl)
theorem dX4_init_238 : decode cX4_init 238 = .ok (.iinc 1 1, 3) := dk_132 1 1 (dk_at dksX4_init_10 6 rfl rfl)
theorem dX4_init_241 : decode cX4_init 241 = .ok (.goto (-16), 3) := dk_167 255 240 (dk_at dksX4_init_10 9 rfl rfl)
theorem dX4_init_244 : decode cX4_init 244 = .ok (.iconst 0, 1) := dk_3 (dk_at dksX4_init_10 12 rfl rfl)
theorem dX4_init_245 : decode cX4_init 245 = .ok (.istore_n 1, 1) := dk_60 (dk_at dksX4_init_10 13 rfl rfl)
theorem dX4_init_246 : decode cX4_init 246 = .ok (.iload_n 1, 1) := dk_27 (dk_at dksX4_init_10 14 rfl rfl)
theorem dX4_init_247 : decode cX4_init 247 = .ok (.bipush 6, 2) := dk_16 6 (dk_at dksX4_init_10 15 rfl rfl)
theorem dX4_init_249 : decode cX4_init 249 = .ok (.if_icmp .ge 37, 3) := dk_162 0 37 (dk_at dksX4_init_10 17 rfl rfl)
theorem dX4_init_252 : decode cX4_init 252 = .ok (.aload_n 0, 1) := dk_42 (dk_at dksX4_init_10 20 rfl rfl)
theorem dX4_init_253 : decode cX4_init 253 = .ok (.getfield 37, 3) := dk_180 0 37 (dk_at dksX4_init_10 21 rfl rfl)
theorem dX4_init_256 : decode cX4_init 256 = .ok (.iload_n 1, 1) := dk_27 (dk_at dksX4_init_11 0 rfl rfl)
theorem dX4_init_257 : decode cX4_init 257 = .ok (.iconst (-1), 1) := dk_2 (dk_at dksX4_init_11 1 rfl rfl)
theorem dX4_init_258 : decode cX4_init 258 = .ok (.iastore, 1) := dk_79 (dk_at dksX4_init_11 2 rfl rfl)
theorem dX4_init_259 : decode cX4_init 259 = .ok (.aload_n 0, 1) := dk_42 (dk_at dksX4_init_11 3 rfl rfl)
theorem dX4_init_260 : decode cX4_init 260 = .ok (.getfield 9, 3) := dk_180 0 9 (dk_at dksX4_init_11 4 rfl rfl)
theorem dX4_init_263 : decode cX4_init 263 = .ok (.bipush 12, 2) := dk_16 12 (dk_at dksX4_init_11 7 rfl rfl)
theorem dX4_init_265 : decode cX4_init 265 = .ok (.iload_n 1, 1) := dk_27 (dk_at dksX4_init_11 9 rfl rfl)
theorem dX4_init_266 : decode cX4_init 266 = .ok (.iadd, 1) := dk_96 (dk_at dksX4_init_11 10 rfl rfl)
theorem dX4_init_267 : decode cX4_init 267 = .ok (.iconst 1, 1) := dk_4 (dk_at dksX4_init_11 11 rfl rfl)
theorem dX4_init_268 : decode cX4_init 268 = .ok (.iastore, 1) := dk_79 (dk_at dksX4_init_11 12 rfl rfl)
theorem dX4_init_269 : decode cX4_init 269 = .ok (.aload_n 0, 1) := dk_42 (dk_at dksX4_init_11 13 rfl rfl)
theorem dX4_init_270 : decode cX4_init 270 = .ok (.getfield 9, 3) := dk_180 0 9 (dk_at dksX4_init_11 14 rfl rfl)
theorem dX4_init_273 : decode cX4_init 273 = .ok (.bipush 18, 2) := dk_16 18 (dk_at dksX4_init_11 17 rfl rfl)
theorem dX4_init_275 : decode cX4_init 275 = .ok (.iload_n 1, 1) := dk_27 (dk_at dksX4_init_11 19 rfl rfl)
theorem dX4_init_276 : decode cX4_init 276 = .ok (.iadd, 1) := dk_96 (dk_at dksX4_init_11 20 rfl rfl)
theorem dX4_init_277 : decode cX4_init 277 = .ok (.bipush 10, 2) := dk_16 10 (dk_at dksX4_init_11 21 rfl rfl)
theorem dX4_init_279 : decode cX4_init 279 = .ok (.iastore, 1) := dk_79 (dk_at dksX4_init_11 23 rfl rfl)
theorem dX4_init_280 : decode cX4_init 280 = .ok (.iinc 1 1, 3) := dk_132 1 1 (dk_at dksX4_init_12 0 rfl rfl)
theorem dX4_init_283 : decode cX4_init 283 = .ok (.goto (-37), 3) := dk_167 255 219 (dk_at dksX4_init_12 3 rfl rfl)
theorem dX4_init_286 : decode cX4_init 286 = .ok (.iconst 0, 1) := dk_3 (dk_at dksX4_init_12 6 rfl rfl)
theorem dX4_init_287 : decode cX4_init 287 = .ok (.istore_n 1, 1) := dk_60 (dk_at dksX4_init_12 7 rfl rfl)
theorem dX4_init_288 : decode cX4_init 288 = .ok (.iload_n 1, 1) := dk_27 (dk_at dksX4_init_12 8 rfl rfl)
theorem dX4_init_289 : decode cX4_init 289 = .ok (.bipush 6, 2) := dk_16 6 (dk_at dksX4_init_12 9 rfl rfl)
theorem dX4_init_291 : decode cX4_init 291 = .ok (.if_icmp .ge 16, 3) := dk_162 0 16 (dk_at dksX4_init_12 11 rfl rfl)
theorem dX4_init_294 : decode cX4_init 294 = .ok (.aload_n 0, 1) := dk_42 (dk_at dksX4_init_12 14 rfl rfl)
theorem dX4_init_295 : decode cX4_init 295 = .ok (.getfield 9, 3) := dk_180 0 9 (dk_at dksX4_init_12 15 rfl rfl)
theorem dX4_init_298 : decode cX4_init 298 = .ok (.iload_n 1, 1) := dk_27 (dk_at dksX4_init_12 18 rfl rfl)
theorem dX4_init_299 : decode cX4_init 299 = .ok (.iconst 1, 1) := dk_4 (dk_at dksX4_init_12 19 rfl rfl)
theorem dX4_init_300 : decode cX4_init 300 = .ok (.iastore, 1) := dk_79 (dk_at dksX4_init_12 20 rfl rfl)
theorem dX4_init_301 : decode cX4_init 301 = .ok (.iinc 1 1, 3) := dk_132 1 1 (dk_at dksX4_init_12 21 rfl rfl)
theorem dX4_init_304 : decode cX4_init 304 = .ok (.goto (-16), 3) := dk_167 255 240 (dk_at dksX4_init_13 0 rfl rfl)
theorem dX4_init_307 : decode cX4_init 307 = .ok (.return_, 1) := dk_177 (dk_at dksX4_init_13 3 rfl rfl)
abbrev cX4_undo : ByteArray := prog_34_method_4_code
def yX4_undo : MethodName := ⟨RX4, "undo", "()I"⟩
def dkwX4_undo_1 : List UInt8 := [42, 180, 0, 13, 42, 180, 0, 92, 46, 42, 180, 0, 16, 42, 180, 0, 92, 46, 79, 42, 180, 0, 92, 172]
abbrev dktX4_undo_1 : List UInt8 := dkwX4_undo_1 ++ []
def dkwX4_undo_0 : List UInt8 := [42, 180, 0, 92, 154, 0, 6, 16, 251, 172, 42, 89, 180, 0, 92, 4, 100, 181, 0, 92, 42, 180, 0, 9]
abbrev dktX4_undo_0 : List UInt8 := dkwX4_undo_0 ++ dktX4_undo_1
theorem dksX4_undo_0 : cX4_undo.data.toList.drop 0 = dktX4_undo_0 := by decide +kernel
theorem dksX4_undo_1 : cX4_undo.data.toList.drop 24 = dktX4_undo_1 := dk_seg dksX4_undo_0 24 rfl rfl
theorem dX4_undo_0 : decode cX4_undo 0 = .ok (.aload_n 0, 1) := dk_42 (dk_at dksX4_undo_0 0 rfl rfl)
theorem dX4_undo_1 : decode cX4_undo 1 = .ok (.getfield 92, 3) := dk_180 0 92 (dk_at dksX4_undo_0 1 rfl rfl)
theorem dX4_undo_4 : decode cX4_undo 4 = .ok (.ifCond .ne 6, 3) := dk_154 0 6 (dk_at dksX4_undo_0 4 rfl rfl)
theorem dX4_undo_7 : decode cX4_undo 7 = .ok (.bipush (-5), 2) := dk_16 251 (dk_at dksX4_undo_0 7 rfl rfl)
theorem dX4_undo_9 : decode cX4_undo 9 = .ok (.ireturn, 1) := dk_172 (dk_at dksX4_undo_0 9 rfl rfl)
theorem dX4_undo_10 : decode cX4_undo 10 = .ok (.aload_n 0, 1) := dk_42 (dk_at dksX4_undo_0 10 rfl rfl)
theorem dX4_undo_11 : decode cX4_undo 11 = .ok (.dup, 1) := dk_89 (dk_at dksX4_undo_0 11 rfl rfl)
theorem dX4_undo_12 : decode cX4_undo 12 = .ok (.getfield 92, 3) := dk_180 0 92 (dk_at dksX4_undo_0 12 rfl rfl)
theorem dX4_undo_15 : decode cX4_undo 15 = .ok (.iconst 1, 1) := dk_4 (dk_at dksX4_undo_0 15 rfl rfl)
theorem dX4_undo_16 : decode cX4_undo 16 = .ok (.isub, 1) := dk_100 (dk_at dksX4_undo_0 16 rfl rfl)
theorem dX4_undo_17 : decode cX4_undo 17 = .ok (.putfield 92, 3) := dk_181 0 92 (dk_at dksX4_undo_0 17 rfl rfl)
theorem dX4_undo_20 : decode cX4_undo 20 = .ok (.aload_n 0, 1) := dk_42 (dk_at dksX4_undo_0 20 rfl rfl)
theorem dX4_undo_21 : decode cX4_undo 21 = .ok (.getfield 9, 3) := dk_180 0 9 (dk_at dksX4_undo_0 21 rfl rfl)
theorem dX4_undo_24 : decode cX4_undo 24 = .ok (.aload_n 0, 1) := dk_42 (dk_at dksX4_undo_1 0 rfl rfl)
theorem dX4_undo_25 : decode cX4_undo 25 = .ok (.getfield 13, 3) := dk_180 0 13 (dk_at dksX4_undo_1 1 rfl rfl)
theorem dX4_undo_28 : decode cX4_undo 28 = .ok (.aload_n 0, 1) := dk_42 (dk_at dksX4_undo_1 4 rfl rfl)
theorem dX4_undo_29 : decode cX4_undo 29 = .ok (.getfield 92, 3) := dk_180 0 92 (dk_at dksX4_undo_1 5 rfl rfl)
theorem dX4_undo_32 : decode cX4_undo 32 = .ok (.iaload, 1) := dk_46 (dk_at dksX4_undo_1 8 rfl rfl)
theorem dX4_undo_33 : decode cX4_undo 33 = .ok (.aload_n 0, 1) := dk_42 (dk_at dksX4_undo_1 9 rfl rfl)
theorem dX4_undo_34 : decode cX4_undo 34 = .ok (.getfield 16, 3) := dk_180 0 16 (dk_at dksX4_undo_1 10 rfl rfl)
theorem dX4_undo_37 : decode cX4_undo 37 = .ok (.aload_n 0, 1) := dk_42 (dk_at dksX4_undo_1 13 rfl rfl)
theorem dX4_undo_38 : decode cX4_undo 38 = .ok (.getfield 92, 3) := dk_180 0 92 (dk_at dksX4_undo_1 14 rfl rfl)
theorem dX4_undo_41 : decode cX4_undo 41 = .ok (.iaload, 1) := dk_46 (dk_at dksX4_undo_1 17 rfl rfl)
theorem dX4_undo_42 : decode cX4_undo 42 = .ok (.iastore, 1) := dk_79 (dk_at dksX4_undo_1 18 rfl rfl)
theorem dX4_undo_43 : decode cX4_undo 43 = .ok (.aload_n 0, 1) := dk_42 (dk_at dksX4_undo_1 19 rfl rfl)
theorem dX4_undo_44 : decode cX4_undo 44 = .ok (.getfield 92, 3) := dk_180 0 92 (dk_at dksX4_undo_1 20 rfl rfl)
theorem dX4_undo_47 : decode cX4_undo 47 = .ok (.ireturn, 1) := dk_172 (dk_at dksX4_undo_1 23 rfl rfl)
abbrev cX4_redo : ByteArray := prog_34_method_5_code
def yX4_redo : MethodName := ⟨RX4, "redo", "()I"⟩
def dkwX4_redo_2 : List UInt8 := [42, 180, 0, 96, 42, 180, 0, 92, 100, 172]
abbrev dktX4_redo_2 : List UInt8 := dkwX4_redo_2 ++ []
def dkwX4_redo_1 : List UInt8 := [180, 0, 92, 46, 42, 180, 0, 19, 42, 180, 0, 92, 46, 79, 42, 89, 180, 0, 92, 4, 96, 181, 0, 92]
abbrev dktX4_redo_1 : List UInt8 := dkwX4_redo_1 ++ dktX4_redo_2
def dkwX4_redo_0 : List UInt8 := [42, 180, 0, 92, 42, 180, 0, 96, 160, 0, 6, 16, 251, 172, 42, 180, 0, 9, 42, 180, 0, 13, 42]
abbrev dktX4_redo_0 : List UInt8 := dkwX4_redo_0 ++ dktX4_redo_1
theorem dksX4_redo_0 : cX4_redo.data.toList.drop 0 = dktX4_redo_0 := by decide +kernel
theorem dksX4_redo_1 : cX4_redo.data.toList.drop 23 = dktX4_redo_1 := dk_seg dksX4_redo_0 23 rfl rfl
theorem dksX4_redo_2 : cX4_redo.data.toList.drop 47 = dktX4_redo_2 := dk_seg dksX4_redo_1 24 rfl rfl
theorem dX4_redo_0 : decode cX4_redo 0 = .ok (.aload_n 0, 1) := dk_42 (dk_at dksX4_redo_0 0 rfl rfl)
theorem dX4_redo_1 : decode cX4_redo 1 = .ok (.getfield 92, 3) := dk_180 0 92 (dk_at dksX4_redo_0 1 rfl rfl)
theorem dX4_redo_4 : decode cX4_redo 4 = .ok (.aload_n 0, 1) := dk_42 (dk_at dksX4_redo_0 4 rfl rfl)
theorem dX4_redo_5 : decode cX4_redo 5 = .ok (.getfield 96, 3) := dk_180 0 96 (dk_at dksX4_redo_0 5 rfl rfl)
theorem dX4_redo_8 : decode cX4_redo 8 = .ok (.if_icmp .ne 6, 3) := dk_160 0 6 (dk_at dksX4_redo_0 8 rfl rfl)
theorem dX4_redo_11 : decode cX4_redo 11 = .ok (.bipush (-5), 2) := dk_16 251 (dk_at dksX4_redo_0 11 rfl rfl)
theorem dX4_redo_13 : decode cX4_redo 13 = .ok (.ireturn, 1) := dk_172 (dk_at dksX4_redo_0 13 rfl rfl)
theorem dX4_redo_14 : decode cX4_redo 14 = .ok (.aload_n 0, 1) := dk_42 (dk_at dksX4_redo_0 14 rfl rfl)
theorem dX4_redo_15 : decode cX4_redo 15 = .ok (.getfield 9, 3) := dk_180 0 9 (dk_at dksX4_redo_0 15 rfl rfl)
theorem dX4_redo_18 : decode cX4_redo 18 = .ok (.aload_n 0, 1) := dk_42 (dk_at dksX4_redo_0 18 rfl rfl)
theorem dX4_redo_19 : decode cX4_redo 19 = .ok (.getfield 13, 3) := dk_180 0 13 (dk_at dksX4_redo_0 19 rfl rfl)
theorem dX4_redo_22 : decode cX4_redo 22 = .ok (.aload_n 0, 1) := dk_42 (dk_at dksX4_redo_0 22 rfl rfl)
theorem dX4_redo_23 : decode cX4_redo 23 = .ok (.getfield 92, 3) := dk_180 0 92 (dk_at dksX4_redo_1 0 rfl rfl)
theorem dX4_redo_26 : decode cX4_redo 26 = .ok (.iaload, 1) := dk_46 (dk_at dksX4_redo_1 3 rfl rfl)
theorem dX4_redo_27 : decode cX4_redo 27 = .ok (.aload_n 0, 1) := dk_42 (dk_at dksX4_redo_1 4 rfl rfl)
theorem dX4_redo_28 : decode cX4_redo 28 = .ok (.getfield 19, 3) := dk_180 0 19 (dk_at dksX4_redo_1 5 rfl rfl)
theorem dX4_redo_31 : decode cX4_redo 31 = .ok (.aload_n 0, 1) := dk_42 (dk_at dksX4_redo_1 8 rfl rfl)
theorem dX4_redo_32 : decode cX4_redo 32 = .ok (.getfield 92, 3) := dk_180 0 92 (dk_at dksX4_redo_1 9 rfl rfl)
theorem dX4_redo_35 : decode cX4_redo 35 = .ok (.iaload, 1) := dk_46 (dk_at dksX4_redo_1 12 rfl rfl)
theorem dX4_redo_36 : decode cX4_redo 36 = .ok (.iastore, 1) := dk_79 (dk_at dksX4_redo_1 13 rfl rfl)
theorem dX4_redo_37 : decode cX4_redo 37 = .ok (.aload_n 0, 1) := dk_42 (dk_at dksX4_redo_1 14 rfl rfl)
theorem dX4_redo_38 : decode cX4_redo 38 = .ok (.dup, 1) := dk_89 (dk_at dksX4_redo_1 15 rfl rfl)
theorem dX4_redo_39 : decode cX4_redo 39 = .ok (.getfield 92, 3) := dk_180 0 92 (dk_at dksX4_redo_1 16 rfl rfl)
theorem dX4_redo_42 : decode cX4_redo 42 = .ok (.iconst 1, 1) := dk_4 (dk_at dksX4_redo_1 19 rfl rfl)
theorem dX4_redo_43 : decode cX4_redo 43 = .ok (.iadd, 1) := dk_96 (dk_at dksX4_redo_1 20 rfl rfl)
theorem dX4_redo_44 : decode cX4_redo 44 = .ok (.putfield 92, 3) := dk_181 0 92 (dk_at dksX4_redo_1 21 rfl rfl)
theorem dX4_redo_47 : decode cX4_redo 47 = .ok (.aload_n 0, 1) := dk_42 (dk_at dksX4_redo_2 0 rfl rfl)
theorem dX4_redo_48 : decode cX4_redo 48 = .ok (.getfield 96, 3) := dk_180 0 96 (dk_at dksX4_redo_2 1 rfl rfl)
theorem dX4_redo_51 : decode cX4_redo 51 = .ok (.aload_n 0, 1) := dk_42 (dk_at dksX4_redo_2 4 rfl rfl)
theorem dX4_redo_52 : decode cX4_redo 52 = .ok (.getfield 92, 3) := dk_180 0 92 (dk_at dksX4_redo_2 5 rfl rfl)
theorem dX4_redo_55 : decode cX4_redo 55 = .ok (.isub, 1) := dk_100 (dk_at dksX4_redo_2 8 rfl rfl)
theorem dX4_redo_56 : decode cX4_redo 56 = .ok (.ireturn, 1) := dk_172 (dk_at dksX4_redo_2 9 rfl rfl)
abbrev cX4_part : ByteArray := prog_34_method_10_code
def yX4_part : MethodName := ⟨RX4, "part", "(I)I"⟩
def dkwX4_part_1 : List UInt8 := [16, 253, 172, 42, 27, 16, 10, 108, 27, 16, 10, 112, 182, 0, 110, 42, 180, 0, 99, 4, 100, 172]
abbrev dktX4_part_1 : List UInt8 := dkwX4_part_1 ++ []
def dkwX4_part_0 : List UInt8 := [27, 133, 9, 20, 0, 108, 184, 0, 102, 154, 0, 5, 2, 172, 42, 180, 0, 99, 16, 8, 160, 0, 6]
abbrev dktX4_part_0 : List UInt8 := dkwX4_part_0 ++ dktX4_part_1
theorem dksX4_part_0 : cX4_part.data.toList.drop 0 = dktX4_part_0 := by decide +kernel
theorem dksX4_part_1 : cX4_part.data.toList.drop 23 = dktX4_part_1 := dk_seg dksX4_part_0 23 rfl rfl
theorem dX4_part_0 : decode cX4_part 0 = .ok (.iload_n 1, 1) := dk_27 (dk_at dksX4_part_0 0 rfl rfl)
theorem dX4_part_1 : decode cX4_part 1 = .ok (.i2l, 1) := dk_133 (dk_at dksX4_part_0 1 rfl rfl)
theorem dX4_part_2 : decode cX4_part 2 = .ok (.lconst 0, 1) := dk_9 (dk_at dksX4_part_0 2 rfl rfl)
theorem dX4_part_3 : decode cX4_part 3 = .ok (.ldc2_w 108, 3) := dk_20 0 108 (dk_at dksX4_part_0 3 rfl rfl)
theorem dX4_part_6 : decode cX4_part 6 = .ok (.invokestatic 102, 3) := dk_184 0 102 (dk_at dksX4_part_0 6 rfl rfl)
theorem dX4_part_9 : decode cX4_part 9 = .ok (.ifCond .ne 5, 3) := dk_154 0 5 (dk_at dksX4_part_0 9 rfl rfl)
theorem dX4_part_12 : decode cX4_part 12 = .ok (.iconst (-1), 1) := dk_2 (dk_at dksX4_part_0 12 rfl rfl)
theorem dX4_part_13 : decode cX4_part 13 = .ok (.ireturn, 1) := dk_172 (dk_at dksX4_part_0 13 rfl rfl)
theorem dX4_part_14 : decode cX4_part 14 = .ok (.aload_n 0, 1) := dk_42 (dk_at dksX4_part_0 14 rfl rfl)
theorem dX4_part_15 : decode cX4_part 15 = .ok (.getfield 99, 3) := dk_180 0 99 (dk_at dksX4_part_0 15 rfl rfl)
theorem dX4_part_18 : decode cX4_part 18 = .ok (.bipush 8, 2) := dk_16 8 (dk_at dksX4_part_0 18 rfl rfl)
theorem dX4_part_20 : decode cX4_part 20 = .ok (.if_icmp .ne 6, 3) := dk_160 0 6 (dk_at dksX4_part_0 20 rfl rfl)
theorem dX4_part_23 : decode cX4_part 23 = .ok (.bipush (-3), 2) := dk_16 253 (dk_at dksX4_part_1 0 rfl rfl)
theorem dX4_part_25 : decode cX4_part 25 = .ok (.ireturn, 1) := dk_172 (dk_at dksX4_part_1 2 rfl rfl)
theorem dX4_part_26 : decode cX4_part 26 = .ok (.aload_n 0, 1) := dk_42 (dk_at dksX4_part_1 3 rfl rfl)
theorem dX4_part_27 : decode cX4_part 27 = .ok (.iload_n 1, 1) := dk_27 (dk_at dksX4_part_1 4 rfl rfl)
theorem dX4_part_28 : decode cX4_part 28 = .ok (.bipush 10, 2) := dk_16 10 (dk_at dksX4_part_1 5 rfl rfl)
theorem dX4_part_30 : decode cX4_part 30 = .ok (.idiv, 1) := dk_108 (dk_at dksX4_part_1 7 rfl rfl)
theorem dX4_part_31 : decode cX4_part 31 = .ok (.iload_n 1, 1) := dk_27 (dk_at dksX4_part_1 8 rfl rfl)
theorem dX4_part_32 : decode cX4_part 32 = .ok (.bipush 10, 2) := dk_16 10 (dk_at dksX4_part_1 9 rfl rfl)
theorem dX4_part_34 : decode cX4_part 34 = .ok (.irem, 1) := dk_112 (dk_at dksX4_part_1 11 rfl rfl)
theorem dX4_part_35 : decode cX4_part 35 = .ok (.invokevirtual 110, 3) := dk_182 0 110 (dk_at dksX4_part_1 12 rfl rfl)
theorem dX4_part_38 : decode cX4_part 38 = .ok (.aload_n 0, 1) := dk_42 (dk_at dksX4_part_1 15 rfl rfl)
theorem dX4_part_39 : decode cX4_part 39 = .ok (.getfield 99, 3) := dk_180 0 99 (dk_at dksX4_part_1 16 rfl rfl)
theorem dX4_part_42 : decode cX4_part 42 = .ok (.iconst 1, 1) := dk_4 (dk_at dksX4_part_1 19 rfl rfl)
theorem dX4_part_43 : decode cX4_part 43 = .ok (.isub, 1) := dk_100 (dk_at dksX4_part_1 20 rfl rfl)
theorem dX4_part_44 : decode cX4_part 44 = .ok (.ireturn, 1) := dk_172 (dk_at dksX4_part_1 21 rfl rfl)
abbrev cX4_within : ByteArray := prog_34_method_1_code
def yX4_within : MethodName := ⟨RX4, "within", "(JJJ)Z"⟩
def dkwX4_within_0 : List UInt8 := [30, 32, 148, 155, 0, 14, 30, 22, 4, 148, 157, 0, 7, 4, 167, 0, 4, 3, 172]
abbrev dktX4_within_0 : List UInt8 := dkwX4_within_0 ++ []
theorem dksX4_within_0 : cX4_within.data.toList.drop 0 = dktX4_within_0 := by decide +kernel
theorem dX4_within_0 : decode cX4_within 0 = .ok (.lload_n 0, 1) := dk_30 (dk_at dksX4_within_0 0 rfl rfl)
theorem dX4_within_1 : decode cX4_within 1 = .ok (.lload_n 2, 1) := dk_32 (dk_at dksX4_within_0 1 rfl rfl)
theorem dX4_within_2 : decode cX4_within 2 = .ok (.lcmp, 1) := dk_148 (dk_at dksX4_within_0 2 rfl rfl)
theorem dX4_within_3 : decode cX4_within 3 = .ok (.ifCond .lt 14, 3) := dk_155 0 14 (dk_at dksX4_within_0 3 rfl rfl)
theorem dX4_within_6 : decode cX4_within 6 = .ok (.lload_n 0, 1) := dk_30 (dk_at dksX4_within_0 6 rfl rfl)
theorem dX4_within_7 : decode cX4_within 7 = .ok (.lload 4, 2) := dk_22 4 (dk_at dksX4_within_0 7 rfl rfl)
theorem dX4_within_9 : decode cX4_within 9 = .ok (.lcmp, 1) := dk_148 (dk_at dksX4_within_0 9 rfl rfl)
theorem dX4_within_10 : decode cX4_within 10 = .ok (.ifCond .gt 7, 3) := dk_157 0 7 (dk_at dksX4_within_0 10 rfl rfl)
theorem dX4_within_13 : decode cX4_within 13 = .ok (.iconst 1, 1) := dk_4 (dk_at dksX4_within_0 13 rfl rfl)
theorem dX4_within_14 : decode cX4_within 14 = .ok (.goto 4, 3) := dk_167 0 4 (dk_at dksX4_within_0 14 rfl rfl)
theorem dX4_within_17 : decode cX4_within 17 = .ok (.iconst 0, 1) := dk_3 (dk_at dksX4_within_0 17 rfl rfl)
theorem dX4_within_18 : decode cX4_within 18 = .ok (.ireturn, 1) := dk_172 (dk_at dksX4_within_0 18 rfl rfl)
abbrev cX4_adds : ByteArray := prog_34_method_9_code
def yX4_adds : MethodName := ⟨RX4, "adds", "(II)V"⟩
def dkwX4_adds_2 : List UInt8 := [167, 255, 232, 42, 89, 180, 0, 99, 4, 96, 181, 0, 99, 177]
abbrev dktX4_adds_2 : List UInt8 := dkwX4_adds_2 ++ []
def dkwX4_adds_1 : List UInt8 := [16, 6, 162, 0, 24, 42, 180, 0, 28, 16, 6, 42, 180, 0, 99, 104, 29, 96, 3, 79, 132, 3, 1]
abbrev dktX4_adds_1 : List UInt8 := dkwX4_adds_1 ++ dktX4_adds_2
def dkwX4_adds_0 : List UInt8 := [42, 180, 0, 22, 42, 180, 0, 99, 27, 79, 42, 180, 0, 25, 42, 180, 0, 99, 28, 79, 3, 62, 29]
abbrev dktX4_adds_0 : List UInt8 := dkwX4_adds_0 ++ dktX4_adds_1
theorem dksX4_adds_0 : cX4_adds.data.toList.drop 0 = dktX4_adds_0 := by decide +kernel
theorem dksX4_adds_1 : cX4_adds.data.toList.drop 23 = dktX4_adds_1 := dk_seg dksX4_adds_0 23 rfl rfl
theorem dksX4_adds_2 : cX4_adds.data.toList.drop 46 = dktX4_adds_2 := dk_seg dksX4_adds_1 23 rfl rfl
theorem dX4_adds_0 : decode cX4_adds 0 = .ok (.aload_n 0, 1) := dk_42 (dk_at dksX4_adds_0 0 rfl rfl)
theorem dX4_adds_1 : decode cX4_adds 1 = .ok (.getfield 22, 3) := dk_180 0 22 (dk_at dksX4_adds_0 1 rfl rfl)
theorem dX4_adds_4 : decode cX4_adds 4 = .ok (.aload_n 0, 1) := dk_42 (dk_at dksX4_adds_0 4 rfl rfl)
theorem dX4_adds_5 : decode cX4_adds 5 = .ok (.getfield 99, 3) := dk_180 0 99 (dk_at dksX4_adds_0 5 rfl rfl)
theorem dX4_adds_8 : decode cX4_adds 8 = .ok (.iload_n 1, 1) := dk_27 (dk_at dksX4_adds_0 8 rfl rfl)
theorem dX4_adds_9 : decode cX4_adds 9 = .ok (.iastore, 1) := dk_79 (dk_at dksX4_adds_0 9 rfl rfl)
theorem dX4_adds_10 : decode cX4_adds 10 = .ok (.aload_n 0, 1) := dk_42 (dk_at dksX4_adds_0 10 rfl rfl)
theorem dX4_adds_11 : decode cX4_adds 11 = .ok (.getfield 25, 3) := dk_180 0 25 (dk_at dksX4_adds_0 11 rfl rfl)
theorem dX4_adds_14 : decode cX4_adds 14 = .ok (.aload_n 0, 1) := dk_42 (dk_at dksX4_adds_0 14 rfl rfl)
theorem dX4_adds_15 : decode cX4_adds 15 = .ok (.getfield 99, 3) := dk_180 0 99 (dk_at dksX4_adds_0 15 rfl rfl)
theorem dX4_adds_18 : decode cX4_adds 18 = .ok (.iload_n 2, 1) := dk_28 (dk_at dksX4_adds_0 18 rfl rfl)
theorem dX4_adds_19 : decode cX4_adds 19 = .ok (.iastore, 1) := dk_79 (dk_at dksX4_adds_0 19 rfl rfl)
theorem dX4_adds_20 : decode cX4_adds 20 = .ok (.iconst 0, 1) := dk_3 (dk_at dksX4_adds_0 20 rfl rfl)
theorem dX4_adds_21 : decode cX4_adds 21 = .ok (.istore_n 3, 1) := dk_62 (dk_at dksX4_adds_0 21 rfl rfl)
theorem dX4_adds_22 : decode cX4_adds 22 = .ok (.iload_n 3, 1) := dk_29 (dk_at dksX4_adds_0 22 rfl rfl)
theorem dX4_adds_23 : decode cX4_adds 23 = .ok (.bipush 6, 2) := dk_16 6 (dk_at dksX4_adds_1 0 rfl rfl)
theorem dX4_adds_25 : decode cX4_adds 25 = .ok (.if_icmp .ge 24, 3) := dk_162 0 24 (dk_at dksX4_adds_1 2 rfl rfl)
theorem dX4_adds_28 : decode cX4_adds 28 = .ok (.aload_n 0, 1) := dk_42 (dk_at dksX4_adds_1 5 rfl rfl)
theorem dX4_adds_29 : decode cX4_adds 29 = .ok (.getfield 28, 3) := dk_180 0 28 (dk_at dksX4_adds_1 6 rfl rfl)
theorem dX4_adds_32 : decode cX4_adds 32 = .ok (.bipush 6, 2) := dk_16 6 (dk_at dksX4_adds_1 9 rfl rfl)
theorem dX4_adds_34 : decode cX4_adds 34 = .ok (.aload_n 0, 1) := dk_42 (dk_at dksX4_adds_1 11 rfl rfl)
theorem dX4_adds_35 : decode cX4_adds 35 = .ok (.getfield 99, 3) := dk_180 0 99 (dk_at dksX4_adds_1 12 rfl rfl)
theorem dX4_adds_38 : decode cX4_adds 38 = .ok (.imul, 1) := dk_104 (dk_at dksX4_adds_1 15 rfl rfl)
theorem dX4_adds_39 : decode cX4_adds 39 = .ok (.iload_n 3, 1) := dk_29 (dk_at dksX4_adds_1 16 rfl rfl)
theorem dX4_adds_40 : decode cX4_adds 40 = .ok (.iadd, 1) := dk_96 (dk_at dksX4_adds_1 17 rfl rfl)
theorem dX4_adds_41 : decode cX4_adds 41 = .ok (.iconst 0, 1) := dk_3 (dk_at dksX4_adds_1 18 rfl rfl)
theorem dX4_adds_42 : decode cX4_adds 42 = .ok (.iastore, 1) := dk_79 (dk_at dksX4_adds_1 19 rfl rfl)
theorem dX4_adds_43 : decode cX4_adds 43 = .ok (.iinc 3 1, 3) := dk_132 3 1 (dk_at dksX4_adds_1 20 rfl rfl)
theorem dX4_adds_46 : decode cX4_adds 46 = .ok (.goto (-24), 3) := dk_167 255 232 (dk_at dksX4_adds_2 0 rfl rfl)
theorem dX4_adds_49 : decode cX4_adds 49 = .ok (.aload_n 0, 1) := dk_42 (dk_at dksX4_adds_2 3 rfl rfl)
theorem dX4_adds_50 : decode cX4_adds 50 = .ok (.dup, 1) := dk_89 (dk_at dksX4_adds_2 4 rfl rfl)
theorem dX4_adds_51 : decode cX4_adds 51 = .ok (.getfield 99, 3) := dk_180 0 99 (dk_at dksX4_adds_2 5 rfl rfl)
theorem dX4_adds_54 : decode cX4_adds 54 = .ok (.iconst 1, 1) := dk_4 (dk_at dksX4_adds_2 8 rfl rfl)
theorem dX4_adds_55 : decode cX4_adds 55 = .ok (.iadd, 1) := dk_96 (dk_at dksX4_adds_2 9 rfl rfl)
theorem dX4_adds_56 : decode cX4_adds 56 = .ok (.putfield 99, 3) := dk_181 0 99 (dk_at dksX4_adds_2 10 rfl rfl)
theorem dX4_adds_59 : decode cX4_adds 59 = .ok (.return_, 1) := dk_177 (dk_at dksX4_adds_2 13 rfl rfl)
abbrev cX4_parts : ByteArray := prog_34_method_11_code
def yX4_parts : MethodName := ⟨RX4, "parts", "(III)I"⟩
def dkwX4_parts_9 : List UInt8 := [21, 4, 172]
abbrev dktX4_parts_9 : List UInt8 := dkwX4_parts_9 ++ []
def dkwX4_parts_8 : List UInt8 := [21, 6, 47, 136, 42, 180, 0, 86, 21, 6, 4, 96, 47, 136, 182, 0, 110, 132, 4, 1, 167, 255, 121]
abbrev dktX4_parts_8 : List UInt8 := dkwX4_parts_8 ++ dktX4_parts_9
def dkwX4_parts_7 : List UInt8 := [184, 0, 102, 153, 0, 7, 4, 167, 0, 4, 3, 54, 5, 21, 5, 153, 0, 28, 42, 42, 180, 0, 86]
abbrev dktX4_parts_7 : List UInt8 := dkwX4_parts_7 ++ dktX4_parts_8
def dkwX4_parts_6 : List UInt8 := [20, 0, 120, 184, 0, 102, 153, 0, 26, 42, 180, 0, 86, 21, 6, 4, 96, 47, 9, 20, 0, 120]
abbrev dktX4_parts_6 : List UInt8 := dkwX4_parts_6 ++ dktX4_parts_7
def dkwX4_parts_5 : List UInt8 := [28, 96, 5, 21, 4, 104, 96, 54, 6, 21, 5, 153, 0, 43, 42, 180, 0, 86, 21, 6, 47, 9]
abbrev dktX4_parts_5 : List UInt8 := dkwX4_parts_5 ++ dktX4_parts_6
def dkwX4_parts_4 : List UInt8 := [100, 163, 0, 16, 42, 180, 0, 99, 16, 8, 162, 0, 7, 4, 167, 0, 4, 3, 54, 5, 16, 60, 27, 104]
abbrev dktX4_parts_4 : List UInt8 := dkwX4_parts_4 ++ dktX4_parts_5
def dkwX4_parts_3 : List UInt8 := [21, 5, 153, 0, 136, 21, 4, 29, 162, 0, 130, 28, 42, 180, 0, 83, 27, 46, 5, 100, 5, 21, 4, 104]
abbrev dktX4_parts_3 : List UInt8 := dkwX4_parts_3 ++ dktX4_parts_4
def dkwX4_parts_2 : List UInt8 := [54, 4, 42, 180, 0, 80, 27, 46, 16, 50, 160, 0, 11, 28, 155, 0, 7, 4, 167, 0, 4, 3, 54, 5]
abbrev dktX4_parts_2 : List UInt8 := dkwX4_parts_2 ++ dktX4_parts_3
def dkwX4_parts_1 : List UInt8 := [180, 0, 80, 27, 46, 155, 0, 17, 42, 180, 0, 80, 27, 46, 16, 50, 159, 0, 6, 16, 244, 172, 3]
abbrev dktX4_parts_1 : List UInt8 := dkwX4_parts_1 ++ dktX4_parts_2
def dkwX4_parts_0 : List UInt8 := [27, 184, 0, 114, 153, 0, 15, 29, 133, 10, 20, 0, 118, 184, 0, 102, 154, 0, 5, 2, 172, 42]
abbrev dktX4_parts_0 : List UInt8 := dkwX4_parts_0 ++ dktX4_parts_1
theorem dksX4_parts_0 : cX4_parts.data.toList.drop 0 = dktX4_parts_0 := by decide +kernel
theorem dksX4_parts_1 : cX4_parts.data.toList.drop 22 = dktX4_parts_1 := dk_seg dksX4_parts_0 22 rfl rfl
theorem dksX4_parts_2 : cX4_parts.data.toList.drop 45 = dktX4_parts_2 := dk_seg dksX4_parts_1 23 rfl rfl
theorem dksX4_parts_3 : cX4_parts.data.toList.drop 69 = dktX4_parts_3 := dk_seg dksX4_parts_2 24 rfl rfl
theorem dksX4_parts_4 : cX4_parts.data.toList.drop 93 = dktX4_parts_4 := dk_seg dksX4_parts_3 24 rfl rfl
theorem dksX4_parts_5 : cX4_parts.data.toList.drop 117 = dktX4_parts_5 := dk_seg dksX4_parts_4 24 rfl rfl
theorem dksX4_parts_6 : cX4_parts.data.toList.drop 139 = dktX4_parts_6 := dk_seg dksX4_parts_5 22 rfl rfl
theorem dksX4_parts_7 : cX4_parts.data.toList.drop 161 = dktX4_parts_7 := dk_seg dksX4_parts_6 22 rfl rfl
theorem dksX4_parts_8 : cX4_parts.data.toList.drop 184 = dktX4_parts_8 := dk_seg dksX4_parts_7 23 rfl rfl
theorem dksX4_parts_9 : cX4_parts.data.toList.drop 207 = dktX4_parts_9 := dk_seg dksX4_parts_8 23 rfl rfl
theorem dX4_parts_0 : decode cX4_parts 0 = .ok (.iload_n 1, 1) := dk_27 (dk_at dksX4_parts_0 0 rfl rfl)
theorem dX4_parts_1 : decode cX4_parts 1 = .ok (.invokestatic 114, 3) := dk_184 0 114 (dk_at dksX4_parts_0 1 rfl rfl)
theorem dX4_parts_4 : decode cX4_parts 4 = .ok (.ifCond .eq 15, 3) := dk_153 0 15 (dk_at dksX4_parts_0 4 rfl rfl)
theorem dX4_parts_7 : decode cX4_parts 7 = .ok (.iload_n 3, 1) := dk_29 (dk_at dksX4_parts_0 7 rfl rfl)
theorem dX4_parts_8 : decode cX4_parts 8 = .ok (.i2l, 1) := dk_133 (dk_at dksX4_parts_0 8 rfl rfl)
theorem dX4_parts_9 : decode cX4_parts 9 = .ok (.lconst 1, 1) := dk_10 (dk_at dksX4_parts_0 9 rfl rfl)
theorem dX4_parts_10 : decode cX4_parts 10 = .ok (.ldc2_w 118, 3) := dk_20 0 118 (dk_at dksX4_parts_0 10 rfl rfl)
theorem dX4_parts_13 : decode cX4_parts 13 = .ok (.invokestatic 102, 3) := dk_184 0 102 (dk_at dksX4_parts_0 13 rfl rfl)
theorem dX4_parts_16 : decode cX4_parts 16 = .ok (.ifCond .ne 5, 3) := dk_154 0 5 (dk_at dksX4_parts_0 16 rfl rfl)
theorem dX4_parts_19 : decode cX4_parts 19 = .ok (.iconst (-1), 1) := dk_2 (dk_at dksX4_parts_0 19 rfl rfl)
theorem dX4_parts_20 : decode cX4_parts 20 = .ok (.ireturn, 1) := dk_172 (dk_at dksX4_parts_0 20 rfl rfl)
theorem dX4_parts_21 : decode cX4_parts 21 = .ok (.aload_n 0, 1) := dk_42 (dk_at dksX4_parts_0 21 rfl rfl)
theorem dX4_parts_22 : decode cX4_parts 22 = .ok (.getfield 80, 3) := dk_180 0 80 (dk_at dksX4_parts_1 0 rfl rfl)
theorem dX4_parts_25 : decode cX4_parts 25 = .ok (.iload_n 1, 1) := dk_27 (dk_at dksX4_parts_1 3 rfl rfl)
theorem dX4_parts_26 : decode cX4_parts 26 = .ok (.iaload, 1) := dk_46 (dk_at dksX4_parts_1 4 rfl rfl)
theorem dX4_parts_27 : decode cX4_parts 27 = .ok (.ifCond .lt 17, 3) := dk_155 0 17 (dk_at dksX4_parts_1 5 rfl rfl)
theorem dX4_parts_30 : decode cX4_parts 30 = .ok (.aload_n 0, 1) := dk_42 (dk_at dksX4_parts_1 8 rfl rfl)
theorem dX4_parts_31 : decode cX4_parts 31 = .ok (.getfield 80, 3) := dk_180 0 80 (dk_at dksX4_parts_1 9 rfl rfl)
theorem dX4_parts_34 : decode cX4_parts 34 = .ok (.iload_n 1, 1) := dk_27 (dk_at dksX4_parts_1 12 rfl rfl)
theorem dX4_parts_35 : decode cX4_parts 35 = .ok (.iaload, 1) := dk_46 (dk_at dksX4_parts_1 13 rfl rfl)
theorem dX4_parts_36 : decode cX4_parts 36 = .ok (.bipush 50, 2) := dk_16 50 (dk_at dksX4_parts_1 14 rfl rfl)
theorem dX4_parts_38 : decode cX4_parts 38 = .ok (.if_icmp .eq 6, 3) := dk_159 0 6 (dk_at dksX4_parts_1 16 rfl rfl)
theorem dX4_parts_41 : decode cX4_parts 41 = .ok (.bipush (-12), 2) := dk_16 244 (dk_at dksX4_parts_1 19 rfl rfl)
theorem dX4_parts_43 : decode cX4_parts 43 = .ok (.ireturn, 1) := dk_172 (dk_at dksX4_parts_1 21 rfl rfl)
theorem dX4_parts_44 : decode cX4_parts 44 = .ok (.iconst 0, 1) := dk_3 (dk_at dksX4_parts_1 22 rfl rfl)
theorem dX4_parts_45 : decode cX4_parts 45 = .ok (.istore 4, 2) := dk_54 4 (dk_at dksX4_parts_2 0 rfl rfl)
theorem dX4_parts_47 : decode cX4_parts 47 = .ok (.aload_n 0, 1) := dk_42 (dk_at dksX4_parts_2 2 rfl rfl)
theorem dX4_parts_48 : decode cX4_parts 48 = .ok (.getfield 80, 3) := dk_180 0 80 (dk_at dksX4_parts_2 3 rfl rfl)
theorem dX4_parts_51 : decode cX4_parts 51 = .ok (.iload_n 1, 1) := dk_27 (dk_at dksX4_parts_2 6 rfl rfl)
theorem dX4_parts_52 : decode cX4_parts 52 = .ok (.iaload, 1) := dk_46 (dk_at dksX4_parts_2 7 rfl rfl)
theorem dX4_parts_53 : decode cX4_parts 53 = .ok (.bipush 50, 2) := dk_16 50 (dk_at dksX4_parts_2 8 rfl rfl)
theorem dX4_parts_55 : decode cX4_parts 55 = .ok (.if_icmp .ne 11, 3) := dk_160 0 11 (dk_at dksX4_parts_2 10 rfl rfl)
theorem dX4_parts_58 : decode cX4_parts 58 = .ok (.iload_n 2, 1) := dk_28 (dk_at dksX4_parts_2 13 rfl rfl)
theorem dX4_parts_59 : decode cX4_parts 59 = .ok (.ifCond .lt 7, 3) := dk_155 0 7 (dk_at dksX4_parts_2 14 rfl rfl)
theorem dX4_parts_62 : decode cX4_parts 62 = .ok (.iconst 1, 1) := dk_4 (dk_at dksX4_parts_2 17 rfl rfl)
theorem dX4_parts_63 : decode cX4_parts 63 = .ok (.goto 4, 3) := dk_167 0 4 (dk_at dksX4_parts_2 18 rfl rfl)
theorem dX4_parts_66 : decode cX4_parts 66 = .ok (.iconst 0, 1) := dk_3 (dk_at dksX4_parts_2 21 rfl rfl)
theorem dX4_parts_67 : decode cX4_parts 67 = .ok (.istore 5, 2) := dk_54 5 (dk_at dksX4_parts_2 22 rfl rfl)
theorem dX4_parts_69 : decode cX4_parts 69 = .ok (.iload 5, 2) := dk_21 5 (dk_at dksX4_parts_3 0 rfl rfl)
theorem dX4_parts_71 : decode cX4_parts 71 = .ok (.ifCond .eq 136, 3) := dk_153 0 136 (dk_at dksX4_parts_3 2 rfl rfl)
theorem dX4_parts_74 : decode cX4_parts 74 = .ok (.iload 4, 2) := dk_21 4 (dk_at dksX4_parts_3 5 rfl rfl)
theorem dX4_parts_76 : decode cX4_parts 76 = .ok (.iload_n 3, 1) := dk_29 (dk_at dksX4_parts_3 7 rfl rfl)
theorem dX4_parts_77 : decode cX4_parts 77 = .ok (.if_icmp .ge 130, 3) := dk_162 0 130 (dk_at dksX4_parts_3 8 rfl rfl)
theorem dX4_parts_80 : decode cX4_parts 80 = .ok (.iload_n 2, 1) := dk_28 (dk_at dksX4_parts_3 11 rfl rfl)
theorem dX4_parts_81 : decode cX4_parts 81 = .ok (.aload_n 0, 1) := dk_42 (dk_at dksX4_parts_3 12 rfl rfl)
theorem dX4_parts_82 : decode cX4_parts 82 = .ok (.getfield 83, 3) := dk_180 0 83 (dk_at dksX4_parts_3 13 rfl rfl)
theorem dX4_parts_85 : decode cX4_parts 85 = .ok (.iload_n 1, 1) := dk_27 (dk_at dksX4_parts_3 16 rfl rfl)
theorem dX4_parts_86 : decode cX4_parts 86 = .ok (.iaload, 1) := dk_46 (dk_at dksX4_parts_3 17 rfl rfl)
theorem dX4_parts_87 : decode cX4_parts 87 = .ok (.iconst 2, 1) := dk_5 (dk_at dksX4_parts_3 18 rfl rfl)
theorem dX4_parts_88 : decode cX4_parts 88 = .ok (.isub, 1) := dk_100 (dk_at dksX4_parts_3 19 rfl rfl)
theorem dX4_parts_89 : decode cX4_parts 89 = .ok (.iconst 2, 1) := dk_5 (dk_at dksX4_parts_3 20 rfl rfl)
theorem dX4_parts_90 : decode cX4_parts 90 = .ok (.iload 4, 2) := dk_21 4 (dk_at dksX4_parts_3 21 rfl rfl)
theorem dX4_parts_92 : decode cX4_parts 92 = .ok (.imul, 1) := dk_104 (dk_at dksX4_parts_3 23 rfl rfl)
theorem dX4_parts_93 : decode cX4_parts 93 = .ok (.isub, 1) := dk_100 (dk_at dksX4_parts_4 0 rfl rfl)
theorem dX4_parts_94 : decode cX4_parts 94 = .ok (.if_icmp .gt 16, 3) := dk_163 0 16 (dk_at dksX4_parts_4 1 rfl rfl)
theorem dX4_parts_97 : decode cX4_parts 97 = .ok (.aload_n 0, 1) := dk_42 (dk_at dksX4_parts_4 4 rfl rfl)
theorem dX4_parts_98 : decode cX4_parts 98 = .ok (.getfield 99, 3) := dk_180 0 99 (dk_at dksX4_parts_4 5 rfl rfl)
theorem dX4_parts_101 : decode cX4_parts 101 = .ok (.bipush 8, 2) := dk_16 8 (dk_at dksX4_parts_4 8 rfl rfl)
theorem dX4_parts_103 : decode cX4_parts 103 = .ok (.if_icmp .ge 7, 3) := dk_162 0 7 (dk_at dksX4_parts_4 10 rfl rfl)
theorem dX4_parts_106 : decode cX4_parts 106 = .ok (.iconst 1, 1) := dk_4 (dk_at dksX4_parts_4 13 rfl rfl)
theorem dX4_parts_107 : decode cX4_parts 107 = .ok (.goto 4, 3) := dk_167 0 4 (dk_at dksX4_parts_4 14 rfl rfl)
theorem dX4_parts_110 : decode cX4_parts 110 = .ok (.iconst 0, 1) := dk_3 (dk_at dksX4_parts_4 17 rfl rfl)
theorem dX4_parts_111 : decode cX4_parts 111 = .ok (.istore 5, 2) := dk_54 5 (dk_at dksX4_parts_4 18 rfl rfl)
theorem dX4_parts_113 : decode cX4_parts 113 = .ok (.bipush 60, 2) := dk_16 60 (dk_at dksX4_parts_4 20 rfl rfl)
theorem dX4_parts_115 : decode cX4_parts 115 = .ok (.iload_n 1, 1) := dk_27 (dk_at dksX4_parts_4 22 rfl rfl)
theorem dX4_parts_116 : decode cX4_parts 116 = .ok (.imul, 1) := dk_104 (dk_at dksX4_parts_4 23 rfl rfl)
theorem dX4_parts_117 : decode cX4_parts 117 = .ok (.iload_n 2, 1) := dk_28 (dk_at dksX4_parts_5 0 rfl rfl)
theorem dX4_parts_118 : decode cX4_parts 118 = .ok (.iadd, 1) := dk_96 (dk_at dksX4_parts_5 1 rfl rfl)
theorem dX4_parts_119 : decode cX4_parts 119 = .ok (.iconst 2, 1) := dk_5 (dk_at dksX4_parts_5 2 rfl rfl)
theorem dX4_parts_120 : decode cX4_parts 120 = .ok (.iload 4, 2) := dk_21 4 (dk_at dksX4_parts_5 3 rfl rfl)
theorem dX4_parts_122 : decode cX4_parts 122 = .ok (.imul, 1) := dk_104 (dk_at dksX4_parts_5 5 rfl rfl)
theorem dX4_parts_123 : decode cX4_parts 123 = .ok (.iadd, 1) := dk_96 (dk_at dksX4_parts_5 6 rfl rfl)
theorem dX4_parts_124 : decode cX4_parts 124 = .ok (.istore 6, 2) := dk_54 6 (dk_at dksX4_parts_5 7 rfl rfl)
theorem dX4_parts_126 : decode cX4_parts 126 = .ok (.iload 5, 2) := dk_21 5 (dk_at dksX4_parts_5 9 rfl rfl)
theorem dX4_parts_128 : decode cX4_parts 128 = .ok (.ifCond .eq 43, 3) := dk_153 0 43 (dk_at dksX4_parts_5 11 rfl rfl)
theorem dX4_parts_131 : decode cX4_parts 131 = .ok (.aload_n 0, 1) := dk_42 (dk_at dksX4_parts_5 14 rfl rfl)
theorem dX4_parts_132 : decode cX4_parts 132 = .ok (.getfield 86, 3) := dk_180 0 86 (dk_at dksX4_parts_5 15 rfl rfl)
theorem dX4_parts_135 : decode cX4_parts 135 = .ok (.iload 6, 2) := dk_21 6 (dk_at dksX4_parts_5 18 rfl rfl)
theorem dX4_parts_137 : decode cX4_parts 137 = .ok (.laload, 1) := dk_47 (dk_at dksX4_parts_5 20 rfl rfl)
theorem dX4_parts_138 : decode cX4_parts 138 = .ok (.lconst 0, 1) := dk_9 (dk_at dksX4_parts_5 21 rfl rfl)
theorem dX4_parts_139 : decode cX4_parts 139 = .ok (.ldc2_w 120, 3) := dk_20 0 120 (dk_at dksX4_parts_6 0 rfl rfl)
theorem dX4_parts_142 : decode cX4_parts 142 = .ok (.invokestatic 102, 3) := dk_184 0 102 (dk_at dksX4_parts_6 3 rfl rfl)
theorem dX4_parts_145 : decode cX4_parts 145 = .ok (.ifCond .eq 26, 3) := dk_153 0 26 (dk_at dksX4_parts_6 6 rfl rfl)
theorem dX4_parts_148 : decode cX4_parts 148 = .ok (.aload_n 0, 1) := dk_42 (dk_at dksX4_parts_6 9 rfl rfl)
theorem dX4_parts_149 : decode cX4_parts 149 = .ok (.getfield 86, 3) := dk_180 0 86 (dk_at dksX4_parts_6 10 rfl rfl)
theorem dX4_parts_152 : decode cX4_parts 152 = .ok (.iload 6, 2) := dk_21 6 (dk_at dksX4_parts_6 13 rfl rfl)
theorem dX4_parts_154 : decode cX4_parts 154 = .ok (.iconst 1, 1) := dk_4 (dk_at dksX4_parts_6 15 rfl rfl)
theorem dX4_parts_155 : decode cX4_parts 155 = .ok (.iadd, 1) := dk_96 (dk_at dksX4_parts_6 16 rfl rfl)
theorem dX4_parts_156 : decode cX4_parts 156 = .ok (.laload, 1) := dk_47 (dk_at dksX4_parts_6 17 rfl rfl)
theorem dX4_parts_157 : decode cX4_parts 157 = .ok (.lconst 0, 1) := dk_9 (dk_at dksX4_parts_6 18 rfl rfl)
theorem dX4_parts_158 : decode cX4_parts 158 = .ok (.ldc2_w 120, 3) := dk_20 0 120 (dk_at dksX4_parts_6 19 rfl rfl)
theorem dX4_parts_161 : decode cX4_parts 161 = .ok (.invokestatic 102, 3) := dk_184 0 102 (dk_at dksX4_parts_7 0 rfl rfl)
theorem dX4_parts_164 : decode cX4_parts 164 = .ok (.ifCond .eq 7, 3) := dk_153 0 7 (dk_at dksX4_parts_7 3 rfl rfl)
theorem dX4_parts_167 : decode cX4_parts 167 = .ok (.iconst 1, 1) := dk_4 (dk_at dksX4_parts_7 6 rfl rfl)
theorem dX4_parts_168 : decode cX4_parts 168 = .ok (.goto 4, 3) := dk_167 0 4 (dk_at dksX4_parts_7 7 rfl rfl)
theorem dX4_parts_171 : decode cX4_parts 171 = .ok (.iconst 0, 1) := dk_3 (dk_at dksX4_parts_7 10 rfl rfl)
theorem dX4_parts_172 : decode cX4_parts 172 = .ok (.istore 5, 2) := dk_54 5 (dk_at dksX4_parts_7 11 rfl rfl)
theorem dX4_parts_174 : decode cX4_parts 174 = .ok (.iload 5, 2) := dk_21 5 (dk_at dksX4_parts_7 13 rfl rfl)
theorem dX4_parts_176 : decode cX4_parts 176 = .ok (.ifCond .eq 28, 3) := dk_153 0 28 (dk_at dksX4_parts_7 15 rfl rfl)
theorem dX4_parts_179 : decode cX4_parts 179 = .ok (.aload_n 0, 1) := dk_42 (dk_at dksX4_parts_7 18 rfl rfl)
theorem dX4_parts_180 : decode cX4_parts 180 = .ok (.aload_n 0, 1) := dk_42 (dk_at dksX4_parts_7 19 rfl rfl)
theorem dX4_parts_181 : decode cX4_parts 181 = .ok (.getfield 86, 3) := dk_180 0 86 (dk_at dksX4_parts_7 20 rfl rfl)
theorem dX4_parts_184 : decode cX4_parts 184 = .ok (.iload 6, 2) := dk_21 6 (dk_at dksX4_parts_8 0 rfl rfl)
theorem dX4_parts_186 : decode cX4_parts 186 = .ok (.laload, 1) := dk_47 (dk_at dksX4_parts_8 2 rfl rfl)
theorem dX4_parts_187 : decode cX4_parts 187 = .ok (.l2i, 1) := dk_136 (dk_at dksX4_parts_8 3 rfl rfl)
theorem dX4_parts_188 : decode cX4_parts 188 = .ok (.aload_n 0, 1) := dk_42 (dk_at dksX4_parts_8 4 rfl rfl)
theorem dX4_parts_189 : decode cX4_parts 189 = .ok (.getfield 86, 3) := dk_180 0 86 (dk_at dksX4_parts_8 5 rfl rfl)
theorem dX4_parts_192 : decode cX4_parts 192 = .ok (.iload 6, 2) := dk_21 6 (dk_at dksX4_parts_8 8 rfl rfl)
theorem dX4_parts_194 : decode cX4_parts 194 = .ok (.iconst 1, 1) := dk_4 (dk_at dksX4_parts_8 10 rfl rfl)
theorem dX4_parts_195 : decode cX4_parts 195 = .ok (.iadd, 1) := dk_96 (dk_at dksX4_parts_8 11 rfl rfl)
theorem dX4_parts_196 : decode cX4_parts 196 = .ok (.laload, 1) := dk_47 (dk_at dksX4_parts_8 12 rfl rfl)
theorem dX4_parts_197 : decode cX4_parts 197 = .ok (.l2i, 1) := dk_136 (dk_at dksX4_parts_8 13 rfl rfl)
theorem dX4_parts_198 : decode cX4_parts 198 = .ok (.invokevirtual 110, 3) := dk_182 0 110 (dk_at dksX4_parts_8 14 rfl rfl)
theorem dX4_parts_201 : decode cX4_parts 201 = .ok (.iinc 4 1, 3) := dk_132 4 1 (dk_at dksX4_parts_8 17 rfl rfl)
theorem dX4_parts_204 : decode cX4_parts 204 = .ok (.goto (-135), 3) := dk_167 255 121 (dk_at dksX4_parts_8 20 rfl rfl)
theorem dX4_parts_207 : decode cX4_parts 207 = .ok (.iload 4, 2) := dk_21 4 (dk_at dksX4_parts_9 0 rfl rfl)
theorem dX4_parts_209 : decode cX4_parts 209 = .ok (.ireturn, 1) := dk_172 (dk_at dksX4_parts_9 2 rfl rfl)
abbrev cX4_isShelf : ByteArray := prog_34_method_80_code
def yX4_isShelf : MethodName := ⟨RX4, "isShelf", "(I)Z"⟩
def dkwX4_isShelf_0 : List UInt8 := [26, 133, 9, 20, 0, 106, 184, 0, 102, 172]
abbrev dktX4_isShelf_0 : List UInt8 := dkwX4_isShelf_0 ++ []
theorem dksX4_isShelf_0 : cX4_isShelf.data.toList.drop 0 = dktX4_isShelf_0 := by decide +kernel
theorem dX4_isShelf_0 : decode cX4_isShelf 0 = .ok (.iload_n 0, 1) := dk_26 (dk_at dksX4_isShelf_0 0 rfl rfl)
theorem dX4_isShelf_1 : decode cX4_isShelf 1 = .ok (.i2l, 1) := dk_133 (dk_at dksX4_isShelf_0 1 rfl rfl)
theorem dX4_isShelf_2 : decode cX4_isShelf 2 = .ok (.lconst 0, 1) := dk_9 (dk_at dksX4_isShelf_0 2 rfl rfl)
theorem dX4_isShelf_3 : decode cX4_isShelf 3 = .ok (.ldc2_w 106, 3) := dk_20 0 106 (dk_at dksX4_isShelf_0 3 rfl rfl)
theorem dX4_isShelf_6 : decode cX4_isShelf 6 = .ok (.invokestatic 102, 3) := dk_184 0 102 (dk_at dksX4_isShelf_0 6 rfl rfl)
theorem dX4_isShelf_9 : decode cX4_isShelf 9 = .ok (.ireturn, 1) := dk_172 (dk_at dksX4_isShelf_0 9 rfl rfl)
abbrev cX4_mend : ByteArray := prog_34_method_12_code
def yX4_mend : MethodName := ⟨RX4, "mend", "(III)I"⟩
def dkwX4_mend_7 : List UInt8 := [27, 96, 29, 182, 0, 125, 167, 0, 4, 2, 172, 2, 172]
abbrev dktX4_mend_7 : List UInt8 := dkwX4_mend_7 ++ []
def dkwX4_mend_6 : List UInt8 := [2, 172, 27, 184, 0, 129, 153, 0, 27, 29, 133, 9, 20, 0, 108, 184, 0, 102, 153, 0, 15, 42, 16, 18]
abbrev dktX4_mend_6 : List UInt8 := dkwX4_mend_6 ++ dktX4_mend_7
def dkwX4_mend_5 : List UInt8 := [29, 133, 10, 20, 0, 120, 184, 0, 102, 153, 0, 15, 42, 16, 12, 27, 96, 29, 182, 0, 125, 167, 0, 4]
abbrev dktX4_mend_5 : List UInt8 := dkwX4_mend_5 ++ dktX4_mend_6
def dkwX4_mend_4 : List UInt8 := [153, 0, 15, 42, 16, 6, 27, 96, 29, 182, 0, 125, 167, 0, 4, 2, 172, 27, 184, 0, 129, 153, 0, 27]
abbrev dktX4_mend_4 : List UInt8 := dkwX4_mend_4 ++ dktX4_mend_5
def dkwX4_mend_3 : List UInt8 := [182, 0, 125, 167, 0, 4, 2, 172, 27, 184, 0, 122, 153, 0, 27, 29, 133, 9, 20, 0, 108, 184, 0, 102]
abbrev dktX4_mend_3 : List UInt8 := dkwX4_mend_3 ++ dktX4_mend_4
def dkwX4_mend_2 : List UInt8 := [27, 184, 0, 122, 153, 0, 24, 29, 133, 9, 20, 0, 120, 184, 0, 102, 153, 0, 12, 42, 27, 29]
abbrev dktX4_mend_2 : List UInt8 := dkwX4_mend_2 ++ dktX4_mend_3
def dkwX4_mend_1 : List UInt8 := [170, 0, 0, 0, 0, 0, 160, 0, 0, 0, 0, 0, 0, 0, 3, 0, 0, 0, 31, 0, 0, 0, 61, 0, 0, 0, 94, 0, 0, 0, 127]
abbrev dktX4_mend_1 : List UInt8 := dkwX4_mend_1 ++ dktX4_mend_2
def dkwX4_mend_0 : List UInt8 := [28]
abbrev dktX4_mend_0 : List UInt8 := dkwX4_mend_0 ++ dktX4_mend_1
theorem dksX4_mend_0 : cX4_mend.data.toList.drop 0 = dktX4_mend_0 := by decide +kernel
theorem dksX4_mend_1 : cX4_mend.data.toList.drop 1 = dktX4_mend_1 := dk_seg dksX4_mend_0 1 rfl rfl
theorem dksX4_mend_2 : cX4_mend.data.toList.drop 32 = dktX4_mend_2 := dk_seg dksX4_mend_1 31 rfl rfl
theorem dksX4_mend_3 : cX4_mend.data.toList.drop 54 = dktX4_mend_3 := dk_seg dksX4_mend_2 22 rfl rfl
theorem dksX4_mend_4 : cX4_mend.data.toList.drop 78 = dktX4_mend_4 := dk_seg dksX4_mend_3 24 rfl rfl
theorem dksX4_mend_5 : cX4_mend.data.toList.drop 102 = dktX4_mend_5 := dk_seg dksX4_mend_4 24 rfl rfl
theorem dksX4_mend_6 : cX4_mend.data.toList.drop 126 = dktX4_mend_6 := dk_seg dksX4_mend_5 24 rfl rfl
theorem dksX4_mend_7 : cX4_mend.data.toList.drop 150 = dktX4_mend_7 := dk_seg dksX4_mend_6 24 rfl rfl
theorem dX4_mend_0 : decode cX4_mend 0 = .ok (.iload_n 2, 1) := dk_28 (dk_at dksX4_mend_0 0 rfl rfl)
theorem dX4_mend_1 : decode cX4_mend 1 = .ok (.tableswitch 160 0 3 #[31, 61, 94, 127], 31) := by decide +kernel
theorem dX4_mend_32 : decode cX4_mend 32 = .ok (.iload_n 1, 1) := dk_27 (dk_at dksX4_mend_2 0 rfl rfl)
theorem dX4_mend_33 : decode cX4_mend 33 = .ok (.invokestatic 122, 3) := dk_184 0 122 (dk_at dksX4_mend_2 1 rfl rfl)
theorem dX4_mend_36 : decode cX4_mend 36 = .ok (.ifCond .eq 24, 3) := dk_153 0 24 (dk_at dksX4_mend_2 4 rfl rfl)
theorem dX4_mend_39 : decode cX4_mend 39 = .ok (.iload_n 3, 1) := dk_29 (dk_at dksX4_mend_2 7 rfl rfl)
theorem dX4_mend_40 : decode cX4_mend 40 = .ok (.i2l, 1) := dk_133 (dk_at dksX4_mend_2 8 rfl rfl)
theorem dX4_mend_41 : decode cX4_mend 41 = .ok (.lconst 0, 1) := dk_9 (dk_at dksX4_mend_2 9 rfl rfl)
theorem dX4_mend_42 : decode cX4_mend 42 = .ok (.ldc2_w 120, 3) := dk_20 0 120 (dk_at dksX4_mend_2 10 rfl rfl)
theorem dX4_mend_45 : decode cX4_mend 45 = .ok (.invokestatic 102, 3) := dk_184 0 102 (dk_at dksX4_mend_2 13 rfl rfl)
theorem dX4_mend_48 : decode cX4_mend 48 = .ok (.ifCond .eq 12, 3) := dk_153 0 12 (dk_at dksX4_mend_2 16 rfl rfl)
theorem dX4_mend_51 : decode cX4_mend 51 = .ok (.aload_n 0, 1) := dk_42 (dk_at dksX4_mend_2 19 rfl rfl)
theorem dX4_mend_52 : decode cX4_mend 52 = .ok (.iload_n 1, 1) := dk_27 (dk_at dksX4_mend_2 20 rfl rfl)
theorem dX4_mend_53 : decode cX4_mend 53 = .ok (.iload_n 3, 1) := dk_29 (dk_at dksX4_mend_2 21 rfl rfl)
theorem dX4_mend_54 : decode cX4_mend 54 = .ok (.invokevirtual 125, 3) := dk_182 0 125 (dk_at dksX4_mend_3 0 rfl rfl)
theorem dX4_mend_57 : decode cX4_mend 57 = .ok (.goto 4, 3) := dk_167 0 4 (dk_at dksX4_mend_3 3 rfl rfl)
theorem dX4_mend_60 : decode cX4_mend 60 = .ok (.iconst (-1), 1) := dk_2 (dk_at dksX4_mend_3 6 rfl rfl)
theorem dX4_mend_61 : decode cX4_mend 61 = .ok (.ireturn, 1) := dk_172 (dk_at dksX4_mend_3 7 rfl rfl)
theorem dX4_mend_62 : decode cX4_mend 62 = .ok (.iload_n 1, 1) := dk_27 (dk_at dksX4_mend_3 8 rfl rfl)
theorem dX4_mend_63 : decode cX4_mend 63 = .ok (.invokestatic 122, 3) := dk_184 0 122 (dk_at dksX4_mend_3 9 rfl rfl)
theorem dX4_mend_66 : decode cX4_mend 66 = .ok (.ifCond .eq 27, 3) := dk_153 0 27 (dk_at dksX4_mend_3 12 rfl rfl)
theorem dX4_mend_69 : decode cX4_mend 69 = .ok (.iload_n 3, 1) := dk_29 (dk_at dksX4_mend_3 15 rfl rfl)
theorem dX4_mend_70 : decode cX4_mend 70 = .ok (.i2l, 1) := dk_133 (dk_at dksX4_mend_3 16 rfl rfl)
theorem dX4_mend_71 : decode cX4_mend 71 = .ok (.lconst 0, 1) := dk_9 (dk_at dksX4_mend_3 17 rfl rfl)
theorem dX4_mend_72 : decode cX4_mend 72 = .ok (.ldc2_w 108, 3) := dk_20 0 108 (dk_at dksX4_mend_3 18 rfl rfl)
theorem dX4_mend_75 : decode cX4_mend 75 = .ok (.invokestatic 102, 3) := dk_184 0 102 (dk_at dksX4_mend_3 21 rfl rfl)
theorem dX4_mend_78 : decode cX4_mend 78 = .ok (.ifCond .eq 15, 3) := dk_153 0 15 (dk_at dksX4_mend_4 0 rfl rfl)
theorem dX4_mend_81 : decode cX4_mend 81 = .ok (.aload_n 0, 1) := dk_42 (dk_at dksX4_mend_4 3 rfl rfl)
theorem dX4_mend_82 : decode cX4_mend 82 = .ok (.bipush 6, 2) := dk_16 6 (dk_at dksX4_mend_4 4 rfl rfl)
theorem dX4_mend_84 : decode cX4_mend 84 = .ok (.iload_n 1, 1) := dk_27 (dk_at dksX4_mend_4 6 rfl rfl)
theorem dX4_mend_85 : decode cX4_mend 85 = .ok (.iadd, 1) := dk_96 (dk_at dksX4_mend_4 7 rfl rfl)
theorem dX4_mend_86 : decode cX4_mend 86 = .ok (.iload_n 3, 1) := dk_29 (dk_at dksX4_mend_4 8 rfl rfl)
theorem dX4_mend_87 : decode cX4_mend 87 = .ok (.invokevirtual 125, 3) := dk_182 0 125 (dk_at dksX4_mend_4 9 rfl rfl)
theorem dX4_mend_90 : decode cX4_mend 90 = .ok (.goto 4, 3) := dk_167 0 4 (dk_at dksX4_mend_4 12 rfl rfl)
theorem dX4_mend_93 : decode cX4_mend 93 = .ok (.iconst (-1), 1) := dk_2 (dk_at dksX4_mend_4 15 rfl rfl)
theorem dX4_mend_94 : decode cX4_mend 94 = .ok (.ireturn, 1) := dk_172 (dk_at dksX4_mend_4 16 rfl rfl)
theorem dX4_mend_95 : decode cX4_mend 95 = .ok (.iload_n 1, 1) := dk_27 (dk_at dksX4_mend_4 17 rfl rfl)
theorem dX4_mend_96 : decode cX4_mend 96 = .ok (.invokestatic 129, 3) := dk_184 0 129 (dk_at dksX4_mend_4 18 rfl rfl)
theorem dX4_mend_99 : decode cX4_mend 99 = .ok (.ifCond .eq 27, 3) := dk_153 0 27 (dk_at dksX4_mend_4 21 rfl rfl)
theorem dX4_mend_102 : decode cX4_mend 102 = .ok (.iload_n 3, 1) := dk_29 (dk_at dksX4_mend_5 0 rfl rfl)
theorem dX4_mend_103 : decode cX4_mend 103 = .ok (.i2l, 1) := dk_133 (dk_at dksX4_mend_5 1 rfl rfl)
theorem dX4_mend_104 : decode cX4_mend 104 = .ok (.lconst 1, 1) := dk_10 (dk_at dksX4_mend_5 2 rfl rfl)
theorem dX4_mend_105 : decode cX4_mend 105 = .ok (.ldc2_w 120, 3) := dk_20 0 120 (dk_at dksX4_mend_5 3 rfl rfl)
theorem dX4_mend_108 : decode cX4_mend 108 = .ok (.invokestatic 102, 3) := dk_184 0 102 (dk_at dksX4_mend_5 6 rfl rfl)
theorem dX4_mend_111 : decode cX4_mend 111 = .ok (.ifCond .eq 15, 3) := dk_153 0 15 (dk_at dksX4_mend_5 9 rfl rfl)
theorem dX4_mend_114 : decode cX4_mend 114 = .ok (.aload_n 0, 1) := dk_42 (dk_at dksX4_mend_5 12 rfl rfl)
theorem dX4_mend_115 : decode cX4_mend 115 = .ok (.bipush 12, 2) := dk_16 12 (dk_at dksX4_mend_5 13 rfl rfl)
theorem dX4_mend_117 : decode cX4_mend 117 = .ok (.iload_n 1, 1) := dk_27 (dk_at dksX4_mend_5 15 rfl rfl)
theorem dX4_mend_118 : decode cX4_mend 118 = .ok (.iadd, 1) := dk_96 (dk_at dksX4_mend_5 16 rfl rfl)
theorem dX4_mend_119 : decode cX4_mend 119 = .ok (.iload_n 3, 1) := dk_29 (dk_at dksX4_mend_5 17 rfl rfl)
theorem dX4_mend_120 : decode cX4_mend 120 = .ok (.invokevirtual 125, 3) := dk_182 0 125 (dk_at dksX4_mend_5 18 rfl rfl)
theorem dX4_mend_123 : decode cX4_mend 123 = .ok (.goto 4, 3) := dk_167 0 4 (dk_at dksX4_mend_5 21 rfl rfl)
theorem dX4_mend_126 : decode cX4_mend 126 = .ok (.iconst (-1), 1) := dk_2 (dk_at dksX4_mend_6 0 rfl rfl)
theorem dX4_mend_127 : decode cX4_mend 127 = .ok (.ireturn, 1) := dk_172 (dk_at dksX4_mend_6 1 rfl rfl)
theorem dX4_mend_128 : decode cX4_mend 128 = .ok (.iload_n 1, 1) := dk_27 (dk_at dksX4_mend_6 2 rfl rfl)
theorem dX4_mend_129 : decode cX4_mend 129 = .ok (.invokestatic 129, 3) := dk_184 0 129 (dk_at dksX4_mend_6 3 rfl rfl)
theorem dX4_mend_132 : decode cX4_mend 132 = .ok (.ifCond .eq 27, 3) := dk_153 0 27 (dk_at dksX4_mend_6 6 rfl rfl)
theorem dX4_mend_135 : decode cX4_mend 135 = .ok (.iload_n 3, 1) := dk_29 (dk_at dksX4_mend_6 9 rfl rfl)
theorem dX4_mend_136 : decode cX4_mend 136 = .ok (.i2l, 1) := dk_133 (dk_at dksX4_mend_6 10 rfl rfl)
theorem dX4_mend_137 : decode cX4_mend 137 = .ok (.lconst 0, 1) := dk_9 (dk_at dksX4_mend_6 11 rfl rfl)
theorem dX4_mend_138 : decode cX4_mend 138 = .ok (.ldc2_w 108, 3) := dk_20 0 108 (dk_at dksX4_mend_6 12 rfl rfl)
theorem dX4_mend_141 : decode cX4_mend 141 = .ok (.invokestatic 102, 3) := dk_184 0 102 (dk_at dksX4_mend_6 15 rfl rfl)
theorem dX4_mend_144 : decode cX4_mend 144 = .ok (.ifCond .eq 15, 3) := dk_153 0 15 (dk_at dksX4_mend_6 18 rfl rfl)
theorem dX4_mend_147 : decode cX4_mend 147 = .ok (.aload_n 0, 1) := dk_42 (dk_at dksX4_mend_6 21 rfl rfl)
theorem dX4_mend_148 : decode cX4_mend 148 = .ok (.bipush 18, 2) := dk_16 18 (dk_at dksX4_mend_6 22 rfl rfl)
theorem dX4_mend_150 : decode cX4_mend 150 = .ok (.iload_n 1, 1) := dk_27 (dk_at dksX4_mend_7 0 rfl rfl)
theorem dX4_mend_151 : decode cX4_mend 151 = .ok (.iadd, 1) := dk_96 (dk_at dksX4_mend_7 1 rfl rfl)
theorem dX4_mend_152 : decode cX4_mend 152 = .ok (.iload_n 3, 1) := dk_29 (dk_at dksX4_mend_7 2 rfl rfl)
theorem dX4_mend_153 : decode cX4_mend 153 = .ok (.invokevirtual 125, 3) := dk_182 0 125 (dk_at dksX4_mend_7 3 rfl rfl)
theorem dX4_mend_156 : decode cX4_mend 156 = .ok (.goto 4, 3) := dk_167 0 4 (dk_at dksX4_mend_7 6 rfl rfl)
theorem dX4_mend_159 : decode cX4_mend 159 = .ok (.iconst (-1), 1) := dk_2 (dk_at dksX4_mend_7 9 rfl rfl)
theorem dX4_mend_160 : decode cX4_mend 160 = .ok (.ireturn, 1) := dk_172 (dk_at dksX4_mend_7 10 rfl rfl)
theorem dX4_mend_161 : decode cX4_mend 161 = .ok (.iconst (-1), 1) := dk_2 (dk_at dksX4_mend_7 11 rfl rfl)
theorem dX4_mend_162 : decode cX4_mend 162 = .ok (.ireturn, 1) := dk_172 (dk_at dksX4_mend_7 12 rfl rfl)
abbrev cX4_isKind : ByteArray := prog_34_method_7_code
def yX4_isKind : MethodName := ⟨RX4, "isKind", "(I)Z"⟩
def dkwX4_isKind_0 : List UInt8 := [26, 133, 9, 20, 0, 106, 184, 0, 102, 172]
abbrev dktX4_isKind_0 : List UInt8 := dkwX4_isKind_0 ++ []
theorem dksX4_isKind_0 : cX4_isKind.data.toList.drop 0 = dktX4_isKind_0 := by decide +kernel
theorem dX4_isKind_0 : decode cX4_isKind 0 = .ok (.iload_n 0, 1) := dk_26 (dk_at dksX4_isKind_0 0 rfl rfl)
theorem dX4_isKind_1 : decode cX4_isKind 1 = .ok (.i2l, 1) := dk_133 (dk_at dksX4_isKind_0 1 rfl rfl)
theorem dX4_isKind_2 : decode cX4_isKind 2 = .ok (.lconst 0, 1) := dk_9 (dk_at dksX4_isKind_0 2 rfl rfl)
theorem dX4_isKind_3 : decode cX4_isKind 3 = .ok (.ldc2_w 106, 3) := dk_20 0 106 (dk_at dksX4_isKind_0 3 rfl rfl)
theorem dX4_isKind_6 : decode cX4_isKind 6 = .ok (.invokestatic 102, 3) := dk_184 0 102 (dk_at dksX4_isKind_0 6 rfl rfl)
theorem dX4_isKind_9 : decode cX4_isKind 9 = .ok (.ireturn, 1) := dk_172 (dk_at dksX4_isKind_0 9 rfl rfl)
abbrev cX4_becomes : ByteArray := prog_34_method_3_code
def yX4_becomes : MethodName := ⟨RX4, "becomes", "(II)I"⟩
def dkwX4_becomes_6 : List UInt8 := [181, 0, 96, 42, 180, 0, 9, 27, 28, 79, 29, 172]
abbrev dktX4_becomes_6 : List UInt8 := dkwX4_becomes_6 ++ []
def dkwX4_becomes_5 : List UInt8 := [180, 0, 19, 42, 180, 0, 92, 28, 79, 42, 89, 180, 0, 92, 4, 96, 181, 0, 92, 42, 42, 180, 0, 92]
abbrev dktX4_becomes_5 : List UInt8 := dkwX4_becomes_5 ++ dktX4_becomes_6
def dkwX4_becomes_4 : List UInt8 := [181, 0, 92, 42, 180, 0, 13, 42, 180, 0, 92, 27, 79, 42, 180, 0, 16, 42, 180, 0, 92, 29, 79, 42]
abbrev dktX4_becomes_4 : List UInt8 := dkwX4_becomes_4 ++ dktX4_becomes_5
def dkwX4_becomes_3 : List UInt8 := [100, 42, 180, 0, 19, 21, 4, 46, 79, 132, 4, 1, 167, 255, 198, 42, 89, 180, 0, 92, 4, 100]
abbrev dktX4_becomes_3 : List UInt8 := dkwX4_becomes_3 ++ dktX4_becomes_4
def dkwX4_becomes_2 : List UInt8 := [79, 42, 180, 0, 16, 21, 4, 4, 100, 42, 180, 0, 16, 21, 4, 46, 79, 42, 180, 0, 19, 21, 4, 4]
abbrev dktX4_becomes_2 : List UInt8 := dkwX4_becomes_2 ++ dktX4_becomes_3
def dkwX4_becomes_1 : List UInt8 := [54, 4, 21, 4, 16, 40, 162, 0, 57, 42, 180, 0, 13, 21, 4, 4, 100, 42, 180, 0, 13, 21, 4, 46]
abbrev dktX4_becomes_1 : List UInt8 := dkwX4_becomes_1 ++ dktX4_becomes_2
def dkwX4_becomes_0 : List UInt8 := [42, 180, 0, 9, 27, 46, 62, 29, 28, 160, 0, 5, 29, 172, 42, 180, 0, 92, 16, 40, 160, 0, 77, 4]
abbrev dktX4_becomes_0 : List UInt8 := dkwX4_becomes_0 ++ dktX4_becomes_1
theorem dksX4_becomes_0 : cX4_becomes.data.toList.drop 0 = dktX4_becomes_0 := by decide +kernel
theorem dksX4_becomes_1 : cX4_becomes.data.toList.drop 24 = dktX4_becomes_1 := dk_seg dksX4_becomes_0 24 rfl rfl
theorem dksX4_becomes_2 : cX4_becomes.data.toList.drop 48 = dktX4_becomes_2 := dk_seg dksX4_becomes_1 24 rfl rfl
theorem dksX4_becomes_3 : cX4_becomes.data.toList.drop 72 = dktX4_becomes_3 := dk_seg dksX4_becomes_2 24 rfl rfl
theorem dksX4_becomes_4 : cX4_becomes.data.toList.drop 94 = dktX4_becomes_4 := dk_seg dksX4_becomes_3 22 rfl rfl
theorem dksX4_becomes_5 : cX4_becomes.data.toList.drop 118 = dktX4_becomes_5 := dk_seg dksX4_becomes_4 24 rfl rfl
theorem dksX4_becomes_6 : cX4_becomes.data.toList.drop 142 = dktX4_becomes_6 := dk_seg dksX4_becomes_5 24 rfl rfl
theorem dX4_becomes_0 : decode cX4_becomes 0 = .ok (.aload_n 0, 1) := dk_42 (dk_at dksX4_becomes_0 0 rfl rfl)
theorem dX4_becomes_1 : decode cX4_becomes 1 = .ok (.getfield 9, 3) := dk_180 0 9 (dk_at dksX4_becomes_0 1 rfl rfl)
theorem dX4_becomes_4 : decode cX4_becomes 4 = .ok (.iload_n 1, 1) := dk_27 (dk_at dksX4_becomes_0 4 rfl rfl)
theorem dX4_becomes_5 : decode cX4_becomes 5 = .ok (.iaload, 1) := dk_46 (dk_at dksX4_becomes_0 5 rfl rfl)
theorem dX4_becomes_6 : decode cX4_becomes 6 = .ok (.istore_n 3, 1) := dk_62 (dk_at dksX4_becomes_0 6 rfl rfl)
theorem dX4_becomes_7 : decode cX4_becomes 7 = .ok (.iload_n 3, 1) := dk_29 (dk_at dksX4_becomes_0 7 rfl rfl)
theorem dX4_becomes_8 : decode cX4_becomes 8 = .ok (.iload_n 2, 1) := dk_28 (dk_at dksX4_becomes_0 8 rfl rfl)
theorem dX4_becomes_9 : decode cX4_becomes 9 = .ok (.if_icmp .ne 5, 3) := dk_160 0 5 (dk_at dksX4_becomes_0 9 rfl rfl)
theorem dX4_becomes_12 : decode cX4_becomes 12 = .ok (.iload_n 3, 1) := dk_29 (dk_at dksX4_becomes_0 12 rfl rfl)
theorem dX4_becomes_13 : decode cX4_becomes 13 = .ok (.ireturn, 1) := dk_172 (dk_at dksX4_becomes_0 13 rfl rfl)
theorem dX4_becomes_14 : decode cX4_becomes 14 = .ok (.aload_n 0, 1) := dk_42 (dk_at dksX4_becomes_0 14 rfl rfl)
theorem dX4_becomes_15 : decode cX4_becomes 15 = .ok (.getfield 92, 3) := dk_180 0 92 (dk_at dksX4_becomes_0 15 rfl rfl)
theorem dX4_becomes_18 : decode cX4_becomes 18 = .ok (.bipush 40, 2) := dk_16 40 (dk_at dksX4_becomes_0 18 rfl rfl)
theorem dX4_becomes_20 : decode cX4_becomes 20 = .ok (.if_icmp .ne 77, 3) := dk_160 0 77 (dk_at dksX4_becomes_0 20 rfl rfl)
theorem dX4_becomes_23 : decode cX4_becomes 23 = .ok (.iconst 1, 1) := dk_4 (dk_at dksX4_becomes_0 23 rfl rfl)
theorem dX4_becomes_24 : decode cX4_becomes 24 = .ok (.istore 4, 2) := dk_54 4 (dk_at dksX4_becomes_1 0 rfl rfl)
theorem dX4_becomes_26 : decode cX4_becomes 26 = .ok (.iload 4, 2) := dk_21 4 (dk_at dksX4_becomes_1 2 rfl rfl)
theorem dX4_becomes_28 : decode cX4_becomes 28 = .ok (.bipush 40, 2) := dk_16 40 (dk_at dksX4_becomes_1 4 rfl rfl)
theorem dX4_becomes_30 : decode cX4_becomes 30 = .ok (.if_icmp .ge 57, 3) := dk_162 0 57 (dk_at dksX4_becomes_1 6 rfl rfl)
theorem dX4_becomes_33 : decode cX4_becomes 33 = .ok (.aload_n 0, 1) := dk_42 (dk_at dksX4_becomes_1 9 rfl rfl)
theorem dX4_becomes_34 : decode cX4_becomes 34 = .ok (.getfield 13, 3) := dk_180 0 13 (dk_at dksX4_becomes_1 10 rfl rfl)
theorem dX4_becomes_37 : decode cX4_becomes 37 = .ok (.iload 4, 2) := dk_21 4 (dk_at dksX4_becomes_1 13 rfl rfl)
theorem dX4_becomes_39 : decode cX4_becomes 39 = .ok (.iconst 1, 1) := dk_4 (dk_at dksX4_becomes_1 15 rfl rfl)
theorem dX4_becomes_40 : decode cX4_becomes 40 = .ok (.isub, 1) := dk_100 (dk_at dksX4_becomes_1 16 rfl rfl)
theorem dX4_becomes_41 : decode cX4_becomes 41 = .ok (.aload_n 0, 1) := dk_42 (dk_at dksX4_becomes_1 17 rfl rfl)
theorem dX4_becomes_42 : decode cX4_becomes 42 = .ok (.getfield 13, 3) := dk_180 0 13 (dk_at dksX4_becomes_1 18 rfl rfl)
theorem dX4_becomes_45 : decode cX4_becomes 45 = .ok (.iload 4, 2) := dk_21 4 (dk_at dksX4_becomes_1 21 rfl rfl)
theorem dX4_becomes_47 : decode cX4_becomes 47 = .ok (.iaload, 1) := dk_46 (dk_at dksX4_becomes_1 23 rfl rfl)
theorem dX4_becomes_48 : decode cX4_becomes 48 = .ok (.iastore, 1) := dk_79 (dk_at dksX4_becomes_2 0 rfl rfl)
theorem dX4_becomes_49 : decode cX4_becomes 49 = .ok (.aload_n 0, 1) := dk_42 (dk_at dksX4_becomes_2 1 rfl rfl)
theorem dX4_becomes_50 : decode cX4_becomes 50 = .ok (.getfield 16, 3) := dk_180 0 16 (dk_at dksX4_becomes_2 2 rfl rfl)
theorem dX4_becomes_53 : decode cX4_becomes 53 = .ok (.iload 4, 2) := dk_21 4 (dk_at dksX4_becomes_2 5 rfl rfl)
theorem dX4_becomes_55 : decode cX4_becomes 55 = .ok (.iconst 1, 1) := dk_4 (dk_at dksX4_becomes_2 7 rfl rfl)
theorem dX4_becomes_56 : decode cX4_becomes 56 = .ok (.isub, 1) := dk_100 (dk_at dksX4_becomes_2 8 rfl rfl)
theorem dX4_becomes_57 : decode cX4_becomes 57 = .ok (.aload_n 0, 1) := dk_42 (dk_at dksX4_becomes_2 9 rfl rfl)
theorem dX4_becomes_58 : decode cX4_becomes 58 = .ok (.getfield 16, 3) := dk_180 0 16 (dk_at dksX4_becomes_2 10 rfl rfl)
theorem dX4_becomes_61 : decode cX4_becomes 61 = .ok (.iload 4, 2) := dk_21 4 (dk_at dksX4_becomes_2 13 rfl rfl)
theorem dX4_becomes_63 : decode cX4_becomes 63 = .ok (.iaload, 1) := dk_46 (dk_at dksX4_becomes_2 15 rfl rfl)
theorem dX4_becomes_64 : decode cX4_becomes 64 = .ok (.iastore, 1) := dk_79 (dk_at dksX4_becomes_2 16 rfl rfl)
theorem dX4_becomes_65 : decode cX4_becomes 65 = .ok (.aload_n 0, 1) := dk_42 (dk_at dksX4_becomes_2 17 rfl rfl)
theorem dX4_becomes_66 : decode cX4_becomes 66 = .ok (.getfield 19, 3) := dk_180 0 19 (dk_at dksX4_becomes_2 18 rfl rfl)
theorem dX4_becomes_69 : decode cX4_becomes 69 = .ok (.iload 4, 2) := dk_21 4 (dk_at dksX4_becomes_2 21 rfl rfl)
theorem dX4_becomes_71 : decode cX4_becomes 71 = .ok (.iconst 1, 1) := dk_4 (dk_at dksX4_becomes_2 23 rfl rfl)
theorem dX4_becomes_72 : decode cX4_becomes 72 = .ok (.isub, 1) := dk_100 (dk_at dksX4_becomes_3 0 rfl rfl)
theorem dX4_becomes_73 : decode cX4_becomes 73 = .ok (.aload_n 0, 1) := dk_42 (dk_at dksX4_becomes_3 1 rfl rfl)
theorem dX4_becomes_74 : decode cX4_becomes 74 = .ok (.getfield 19, 3) := dk_180 0 19 (dk_at dksX4_becomes_3 2 rfl rfl)
theorem dX4_becomes_77 : decode cX4_becomes 77 = .ok (.iload 4, 2) := dk_21 4 (dk_at dksX4_becomes_3 5 rfl rfl)
theorem dX4_becomes_79 : decode cX4_becomes 79 = .ok (.iaload, 1) := dk_46 (dk_at dksX4_becomes_3 7 rfl rfl)
theorem dX4_becomes_80 : decode cX4_becomes 80 = .ok (.iastore, 1) := dk_79 (dk_at dksX4_becomes_3 8 rfl rfl)
theorem dX4_becomes_81 : decode cX4_becomes 81 = .ok (.iinc 4 1, 3) := dk_132 4 1 (dk_at dksX4_becomes_3 9 rfl rfl)
theorem dX4_becomes_84 : decode cX4_becomes 84 = .ok (.goto (-58), 3) := dk_167 255 198 (dk_at dksX4_becomes_3 12 rfl rfl)
theorem dX4_becomes_87 : decode cX4_becomes 87 = .ok (.aload_n 0, 1) := dk_42 (dk_at dksX4_becomes_3 15 rfl rfl)
theorem dX4_becomes_88 : decode cX4_becomes 88 = .ok (.dup, 1) := dk_89 (dk_at dksX4_becomes_3 16 rfl rfl)
theorem dX4_becomes_89 : decode cX4_becomes 89 = .ok (.getfield 92, 3) := dk_180 0 92 (dk_at dksX4_becomes_3 17 rfl rfl)
theorem dX4_becomes_92 : decode cX4_becomes 92 = .ok (.iconst 1, 1) := dk_4 (dk_at dksX4_becomes_3 20 rfl rfl)
theorem dX4_becomes_93 : decode cX4_becomes 93 = .ok (.isub, 1) := dk_100 (dk_at dksX4_becomes_3 21 rfl rfl)
theorem dX4_becomes_94 : decode cX4_becomes 94 = .ok (.putfield 92, 3) := dk_181 0 92 (dk_at dksX4_becomes_4 0 rfl rfl)
theorem dX4_becomes_97 : decode cX4_becomes 97 = .ok (.aload_n 0, 1) := dk_42 (dk_at dksX4_becomes_4 3 rfl rfl)
theorem dX4_becomes_98 : decode cX4_becomes 98 = .ok (.getfield 13, 3) := dk_180 0 13 (dk_at dksX4_becomes_4 4 rfl rfl)
theorem dX4_becomes_101 : decode cX4_becomes 101 = .ok (.aload_n 0, 1) := dk_42 (dk_at dksX4_becomes_4 7 rfl rfl)
theorem dX4_becomes_102 : decode cX4_becomes 102 = .ok (.getfield 92, 3) := dk_180 0 92 (dk_at dksX4_becomes_4 8 rfl rfl)
theorem dX4_becomes_105 : decode cX4_becomes 105 = .ok (.iload_n 1, 1) := dk_27 (dk_at dksX4_becomes_4 11 rfl rfl)
theorem dX4_becomes_106 : decode cX4_becomes 106 = .ok (.iastore, 1) := dk_79 (dk_at dksX4_becomes_4 12 rfl rfl)
theorem dX4_becomes_107 : decode cX4_becomes 107 = .ok (.aload_n 0, 1) := dk_42 (dk_at dksX4_becomes_4 13 rfl rfl)
theorem dX4_becomes_108 : decode cX4_becomes 108 = .ok (.getfield 16, 3) := dk_180 0 16 (dk_at dksX4_becomes_4 14 rfl rfl)
theorem dX4_becomes_111 : decode cX4_becomes 111 = .ok (.aload_n 0, 1) := dk_42 (dk_at dksX4_becomes_4 17 rfl rfl)
theorem dX4_becomes_112 : decode cX4_becomes 112 = .ok (.getfield 92, 3) := dk_180 0 92 (dk_at dksX4_becomes_4 18 rfl rfl)
theorem dX4_becomes_115 : decode cX4_becomes 115 = .ok (.iload_n 3, 1) := dk_29 (dk_at dksX4_becomes_4 21 rfl rfl)
theorem dX4_becomes_116 : decode cX4_becomes 116 = .ok (.iastore, 1) := dk_79 (dk_at dksX4_becomes_4 22 rfl rfl)
theorem dX4_becomes_117 : decode cX4_becomes 117 = .ok (.aload_n 0, 1) := dk_42 (dk_at dksX4_becomes_4 23 rfl rfl)
theorem dX4_becomes_118 : decode cX4_becomes 118 = .ok (.getfield 19, 3) := dk_180 0 19 (dk_at dksX4_becomes_5 0 rfl rfl)
theorem dX4_becomes_121 : decode cX4_becomes 121 = .ok (.aload_n 0, 1) := dk_42 (dk_at dksX4_becomes_5 3 rfl rfl)
theorem dX4_becomes_122 : decode cX4_becomes 122 = .ok (.getfield 92, 3) := dk_180 0 92 (dk_at dksX4_becomes_5 4 rfl rfl)
theorem dX4_becomes_125 : decode cX4_becomes 125 = .ok (.iload_n 2, 1) := dk_28 (dk_at dksX4_becomes_5 7 rfl rfl)
theorem dX4_becomes_126 : decode cX4_becomes 126 = .ok (.iastore, 1) := dk_79 (dk_at dksX4_becomes_5 8 rfl rfl)
theorem dX4_becomes_127 : decode cX4_becomes 127 = .ok (.aload_n 0, 1) := dk_42 (dk_at dksX4_becomes_5 9 rfl rfl)
theorem dX4_becomes_128 : decode cX4_becomes 128 = .ok (.dup, 1) := dk_89 (dk_at dksX4_becomes_5 10 rfl rfl)
theorem dX4_becomes_129 : decode cX4_becomes 129 = .ok (.getfield 92, 3) := dk_180 0 92 (dk_at dksX4_becomes_5 11 rfl rfl)
theorem dX4_becomes_132 : decode cX4_becomes 132 = .ok (.iconst 1, 1) := dk_4 (dk_at dksX4_becomes_5 14 rfl rfl)
theorem dX4_becomes_133 : decode cX4_becomes 133 = .ok (.iadd, 1) := dk_96 (dk_at dksX4_becomes_5 15 rfl rfl)
theorem dX4_becomes_134 : decode cX4_becomes 134 = .ok (.putfield 92, 3) := dk_181 0 92 (dk_at dksX4_becomes_5 16 rfl rfl)
theorem dX4_becomes_137 : decode cX4_becomes 137 = .ok (.aload_n 0, 1) := dk_42 (dk_at dksX4_becomes_5 19 rfl rfl)
theorem dX4_becomes_138 : decode cX4_becomes 138 = .ok (.aload_n 0, 1) := dk_42 (dk_at dksX4_becomes_5 20 rfl rfl)
theorem dX4_becomes_139 : decode cX4_becomes 139 = .ok (.getfield 92, 3) := dk_180 0 92 (dk_at dksX4_becomes_5 21 rfl rfl)
theorem dX4_becomes_142 : decode cX4_becomes 142 = .ok (.putfield 96, 3) := dk_181 0 96 (dk_at dksX4_becomes_6 0 rfl rfl)
theorem dX4_becomes_145 : decode cX4_becomes 145 = .ok (.aload_n 0, 1) := dk_42 (dk_at dksX4_becomes_6 3 rfl rfl)
theorem dX4_becomes_146 : decode cX4_becomes 146 = .ok (.getfield 9, 3) := dk_180 0 9 (dk_at dksX4_becomes_6 4 rfl rfl)
theorem dX4_becomes_149 : decode cX4_becomes 149 = .ok (.iload_n 1, 1) := dk_27 (dk_at dksX4_becomes_6 7 rfl rfl)
theorem dX4_becomes_150 : decode cX4_becomes 150 = .ok (.iload_n 2, 1) := dk_28 (dk_at dksX4_becomes_6 8 rfl rfl)
theorem dX4_becomes_151 : decode cX4_becomes 151 = .ok (.iastore, 1) := dk_79 (dk_at dksX4_becomes_6 9 rfl rfl)
theorem dX4_becomes_152 : decode cX4_becomes 152 = .ok (.iload_n 3, 1) := dk_29 (dk_at dksX4_becomes_6 10 rfl rfl)
theorem dX4_becomes_153 : decode cX4_becomes 153 = .ok (.ireturn, 1) := dk_172 (dk_at dksX4_becomes_6 11 rfl rfl)
abbrev cX4_isMark : ByteArray := prog_34_method_8_code
def yX4_isMark : MethodName := ⟨RX4, "isMark", "(I)Z"⟩
def dkwX4_isMark_0 : List UInt8 := [26, 133, 9, 20, 0, 106, 184, 0, 102, 172]
abbrev dktX4_isMark_0 : List UInt8 := dkwX4_isMark_0 ++ []
theorem dksX4_isMark_0 : cX4_isMark.data.toList.drop 0 = dktX4_isMark_0 := by decide +kernel
theorem dX4_isMark_0 : decode cX4_isMark 0 = .ok (.iload_n 0, 1) := dk_26 (dk_at dksX4_isMark_0 0 rfl rfl)
theorem dX4_isMark_1 : decode cX4_isMark 1 = .ok (.i2l, 1) := dk_133 (dk_at dksX4_isMark_0 1 rfl rfl)
theorem dX4_isMark_2 : decode cX4_isMark 2 = .ok (.lconst 0, 1) := dk_9 (dk_at dksX4_isMark_0 2 rfl rfl)
theorem dX4_isMark_3 : decode cX4_isMark 3 = .ok (.ldc2_w 106, 3) := dk_20 0 106 (dk_at dksX4_isMark_0 3 rfl rfl)
theorem dX4_isMark_6 : decode cX4_isMark 6 = .ok (.invokestatic 102, 3) := dk_184 0 102 (dk_at dksX4_isMark_0 6 rfl rfl)
theorem dX4_isMark_9 : decode cX4_isMark 9 = .ok (.ireturn, 1) := dk_172 (dk_at dksX4_isMark_0 9 rfl rfl)
abbrev cX4_find : ByteArray := prog_34_method_14_code
def yX4_find : MethodName := ⟨RX4, "find", "(II)I"⟩
def dkwX4_find_2 : List UInt8 := [28, 79, 21, 4, 172]
abbrev dktX4_find_2 : List UInt8 := dkwX4_find_2 ++ []
def dkwX4_find_1 : List UInt8 := [27, 16, 10, 108, 104, 27, 16, 10, 112, 96, 62, 42, 180, 0, 28, 29, 46, 54, 4, 42, 180, 0, 28, 29]
abbrev dktX4_find_1 : List UInt8 := dkwX4_find_1 ++ dktX4_find_2
def dkwX4_find_0 : List UInt8 := [42, 27, 182, 0, 135, 153, 0, 15, 28, 133, 9, 20, 0, 138, 184, 0, 102, 154, 0, 5, 2, 172, 16, 6]
abbrev dktX4_find_0 : List UInt8 := dkwX4_find_0 ++ dktX4_find_1
theorem dksX4_find_0 : cX4_find.data.toList.drop 0 = dktX4_find_0 := by decide +kernel
theorem dksX4_find_1 : cX4_find.data.toList.drop 24 = dktX4_find_1 := dk_seg dksX4_find_0 24 rfl rfl
theorem dksX4_find_2 : cX4_find.data.toList.drop 48 = dktX4_find_2 := dk_seg dksX4_find_1 24 rfl rfl
theorem dX4_find_0 : decode cX4_find 0 = .ok (.aload_n 0, 1) := dk_42 (dk_at dksX4_find_0 0 rfl rfl)
theorem dX4_find_1 : decode cX4_find 1 = .ok (.iload_n 1, 1) := dk_27 (dk_at dksX4_find_0 1 rfl rfl)
theorem dX4_find_2 : decode cX4_find 2 = .ok (.invokevirtual 135, 3) := dk_182 0 135 (dk_at dksX4_find_0 2 rfl rfl)
theorem dX4_find_5 : decode cX4_find 5 = .ok (.ifCond .eq 15, 3) := dk_153 0 15 (dk_at dksX4_find_0 5 rfl rfl)
theorem dX4_find_8 : decode cX4_find 8 = .ok (.iload_n 2, 1) := dk_28 (dk_at dksX4_find_0 8 rfl rfl)
theorem dX4_find_9 : decode cX4_find 9 = .ok (.i2l, 1) := dk_133 (dk_at dksX4_find_0 9 rfl rfl)
theorem dX4_find_10 : decode cX4_find 10 = .ok (.lconst 0, 1) := dk_9 (dk_at dksX4_find_0 10 rfl rfl)
theorem dX4_find_11 : decode cX4_find 11 = .ok (.ldc2_w 138, 3) := dk_20 0 138 (dk_at dksX4_find_0 11 rfl rfl)
theorem dX4_find_14 : decode cX4_find 14 = .ok (.invokestatic 102, 3) := dk_184 0 102 (dk_at dksX4_find_0 14 rfl rfl)
theorem dX4_find_17 : decode cX4_find 17 = .ok (.ifCond .ne 5, 3) := dk_154 0 5 (dk_at dksX4_find_0 17 rfl rfl)
theorem dX4_find_20 : decode cX4_find 20 = .ok (.iconst (-1), 1) := dk_2 (dk_at dksX4_find_0 20 rfl rfl)
theorem dX4_find_21 : decode cX4_find 21 = .ok (.ireturn, 1) := dk_172 (dk_at dksX4_find_0 21 rfl rfl)
theorem dX4_find_22 : decode cX4_find 22 = .ok (.bipush 6, 2) := dk_16 6 (dk_at dksX4_find_0 22 rfl rfl)
theorem dX4_find_24 : decode cX4_find 24 = .ok (.iload_n 1, 1) := dk_27 (dk_at dksX4_find_1 0 rfl rfl)
theorem dX4_find_25 : decode cX4_find 25 = .ok (.bipush 10, 2) := dk_16 10 (dk_at dksX4_find_1 1 rfl rfl)
theorem dX4_find_27 : decode cX4_find 27 = .ok (.idiv, 1) := dk_108 (dk_at dksX4_find_1 3 rfl rfl)
theorem dX4_find_28 : decode cX4_find 28 = .ok (.imul, 1) := dk_104 (dk_at dksX4_find_1 4 rfl rfl)
theorem dX4_find_29 : decode cX4_find 29 = .ok (.iload_n 1, 1) := dk_27 (dk_at dksX4_find_1 5 rfl rfl)
theorem dX4_find_30 : decode cX4_find 30 = .ok (.bipush 10, 2) := dk_16 10 (dk_at dksX4_find_1 6 rfl rfl)
theorem dX4_find_32 : decode cX4_find 32 = .ok (.irem, 1) := dk_112 (dk_at dksX4_find_1 8 rfl rfl)
theorem dX4_find_33 : decode cX4_find 33 = .ok (.iadd, 1) := dk_96 (dk_at dksX4_find_1 9 rfl rfl)
theorem dX4_find_34 : decode cX4_find 34 = .ok (.istore_n 3, 1) := dk_62 (dk_at dksX4_find_1 10 rfl rfl)
theorem dX4_find_35 : decode cX4_find 35 = .ok (.aload_n 0, 1) := dk_42 (dk_at dksX4_find_1 11 rfl rfl)
theorem dX4_find_36 : decode cX4_find 36 = .ok (.getfield 28, 3) := dk_180 0 28 (dk_at dksX4_find_1 12 rfl rfl)
theorem dX4_find_39 : decode cX4_find 39 = .ok (.iload_n 3, 1) := dk_29 (dk_at dksX4_find_1 15 rfl rfl)
theorem dX4_find_40 : decode cX4_find 40 = .ok (.iaload, 1) := dk_46 (dk_at dksX4_find_1 16 rfl rfl)
theorem dX4_find_41 : decode cX4_find 41 = .ok (.istore 4, 2) := dk_54 4 (dk_at dksX4_find_1 17 rfl rfl)
theorem dX4_find_43 : decode cX4_find 43 = .ok (.aload_n 0, 1) := dk_42 (dk_at dksX4_find_1 19 rfl rfl)
theorem dX4_find_44 : decode cX4_find 44 = .ok (.getfield 28, 3) := dk_180 0 28 (dk_at dksX4_find_1 20 rfl rfl)
theorem dX4_find_47 : decode cX4_find 47 = .ok (.iload_n 3, 1) := dk_29 (dk_at dksX4_find_1 23 rfl rfl)
theorem dX4_find_48 : decode cX4_find 48 = .ok (.iload_n 2, 1) := dk_28 (dk_at dksX4_find_2 0 rfl rfl)
theorem dX4_find_49 : decode cX4_find 49 = .ok (.iastore, 1) := dk_79 (dk_at dksX4_find_2 1 rfl rfl)
theorem dX4_find_50 : decode cX4_find 50 = .ok (.iload 4, 2) := dk_21 4 (dk_at dksX4_find_2 2 rfl rfl)
theorem dX4_find_52 : decode cX4_find 52 = .ok (.ireturn, 1) := dk_172 (dk_at dksX4_find_2 4 rfl rfl)
abbrev cX4_isPm : ByteArray := prog_34_method_13_code
def yX4_isPm : MethodName := ⟨RX4, "isPm", "(I)Z"⟩
def dkwX4_isPm_1 : List UInt8 := [153, 0, 7, 4, 167, 0, 4, 3, 172]
abbrev dktX4_isPm_1 : List UInt8 := dkwX4_isPm_1 ++ []
def dkwX4_isPm_0 : List UInt8 := [27, 155, 0, 28, 42, 27, 16, 10, 108, 182, 0, 132, 153, 0, 17, 27, 16, 10, 112, 184, 0, 129]
abbrev dktX4_isPm_0 : List UInt8 := dkwX4_isPm_0 ++ dktX4_isPm_1
theorem dksX4_isPm_0 : cX4_isPm.data.toList.drop 0 = dktX4_isPm_0 := by decide +kernel
theorem dksX4_isPm_1 : cX4_isPm.data.toList.drop 22 = dktX4_isPm_1 := dk_seg dksX4_isPm_0 22 rfl rfl
theorem dX4_isPm_0 : decode cX4_isPm 0 = .ok (.iload_n 1, 1) := dk_27 (dk_at dksX4_isPm_0 0 rfl rfl)
theorem dX4_isPm_1 : decode cX4_isPm 1 = .ok (.ifCond .lt 28, 3) := dk_155 0 28 (dk_at dksX4_isPm_0 1 rfl rfl)
theorem dX4_isPm_4 : decode cX4_isPm 4 = .ok (.aload_n 0, 1) := dk_42 (dk_at dksX4_isPm_0 4 rfl rfl)
theorem dX4_isPm_5 : decode cX4_isPm 5 = .ok (.iload_n 1, 1) := dk_27 (dk_at dksX4_isPm_0 5 rfl rfl)
theorem dX4_isPm_6 : decode cX4_isPm 6 = .ok (.bipush 10, 2) := dk_16 10 (dk_at dksX4_isPm_0 6 rfl rfl)
theorem dX4_isPm_8 : decode cX4_isPm 8 = .ok (.idiv, 1) := dk_108 (dk_at dksX4_isPm_0 8 rfl rfl)
theorem dX4_isPm_9 : decode cX4_isPm 9 = .ok (.invokevirtual 132, 3) := dk_182 0 132 (dk_at dksX4_isPm_0 9 rfl rfl)
theorem dX4_isPm_12 : decode cX4_isPm 12 = .ok (.ifCond .eq 17, 3) := dk_153 0 17 (dk_at dksX4_isPm_0 12 rfl rfl)
theorem dX4_isPm_15 : decode cX4_isPm 15 = .ok (.iload_n 1, 1) := dk_27 (dk_at dksX4_isPm_0 15 rfl rfl)
theorem dX4_isPm_16 : decode cX4_isPm 16 = .ok (.bipush 10, 2) := dk_16 10 (dk_at dksX4_isPm_0 16 rfl rfl)
theorem dX4_isPm_18 : decode cX4_isPm 18 = .ok (.irem, 1) := dk_112 (dk_at dksX4_isPm_0 18 rfl rfl)
theorem dX4_isPm_19 : decode cX4_isPm 19 = .ok (.invokestatic 129, 3) := dk_184 0 129 (dk_at dksX4_isPm_0 19 rfl rfl)
theorem dX4_isPm_22 : decode cX4_isPm 22 = .ok (.ifCond .eq 7, 3) := dk_153 0 7 (dk_at dksX4_isPm_1 0 rfl rfl)
theorem dX4_isPm_25 : decode cX4_isPm 25 = .ok (.iconst 1, 1) := dk_4 (dk_at dksX4_isPm_1 3 rfl rfl)
theorem dX4_isPm_26 : decode cX4_isPm 26 = .ok (.goto 4, 3) := dk_167 0 4 (dk_at dksX4_isPm_1 4 rfl rfl)
theorem dX4_isPm_29 : decode cX4_isPm 29 = .ok (.iconst 0, 1) := dk_3 (dk_at dksX4_isPm_1 7 rfl rfl)
theorem dX4_isPm_30 : decode cX4_isPm 30 = .ok (.ireturn, 1) := dk_172 (dk_at dksX4_isPm_1 8 rfl rfl)
abbrev cX4_isPart : ByteArray := prog_34_method_6_code
def yX4_isPart : MethodName := ⟨RX4, "isPart", "(I)Z"⟩
def dkwX4_isPart_0 : List UInt8 := [27, 133, 9, 42, 180, 0, 99, 4, 100, 133, 184, 0, 102, 172]
abbrev dktX4_isPart_0 : List UInt8 := dkwX4_isPart_0 ++ []
theorem dksX4_isPart_0 : cX4_isPart.data.toList.drop 0 = dktX4_isPart_0 := by decide +kernel
theorem dX4_isPart_0 : decode cX4_isPart 0 = .ok (.iload_n 1, 1) := dk_27 (dk_at dksX4_isPart_0 0 rfl rfl)
theorem dX4_isPart_1 : decode cX4_isPart 1 = .ok (.i2l, 1) := dk_133 (dk_at dksX4_isPart_0 1 rfl rfl)
theorem dX4_isPart_2 : decode cX4_isPart 2 = .ok (.lconst 0, 1) := dk_9 (dk_at dksX4_isPart_0 2 rfl rfl)
theorem dX4_isPart_3 : decode cX4_isPart 3 = .ok (.aload_n 0, 1) := dk_42 (dk_at dksX4_isPart_0 3 rfl rfl)
theorem dX4_isPart_4 : decode cX4_isPart 4 = .ok (.getfield 99, 3) := dk_180 0 99 (dk_at dksX4_isPart_0 4 rfl rfl)
theorem dX4_isPart_7 : decode cX4_isPart 7 = .ok (.iconst 1, 1) := dk_4 (dk_at dksX4_isPart_0 7 rfl rfl)
theorem dX4_isPart_8 : decode cX4_isPart 8 = .ok (.isub, 1) := dk_100 (dk_at dksX4_isPart_0 8 rfl rfl)
theorem dX4_isPart_9 : decode cX4_isPart 9 = .ok (.i2l, 1) := dk_133 (dk_at dksX4_isPart_0 9 rfl rfl)
theorem dX4_isPart_10 : decode cX4_isPart 10 = .ok (.invokestatic 102, 3) := dk_184 0 102 (dk_at dksX4_isPart_0 10 rfl rfl)
theorem dX4_isPart_13 : decode cX4_isPart 13 = .ok (.ireturn, 1) := dk_172 (dk_at dksX4_isPart_0 13 rfl rfl)
abbrev cX4_of : ByteArray := prog_34_method_15_code
def yX4_of : MethodName := ⟨RX4, "of", "(II)I"⟩
def dkwX4_of_7 : List UInt8 := [172]
abbrev dktX4_of_7 : List UInt8 := dkwX4_of_7 ++ []
def dkwX4_of_6 : List UInt8 := [153, 0, 23, 42, 180, 0, 9, 16, 12, 16, 6, 28, 16, 30, 100, 104, 96, 27, 96, 46, 167, 0, 4, 2]
abbrev dktX4_of_6 : List UInt8 := dkwX4_of_6 ++ dktX4_of_7
def dkwX4_of_5 : List UInt8 := [167, 0, 4, 2, 172, 28, 133, 20, 0, 148, 20, 0, 150, 184, 0, 102, 153, 0, 30, 27, 184, 0, 129]
abbrev dktX4_of_5 : List UInt8 := dkwX4_of_5 ++ dktX4_of_6
def dkwX4_of_4 : List UInt8 := [153, 0, 29, 27, 184, 0, 122, 153, 0, 20, 42, 180, 0, 9, 16, 6, 28, 16, 20, 100, 104, 27, 96, 46]
abbrev dktX4_of_4 : List UInt8 := dkwX4_of_4 ++ dktX4_of_5
def dkwX4_of_3 : List UInt8 := [104, 28, 96, 16, 10, 100, 46, 167, 0, 4, 2, 172, 28, 133, 20, 0, 144, 20, 0, 146, 184, 0, 102]
abbrev dktX4_of_3 : List UInt8 := dkwX4_of_3 ++ dktX4_of_4
def dkwX4_of_2 : List UInt8 := [20, 0, 142, 184, 0, 102, 153, 0, 30, 42, 27, 182, 0, 132, 153, 0, 20, 42, 180, 0, 28, 16, 6, 27]
abbrev dktX4_of_2 : List UInt8 := dkwX4_of_2 ++ dktX4_of_3
def dkwX4_of_1 : List UInt8 := [154, 0, 12, 42, 180, 0, 22, 27, 46, 167, 0, 9, 42, 180, 0, 25, 27, 46, 172, 28, 133, 20, 0, 140]
abbrev dktX4_of_1 : List UInt8 := dkwX4_of_1 ++ dktX4_of_2
def dkwX4_of_0 : List UInt8 := [28, 133, 9, 10, 184, 0, 102, 153, 0, 35, 42, 27, 182, 0, 132, 154, 0, 7, 2, 167, 0, 22, 28]
abbrev dktX4_of_0 : List UInt8 := dkwX4_of_0 ++ dktX4_of_1
theorem dksX4_of_0 : cX4_of.data.toList.drop 0 = dktX4_of_0 := by decide +kernel
theorem dksX4_of_1 : cX4_of.data.toList.drop 23 = dktX4_of_1 := dk_seg dksX4_of_0 23 rfl rfl
theorem dksX4_of_2 : cX4_of.data.toList.drop 47 = dktX4_of_2 := dk_seg dksX4_of_1 24 rfl rfl
theorem dksX4_of_3 : cX4_of.data.toList.drop 71 = dktX4_of_3 := dk_seg dksX4_of_2 24 rfl rfl
theorem dksX4_of_4 : cX4_of.data.toList.drop 94 = dktX4_of_4 := dk_seg dksX4_of_3 23 rfl rfl
theorem dksX4_of_5 : cX4_of.data.toList.drop 118 = dktX4_of_5 := dk_seg dksX4_of_4 24 rfl rfl
theorem dksX4_of_6 : cX4_of.data.toList.drop 141 = dktX4_of_6 := dk_seg dksX4_of_5 23 rfl rfl
theorem dksX4_of_7 : cX4_of.data.toList.drop 165 = dktX4_of_7 := dk_seg dksX4_of_6 24 rfl rfl
theorem dX4_of_0 : decode cX4_of 0 = .ok (.iload_n 2, 1) := dk_28 (dk_at dksX4_of_0 0 rfl rfl)
theorem dX4_of_1 : decode cX4_of 1 = .ok (.i2l, 1) := dk_133 (dk_at dksX4_of_0 1 rfl rfl)
theorem dX4_of_2 : decode cX4_of 2 = .ok (.lconst 0, 1) := dk_9 (dk_at dksX4_of_0 2 rfl rfl)
theorem dX4_of_3 : decode cX4_of 3 = .ok (.lconst 1, 1) := dk_10 (dk_at dksX4_of_0 3 rfl rfl)
theorem dX4_of_4 : decode cX4_of 4 = .ok (.invokestatic 102, 3) := dk_184 0 102 (dk_at dksX4_of_0 4 rfl rfl)
theorem dX4_of_7 : decode cX4_of 7 = .ok (.ifCond .eq 35, 3) := dk_153 0 35 (dk_at dksX4_of_0 7 rfl rfl)
theorem dX4_of_10 : decode cX4_of 10 = .ok (.aload_n 0, 1) := dk_42 (dk_at dksX4_of_0 10 rfl rfl)
theorem dX4_of_11 : decode cX4_of 11 = .ok (.iload_n 1, 1) := dk_27 (dk_at dksX4_of_0 11 rfl rfl)
theorem dX4_of_12 : decode cX4_of 12 = .ok (.invokevirtual 132, 3) := dk_182 0 132 (dk_at dksX4_of_0 12 rfl rfl)
theorem dX4_of_15 : decode cX4_of 15 = .ok (.ifCond .ne 7, 3) := dk_154 0 7 (dk_at dksX4_of_0 15 rfl rfl)
theorem dX4_of_18 : decode cX4_of 18 = .ok (.iconst (-1), 1) := dk_2 (dk_at dksX4_of_0 18 rfl rfl)
theorem dX4_of_19 : decode cX4_of 19 = .ok (.goto 22, 3) := dk_167 0 22 (dk_at dksX4_of_0 19 rfl rfl)
theorem dX4_of_22 : decode cX4_of 22 = .ok (.iload_n 2, 1) := dk_28 (dk_at dksX4_of_0 22 rfl rfl)
theorem dX4_of_23 : decode cX4_of 23 = .ok (.ifCond .ne 12, 3) := dk_154 0 12 (dk_at dksX4_of_1 0 rfl rfl)
theorem dX4_of_26 : decode cX4_of 26 = .ok (.aload_n 0, 1) := dk_42 (dk_at dksX4_of_1 3 rfl rfl)
theorem dX4_of_27 : decode cX4_of 27 = .ok (.getfield 22, 3) := dk_180 0 22 (dk_at dksX4_of_1 4 rfl rfl)
theorem dX4_of_30 : decode cX4_of 30 = .ok (.iload_n 1, 1) := dk_27 (dk_at dksX4_of_1 7 rfl rfl)
theorem dX4_of_31 : decode cX4_of 31 = .ok (.iaload, 1) := dk_46 (dk_at dksX4_of_1 8 rfl rfl)
theorem dX4_of_32 : decode cX4_of 32 = .ok (.goto 9, 3) := dk_167 0 9 (dk_at dksX4_of_1 9 rfl rfl)
theorem dX4_of_35 : decode cX4_of 35 = .ok (.aload_n 0, 1) := dk_42 (dk_at dksX4_of_1 12 rfl rfl)
theorem dX4_of_36 : decode cX4_of 36 = .ok (.getfield 25, 3) := dk_180 0 25 (dk_at dksX4_of_1 13 rfl rfl)
theorem dX4_of_39 : decode cX4_of 39 = .ok (.iload_n 1, 1) := dk_27 (dk_at dksX4_of_1 16 rfl rfl)
theorem dX4_of_40 : decode cX4_of 40 = .ok (.iaload, 1) := dk_46 (dk_at dksX4_of_1 17 rfl rfl)
theorem dX4_of_41 : decode cX4_of 41 = .ok (.ireturn, 1) := dk_172 (dk_at dksX4_of_1 18 rfl rfl)
theorem dX4_of_42 : decode cX4_of 42 = .ok (.iload_n 2, 1) := dk_28 (dk_at dksX4_of_1 19 rfl rfl)
theorem dX4_of_43 : decode cX4_of 43 = .ok (.i2l, 1) := dk_133 (dk_at dksX4_of_1 20 rfl rfl)
theorem dX4_of_44 : decode cX4_of 44 = .ok (.ldc2_w 140, 3) := dk_20 0 140 (dk_at dksX4_of_1 21 rfl rfl)
theorem dX4_of_47 : decode cX4_of 47 = .ok (.ldc2_w 142, 3) := dk_20 0 142 (dk_at dksX4_of_2 0 rfl rfl)
theorem dX4_of_50 : decode cX4_of 50 = .ok (.invokestatic 102, 3) := dk_184 0 102 (dk_at dksX4_of_2 3 rfl rfl)
theorem dX4_of_53 : decode cX4_of 53 = .ok (.ifCond .eq 30, 3) := dk_153 0 30 (dk_at dksX4_of_2 6 rfl rfl)
theorem dX4_of_56 : decode cX4_of 56 = .ok (.aload_n 0, 1) := dk_42 (dk_at dksX4_of_2 9 rfl rfl)
theorem dX4_of_57 : decode cX4_of 57 = .ok (.iload_n 1, 1) := dk_27 (dk_at dksX4_of_2 10 rfl rfl)
theorem dX4_of_58 : decode cX4_of 58 = .ok (.invokevirtual 132, 3) := dk_182 0 132 (dk_at dksX4_of_2 11 rfl rfl)
theorem dX4_of_61 : decode cX4_of 61 = .ok (.ifCond .eq 20, 3) := dk_153 0 20 (dk_at dksX4_of_2 14 rfl rfl)
theorem dX4_of_64 : decode cX4_of 64 = .ok (.aload_n 0, 1) := dk_42 (dk_at dksX4_of_2 17 rfl rfl)
theorem dX4_of_65 : decode cX4_of 65 = .ok (.getfield 28, 3) := dk_180 0 28 (dk_at dksX4_of_2 18 rfl rfl)
theorem dX4_of_68 : decode cX4_of 68 = .ok (.bipush 6, 2) := dk_16 6 (dk_at dksX4_of_2 21 rfl rfl)
theorem dX4_of_70 : decode cX4_of 70 = .ok (.iload_n 1, 1) := dk_27 (dk_at dksX4_of_2 23 rfl rfl)
theorem dX4_of_71 : decode cX4_of 71 = .ok (.imul, 1) := dk_104 (dk_at dksX4_of_3 0 rfl rfl)
theorem dX4_of_72 : decode cX4_of 72 = .ok (.iload_n 2, 1) := dk_28 (dk_at dksX4_of_3 1 rfl rfl)
theorem dX4_of_73 : decode cX4_of 73 = .ok (.iadd, 1) := dk_96 (dk_at dksX4_of_3 2 rfl rfl)
theorem dX4_of_74 : decode cX4_of 74 = .ok (.bipush 10, 2) := dk_16 10 (dk_at dksX4_of_3 3 rfl rfl)
theorem dX4_of_76 : decode cX4_of 76 = .ok (.isub, 1) := dk_100 (dk_at dksX4_of_3 5 rfl rfl)
theorem dX4_of_77 : decode cX4_of 77 = .ok (.iaload, 1) := dk_46 (dk_at dksX4_of_3 6 rfl rfl)
theorem dX4_of_78 : decode cX4_of 78 = .ok (.goto 4, 3) := dk_167 0 4 (dk_at dksX4_of_3 7 rfl rfl)
theorem dX4_of_81 : decode cX4_of 81 = .ok (.iconst (-1), 1) := dk_2 (dk_at dksX4_of_3 10 rfl rfl)
theorem dX4_of_82 : decode cX4_of 82 = .ok (.ireturn, 1) := dk_172 (dk_at dksX4_of_3 11 rfl rfl)
theorem dX4_of_83 : decode cX4_of 83 = .ok (.iload_n 2, 1) := dk_28 (dk_at dksX4_of_3 12 rfl rfl)
theorem dX4_of_84 : decode cX4_of 84 = .ok (.i2l, 1) := dk_133 (dk_at dksX4_of_3 13 rfl rfl)
theorem dX4_of_85 : decode cX4_of 85 = .ok (.ldc2_w 144, 3) := dk_20 0 144 (dk_at dksX4_of_3 14 rfl rfl)
theorem dX4_of_88 : decode cX4_of 88 = .ok (.ldc2_w 146, 3) := dk_20 0 146 (dk_at dksX4_of_3 17 rfl rfl)
theorem dX4_of_91 : decode cX4_of 91 = .ok (.invokestatic 102, 3) := dk_184 0 102 (dk_at dksX4_of_3 20 rfl rfl)
theorem dX4_of_94 : decode cX4_of 94 = .ok (.ifCond .eq 29, 3) := dk_153 0 29 (dk_at dksX4_of_4 0 rfl rfl)
theorem dX4_of_97 : decode cX4_of 97 = .ok (.iload_n 1, 1) := dk_27 (dk_at dksX4_of_4 3 rfl rfl)
theorem dX4_of_98 : decode cX4_of 98 = .ok (.invokestatic 122, 3) := dk_184 0 122 (dk_at dksX4_of_4 4 rfl rfl)
theorem dX4_of_101 : decode cX4_of 101 = .ok (.ifCond .eq 20, 3) := dk_153 0 20 (dk_at dksX4_of_4 7 rfl rfl)
theorem dX4_of_104 : decode cX4_of 104 = .ok (.aload_n 0, 1) := dk_42 (dk_at dksX4_of_4 10 rfl rfl)
theorem dX4_of_105 : decode cX4_of 105 = .ok (.getfield 9, 3) := dk_180 0 9 (dk_at dksX4_of_4 11 rfl rfl)
theorem dX4_of_108 : decode cX4_of 108 = .ok (.bipush 6, 2) := dk_16 6 (dk_at dksX4_of_4 14 rfl rfl)
theorem dX4_of_110 : decode cX4_of 110 = .ok (.iload_n 2, 1) := dk_28 (dk_at dksX4_of_4 16 rfl rfl)
theorem dX4_of_111 : decode cX4_of 111 = .ok (.bipush 20, 2) := dk_16 20 (dk_at dksX4_of_4 17 rfl rfl)
theorem dX4_of_113 : decode cX4_of 113 = .ok (.isub, 1) := dk_100 (dk_at dksX4_of_4 19 rfl rfl)
theorem dX4_of_114 : decode cX4_of 114 = .ok (.imul, 1) := dk_104 (dk_at dksX4_of_4 20 rfl rfl)
theorem dX4_of_115 : decode cX4_of 115 = .ok (.iload_n 1, 1) := dk_27 (dk_at dksX4_of_4 21 rfl rfl)
theorem dX4_of_116 : decode cX4_of 116 = .ok (.iadd, 1) := dk_96 (dk_at dksX4_of_4 22 rfl rfl)
theorem dX4_of_117 : decode cX4_of 117 = .ok (.iaload, 1) := dk_46 (dk_at dksX4_of_4 23 rfl rfl)
theorem dX4_of_118 : decode cX4_of 118 = .ok (.goto 4, 3) := dk_167 0 4 (dk_at dksX4_of_5 0 rfl rfl)
theorem dX4_of_121 : decode cX4_of 121 = .ok (.iconst (-1), 1) := dk_2 (dk_at dksX4_of_5 3 rfl rfl)
theorem dX4_of_122 : decode cX4_of 122 = .ok (.ireturn, 1) := dk_172 (dk_at dksX4_of_5 4 rfl rfl)
theorem dX4_of_123 : decode cX4_of 123 = .ok (.iload_n 2, 1) := dk_28 (dk_at dksX4_of_5 5 rfl rfl)
theorem dX4_of_124 : decode cX4_of 124 = .ok (.i2l, 1) := dk_133 (dk_at dksX4_of_5 6 rfl rfl)
theorem dX4_of_125 : decode cX4_of 125 = .ok (.ldc2_w 148, 3) := dk_20 0 148 (dk_at dksX4_of_5 7 rfl rfl)
theorem dX4_of_128 : decode cX4_of 128 = .ok (.ldc2_w 150, 3) := dk_20 0 150 (dk_at dksX4_of_5 10 rfl rfl)
theorem dX4_of_131 : decode cX4_of 131 = .ok (.invokestatic 102, 3) := dk_184 0 102 (dk_at dksX4_of_5 13 rfl rfl)
theorem dX4_of_134 : decode cX4_of 134 = .ok (.ifCond .eq 30, 3) := dk_153 0 30 (dk_at dksX4_of_5 16 rfl rfl)
theorem dX4_of_137 : decode cX4_of 137 = .ok (.iload_n 1, 1) := dk_27 (dk_at dksX4_of_5 19 rfl rfl)
theorem dX4_of_138 : decode cX4_of 138 = .ok (.invokestatic 129, 3) := dk_184 0 129 (dk_at dksX4_of_5 20 rfl rfl)
theorem dX4_of_141 : decode cX4_of 141 = .ok (.ifCond .eq 23, 3) := dk_153 0 23 (dk_at dksX4_of_6 0 rfl rfl)
theorem dX4_of_144 : decode cX4_of 144 = .ok (.aload_n 0, 1) := dk_42 (dk_at dksX4_of_6 3 rfl rfl)
theorem dX4_of_145 : decode cX4_of 145 = .ok (.getfield 9, 3) := dk_180 0 9 (dk_at dksX4_of_6 4 rfl rfl)
theorem dX4_of_148 : decode cX4_of 148 = .ok (.bipush 12, 2) := dk_16 12 (dk_at dksX4_of_6 7 rfl rfl)
theorem dX4_of_150 : decode cX4_of 150 = .ok (.bipush 6, 2) := dk_16 6 (dk_at dksX4_of_6 9 rfl rfl)
theorem dX4_of_152 : decode cX4_of 152 = .ok (.iload_n 2, 1) := dk_28 (dk_at dksX4_of_6 11 rfl rfl)
theorem dX4_of_153 : decode cX4_of 153 = .ok (.bipush 30, 2) := dk_16 30 (dk_at dksX4_of_6 12 rfl rfl)
theorem dX4_of_155 : decode cX4_of 155 = .ok (.isub, 1) := dk_100 (dk_at dksX4_of_6 14 rfl rfl)
theorem dX4_of_156 : decode cX4_of 156 = .ok (.imul, 1) := dk_104 (dk_at dksX4_of_6 15 rfl rfl)
theorem dX4_of_157 : decode cX4_of 157 = .ok (.iadd, 1) := dk_96 (dk_at dksX4_of_6 16 rfl rfl)
theorem dX4_of_158 : decode cX4_of 158 = .ok (.iload_n 1, 1) := dk_27 (dk_at dksX4_of_6 17 rfl rfl)
theorem dX4_of_159 : decode cX4_of 159 = .ok (.iadd, 1) := dk_96 (dk_at dksX4_of_6 18 rfl rfl)
theorem dX4_of_160 : decode cX4_of 160 = .ok (.iaload, 1) := dk_46 (dk_at dksX4_of_6 19 rfl rfl)
theorem dX4_of_161 : decode cX4_of 161 = .ok (.goto 4, 3) := dk_167 0 4 (dk_at dksX4_of_6 20 rfl rfl)
theorem dX4_of_164 : decode cX4_of 164 = .ok (.iconst (-1), 1) := dk_2 (dk_at dksX4_of_6 23 rfl rfl)
theorem dX4_of_165 : decode cX4_of 165 = .ok (.ireturn, 1) := dk_172 (dk_at dksX4_of_7 0 rfl rfl)
abbrev cX4_feed : ByteArray := prog_34_method_16_code
def yX4_feed : MethodName := ⟨RX4, "feed", "(I)I"⟩
def dkwX4_feed_2 : List UInt8 := [180, 0, 154, 172]
abbrev dktX4_feed_2 : List UInt8 := dkwX4_feed_2 ++ []
def dkwX4_feed_1 : List UInt8 := [16, 253, 172, 42, 180, 0, 31, 42, 180, 0, 154, 27, 79, 42, 89, 180, 0, 154, 4, 96, 181, 0, 154, 42]
abbrev dktX4_feed_1 : List UInt8 := dkwX4_feed_1 ++ dktX4_feed_2
def dkwX4_feed_0 : List UInt8 := [27, 133, 9, 20, 0, 152, 184, 0, 102, 154, 0, 5, 2, 172, 42, 180, 0, 154, 16, 120, 160, 0, 6]
abbrev dktX4_feed_0 : List UInt8 := dkwX4_feed_0 ++ dktX4_feed_1
theorem dksX4_feed_0 : cX4_feed.data.toList.drop 0 = dktX4_feed_0 := by decide +kernel
theorem dksX4_feed_1 : cX4_feed.data.toList.drop 23 = dktX4_feed_1 := dk_seg dksX4_feed_0 23 rfl rfl
theorem dksX4_feed_2 : cX4_feed.data.toList.drop 47 = dktX4_feed_2 := dk_seg dksX4_feed_1 24 rfl rfl
theorem dX4_feed_0 : decode cX4_feed 0 = .ok (.iload_n 1, 1) := dk_27 (dk_at dksX4_feed_0 0 rfl rfl)
theorem dX4_feed_1 : decode cX4_feed 1 = .ok (.i2l, 1) := dk_133 (dk_at dksX4_feed_0 1 rfl rfl)
theorem dX4_feed_2 : decode cX4_feed 2 = .ok (.lconst 0, 1) := dk_9 (dk_at dksX4_feed_0 2 rfl rfl)
theorem dX4_feed_3 : decode cX4_feed 3 = .ok (.ldc2_w 152, 3) := dk_20 0 152 (dk_at dksX4_feed_0 3 rfl rfl)
theorem dX4_feed_6 : decode cX4_feed 6 = .ok (.invokestatic 102, 3) := dk_184 0 102 (dk_at dksX4_feed_0 6 rfl rfl)
theorem dX4_feed_9 : decode cX4_feed 9 = .ok (.ifCond .ne 5, 3) := dk_154 0 5 (dk_at dksX4_feed_0 9 rfl rfl)
theorem dX4_feed_12 : decode cX4_feed 12 = .ok (.iconst (-1), 1) := dk_2 (dk_at dksX4_feed_0 12 rfl rfl)
theorem dX4_feed_13 : decode cX4_feed 13 = .ok (.ireturn, 1) := dk_172 (dk_at dksX4_feed_0 13 rfl rfl)
theorem dX4_feed_14 : decode cX4_feed 14 = .ok (.aload_n 0, 1) := dk_42 (dk_at dksX4_feed_0 14 rfl rfl)
theorem dX4_feed_15 : decode cX4_feed 15 = .ok (.getfield 154, 3) := dk_180 0 154 (dk_at dksX4_feed_0 15 rfl rfl)
theorem dX4_feed_18 : decode cX4_feed 18 = .ok (.bipush 120, 2) := dk_16 120 (dk_at dksX4_feed_0 18 rfl rfl)
theorem dX4_feed_20 : decode cX4_feed 20 = .ok (.if_icmp .ne 6, 3) := dk_160 0 6 (dk_at dksX4_feed_0 20 rfl rfl)
theorem dX4_feed_23 : decode cX4_feed 23 = .ok (.bipush (-3), 2) := dk_16 253 (dk_at dksX4_feed_1 0 rfl rfl)
theorem dX4_feed_25 : decode cX4_feed 25 = .ok (.ireturn, 1) := dk_172 (dk_at dksX4_feed_1 2 rfl rfl)
theorem dX4_feed_26 : decode cX4_feed 26 = .ok (.aload_n 0, 1) := dk_42 (dk_at dksX4_feed_1 3 rfl rfl)
theorem dX4_feed_27 : decode cX4_feed 27 = .ok (.getfield 31, 3) := dk_180 0 31 (dk_at dksX4_feed_1 4 rfl rfl)
theorem dX4_feed_30 : decode cX4_feed 30 = .ok (.aload_n 0, 1) := dk_42 (dk_at dksX4_feed_1 7 rfl rfl)
theorem dX4_feed_31 : decode cX4_feed 31 = .ok (.getfield 154, 3) := dk_180 0 154 (dk_at dksX4_feed_1 8 rfl rfl)
theorem dX4_feed_34 : decode cX4_feed 34 = .ok (.iload_n 1, 1) := dk_27 (dk_at dksX4_feed_1 11 rfl rfl)
theorem dX4_feed_35 : decode cX4_feed 35 = .ok (.iastore, 1) := dk_79 (dk_at dksX4_feed_1 12 rfl rfl)
theorem dX4_feed_36 : decode cX4_feed 36 = .ok (.aload_n 0, 1) := dk_42 (dk_at dksX4_feed_1 13 rfl rfl)
theorem dX4_feed_37 : decode cX4_feed 37 = .ok (.dup, 1) := dk_89 (dk_at dksX4_feed_1 14 rfl rfl)
theorem dX4_feed_38 : decode cX4_feed 38 = .ok (.getfield 154, 3) := dk_180 0 154 (dk_at dksX4_feed_1 15 rfl rfl)
theorem dX4_feed_41 : decode cX4_feed 41 = .ok (.iconst 1, 1) := dk_4 (dk_at dksX4_feed_1 18 rfl rfl)
theorem dX4_feed_42 : decode cX4_feed 42 = .ok (.iadd, 1) := dk_96 (dk_at dksX4_feed_1 19 rfl rfl)
theorem dX4_feed_43 : decode cX4_feed 43 = .ok (.putfield 154, 3) := dk_181 0 154 (dk_at dksX4_feed_1 20 rfl rfl)
theorem dX4_feed_46 : decode cX4_feed 46 = .ok (.aload_n 0, 1) := dk_42 (dk_at dksX4_feed_1 23 rfl rfl)
theorem dX4_feed_47 : decode cX4_feed 47 = .ok (.getfield 154, 3) := dk_180 0 154 (dk_at dksX4_feed_2 0 rfl rfl)
theorem dX4_feed_50 : decode cX4_feed 50 = .ok (.ireturn, 1) := dk_172 (dk_at dksX4_feed_2 3 rfl rfl)
abbrev cX4_law : ByteArray := prog_34_method_28_code
def yX4_law : MethodName := ⟨RX4, "law", "(I)I"⟩
def dkwX4_law_3 : List UInt8 := [79, 132, 4, 1, 167, 255, 228, 42, 180, 0, 37, 27, 29, 79, 4, 172]
abbrev dktX4_law_3 : List UInt8 := dkwX4_law_3 ++ []
def dkwX4_law_2 : List UInt8 := [21, 4, 29, 162, 0, 28, 42, 180, 0, 34, 16, 120, 27, 104, 21, 4, 96, 42, 180, 0, 31, 21, 4, 46]
abbrev dktX4_law_2 : List UInt8 := dkwX4_law_2 ++ dktX4_law_3
def dkwX4_law_1 : List UInt8 := [42, 3, 181, 0, 154, 42, 180, 0, 166, 155, 0, 11, 16, 156, 42, 180, 0, 166, 100, 172, 3, 54, 4]
abbrev dktX4_law_1 : List UInt8 := dkwX4_law_1 ++ dktX4_law_2
def dkwX4_law_0 : List UInt8 := [27, 184, 0, 129, 154, 0, 5, 2, 172, 42, 2, 42, 180, 0, 154, 182, 0, 204, 61, 42, 180, 0, 154, 62]
abbrev dktX4_law_0 : List UInt8 := dkwX4_law_0 ++ dktX4_law_1
theorem dksX4_law_0 : cX4_law.data.toList.drop 0 = dktX4_law_0 := by decide +kernel
theorem dksX4_law_1 : cX4_law.data.toList.drop 24 = dktX4_law_1 := dk_seg dksX4_law_0 24 rfl rfl
theorem dksX4_law_2 : cX4_law.data.toList.drop 47 = dktX4_law_2 := dk_seg dksX4_law_1 23 rfl rfl
theorem dksX4_law_3 : cX4_law.data.toList.drop 71 = dktX4_law_3 := dk_seg dksX4_law_2 24 rfl rfl
theorem dX4_law_0 : decode cX4_law 0 = .ok (.iload_n 1, 1) := dk_27 (dk_at dksX4_law_0 0 rfl rfl)
theorem dX4_law_1 : decode cX4_law 1 = .ok (.invokestatic 129, 3) := dk_184 0 129 (dk_at dksX4_law_0 1 rfl rfl)
theorem dX4_law_4 : decode cX4_law 4 = .ok (.ifCond .ne 5, 3) := dk_154 0 5 (dk_at dksX4_law_0 4 rfl rfl)
theorem dX4_law_7 : decode cX4_law 7 = .ok (.iconst (-1), 1) := dk_2 (dk_at dksX4_law_0 7 rfl rfl)
theorem dX4_law_8 : decode cX4_law 8 = .ok (.ireturn, 1) := dk_172 (dk_at dksX4_law_0 8 rfl rfl)
theorem dX4_law_9 : decode cX4_law 9 = .ok (.aload_n 0, 1) := dk_42 (dk_at dksX4_law_0 9 rfl rfl)
theorem dX4_law_10 : decode cX4_law 10 = .ok (.iconst (-1), 1) := dk_2 (dk_at dksX4_law_0 10 rfl rfl)
theorem dX4_law_11 : decode cX4_law 11 = .ok (.aload_n 0, 1) := dk_42 (dk_at dksX4_law_0 11 rfl rfl)
theorem dX4_law_12 : decode cX4_law 12 = .ok (.getfield 154, 3) := dk_180 0 154 (dk_at dksX4_law_0 12 rfl rfl)
theorem dX4_law_15 : decode cX4_law 15 = .ok (.invokevirtual 204, 3) := dk_182 0 204 (dk_at dksX4_law_0 15 rfl rfl)
theorem dX4_law_18 : decode cX4_law 18 = .ok (.istore_n 2, 1) := dk_61 (dk_at dksX4_law_0 18 rfl rfl)
theorem dX4_law_19 : decode cX4_law 19 = .ok (.aload_n 0, 1) := dk_42 (dk_at dksX4_law_0 19 rfl rfl)
theorem dX4_law_20 : decode cX4_law 20 = .ok (.getfield 154, 3) := dk_180 0 154 (dk_at dksX4_law_0 20 rfl rfl)
theorem dX4_law_23 : decode cX4_law 23 = .ok (.istore_n 3, 1) := dk_62 (dk_at dksX4_law_0 23 rfl rfl)
theorem dX4_law_24 : decode cX4_law 24 = .ok (.aload_n 0, 1) := dk_42 (dk_at dksX4_law_1 0 rfl rfl)
theorem dX4_law_25 : decode cX4_law 25 = .ok (.iconst 0, 1) := dk_3 (dk_at dksX4_law_1 1 rfl rfl)
theorem dX4_law_26 : decode cX4_law 26 = .ok (.putfield 154, 3) := dk_181 0 154 (dk_at dksX4_law_1 2 rfl rfl)
theorem dX4_law_29 : decode cX4_law 29 = .ok (.aload_n 0, 1) := dk_42 (dk_at dksX4_law_1 5 rfl rfl)
theorem dX4_law_30 : decode cX4_law 30 = .ok (.getfield 166, 3) := dk_180 0 166 (dk_at dksX4_law_1 6 rfl rfl)
theorem dX4_law_33 : decode cX4_law 33 = .ok (.ifCond .lt 11, 3) := dk_155 0 11 (dk_at dksX4_law_1 9 rfl rfl)
theorem dX4_law_36 : decode cX4_law 36 = .ok (.bipush (-100), 2) := dk_16 156 (dk_at dksX4_law_1 12 rfl rfl)
theorem dX4_law_38 : decode cX4_law 38 = .ok (.aload_n 0, 1) := dk_42 (dk_at dksX4_law_1 14 rfl rfl)
theorem dX4_law_39 : decode cX4_law 39 = .ok (.getfield 166, 3) := dk_180 0 166 (dk_at dksX4_law_1 15 rfl rfl)
theorem dX4_law_42 : decode cX4_law 42 = .ok (.isub, 1) := dk_100 (dk_at dksX4_law_1 18 rfl rfl)
theorem dX4_law_43 : decode cX4_law 43 = .ok (.ireturn, 1) := dk_172 (dk_at dksX4_law_1 19 rfl rfl)
theorem dX4_law_44 : decode cX4_law 44 = .ok (.iconst 0, 1) := dk_3 (dk_at dksX4_law_1 20 rfl rfl)
theorem dX4_law_45 : decode cX4_law 45 = .ok (.istore 4, 2) := dk_54 4 (dk_at dksX4_law_1 21 rfl rfl)
theorem dX4_law_47 : decode cX4_law 47 = .ok (.iload 4, 2) := dk_21 4 (dk_at dksX4_law_2 0 rfl rfl)
theorem dX4_law_49 : decode cX4_law 49 = .ok (.iload_n 3, 1) := dk_29 (dk_at dksX4_law_2 2 rfl rfl)
theorem dX4_law_50 : decode cX4_law 50 = .ok (.if_icmp .ge 28, 3) := dk_162 0 28 (dk_at dksX4_law_2 3 rfl rfl)
theorem dX4_law_53 : decode cX4_law 53 = .ok (.aload_n 0, 1) := dk_42 (dk_at dksX4_law_2 6 rfl rfl)
theorem dX4_law_54 : decode cX4_law 54 = .ok (.getfield 34, 3) := dk_180 0 34 (dk_at dksX4_law_2 7 rfl rfl)
theorem dX4_law_57 : decode cX4_law 57 = .ok (.bipush 120, 2) := dk_16 120 (dk_at dksX4_law_2 10 rfl rfl)
theorem dX4_law_59 : decode cX4_law 59 = .ok (.iload_n 1, 1) := dk_27 (dk_at dksX4_law_2 12 rfl rfl)
theorem dX4_law_60 : decode cX4_law 60 = .ok (.imul, 1) := dk_104 (dk_at dksX4_law_2 13 rfl rfl)
theorem dX4_law_61 : decode cX4_law 61 = .ok (.iload 4, 2) := dk_21 4 (dk_at dksX4_law_2 14 rfl rfl)
theorem dX4_law_63 : decode cX4_law 63 = .ok (.iadd, 1) := dk_96 (dk_at dksX4_law_2 16 rfl rfl)
theorem dX4_law_64 : decode cX4_law 64 = .ok (.aload_n 0, 1) := dk_42 (dk_at dksX4_law_2 17 rfl rfl)
theorem dX4_law_65 : decode cX4_law 65 = .ok (.getfield 31, 3) := dk_180 0 31 (dk_at dksX4_law_2 18 rfl rfl)
theorem dX4_law_68 : decode cX4_law 68 = .ok (.iload 4, 2) := dk_21 4 (dk_at dksX4_law_2 21 rfl rfl)
theorem dX4_law_70 : decode cX4_law 70 = .ok (.iaload, 1) := dk_46 (dk_at dksX4_law_2 23 rfl rfl)
theorem dX4_law_71 : decode cX4_law 71 = .ok (.iastore, 1) := dk_79 (dk_at dksX4_law_3 0 rfl rfl)
theorem dX4_law_72 : decode cX4_law 72 = .ok (.iinc 4 1, 3) := dk_132 4 1 (dk_at dksX4_law_3 1 rfl rfl)
theorem dX4_law_75 : decode cX4_law 75 = .ok (.goto (-28), 3) := dk_167 255 228 (dk_at dksX4_law_3 4 rfl rfl)
theorem dX4_law_78 : decode cX4_law 78 = .ok (.aload_n 0, 1) := dk_42 (dk_at dksX4_law_3 7 rfl rfl)
theorem dX4_law_79 : decode cX4_law 79 = .ok (.getfield 37, 3) := dk_180 0 37 (dk_at dksX4_law_3 8 rfl rfl)
theorem dX4_law_82 : decode cX4_law 82 = .ok (.iload_n 1, 1) := dk_27 (dk_at dksX4_law_3 11 rfl rfl)
theorem dX4_law_83 : decode cX4_law 83 = .ok (.iload_n 3, 1) := dk_29 (dk_at dksX4_law_3 12 rfl rfl)
theorem dX4_law_84 : decode cX4_law 84 = .ok (.iastore, 1) := dk_79 (dk_at dksX4_law_3 13 rfl rfl)
theorem dX4_law_85 : decode cX4_law 85 = .ok (.iconst 1, 1) := dk_4 (dk_at dksX4_law_3 14 rfl rfl)
theorem dX4_law_86 : decode cX4_law 86 = .ok (.ireturn, 1) := dk_172 (dk_at dksX4_law_3 15 rfl rfl)
abbrev cX4_workOut : ByteArray := prog_34_method_27_code
def yX4_workOut : MethodName := ⟨RX4, "workOut", "(II)I"⟩
def dkwX4_workOut_5 : List UInt8 := [180, 0, 157, 42, 180, 0, 160, 162, 0, 8, 42, 182, 0, 194, 172, 21, 4, 172]
abbrev dktX4_workOut_5 : List UInt8 := dkwX4_workOut_5 ++ []
def dkwX4_workOut_4 : List UInt8 := [21, 6, 54, 4, 42, 16, 59, 182, 0, 176, 54, 5, 167, 255, 185, 42, 180, 0, 166, 156, 0, 19, 42]
abbrev dktX4_workOut_4 : List UInt8 := dkwX4_workOut_4 ++ dktX4_workOut_5
def dkwX4_workOut_3 : List UInt8 := [182, 0, 197, 54, 6, 42, 180, 0, 166, 156, 0, 18, 21, 7, 153, 0, 13, 29, 154, 0, 9, 4, 62]
abbrev dktX4_workOut_3 : List UInt8 := dkwX4_workOut_3 ++ dktX4_workOut_4
def dkwX4_workOut_2 : List UInt8 := [54, 7, 42, 16, 63, 182, 0, 176, 153, 0, 21, 21, 6, 153, 0, 7, 4, 167, 0, 4, 3, 54, 7, 42]
abbrev dktX4_workOut_2 : List UInt8 := dkwX4_workOut_2 ++ dktX4_workOut_3
def dkwX4_workOut_1 : List UInt8 := [181, 0, 191, 3, 62, 3, 54, 4, 4, 54, 5, 21, 5, 153, 0, 72, 42, 182, 0, 197, 54, 6, 4]
abbrev dktX4_workOut_1 : List UInt8 := dkwX4_workOut_1 ++ dktX4_workOut_2
def dkwX4_workOut_0 : List UInt8 := [42, 27, 181, 0, 163, 42, 3, 181, 0, 157, 42, 28, 181, 0, 160, 42, 2, 181, 0, 166, 42, 3]
abbrev dktX4_workOut_0 : List UInt8 := dkwX4_workOut_0 ++ dktX4_workOut_1
theorem dksX4_workOut_0 : cX4_workOut.data.toList.drop 0 = dktX4_workOut_0 := by decide +kernel
theorem dksX4_workOut_1 : cX4_workOut.data.toList.drop 22 = dktX4_workOut_1 := dk_seg dksX4_workOut_0 22 rfl rfl
theorem dksX4_workOut_2 : cX4_workOut.data.toList.drop 45 = dktX4_workOut_2 := dk_seg dksX4_workOut_1 23 rfl rfl
theorem dksX4_workOut_3 : cX4_workOut.data.toList.drop 69 = dktX4_workOut_3 := dk_seg dksX4_workOut_2 24 rfl rfl
theorem dksX4_workOut_4 : cX4_workOut.data.toList.drop 92 = dktX4_workOut_4 := dk_seg dksX4_workOut_3 23 rfl rfl
theorem dksX4_workOut_5 : cX4_workOut.data.toList.drop 115 = dktX4_workOut_5 := dk_seg dksX4_workOut_4 23 rfl rfl
theorem dX4_workOut_0 : decode cX4_workOut 0 = .ok (.aload_n 0, 1) := dk_42 (dk_at dksX4_workOut_0 0 rfl rfl)
theorem dX4_workOut_1 : decode cX4_workOut 1 = .ok (.iload_n 1, 1) := dk_27 (dk_at dksX4_workOut_0 1 rfl rfl)
theorem dX4_workOut_2 : decode cX4_workOut 2 = .ok (.putfield 163, 3) := dk_181 0 163 (dk_at dksX4_workOut_0 2 rfl rfl)
theorem dX4_workOut_5 : decode cX4_workOut 5 = .ok (.aload_n 0, 1) := dk_42 (dk_at dksX4_workOut_0 5 rfl rfl)
theorem dX4_workOut_6 : decode cX4_workOut 6 = .ok (.iconst 0, 1) := dk_3 (dk_at dksX4_workOut_0 6 rfl rfl)
theorem dX4_workOut_7 : decode cX4_workOut 7 = .ok (.putfield 157, 3) := dk_181 0 157 (dk_at dksX4_workOut_0 7 rfl rfl)
theorem dX4_workOut_10 : decode cX4_workOut 10 = .ok (.aload_n 0, 1) := dk_42 (dk_at dksX4_workOut_0 10 rfl rfl)
theorem dX4_workOut_11 : decode cX4_workOut 11 = .ok (.iload_n 2, 1) := dk_28 (dk_at dksX4_workOut_0 11 rfl rfl)
theorem dX4_workOut_12 : decode cX4_workOut 12 = .ok (.putfield 160, 3) := dk_181 0 160 (dk_at dksX4_workOut_0 12 rfl rfl)
theorem dX4_workOut_15 : decode cX4_workOut 15 = .ok (.aload_n 0, 1) := dk_42 (dk_at dksX4_workOut_0 15 rfl rfl)
theorem dX4_workOut_16 : decode cX4_workOut 16 = .ok (.iconst (-1), 1) := dk_2 (dk_at dksX4_workOut_0 16 rfl rfl)
theorem dX4_workOut_17 : decode cX4_workOut 17 = .ok (.putfield 166, 3) := dk_181 0 166 (dk_at dksX4_workOut_0 17 rfl rfl)
theorem dX4_workOut_20 : decode cX4_workOut 20 = .ok (.aload_n 0, 1) := dk_42 (dk_at dksX4_workOut_0 20 rfl rfl)
theorem dX4_workOut_21 : decode cX4_workOut 21 = .ok (.iconst 0, 1) := dk_3 (dk_at dksX4_workOut_0 21 rfl rfl)
theorem dX4_workOut_22 : decode cX4_workOut 22 = .ok (.putfield 191, 3) := dk_181 0 191 (dk_at dksX4_workOut_1 0 rfl rfl)
theorem dX4_workOut_25 : decode cX4_workOut 25 = .ok (.iconst 0, 1) := dk_3 (dk_at dksX4_workOut_1 3 rfl rfl)
theorem dX4_workOut_26 : decode cX4_workOut 26 = .ok (.istore_n 3, 1) := dk_62 (dk_at dksX4_workOut_1 4 rfl rfl)
theorem dX4_workOut_27 : decode cX4_workOut 27 = .ok (.iconst 0, 1) := dk_3 (dk_at dksX4_workOut_1 5 rfl rfl)
theorem dX4_workOut_28 : decode cX4_workOut 28 = .ok (.istore 4, 2) := dk_54 4 (dk_at dksX4_workOut_1 6 rfl rfl)
theorem dX4_workOut_30 : decode cX4_workOut 30 = .ok (.iconst 1, 1) := dk_4 (dk_at dksX4_workOut_1 8 rfl rfl)
theorem dX4_workOut_31 : decode cX4_workOut 31 = .ok (.istore 5, 2) := dk_54 5 (dk_at dksX4_workOut_1 9 rfl rfl)
theorem dX4_workOut_33 : decode cX4_workOut 33 = .ok (.iload 5, 2) := dk_21 5 (dk_at dksX4_workOut_1 11 rfl rfl)
theorem dX4_workOut_35 : decode cX4_workOut 35 = .ok (.ifCond .eq 72, 3) := dk_153 0 72 (dk_at dksX4_workOut_1 13 rfl rfl)
theorem dX4_workOut_38 : decode cX4_workOut 38 = .ok (.aload_n 0, 1) := dk_42 (dk_at dksX4_workOut_1 16 rfl rfl)
theorem dX4_workOut_39 : decode cX4_workOut 39 = .ok (.invokevirtual 197, 3) := dk_182 0 197 (dk_at dksX4_workOut_1 17 rfl rfl)
theorem dX4_workOut_42 : decode cX4_workOut 42 = .ok (.istore 6, 2) := dk_54 6 (dk_at dksX4_workOut_1 20 rfl rfl)
theorem dX4_workOut_44 : decode cX4_workOut 44 = .ok (.iconst 1, 1) := dk_4 (dk_at dksX4_workOut_1 22 rfl rfl)
theorem dX4_workOut_45 : decode cX4_workOut 45 = .ok (.istore 7, 2) := dk_54 7 (dk_at dksX4_workOut_2 0 rfl rfl)
theorem dX4_workOut_47 : decode cX4_workOut 47 = .ok (.aload_n 0, 1) := dk_42 (dk_at dksX4_workOut_2 2 rfl rfl)
theorem dX4_workOut_48 : decode cX4_workOut 48 = .ok (.bipush 63, 2) := dk_16 63 (dk_at dksX4_workOut_2 3 rfl rfl)
theorem dX4_workOut_50 : decode cX4_workOut 50 = .ok (.invokevirtual 176, 3) := dk_182 0 176 (dk_at dksX4_workOut_2 5 rfl rfl)
theorem dX4_workOut_53 : decode cX4_workOut 53 = .ok (.ifCond .eq 21, 3) := dk_153 0 21 (dk_at dksX4_workOut_2 8 rfl rfl)
theorem dX4_workOut_56 : decode cX4_workOut 56 = .ok (.iload 6, 2) := dk_21 6 (dk_at dksX4_workOut_2 11 rfl rfl)
theorem dX4_workOut_58 : decode cX4_workOut 58 = .ok (.ifCond .eq 7, 3) := dk_153 0 7 (dk_at dksX4_workOut_2 13 rfl rfl)
theorem dX4_workOut_61 : decode cX4_workOut 61 = .ok (.iconst 1, 1) := dk_4 (dk_at dksX4_workOut_2 16 rfl rfl)
theorem dX4_workOut_62 : decode cX4_workOut 62 = .ok (.goto 4, 3) := dk_167 0 4 (dk_at dksX4_workOut_2 17 rfl rfl)
theorem dX4_workOut_65 : decode cX4_workOut 65 = .ok (.iconst 0, 1) := dk_3 (dk_at dksX4_workOut_2 20 rfl rfl)
theorem dX4_workOut_66 : decode cX4_workOut 66 = .ok (.istore 7, 2) := dk_54 7 (dk_at dksX4_workOut_2 21 rfl rfl)
theorem dX4_workOut_68 : decode cX4_workOut 68 = .ok (.aload_n 0, 1) := dk_42 (dk_at dksX4_workOut_2 23 rfl rfl)
theorem dX4_workOut_69 : decode cX4_workOut 69 = .ok (.invokevirtual 197, 3) := dk_182 0 197 (dk_at dksX4_workOut_3 0 rfl rfl)
theorem dX4_workOut_72 : decode cX4_workOut 72 = .ok (.istore 6, 2) := dk_54 6 (dk_at dksX4_workOut_3 3 rfl rfl)
theorem dX4_workOut_74 : decode cX4_workOut 74 = .ok (.aload_n 0, 1) := dk_42 (dk_at dksX4_workOut_3 5 rfl rfl)
theorem dX4_workOut_75 : decode cX4_workOut 75 = .ok (.getfield 166, 3) := dk_180 0 166 (dk_at dksX4_workOut_3 6 rfl rfl)
theorem dX4_workOut_78 : decode cX4_workOut 78 = .ok (.ifCond .ge 18, 3) := dk_156 0 18 (dk_at dksX4_workOut_3 9 rfl rfl)
theorem dX4_workOut_81 : decode cX4_workOut 81 = .ok (.iload 7, 2) := dk_21 7 (dk_at dksX4_workOut_3 12 rfl rfl)
theorem dX4_workOut_83 : decode cX4_workOut 83 = .ok (.ifCond .eq 13, 3) := dk_153 0 13 (dk_at dksX4_workOut_3 14 rfl rfl)
theorem dX4_workOut_86 : decode cX4_workOut 86 = .ok (.iload_n 3, 1) := dk_29 (dk_at dksX4_workOut_3 17 rfl rfl)
theorem dX4_workOut_87 : decode cX4_workOut 87 = .ok (.ifCond .ne 9, 3) := dk_154 0 9 (dk_at dksX4_workOut_3 18 rfl rfl)
theorem dX4_workOut_90 : decode cX4_workOut 90 = .ok (.iconst 1, 1) := dk_4 (dk_at dksX4_workOut_3 21 rfl rfl)
theorem dX4_workOut_91 : decode cX4_workOut 91 = .ok (.istore_n 3, 1) := dk_62 (dk_at dksX4_workOut_3 22 rfl rfl)
theorem dX4_workOut_92 : decode cX4_workOut 92 = .ok (.iload 6, 2) := dk_21 6 (dk_at dksX4_workOut_4 0 rfl rfl)
theorem dX4_workOut_94 : decode cX4_workOut 94 = .ok (.istore 4, 2) := dk_54 4 (dk_at dksX4_workOut_4 2 rfl rfl)
theorem dX4_workOut_96 : decode cX4_workOut 96 = .ok (.aload_n 0, 1) := dk_42 (dk_at dksX4_workOut_4 4 rfl rfl)
theorem dX4_workOut_97 : decode cX4_workOut 97 = .ok (.bipush 59, 2) := dk_16 59 (dk_at dksX4_workOut_4 5 rfl rfl)
theorem dX4_workOut_99 : decode cX4_workOut 99 = .ok (.invokevirtual 176, 3) := dk_182 0 176 (dk_at dksX4_workOut_4 7 rfl rfl)
theorem dX4_workOut_102 : decode cX4_workOut 102 = .ok (.istore 5, 2) := dk_54 5 (dk_at dksX4_workOut_4 10 rfl rfl)
theorem dX4_workOut_104 : decode cX4_workOut 104 = .ok (.goto (-71), 3) := dk_167 255 185 (dk_at dksX4_workOut_4 12 rfl rfl)
theorem dX4_workOut_107 : decode cX4_workOut 107 = .ok (.aload_n 0, 1) := dk_42 (dk_at dksX4_workOut_4 15 rfl rfl)
theorem dX4_workOut_108 : decode cX4_workOut 108 = .ok (.getfield 166, 3) := dk_180 0 166 (dk_at dksX4_workOut_4 16 rfl rfl)
theorem dX4_workOut_111 : decode cX4_workOut 111 = .ok (.ifCond .ge 19, 3) := dk_156 0 19 (dk_at dksX4_workOut_4 19 rfl rfl)
theorem dX4_workOut_114 : decode cX4_workOut 114 = .ok (.aload_n 0, 1) := dk_42 (dk_at dksX4_workOut_4 22 rfl rfl)
theorem dX4_workOut_115 : decode cX4_workOut 115 = .ok (.getfield 157, 3) := dk_180 0 157 (dk_at dksX4_workOut_5 0 rfl rfl)
theorem dX4_workOut_118 : decode cX4_workOut 118 = .ok (.aload_n 0, 1) := dk_42 (dk_at dksX4_workOut_5 3 rfl rfl)
theorem dX4_workOut_119 : decode cX4_workOut 119 = .ok (.getfield 160, 3) := dk_180 0 160 (dk_at dksX4_workOut_5 4 rfl rfl)
theorem dX4_workOut_122 : decode cX4_workOut 122 = .ok (.if_icmp .ge 8, 3) := dk_162 0 8 (dk_at dksX4_workOut_5 7 rfl rfl)
theorem dX4_workOut_125 : decode cX4_workOut 125 = .ok (.aload_n 0, 1) := dk_42 (dk_at dksX4_workOut_5 10 rfl rfl)
theorem dX4_workOut_126 : decode cX4_workOut 126 = .ok (.invokevirtual 194, 3) := dk_182 0 194 (dk_at dksX4_workOut_5 11 rfl rfl)
theorem dX4_workOut_129 : decode cX4_workOut 129 = .ok (.ireturn, 1) := dk_172 (dk_at dksX4_workOut_5 14 rfl rfl)
theorem dX4_workOut_130 : decode cX4_workOut 130 = .ok (.iload 4, 2) := dk_21 4 (dk_at dksX4_workOut_5 15 rfl rfl)
theorem dX4_workOut_132 : decode cX4_workOut 132 = .ok (.ireturn, 1) := dk_172 (dk_at dksX4_workOut_5 17 rfl rfl)
abbrev cX4_either : ByteArray := prog_34_method_20_code
def yX4_either : MethodName := ⟨RX4, "either", "()I"⟩
def dkwX4_either_1 : List UInt8 := [153, 0, 7, 4, 167, 0, 4, 3, 60, 167, 255, 228, 27, 172]
abbrev dktX4_either_1 : List UInt8 := dkwX4_either_1 ++ []
def dkwX4_either_0 : List UInt8 := [42, 182, 0, 173, 60, 42, 16, 124, 182, 0, 176, 153, 0, 25, 42, 182, 0, 173, 61, 27, 154, 0, 7, 28]
abbrev dktX4_either_0 : List UInt8 := dkwX4_either_0 ++ dktX4_either_1
theorem dksX4_either_0 : cX4_either.data.toList.drop 0 = dktX4_either_0 := by decide +kernel
theorem dksX4_either_1 : cX4_either.data.toList.drop 24 = dktX4_either_1 := dk_seg dksX4_either_0 24 rfl rfl
theorem dX4_either_0 : decode cX4_either 0 = .ok (.aload_n 0, 1) := dk_42 (dk_at dksX4_either_0 0 rfl rfl)
theorem dX4_either_1 : decode cX4_either 1 = .ok (.invokevirtual 173, 3) := dk_182 0 173 (dk_at dksX4_either_0 1 rfl rfl)
theorem dX4_either_4 : decode cX4_either 4 = .ok (.istore_n 1, 1) := dk_60 (dk_at dksX4_either_0 4 rfl rfl)
theorem dX4_either_5 : decode cX4_either 5 = .ok (.aload_n 0, 1) := dk_42 (dk_at dksX4_either_0 5 rfl rfl)
theorem dX4_either_6 : decode cX4_either 6 = .ok (.bipush 124, 2) := dk_16 124 (dk_at dksX4_either_0 6 rfl rfl)
theorem dX4_either_8 : decode cX4_either 8 = .ok (.invokevirtual 176, 3) := dk_182 0 176 (dk_at dksX4_either_0 8 rfl rfl)
theorem dX4_either_11 : decode cX4_either 11 = .ok (.ifCond .eq 25, 3) := dk_153 0 25 (dk_at dksX4_either_0 11 rfl rfl)
theorem dX4_either_14 : decode cX4_either 14 = .ok (.aload_n 0, 1) := dk_42 (dk_at dksX4_either_0 14 rfl rfl)
theorem dX4_either_15 : decode cX4_either 15 = .ok (.invokevirtual 173, 3) := dk_182 0 173 (dk_at dksX4_either_0 15 rfl rfl)
theorem dX4_either_18 : decode cX4_either 18 = .ok (.istore_n 2, 1) := dk_61 (dk_at dksX4_either_0 18 rfl rfl)
theorem dX4_either_19 : decode cX4_either 19 = .ok (.iload_n 1, 1) := dk_27 (dk_at dksX4_either_0 19 rfl rfl)
theorem dX4_either_20 : decode cX4_either 20 = .ok (.ifCond .ne 7, 3) := dk_154 0 7 (dk_at dksX4_either_0 20 rfl rfl)
theorem dX4_either_23 : decode cX4_either 23 = .ok (.iload_n 2, 1) := dk_28 (dk_at dksX4_either_0 23 rfl rfl)
theorem dX4_either_24 : decode cX4_either 24 = .ok (.ifCond .eq 7, 3) := dk_153 0 7 (dk_at dksX4_either_1 0 rfl rfl)
theorem dX4_either_27 : decode cX4_either 27 = .ok (.iconst 1, 1) := dk_4 (dk_at dksX4_either_1 3 rfl rfl)
theorem dX4_either_28 : decode cX4_either 28 = .ok (.goto 4, 3) := dk_167 0 4 (dk_at dksX4_either_1 4 rfl rfl)
theorem dX4_either_31 : decode cX4_either 31 = .ok (.iconst 0, 1) := dk_3 (dk_at dksX4_either_1 7 rfl rfl)
theorem dX4_either_32 : decode cX4_either 32 = .ok (.istore_n 1, 1) := dk_60 (dk_at dksX4_either_1 8 rfl rfl)
theorem dX4_either_33 : decode cX4_either 33 = .ok (.goto (-28), 3) := dk_167 255 228 (dk_at dksX4_either_1 9 rfl rfl)
theorem dX4_either_36 : decode cX4_either 36 = .ok (.iload_n 1, 1) := dk_27 (dk_at dksX4_either_1 12 rfl rfl)
theorem dX4_either_37 : decode cX4_either 37 = .ok (.ireturn, 1) := dk_172 (dk_at dksX4_either_1 13 rfl rfl)
abbrev cX4_both : ByteArray := prog_34_method_21_code
def yX4_both : MethodName := ⟨RX4, "both", "()I"⟩
def dkwX4_both_1 : List UInt8 := [153, 0, 7, 4, 167, 0, 4, 3, 60, 167, 255, 228, 27, 172]
abbrev dktX4_both_1 : List UInt8 := dkwX4_both_1 ++ []
def dkwX4_both_0 : List UInt8 := [42, 182, 0, 179, 60, 42, 16, 38, 182, 0, 176, 153, 0, 25, 42, 182, 0, 179, 61, 27, 153, 0, 11, 28]
abbrev dktX4_both_0 : List UInt8 := dkwX4_both_0 ++ dktX4_both_1
theorem dksX4_both_0 : cX4_both.data.toList.drop 0 = dktX4_both_0 := by decide +kernel
theorem dksX4_both_1 : cX4_both.data.toList.drop 24 = dktX4_both_1 := dk_seg dksX4_both_0 24 rfl rfl
theorem dX4_both_0 : decode cX4_both 0 = .ok (.aload_n 0, 1) := dk_42 (dk_at dksX4_both_0 0 rfl rfl)
theorem dX4_both_1 : decode cX4_both 1 = .ok (.invokevirtual 179, 3) := dk_182 0 179 (dk_at dksX4_both_0 1 rfl rfl)
theorem dX4_both_4 : decode cX4_both 4 = .ok (.istore_n 1, 1) := dk_60 (dk_at dksX4_both_0 4 rfl rfl)
theorem dX4_both_5 : decode cX4_both 5 = .ok (.aload_n 0, 1) := dk_42 (dk_at dksX4_both_0 5 rfl rfl)
theorem dX4_both_6 : decode cX4_both 6 = .ok (.bipush 38, 2) := dk_16 38 (dk_at dksX4_both_0 6 rfl rfl)
theorem dX4_both_8 : decode cX4_both 8 = .ok (.invokevirtual 176, 3) := dk_182 0 176 (dk_at dksX4_both_0 8 rfl rfl)
theorem dX4_both_11 : decode cX4_both 11 = .ok (.ifCond .eq 25, 3) := dk_153 0 25 (dk_at dksX4_both_0 11 rfl rfl)
theorem dX4_both_14 : decode cX4_both 14 = .ok (.aload_n 0, 1) := dk_42 (dk_at dksX4_both_0 14 rfl rfl)
theorem dX4_both_15 : decode cX4_both 15 = .ok (.invokevirtual 179, 3) := dk_182 0 179 (dk_at dksX4_both_0 15 rfl rfl)
theorem dX4_both_18 : decode cX4_both 18 = .ok (.istore_n 2, 1) := dk_61 (dk_at dksX4_both_0 18 rfl rfl)
theorem dX4_both_19 : decode cX4_both 19 = .ok (.iload_n 1, 1) := dk_27 (dk_at dksX4_both_0 19 rfl rfl)
theorem dX4_both_20 : decode cX4_both 20 = .ok (.ifCond .eq 11, 3) := dk_153 0 11 (dk_at dksX4_both_0 20 rfl rfl)
theorem dX4_both_23 : decode cX4_both 23 = .ok (.iload_n 2, 1) := dk_28 (dk_at dksX4_both_0 23 rfl rfl)
theorem dX4_both_24 : decode cX4_both 24 = .ok (.ifCond .eq 7, 3) := dk_153 0 7 (dk_at dksX4_both_1 0 rfl rfl)
theorem dX4_both_27 : decode cX4_both 27 = .ok (.iconst 1, 1) := dk_4 (dk_at dksX4_both_1 3 rfl rfl)
theorem dX4_both_28 : decode cX4_both 28 = .ok (.goto 4, 3) := dk_167 0 4 (dk_at dksX4_both_1 4 rfl rfl)
theorem dX4_both_31 : decode cX4_both 31 = .ok (.iconst 0, 1) := dk_3 (dk_at dksX4_both_1 7 rfl rfl)
theorem dX4_both_32 : decode cX4_both 32 = .ok (.istore_n 1, 1) := dk_60 (dk_at dksX4_both_1 8 rfl rfl)
theorem dX4_both_33 : decode cX4_both 33 = .ok (.goto (-28), 3) := dk_167 255 228 (dk_at dksX4_both_1 9 rfl rfl)
theorem dX4_both_36 : decode cX4_both 36 = .ok (.iload_n 1, 1) := dk_27 (dk_at dksX4_both_1 12 rfl rfl)
theorem dX4_both_37 : decode cX4_both 37 = .ok (.ireturn, 1) := dk_172 (dk_at dksX4_both_1 13 rfl rfl)
abbrev cX4_compared : ByteArray := prog_34_method_22_code
def yX4_compared : MethodName := ⟨RX4, "compared", "()I"⟩
def dkwX4_compared_3 : List UInt8 := [27, 29, 160, 0, 15, 167, 0, 8, 27, 29, 164, 0, 7, 4, 167, 0, 4, 3, 172]
abbrev dktX4_compared_3 : List UInt8 := dkwX4_compared_3 ++ []
def dkwX4_compared_2 : List UInt8 := [182, 0, 182, 62, 28, 16, 60, 160, 0, 11, 27, 29, 162, 0, 29, 167, 0, 22, 28, 16, 61, 160, 0, 11]
abbrev dktX4_compared_2 : List UInt8 := dkwX4_compared_2 ++ dktX4_compared_3
def dkwX4_compared_1 : List UInt8 := [16, 61, 159, 0, 11, 28, 16, 62, 159, 0, 5, 27, 172, 42, 89, 180, 0, 157, 4, 96, 181, 0, 157, 42]
abbrev dktX4_compared_1 : List UInt8 := dkwX4_compared_1 ++ dktX4_compared_2
def dkwX4_compared_0 : List UInt8 := [42, 182, 0, 182, 60, 42, 182, 0, 169, 61, 42, 180, 0, 166, 156, 0, 21, 28, 16, 60, 159, 0, 17, 28]
abbrev dktX4_compared_0 : List UInt8 := dkwX4_compared_0 ++ dktX4_compared_1
theorem dksX4_compared_0 : cX4_compared.data.toList.drop 0 = dktX4_compared_0 := by decide +kernel
theorem dksX4_compared_1 : cX4_compared.data.toList.drop 24 = dktX4_compared_1 := dk_seg dksX4_compared_0 24 rfl rfl
theorem dksX4_compared_2 : cX4_compared.data.toList.drop 48 = dktX4_compared_2 := dk_seg dksX4_compared_1 24 rfl rfl
theorem dksX4_compared_3 : cX4_compared.data.toList.drop 72 = dktX4_compared_3 := dk_seg dksX4_compared_2 24 rfl rfl
theorem dX4_compared_0 : decode cX4_compared 0 = .ok (.aload_n 0, 1) := dk_42 (dk_at dksX4_compared_0 0 rfl rfl)
theorem dX4_compared_1 : decode cX4_compared 1 = .ok (.invokevirtual 182, 3) := dk_182 0 182 (dk_at dksX4_compared_0 1 rfl rfl)
theorem dX4_compared_4 : decode cX4_compared 4 = .ok (.istore_n 1, 1) := dk_60 (dk_at dksX4_compared_0 4 rfl rfl)
theorem dX4_compared_5 : decode cX4_compared 5 = .ok (.aload_n 0, 1) := dk_42 (dk_at dksX4_compared_0 5 rfl rfl)
theorem dX4_compared_6 : decode cX4_compared 6 = .ok (.invokevirtual 169, 3) := dk_182 0 169 (dk_at dksX4_compared_0 6 rfl rfl)
theorem dX4_compared_9 : decode cX4_compared 9 = .ok (.istore_n 2, 1) := dk_61 (dk_at dksX4_compared_0 9 rfl rfl)
theorem dX4_compared_10 : decode cX4_compared 10 = .ok (.aload_n 0, 1) := dk_42 (dk_at dksX4_compared_0 10 rfl rfl)
theorem dX4_compared_11 : decode cX4_compared 11 = .ok (.getfield 166, 3) := dk_180 0 166 (dk_at dksX4_compared_0 11 rfl rfl)
theorem dX4_compared_14 : decode cX4_compared 14 = .ok (.ifCond .ge 21, 3) := dk_156 0 21 (dk_at dksX4_compared_0 14 rfl rfl)
theorem dX4_compared_17 : decode cX4_compared 17 = .ok (.iload_n 2, 1) := dk_28 (dk_at dksX4_compared_0 17 rfl rfl)
theorem dX4_compared_18 : decode cX4_compared 18 = .ok (.bipush 60, 2) := dk_16 60 (dk_at dksX4_compared_0 18 rfl rfl)
theorem dX4_compared_20 : decode cX4_compared 20 = .ok (.if_icmp .eq 17, 3) := dk_159 0 17 (dk_at dksX4_compared_0 20 rfl rfl)
theorem dX4_compared_23 : decode cX4_compared 23 = .ok (.iload_n 2, 1) := dk_28 (dk_at dksX4_compared_0 23 rfl rfl)
theorem dX4_compared_24 : decode cX4_compared 24 = .ok (.bipush 61, 2) := dk_16 61 (dk_at dksX4_compared_1 0 rfl rfl)
theorem dX4_compared_26 : decode cX4_compared 26 = .ok (.if_icmp .eq 11, 3) := dk_159 0 11 (dk_at dksX4_compared_1 2 rfl rfl)
theorem dX4_compared_29 : decode cX4_compared 29 = .ok (.iload_n 2, 1) := dk_28 (dk_at dksX4_compared_1 5 rfl rfl)
theorem dX4_compared_30 : decode cX4_compared 30 = .ok (.bipush 62, 2) := dk_16 62 (dk_at dksX4_compared_1 6 rfl rfl)
theorem dX4_compared_32 : decode cX4_compared 32 = .ok (.if_icmp .eq 5, 3) := dk_159 0 5 (dk_at dksX4_compared_1 8 rfl rfl)
theorem dX4_compared_35 : decode cX4_compared 35 = .ok (.iload_n 1, 1) := dk_27 (dk_at dksX4_compared_1 11 rfl rfl)
theorem dX4_compared_36 : decode cX4_compared 36 = .ok (.ireturn, 1) := dk_172 (dk_at dksX4_compared_1 12 rfl rfl)
theorem dX4_compared_37 : decode cX4_compared 37 = .ok (.aload_n 0, 1) := dk_42 (dk_at dksX4_compared_1 13 rfl rfl)
theorem dX4_compared_38 : decode cX4_compared 38 = .ok (.dup, 1) := dk_89 (dk_at dksX4_compared_1 14 rfl rfl)
theorem dX4_compared_39 : decode cX4_compared 39 = .ok (.getfield 157, 3) := dk_180 0 157 (dk_at dksX4_compared_1 15 rfl rfl)
theorem dX4_compared_42 : decode cX4_compared 42 = .ok (.iconst 1, 1) := dk_4 (dk_at dksX4_compared_1 18 rfl rfl)
theorem dX4_compared_43 : decode cX4_compared 43 = .ok (.iadd, 1) := dk_96 (dk_at dksX4_compared_1 19 rfl rfl)
theorem dX4_compared_44 : decode cX4_compared 44 = .ok (.putfield 157, 3) := dk_181 0 157 (dk_at dksX4_compared_1 20 rfl rfl)
theorem dX4_compared_47 : decode cX4_compared 47 = .ok (.aload_n 0, 1) := dk_42 (dk_at dksX4_compared_1 23 rfl rfl)
theorem dX4_compared_48 : decode cX4_compared 48 = .ok (.invokevirtual 182, 3) := dk_182 0 182 (dk_at dksX4_compared_2 0 rfl rfl)
theorem dX4_compared_51 : decode cX4_compared 51 = .ok (.istore_n 3, 1) := dk_62 (dk_at dksX4_compared_2 3 rfl rfl)
theorem dX4_compared_52 : decode cX4_compared 52 = .ok (.iload_n 2, 1) := dk_28 (dk_at dksX4_compared_2 4 rfl rfl)
theorem dX4_compared_53 : decode cX4_compared 53 = .ok (.bipush 60, 2) := dk_16 60 (dk_at dksX4_compared_2 5 rfl rfl)
theorem dX4_compared_55 : decode cX4_compared 55 = .ok (.if_icmp .ne 11, 3) := dk_160 0 11 (dk_at dksX4_compared_2 7 rfl rfl)
theorem dX4_compared_58 : decode cX4_compared 58 = .ok (.iload_n 1, 1) := dk_27 (dk_at dksX4_compared_2 10 rfl rfl)
theorem dX4_compared_59 : decode cX4_compared 59 = .ok (.iload_n 3, 1) := dk_29 (dk_at dksX4_compared_2 11 rfl rfl)
theorem dX4_compared_60 : decode cX4_compared 60 = .ok (.if_icmp .ge 29, 3) := dk_162 0 29 (dk_at dksX4_compared_2 12 rfl rfl)
theorem dX4_compared_63 : decode cX4_compared 63 = .ok (.goto 22, 3) := dk_167 0 22 (dk_at dksX4_compared_2 15 rfl rfl)
theorem dX4_compared_66 : decode cX4_compared 66 = .ok (.iload_n 2, 1) := dk_28 (dk_at dksX4_compared_2 18 rfl rfl)
theorem dX4_compared_67 : decode cX4_compared 67 = .ok (.bipush 61, 2) := dk_16 61 (dk_at dksX4_compared_2 19 rfl rfl)
theorem dX4_compared_69 : decode cX4_compared 69 = .ok (.if_icmp .ne 11, 3) := dk_160 0 11 (dk_at dksX4_compared_2 21 rfl rfl)
theorem dX4_compared_72 : decode cX4_compared 72 = .ok (.iload_n 1, 1) := dk_27 (dk_at dksX4_compared_3 0 rfl rfl)
theorem dX4_compared_73 : decode cX4_compared 73 = .ok (.iload_n 3, 1) := dk_29 (dk_at dksX4_compared_3 1 rfl rfl)
theorem dX4_compared_74 : decode cX4_compared 74 = .ok (.if_icmp .ne 15, 3) := dk_160 0 15 (dk_at dksX4_compared_3 2 rfl rfl)
theorem dX4_compared_77 : decode cX4_compared 77 = .ok (.goto 8, 3) := dk_167 0 8 (dk_at dksX4_compared_3 5 rfl rfl)
theorem dX4_compared_80 : decode cX4_compared 80 = .ok (.iload_n 1, 1) := dk_27 (dk_at dksX4_compared_3 8 rfl rfl)
theorem dX4_compared_81 : decode cX4_compared 81 = .ok (.iload_n 3, 1) := dk_29 (dk_at dksX4_compared_3 9 rfl rfl)
theorem dX4_compared_82 : decode cX4_compared 82 = .ok (.if_icmp .le 7, 3) := dk_164 0 7 (dk_at dksX4_compared_3 10 rfl rfl)
theorem dX4_compared_85 : decode cX4_compared 85 = .ok (.iconst 1, 1) := dk_4 (dk_at dksX4_compared_3 13 rfl rfl)
theorem dX4_compared_86 : decode cX4_compared 86 = .ok (.goto 4, 3) := dk_167 0 4 (dk_at dksX4_compared_3 14 rfl rfl)
theorem dX4_compared_89 : decode cX4_compared 89 = .ok (.iconst 0, 1) := dk_3 (dk_at dksX4_compared_3 17 rfl rfl)
theorem dX4_compared_90 : decode cX4_compared 90 = .ok (.ireturn, 1) := dk_172 (dk_at dksX4_compared_3 18 rfl rfl)
abbrev cX4_sums : ByteArray := prog_34_method_23_code
def yX4_sums : MethodName := ⟨RX4, "sums", "()I"⟩
def dkwX4_sums_3 : List UInt8 := [27, 29, 100, 60, 167, 255, 187, 27, 172]
abbrev dktX4_sums_3 : List UInt8 := dkwX4_sums_3 ++ []
def dkwX4_sums_2 : List UInt8 := [89, 180, 0, 157, 4, 96, 181, 0, 157, 42, 182, 0, 185, 62, 28, 153, 0, 9, 27, 29, 96, 167, 0, 6]
abbrev dktX4_sums_2 : List UInt8 := dkwX4_sums_2 ++ dktX4_sums_3
def dkwX4_sums_1 : List UInt8 := [182, 0, 169, 16, 45, 160, 0, 50, 42, 182, 0, 169, 16, 43, 160, 0, 7, 4, 167, 0, 4, 3, 61, 42]
abbrev dktX4_sums_1 : List UInt8 := dkwX4_sums_1 ++ dktX4_sums_2
def dkwX4_sums_0 : List UInt8 := [42, 182, 0, 185, 60, 42, 180, 0, 166, 156, 0, 68, 42, 182, 0, 169, 16, 43, 159, 0, 12, 42]
abbrev dktX4_sums_0 : List UInt8 := dkwX4_sums_0 ++ dktX4_sums_1
theorem dksX4_sums_0 : cX4_sums.data.toList.drop 0 = dktX4_sums_0 := by decide +kernel
theorem dksX4_sums_1 : cX4_sums.data.toList.drop 22 = dktX4_sums_1 := dk_seg dksX4_sums_0 22 rfl rfl
theorem dksX4_sums_2 : cX4_sums.data.toList.drop 46 = dktX4_sums_2 := dk_seg dksX4_sums_1 24 rfl rfl
theorem dksX4_sums_3 : cX4_sums.data.toList.drop 70 = dktX4_sums_3 := dk_seg dksX4_sums_2 24 rfl rfl
theorem dX4_sums_0 : decode cX4_sums 0 = .ok (.aload_n 0, 1) := dk_42 (dk_at dksX4_sums_0 0 rfl rfl)
theorem dX4_sums_1 : decode cX4_sums 1 = .ok (.invokevirtual 185, 3) := dk_182 0 185 (dk_at dksX4_sums_0 1 rfl rfl)
theorem dX4_sums_4 : decode cX4_sums 4 = .ok (.istore_n 1, 1) := dk_60 (dk_at dksX4_sums_0 4 rfl rfl)
theorem dX4_sums_5 : decode cX4_sums 5 = .ok (.aload_n 0, 1) := dk_42 (dk_at dksX4_sums_0 5 rfl rfl)
theorem dX4_sums_6 : decode cX4_sums 6 = .ok (.getfield 166, 3) := dk_180 0 166 (dk_at dksX4_sums_0 6 rfl rfl)
theorem dX4_sums_9 : decode cX4_sums 9 = .ok (.ifCond .ge 68, 3) := dk_156 0 68 (dk_at dksX4_sums_0 9 rfl rfl)
theorem dX4_sums_12 : decode cX4_sums 12 = .ok (.aload_n 0, 1) := dk_42 (dk_at dksX4_sums_0 12 rfl rfl)
theorem dX4_sums_13 : decode cX4_sums 13 = .ok (.invokevirtual 169, 3) := dk_182 0 169 (dk_at dksX4_sums_0 13 rfl rfl)
theorem dX4_sums_16 : decode cX4_sums 16 = .ok (.bipush 43, 2) := dk_16 43 (dk_at dksX4_sums_0 16 rfl rfl)
theorem dX4_sums_18 : decode cX4_sums 18 = .ok (.if_icmp .eq 12, 3) := dk_159 0 12 (dk_at dksX4_sums_0 18 rfl rfl)
theorem dX4_sums_21 : decode cX4_sums 21 = .ok (.aload_n 0, 1) := dk_42 (dk_at dksX4_sums_0 21 rfl rfl)
theorem dX4_sums_22 : decode cX4_sums 22 = .ok (.invokevirtual 169, 3) := dk_182 0 169 (dk_at dksX4_sums_1 0 rfl rfl)
theorem dX4_sums_25 : decode cX4_sums 25 = .ok (.bipush 45, 2) := dk_16 45 (dk_at dksX4_sums_1 3 rfl rfl)
theorem dX4_sums_27 : decode cX4_sums 27 = .ok (.if_icmp .ne 50, 3) := dk_160 0 50 (dk_at dksX4_sums_1 5 rfl rfl)
theorem dX4_sums_30 : decode cX4_sums 30 = .ok (.aload_n 0, 1) := dk_42 (dk_at dksX4_sums_1 8 rfl rfl)
theorem dX4_sums_31 : decode cX4_sums 31 = .ok (.invokevirtual 169, 3) := dk_182 0 169 (dk_at dksX4_sums_1 9 rfl rfl)
theorem dX4_sums_34 : decode cX4_sums 34 = .ok (.bipush 43, 2) := dk_16 43 (dk_at dksX4_sums_1 12 rfl rfl)
theorem dX4_sums_36 : decode cX4_sums 36 = .ok (.if_icmp .ne 7, 3) := dk_160 0 7 (dk_at dksX4_sums_1 14 rfl rfl)
theorem dX4_sums_39 : decode cX4_sums 39 = .ok (.iconst 1, 1) := dk_4 (dk_at dksX4_sums_1 17 rfl rfl)
theorem dX4_sums_40 : decode cX4_sums 40 = .ok (.goto 4, 3) := dk_167 0 4 (dk_at dksX4_sums_1 18 rfl rfl)
theorem dX4_sums_43 : decode cX4_sums 43 = .ok (.iconst 0, 1) := dk_3 (dk_at dksX4_sums_1 21 rfl rfl)
theorem dX4_sums_44 : decode cX4_sums 44 = .ok (.istore_n 2, 1) := dk_61 (dk_at dksX4_sums_1 22 rfl rfl)
theorem dX4_sums_45 : decode cX4_sums 45 = .ok (.aload_n 0, 1) := dk_42 (dk_at dksX4_sums_1 23 rfl rfl)
theorem dX4_sums_46 : decode cX4_sums 46 = .ok (.dup, 1) := dk_89 (dk_at dksX4_sums_2 0 rfl rfl)
theorem dX4_sums_47 : decode cX4_sums 47 = .ok (.getfield 157, 3) := dk_180 0 157 (dk_at dksX4_sums_2 1 rfl rfl)
theorem dX4_sums_50 : decode cX4_sums 50 = .ok (.iconst 1, 1) := dk_4 (dk_at dksX4_sums_2 4 rfl rfl)
theorem dX4_sums_51 : decode cX4_sums 51 = .ok (.iadd, 1) := dk_96 (dk_at dksX4_sums_2 5 rfl rfl)
theorem dX4_sums_52 : decode cX4_sums 52 = .ok (.putfield 157, 3) := dk_181 0 157 (dk_at dksX4_sums_2 6 rfl rfl)
theorem dX4_sums_55 : decode cX4_sums 55 = .ok (.aload_n 0, 1) := dk_42 (dk_at dksX4_sums_2 9 rfl rfl)
theorem dX4_sums_56 : decode cX4_sums 56 = .ok (.invokevirtual 185, 3) := dk_182 0 185 (dk_at dksX4_sums_2 10 rfl rfl)
theorem dX4_sums_59 : decode cX4_sums 59 = .ok (.istore_n 3, 1) := dk_62 (dk_at dksX4_sums_2 13 rfl rfl)
theorem dX4_sums_60 : decode cX4_sums 60 = .ok (.iload_n 2, 1) := dk_28 (dk_at dksX4_sums_2 14 rfl rfl)
theorem dX4_sums_61 : decode cX4_sums 61 = .ok (.ifCond .eq 9, 3) := dk_153 0 9 (dk_at dksX4_sums_2 15 rfl rfl)
theorem dX4_sums_64 : decode cX4_sums 64 = .ok (.iload_n 1, 1) := dk_27 (dk_at dksX4_sums_2 18 rfl rfl)
theorem dX4_sums_65 : decode cX4_sums 65 = .ok (.iload_n 3, 1) := dk_29 (dk_at dksX4_sums_2 19 rfl rfl)
theorem dX4_sums_66 : decode cX4_sums 66 = .ok (.iadd, 1) := dk_96 (dk_at dksX4_sums_2 20 rfl rfl)
theorem dX4_sums_67 : decode cX4_sums 67 = .ok (.goto 6, 3) := dk_167 0 6 (dk_at dksX4_sums_2 21 rfl rfl)
theorem dX4_sums_70 : decode cX4_sums 70 = .ok (.iload_n 1, 1) := dk_27 (dk_at dksX4_sums_3 0 rfl rfl)
theorem dX4_sums_71 : decode cX4_sums 71 = .ok (.iload_n 3, 1) := dk_29 (dk_at dksX4_sums_3 1 rfl rfl)
theorem dX4_sums_72 : decode cX4_sums 72 = .ok (.isub, 1) := dk_100 (dk_at dksX4_sums_3 2 rfl rfl)
theorem dX4_sums_73 : decode cX4_sums 73 = .ok (.istore_n 1, 1) := dk_60 (dk_at dksX4_sums_3 3 rfl rfl)
theorem dX4_sums_74 : decode cX4_sums 74 = .ok (.goto (-69), 3) := dk_167 255 187 (dk_at dksX4_sums_3 4 rfl rfl)
theorem dX4_sums_77 : decode cX4_sums 77 = .ok (.iload_n 1, 1) := dk_27 (dk_at dksX4_sums_3 7 rfl rfl)
theorem dX4_sums_78 : decode cX4_sums 78 = .ok (.ireturn, 1) := dk_172 (dk_at dksX4_sums_3 8 rfl rfl)
abbrev cX4_product : ByteArray := prog_34_method_24_code
def yX4_product : MethodName := ⟨RX4, "product", "()I"⟩
def dkwX4_product_4 : List UInt8 := [27, 172]
abbrev dktX4_product_4 : List UInt8 := dkwX4_product_4 ++ []
def dkwX4_product_3 : List UInt8 := [28, 16, 47, 160, 0, 9, 27, 29, 108, 167, 0, 6, 27, 29, 112, 60, 42, 182, 0, 169, 61, 167, 255, 175]
abbrev dktX4_product_3 : List UInt8 := dkwX4_product_3 ++ dktX4_product_4
def dkwX4_product_2 : List UInt8 := [182, 0, 188, 62, 28, 16, 42, 160, 0, 9, 27, 29, 104, 167, 0, 26, 29, 154, 0, 7, 3, 167, 0, 18]
abbrev dktX4_product_2 : List UInt8 := dkwX4_product_2 ++ dktX4_product_3
def dkwX4_product_1 : List UInt8 := [16, 47, 159, 0, 9, 28, 16, 37, 160, 0, 62, 42, 89, 180, 0, 157, 4, 96, 181, 0, 157, 42]
abbrev dktX4_product_1 : List UInt8 := dkwX4_product_1 ++ dktX4_product_2
def dkwX4_product_0 : List UInt8 := [42, 182, 0, 188, 60, 42, 182, 0, 169, 61, 42, 180, 0, 166, 156, 0, 80, 28, 16, 42, 159, 0, 15, 28]
abbrev dktX4_product_0 : List UInt8 := dkwX4_product_0 ++ dktX4_product_1
theorem dksX4_product_0 : cX4_product.data.toList.drop 0 = dktX4_product_0 := by decide +kernel
theorem dksX4_product_1 : cX4_product.data.toList.drop 24 = dktX4_product_1 := dk_seg dksX4_product_0 24 rfl rfl
theorem dksX4_product_2 : cX4_product.data.toList.drop 46 = dktX4_product_2 := dk_seg dksX4_product_1 22 rfl rfl
theorem dksX4_product_3 : cX4_product.data.toList.drop 70 = dktX4_product_3 := dk_seg dksX4_product_2 24 rfl rfl
theorem dksX4_product_4 : cX4_product.data.toList.drop 94 = dktX4_product_4 := dk_seg dksX4_product_3 24 rfl rfl
theorem dX4_product_0 : decode cX4_product 0 = .ok (.aload_n 0, 1) := dk_42 (dk_at dksX4_product_0 0 rfl rfl)
theorem dX4_product_1 : decode cX4_product 1 = .ok (.invokevirtual 188, 3) := dk_182 0 188 (dk_at dksX4_product_0 1 rfl rfl)
theorem dX4_product_4 : decode cX4_product 4 = .ok (.istore_n 1, 1) := dk_60 (dk_at dksX4_product_0 4 rfl rfl)
theorem dX4_product_5 : decode cX4_product 5 = .ok (.aload_n 0, 1) := dk_42 (dk_at dksX4_product_0 5 rfl rfl)
theorem dX4_product_6 : decode cX4_product 6 = .ok (.invokevirtual 169, 3) := dk_182 0 169 (dk_at dksX4_product_0 6 rfl rfl)
theorem dX4_product_9 : decode cX4_product 9 = .ok (.istore_n 2, 1) := dk_61 (dk_at dksX4_product_0 9 rfl rfl)
theorem dX4_product_10 : decode cX4_product 10 = .ok (.aload_n 0, 1) := dk_42 (dk_at dksX4_product_0 10 rfl rfl)
theorem dX4_product_11 : decode cX4_product 11 = .ok (.getfield 166, 3) := dk_180 0 166 (dk_at dksX4_product_0 11 rfl rfl)
theorem dX4_product_14 : decode cX4_product 14 = .ok (.ifCond .ge 80, 3) := dk_156 0 80 (dk_at dksX4_product_0 14 rfl rfl)
theorem dX4_product_17 : decode cX4_product 17 = .ok (.iload_n 2, 1) := dk_28 (dk_at dksX4_product_0 17 rfl rfl)
theorem dX4_product_18 : decode cX4_product 18 = .ok (.bipush 42, 2) := dk_16 42 (dk_at dksX4_product_0 18 rfl rfl)
theorem dX4_product_20 : decode cX4_product 20 = .ok (.if_icmp .eq 15, 3) := dk_159 0 15 (dk_at dksX4_product_0 20 rfl rfl)
theorem dX4_product_23 : decode cX4_product 23 = .ok (.iload_n 2, 1) := dk_28 (dk_at dksX4_product_0 23 rfl rfl)
theorem dX4_product_24 : decode cX4_product 24 = .ok (.bipush 47, 2) := dk_16 47 (dk_at dksX4_product_1 0 rfl rfl)
theorem dX4_product_26 : decode cX4_product 26 = .ok (.if_icmp .eq 9, 3) := dk_159 0 9 (dk_at dksX4_product_1 2 rfl rfl)
theorem dX4_product_29 : decode cX4_product 29 = .ok (.iload_n 2, 1) := dk_28 (dk_at dksX4_product_1 5 rfl rfl)
theorem dX4_product_30 : decode cX4_product 30 = .ok (.bipush 37, 2) := dk_16 37 (dk_at dksX4_product_1 6 rfl rfl)
theorem dX4_product_32 : decode cX4_product 32 = .ok (.if_icmp .ne 62, 3) := dk_160 0 62 (dk_at dksX4_product_1 8 rfl rfl)
theorem dX4_product_35 : decode cX4_product 35 = .ok (.aload_n 0, 1) := dk_42 (dk_at dksX4_product_1 11 rfl rfl)
theorem dX4_product_36 : decode cX4_product 36 = .ok (.dup, 1) := dk_89 (dk_at dksX4_product_1 12 rfl rfl)
theorem dX4_product_37 : decode cX4_product 37 = .ok (.getfield 157, 3) := dk_180 0 157 (dk_at dksX4_product_1 13 rfl rfl)
theorem dX4_product_40 : decode cX4_product 40 = .ok (.iconst 1, 1) := dk_4 (dk_at dksX4_product_1 16 rfl rfl)
theorem dX4_product_41 : decode cX4_product 41 = .ok (.iadd, 1) := dk_96 (dk_at dksX4_product_1 17 rfl rfl)
theorem dX4_product_42 : decode cX4_product 42 = .ok (.putfield 157, 3) := dk_181 0 157 (dk_at dksX4_product_1 18 rfl rfl)
theorem dX4_product_45 : decode cX4_product 45 = .ok (.aload_n 0, 1) := dk_42 (dk_at dksX4_product_1 21 rfl rfl)
theorem dX4_product_46 : decode cX4_product 46 = .ok (.invokevirtual 188, 3) := dk_182 0 188 (dk_at dksX4_product_2 0 rfl rfl)
theorem dX4_product_49 : decode cX4_product 49 = .ok (.istore_n 3, 1) := dk_62 (dk_at dksX4_product_2 3 rfl rfl)
theorem dX4_product_50 : decode cX4_product 50 = .ok (.iload_n 2, 1) := dk_28 (dk_at dksX4_product_2 4 rfl rfl)
theorem dX4_product_51 : decode cX4_product 51 = .ok (.bipush 42, 2) := dk_16 42 (dk_at dksX4_product_2 5 rfl rfl)
theorem dX4_product_53 : decode cX4_product 53 = .ok (.if_icmp .ne 9, 3) := dk_160 0 9 (dk_at dksX4_product_2 7 rfl rfl)
theorem dX4_product_56 : decode cX4_product 56 = .ok (.iload_n 1, 1) := dk_27 (dk_at dksX4_product_2 10 rfl rfl)
theorem dX4_product_57 : decode cX4_product 57 = .ok (.iload_n 3, 1) := dk_29 (dk_at dksX4_product_2 11 rfl rfl)
theorem dX4_product_58 : decode cX4_product 58 = .ok (.imul, 1) := dk_104 (dk_at dksX4_product_2 12 rfl rfl)
theorem dX4_product_59 : decode cX4_product 59 = .ok (.goto 26, 3) := dk_167 0 26 (dk_at dksX4_product_2 13 rfl rfl)
theorem dX4_product_62 : decode cX4_product 62 = .ok (.iload_n 3, 1) := dk_29 (dk_at dksX4_product_2 16 rfl rfl)
theorem dX4_product_63 : decode cX4_product 63 = .ok (.ifCond .ne 7, 3) := dk_154 0 7 (dk_at dksX4_product_2 17 rfl rfl)
theorem dX4_product_66 : decode cX4_product 66 = .ok (.iconst 0, 1) := dk_3 (dk_at dksX4_product_2 20 rfl rfl)
theorem dX4_product_67 : decode cX4_product 67 = .ok (.goto 18, 3) := dk_167 0 18 (dk_at dksX4_product_2 21 rfl rfl)
theorem dX4_product_70 : decode cX4_product 70 = .ok (.iload_n 2, 1) := dk_28 (dk_at dksX4_product_3 0 rfl rfl)
theorem dX4_product_71 : decode cX4_product 71 = .ok (.bipush 47, 2) := dk_16 47 (dk_at dksX4_product_3 1 rfl rfl)
theorem dX4_product_73 : decode cX4_product 73 = .ok (.if_icmp .ne 9, 3) := dk_160 0 9 (dk_at dksX4_product_3 3 rfl rfl)
theorem dX4_product_76 : decode cX4_product 76 = .ok (.iload_n 1, 1) := dk_27 (dk_at dksX4_product_3 6 rfl rfl)
theorem dX4_product_77 : decode cX4_product 77 = .ok (.iload_n 3, 1) := dk_29 (dk_at dksX4_product_3 7 rfl rfl)
theorem dX4_product_78 : decode cX4_product 78 = .ok (.idiv, 1) := dk_108 (dk_at dksX4_product_3 8 rfl rfl)
theorem dX4_product_79 : decode cX4_product 79 = .ok (.goto 6, 3) := dk_167 0 6 (dk_at dksX4_product_3 9 rfl rfl)
theorem dX4_product_82 : decode cX4_product 82 = .ok (.iload_n 1, 1) := dk_27 (dk_at dksX4_product_3 12 rfl rfl)
theorem dX4_product_83 : decode cX4_product 83 = .ok (.iload_n 3, 1) := dk_29 (dk_at dksX4_product_3 13 rfl rfl)
theorem dX4_product_84 : decode cX4_product 84 = .ok (.irem, 1) := dk_112 (dk_at dksX4_product_3 14 rfl rfl)
theorem dX4_product_85 : decode cX4_product 85 = .ok (.istore_n 1, 1) := dk_60 (dk_at dksX4_product_3 15 rfl rfl)
theorem dX4_product_86 : decode cX4_product 86 = .ok (.aload_n 0, 1) := dk_42 (dk_at dksX4_product_3 16 rfl rfl)
theorem dX4_product_87 : decode cX4_product 87 = .ok (.invokevirtual 169, 3) := dk_182 0 169 (dk_at dksX4_product_3 17 rfl rfl)
theorem dX4_product_90 : decode cX4_product 90 = .ok (.istore_n 2, 1) := dk_61 (dk_at dksX4_product_3 20 rfl rfl)
theorem dX4_product_91 : decode cX4_product 91 = .ok (.goto (-81), 3) := dk_167 255 175 (dk_at dksX4_product_3 21 rfl rfl)
theorem dX4_product_94 : decode cX4_product 94 = .ok (.iload_n 1, 1) := dk_27 (dk_at dksX4_product_4 0 rfl rfl)
theorem dX4_product_95 : decode cX4_product 95 = .ok (.ireturn, 1) := dk_172 (dk_at dksX4_product_4 1 rfl rfl)
abbrev cX4_one : ByteArray := prog_34_method_26_code
def yX4_one : MethodName := ⟨RX4, "one", "()I"⟩
def dkwX4_one_10 : List UInt8 := [182, 0, 194, 167, 0, 4, 29, 172]
abbrev dktX4_one_10 : List UInt8 := dkwX4_one_10 ++ []
def dkwX4_one_9 : List UInt8 := [62, 132, 4, 1, 42, 89, 180, 0, 157, 4, 96, 181, 0, 157, 167, 255, 206, 21, 4, 154, 0, 10, 42]
abbrev dktX4_one_9 : List UInt8 := dkwX4_one_9 ++ dktX4_one_10
def dkwX4_one_8 : List UInt8 := [161, 0, 41, 42, 182, 0, 169, 16, 57, 163, 0, 32, 16, 10, 29, 104, 42, 182, 0, 169, 96, 16, 48, 100]
abbrev dktX4_one_8 : List UInt8 := dkwX4_one_8 ++ dktX4_one_9
def dkwX4_one_7 : List UInt8 := [42, 180, 0, 40, 28, 46, 172, 3, 62, 3, 54, 4, 21, 4, 7, 162, 0, 50, 42, 182, 0, 169, 16, 48]
abbrev dktX4_one_7 : List UInt8 := dkwX4_one_7 ++ dktX4_one_8
def dkwX4_one_6 : List UInt8 := [167, 0, 4, 3, 172, 27, 184, 0, 200, 61, 28, 155, 0, 20, 42, 89, 180, 0, 157, 4, 96, 181, 0, 157]
abbrev dktX4_one_6 : List UInt8 := dkwX4_one_6 ++ dktX4_one_7
def dkwX4_one_5 : List UInt8 := [160, 0, 7, 28, 167, 0, 23, 27, 16, 45, 160, 0, 8, 28, 116, 167, 0, 12, 28, 154, 0, 7, 4]
abbrev dktX4_one_5 : List UInt8 := dkwX4_one_5 ++ dktX4_one_6
def dkwX4_one_4 : List UInt8 := [182, 0, 176, 154, 0, 8, 42, 182, 0, 194, 172, 42, 89, 180, 0, 191, 4, 100, 181, 0, 191, 27, 16, 40]
abbrev dktX4_one_4 : List UInt8 := dkwX4_one_4 ++ dktX4_one_5
def dkwX4_one_3 : List UInt8 := [160, 0, 10, 42, 182, 0, 197, 167, 0, 7, 42, 182, 0, 188, 61, 27, 16, 40, 160, 0, 17, 42, 16, 41]
abbrev dktX4_one_3 : List UInt8 := dkwX4_one_3 ++ dktX4_one_4
def dkwX4_one_2 : List UInt8 := [89, 180, 0, 191, 4, 96, 181, 0, 191, 42, 89, 180, 0, 157, 4, 96, 181, 0, 157, 27, 16, 40]
abbrev dktX4_one_2 : List UInt8 := dkwX4_one_2 ++ dktX4_one_3
def dkwX4_one_1 : List UInt8 := [159, 0, 9, 27, 16, 40, 160, 0, 116, 42, 180, 0, 191, 16, 6, 160, 0, 8, 42, 182, 0, 194, 172, 42]
abbrev dktX4_one_1 : List UInt8 := dkwX4_one_1 ++ dktX4_one_2
def dkwX4_one_0 : List UInt8 := [42, 180, 0, 166, 155, 0, 5, 3, 172, 42, 182, 0, 169, 60, 27, 16, 33, 159, 0, 15, 27, 16, 45]
abbrev dktX4_one_0 : List UInt8 := dkwX4_one_0 ++ dktX4_one_1
theorem dksX4_one_0 : cX4_one.data.toList.drop 0 = dktX4_one_0 := by decide +kernel
theorem dksX4_one_1 : cX4_one.data.toList.drop 23 = dktX4_one_1 := dk_seg dksX4_one_0 23 rfl rfl
theorem dksX4_one_2 : cX4_one.data.toList.drop 47 = dktX4_one_2 := dk_seg dksX4_one_1 24 rfl rfl
theorem dksX4_one_3 : cX4_one.data.toList.drop 69 = dktX4_one_3 := dk_seg dksX4_one_2 22 rfl rfl
theorem dksX4_one_4 : cX4_one.data.toList.drop 93 = dktX4_one_4 := dk_seg dksX4_one_3 24 rfl rfl
theorem dksX4_one_5 : cX4_one.data.toList.drop 117 = dktX4_one_5 := dk_seg dksX4_one_4 24 rfl rfl
theorem dksX4_one_6 : cX4_one.data.toList.drop 140 = dktX4_one_6 := dk_seg dksX4_one_5 23 rfl rfl
theorem dksX4_one_7 : cX4_one.data.toList.drop 164 = dktX4_one_7 := dk_seg dksX4_one_6 24 rfl rfl
theorem dksX4_one_8 : cX4_one.data.toList.drop 188 = dktX4_one_8 := dk_seg dksX4_one_7 24 rfl rfl
theorem dksX4_one_9 : cX4_one.data.toList.drop 212 = dktX4_one_9 := dk_seg dksX4_one_8 24 rfl rfl
theorem dksX4_one_10 : cX4_one.data.toList.drop 235 = dktX4_one_10 := dk_seg dksX4_one_9 23 rfl rfl
theorem dX4_one_0 : decode cX4_one 0 = .ok (.aload_n 0, 1) := dk_42 (dk_at dksX4_one_0 0 rfl rfl)
theorem dX4_one_1 : decode cX4_one 1 = .ok (.getfield 166, 3) := dk_180 0 166 (dk_at dksX4_one_0 1 rfl rfl)
theorem dX4_one_4 : decode cX4_one 4 = .ok (.ifCond .lt 5, 3) := dk_155 0 5 (dk_at dksX4_one_0 4 rfl rfl)
theorem dX4_one_7 : decode cX4_one 7 = .ok (.iconst 0, 1) := dk_3 (dk_at dksX4_one_0 7 rfl rfl)
theorem dX4_one_8 : decode cX4_one 8 = .ok (.ireturn, 1) := dk_172 (dk_at dksX4_one_0 8 rfl rfl)
theorem dX4_one_9 : decode cX4_one 9 = .ok (.aload_n 0, 1) := dk_42 (dk_at dksX4_one_0 9 rfl rfl)
theorem dX4_one_10 : decode cX4_one 10 = .ok (.invokevirtual 169, 3) := dk_182 0 169 (dk_at dksX4_one_0 10 rfl rfl)
theorem dX4_one_13 : decode cX4_one 13 = .ok (.istore_n 1, 1) := dk_60 (dk_at dksX4_one_0 13 rfl rfl)
theorem dX4_one_14 : decode cX4_one 14 = .ok (.iload_n 1, 1) := dk_27 (dk_at dksX4_one_0 14 rfl rfl)
theorem dX4_one_15 : decode cX4_one 15 = .ok (.bipush 33, 2) := dk_16 33 (dk_at dksX4_one_0 15 rfl rfl)
theorem dX4_one_17 : decode cX4_one 17 = .ok (.if_icmp .eq 15, 3) := dk_159 0 15 (dk_at dksX4_one_0 17 rfl rfl)
theorem dX4_one_20 : decode cX4_one 20 = .ok (.iload_n 1, 1) := dk_27 (dk_at dksX4_one_0 20 rfl rfl)
theorem dX4_one_21 : decode cX4_one 21 = .ok (.bipush 45, 2) := dk_16 45 (dk_at dksX4_one_0 21 rfl rfl)
theorem dX4_one_23 : decode cX4_one 23 = .ok (.if_icmp .eq 9, 3) := dk_159 0 9 (dk_at dksX4_one_1 0 rfl rfl)
theorem dX4_one_26 : decode cX4_one 26 = .ok (.iload_n 1, 1) := dk_27 (dk_at dksX4_one_1 3 rfl rfl)
theorem dX4_one_27 : decode cX4_one 27 = .ok (.bipush 40, 2) := dk_16 40 (dk_at dksX4_one_1 4 rfl rfl)
theorem dX4_one_29 : decode cX4_one 29 = .ok (.if_icmp .ne 116, 3) := dk_160 0 116 (dk_at dksX4_one_1 6 rfl rfl)
theorem dX4_one_32 : decode cX4_one 32 = .ok (.aload_n 0, 1) := dk_42 (dk_at dksX4_one_1 9 rfl rfl)
theorem dX4_one_33 : decode cX4_one 33 = .ok (.getfield 191, 3) := dk_180 0 191 (dk_at dksX4_one_1 10 rfl rfl)
theorem dX4_one_36 : decode cX4_one 36 = .ok (.bipush 6, 2) := dk_16 6 (dk_at dksX4_one_1 13 rfl rfl)
theorem dX4_one_38 : decode cX4_one 38 = .ok (.if_icmp .ne 8, 3) := dk_160 0 8 (dk_at dksX4_one_1 15 rfl rfl)
theorem dX4_one_41 : decode cX4_one 41 = .ok (.aload_n 0, 1) := dk_42 (dk_at dksX4_one_1 18 rfl rfl)
theorem dX4_one_42 : decode cX4_one 42 = .ok (.invokevirtual 194, 3) := dk_182 0 194 (dk_at dksX4_one_1 19 rfl rfl)
theorem dX4_one_45 : decode cX4_one 45 = .ok (.ireturn, 1) := dk_172 (dk_at dksX4_one_1 22 rfl rfl)
theorem dX4_one_46 : decode cX4_one 46 = .ok (.aload_n 0, 1) := dk_42 (dk_at dksX4_one_1 23 rfl rfl)
theorem dX4_one_47 : decode cX4_one 47 = .ok (.dup, 1) := dk_89 (dk_at dksX4_one_2 0 rfl rfl)
theorem dX4_one_48 : decode cX4_one 48 = .ok (.getfield 191, 3) := dk_180 0 191 (dk_at dksX4_one_2 1 rfl rfl)
theorem dX4_one_51 : decode cX4_one 51 = .ok (.iconst 1, 1) := dk_4 (dk_at dksX4_one_2 4 rfl rfl)
theorem dX4_one_52 : decode cX4_one 52 = .ok (.iadd, 1) := dk_96 (dk_at dksX4_one_2 5 rfl rfl)
theorem dX4_one_53 : decode cX4_one 53 = .ok (.putfield 191, 3) := dk_181 0 191 (dk_at dksX4_one_2 6 rfl rfl)
theorem dX4_one_56 : decode cX4_one 56 = .ok (.aload_n 0, 1) := dk_42 (dk_at dksX4_one_2 9 rfl rfl)
theorem dX4_one_57 : decode cX4_one 57 = .ok (.dup, 1) := dk_89 (dk_at dksX4_one_2 10 rfl rfl)
theorem dX4_one_58 : decode cX4_one 58 = .ok (.getfield 157, 3) := dk_180 0 157 (dk_at dksX4_one_2 11 rfl rfl)
theorem dX4_one_61 : decode cX4_one 61 = .ok (.iconst 1, 1) := dk_4 (dk_at dksX4_one_2 14 rfl rfl)
theorem dX4_one_62 : decode cX4_one 62 = .ok (.iadd, 1) := dk_96 (dk_at dksX4_one_2 15 rfl rfl)
theorem dX4_one_63 : decode cX4_one 63 = .ok (.putfield 157, 3) := dk_181 0 157 (dk_at dksX4_one_2 16 rfl rfl)
theorem dX4_one_66 : decode cX4_one 66 = .ok (.iload_n 1, 1) := dk_27 (dk_at dksX4_one_2 19 rfl rfl)
theorem dX4_one_67 : decode cX4_one 67 = .ok (.bipush 40, 2) := dk_16 40 (dk_at dksX4_one_2 20 rfl rfl)
theorem dX4_one_69 : decode cX4_one 69 = .ok (.if_icmp .ne 10, 3) := dk_160 0 10 (dk_at dksX4_one_3 0 rfl rfl)
theorem dX4_one_72 : decode cX4_one 72 = .ok (.aload_n 0, 1) := dk_42 (dk_at dksX4_one_3 3 rfl rfl)
theorem dX4_one_73 : decode cX4_one 73 = .ok (.invokevirtual 197, 3) := dk_182 0 197 (dk_at dksX4_one_3 4 rfl rfl)
theorem dX4_one_76 : decode cX4_one 76 = .ok (.goto 7, 3) := dk_167 0 7 (dk_at dksX4_one_3 7 rfl rfl)
theorem dX4_one_79 : decode cX4_one 79 = .ok (.aload_n 0, 1) := dk_42 (dk_at dksX4_one_3 10 rfl rfl)
theorem dX4_one_80 : decode cX4_one 80 = .ok (.invokevirtual 188, 3) := dk_182 0 188 (dk_at dksX4_one_3 11 rfl rfl)
theorem dX4_one_83 : decode cX4_one 83 = .ok (.istore_n 2, 1) := dk_61 (dk_at dksX4_one_3 14 rfl rfl)
theorem dX4_one_84 : decode cX4_one 84 = .ok (.iload_n 1, 1) := dk_27 (dk_at dksX4_one_3 15 rfl rfl)
theorem dX4_one_85 : decode cX4_one 85 = .ok (.bipush 40, 2) := dk_16 40 (dk_at dksX4_one_3 16 rfl rfl)
theorem dX4_one_87 : decode cX4_one 87 = .ok (.if_icmp .ne 17, 3) := dk_160 0 17 (dk_at dksX4_one_3 18 rfl rfl)
theorem dX4_one_90 : decode cX4_one 90 = .ok (.aload_n 0, 1) := dk_42 (dk_at dksX4_one_3 21 rfl rfl)
theorem dX4_one_91 : decode cX4_one 91 = .ok (.bipush 41, 2) := dk_16 41 (dk_at dksX4_one_3 22 rfl rfl)
theorem dX4_one_93 : decode cX4_one 93 = .ok (.invokevirtual 176, 3) := dk_182 0 176 (dk_at dksX4_one_4 0 rfl rfl)
theorem dX4_one_96 : decode cX4_one 96 = .ok (.ifCond .ne 8, 3) := dk_154 0 8 (dk_at dksX4_one_4 3 rfl rfl)
theorem dX4_one_99 : decode cX4_one 99 = .ok (.aload_n 0, 1) := dk_42 (dk_at dksX4_one_4 6 rfl rfl)
theorem dX4_one_100 : decode cX4_one 100 = .ok (.invokevirtual 194, 3) := dk_182 0 194 (dk_at dksX4_one_4 7 rfl rfl)
theorem dX4_one_103 : decode cX4_one 103 = .ok (.ireturn, 1) := dk_172 (dk_at dksX4_one_4 10 rfl rfl)
theorem dX4_one_104 : decode cX4_one 104 = .ok (.aload_n 0, 1) := dk_42 (dk_at dksX4_one_4 11 rfl rfl)
theorem dX4_one_105 : decode cX4_one 105 = .ok (.dup, 1) := dk_89 (dk_at dksX4_one_4 12 rfl rfl)
theorem dX4_one_106 : decode cX4_one 106 = .ok (.getfield 191, 3) := dk_180 0 191 (dk_at dksX4_one_4 13 rfl rfl)
theorem dX4_one_109 : decode cX4_one 109 = .ok (.iconst 1, 1) := dk_4 (dk_at dksX4_one_4 16 rfl rfl)
theorem dX4_one_110 : decode cX4_one 110 = .ok (.isub, 1) := dk_100 (dk_at dksX4_one_4 17 rfl rfl)
theorem dX4_one_111 : decode cX4_one 111 = .ok (.putfield 191, 3) := dk_181 0 191 (dk_at dksX4_one_4 18 rfl rfl)
theorem dX4_one_114 : decode cX4_one 114 = .ok (.iload_n 1, 1) := dk_27 (dk_at dksX4_one_4 21 rfl rfl)
theorem dX4_one_115 : decode cX4_one 115 = .ok (.bipush 40, 2) := dk_16 40 (dk_at dksX4_one_4 22 rfl rfl)
theorem dX4_one_117 : decode cX4_one 117 = .ok (.if_icmp .ne 7, 3) := dk_160 0 7 (dk_at dksX4_one_5 0 rfl rfl)
theorem dX4_one_120 : decode cX4_one 120 = .ok (.iload_n 2, 1) := dk_28 (dk_at dksX4_one_5 3 rfl rfl)
theorem dX4_one_121 : decode cX4_one 121 = .ok (.goto 23, 3) := dk_167 0 23 (dk_at dksX4_one_5 4 rfl rfl)
theorem dX4_one_124 : decode cX4_one 124 = .ok (.iload_n 1, 1) := dk_27 (dk_at dksX4_one_5 7 rfl rfl)
theorem dX4_one_125 : decode cX4_one 125 = .ok (.bipush 45, 2) := dk_16 45 (dk_at dksX4_one_5 8 rfl rfl)
theorem dX4_one_127 : decode cX4_one 127 = .ok (.if_icmp .ne 8, 3) := dk_160 0 8 (dk_at dksX4_one_5 10 rfl rfl)
theorem dX4_one_130 : decode cX4_one 130 = .ok (.iload_n 2, 1) := dk_28 (dk_at dksX4_one_5 13 rfl rfl)
theorem dX4_one_131 : decode cX4_one 131 = .ok (.ineg, 1) := dk_116 (dk_at dksX4_one_5 14 rfl rfl)
theorem dX4_one_132 : decode cX4_one 132 = .ok (.goto 12, 3) := dk_167 0 12 (dk_at dksX4_one_5 15 rfl rfl)
theorem dX4_one_135 : decode cX4_one 135 = .ok (.iload_n 2, 1) := dk_28 (dk_at dksX4_one_5 18 rfl rfl)
theorem dX4_one_136 : decode cX4_one 136 = .ok (.ifCond .ne 7, 3) := dk_154 0 7 (dk_at dksX4_one_5 19 rfl rfl)
theorem dX4_one_139 : decode cX4_one 139 = .ok (.iconst 1, 1) := dk_4 (dk_at dksX4_one_5 22 rfl rfl)
theorem dX4_one_140 : decode cX4_one 140 = .ok (.goto 4, 3) := dk_167 0 4 (dk_at dksX4_one_6 0 rfl rfl)
theorem dX4_one_143 : decode cX4_one 143 = .ok (.iconst 0, 1) := dk_3 (dk_at dksX4_one_6 3 rfl rfl)
theorem dX4_one_144 : decode cX4_one 144 = .ok (.ireturn, 1) := dk_172 (dk_at dksX4_one_6 4 rfl rfl)
theorem dX4_one_145 : decode cX4_one 145 = .ok (.iload_n 1, 1) := dk_27 (dk_at dksX4_one_6 5 rfl rfl)
theorem dX4_one_146 : decode cX4_one 146 = .ok (.invokestatic 200, 3) := dk_184 0 200 (dk_at dksX4_one_6 6 rfl rfl)
theorem dX4_one_149 : decode cX4_one 149 = .ok (.istore_n 2, 1) := dk_61 (dk_at dksX4_one_6 9 rfl rfl)
theorem dX4_one_150 : decode cX4_one 150 = .ok (.iload_n 2, 1) := dk_28 (dk_at dksX4_one_6 10 rfl rfl)
theorem dX4_one_151 : decode cX4_one 151 = .ok (.ifCond .lt 20, 3) := dk_155 0 20 (dk_at dksX4_one_6 11 rfl rfl)
theorem dX4_one_154 : decode cX4_one 154 = .ok (.aload_n 0, 1) := dk_42 (dk_at dksX4_one_6 14 rfl rfl)
theorem dX4_one_155 : decode cX4_one 155 = .ok (.dup, 1) := dk_89 (dk_at dksX4_one_6 15 rfl rfl)
theorem dX4_one_156 : decode cX4_one 156 = .ok (.getfield 157, 3) := dk_180 0 157 (dk_at dksX4_one_6 16 rfl rfl)
theorem dX4_one_159 : decode cX4_one 159 = .ok (.iconst 1, 1) := dk_4 (dk_at dksX4_one_6 19 rfl rfl)
theorem dX4_one_160 : decode cX4_one 160 = .ok (.iadd, 1) := dk_96 (dk_at dksX4_one_6 20 rfl rfl)
theorem dX4_one_161 : decode cX4_one 161 = .ok (.putfield 157, 3) := dk_181 0 157 (dk_at dksX4_one_6 21 rfl rfl)
theorem dX4_one_164 : decode cX4_one 164 = .ok (.aload_n 0, 1) := dk_42 (dk_at dksX4_one_7 0 rfl rfl)
theorem dX4_one_165 : decode cX4_one 165 = .ok (.getfield 40, 3) := dk_180 0 40 (dk_at dksX4_one_7 1 rfl rfl)
theorem dX4_one_168 : decode cX4_one 168 = .ok (.iload_n 2, 1) := dk_28 (dk_at dksX4_one_7 4 rfl rfl)
theorem dX4_one_169 : decode cX4_one 169 = .ok (.iaload, 1) := dk_46 (dk_at dksX4_one_7 5 rfl rfl)
theorem dX4_one_170 : decode cX4_one 170 = .ok (.ireturn, 1) := dk_172 (dk_at dksX4_one_7 6 rfl rfl)
theorem dX4_one_171 : decode cX4_one 171 = .ok (.iconst 0, 1) := dk_3 (dk_at dksX4_one_7 7 rfl rfl)
theorem dX4_one_172 : decode cX4_one 172 = .ok (.istore_n 3, 1) := dk_62 (dk_at dksX4_one_7 8 rfl rfl)
theorem dX4_one_173 : decode cX4_one 173 = .ok (.iconst 0, 1) := dk_3 (dk_at dksX4_one_7 9 rfl rfl)
theorem dX4_one_174 : decode cX4_one 174 = .ok (.istore 4, 2) := dk_54 4 (dk_at dksX4_one_7 10 rfl rfl)
theorem dX4_one_176 : decode cX4_one 176 = .ok (.iload 4, 2) := dk_21 4 (dk_at dksX4_one_7 12 rfl rfl)
theorem dX4_one_178 : decode cX4_one 178 = .ok (.iconst 4, 1) := dk_7 (dk_at dksX4_one_7 14 rfl rfl)
theorem dX4_one_179 : decode cX4_one 179 = .ok (.if_icmp .ge 50, 3) := dk_162 0 50 (dk_at dksX4_one_7 15 rfl rfl)
theorem dX4_one_182 : decode cX4_one 182 = .ok (.aload_n 0, 1) := dk_42 (dk_at dksX4_one_7 18 rfl rfl)
theorem dX4_one_183 : decode cX4_one 183 = .ok (.invokevirtual 169, 3) := dk_182 0 169 (dk_at dksX4_one_7 19 rfl rfl)
theorem dX4_one_186 : decode cX4_one 186 = .ok (.bipush 48, 2) := dk_16 48 (dk_at dksX4_one_7 22 rfl rfl)
theorem dX4_one_188 : decode cX4_one 188 = .ok (.if_icmp .lt 41, 3) := dk_161 0 41 (dk_at dksX4_one_8 0 rfl rfl)
theorem dX4_one_191 : decode cX4_one 191 = .ok (.aload_n 0, 1) := dk_42 (dk_at dksX4_one_8 3 rfl rfl)
theorem dX4_one_192 : decode cX4_one 192 = .ok (.invokevirtual 169, 3) := dk_182 0 169 (dk_at dksX4_one_8 4 rfl rfl)
theorem dX4_one_195 : decode cX4_one 195 = .ok (.bipush 57, 2) := dk_16 57 (dk_at dksX4_one_8 7 rfl rfl)
theorem dX4_one_197 : decode cX4_one 197 = .ok (.if_icmp .gt 32, 3) := dk_163 0 32 (dk_at dksX4_one_8 9 rfl rfl)
theorem dX4_one_200 : decode cX4_one 200 = .ok (.bipush 10, 2) := dk_16 10 (dk_at dksX4_one_8 12 rfl rfl)
theorem dX4_one_202 : decode cX4_one 202 = .ok (.iload_n 3, 1) := dk_29 (dk_at dksX4_one_8 14 rfl rfl)
theorem dX4_one_203 : decode cX4_one 203 = .ok (.imul, 1) := dk_104 (dk_at dksX4_one_8 15 rfl rfl)
theorem dX4_one_204 : decode cX4_one 204 = .ok (.aload_n 0, 1) := dk_42 (dk_at dksX4_one_8 16 rfl rfl)
theorem dX4_one_205 : decode cX4_one 205 = .ok (.invokevirtual 169, 3) := dk_182 0 169 (dk_at dksX4_one_8 17 rfl rfl)
theorem dX4_one_208 : decode cX4_one 208 = .ok (.iadd, 1) := dk_96 (dk_at dksX4_one_8 20 rfl rfl)
theorem dX4_one_209 : decode cX4_one 209 = .ok (.bipush 48, 2) := dk_16 48 (dk_at dksX4_one_8 21 rfl rfl)
theorem dX4_one_211 : decode cX4_one 211 = .ok (.isub, 1) := dk_100 (dk_at dksX4_one_8 23 rfl rfl)
theorem dX4_one_212 : decode cX4_one 212 = .ok (.istore_n 3, 1) := dk_62 (dk_at dksX4_one_9 0 rfl rfl)
theorem dX4_one_213 : decode cX4_one 213 = .ok (.iinc 4 1, 3) := dk_132 4 1 (dk_at dksX4_one_9 1 rfl rfl)
theorem dX4_one_216 : decode cX4_one 216 = .ok (.aload_n 0, 1) := dk_42 (dk_at dksX4_one_9 4 rfl rfl)
theorem dX4_one_217 : decode cX4_one 217 = .ok (.dup, 1) := dk_89 (dk_at dksX4_one_9 5 rfl rfl)
theorem dX4_one_218 : decode cX4_one 218 = .ok (.getfield 157, 3) := dk_180 0 157 (dk_at dksX4_one_9 6 rfl rfl)
theorem dX4_one_221 : decode cX4_one 221 = .ok (.iconst 1, 1) := dk_4 (dk_at dksX4_one_9 9 rfl rfl)
theorem dX4_one_222 : decode cX4_one 222 = .ok (.iadd, 1) := dk_96 (dk_at dksX4_one_9 10 rfl rfl)
theorem dX4_one_223 : decode cX4_one 223 = .ok (.putfield 157, 3) := dk_181 0 157 (dk_at dksX4_one_9 11 rfl rfl)
theorem dX4_one_226 : decode cX4_one 226 = .ok (.goto (-50), 3) := dk_167 255 206 (dk_at dksX4_one_9 14 rfl rfl)
theorem dX4_one_229 : decode cX4_one 229 = .ok (.iload 4, 2) := dk_21 4 (dk_at dksX4_one_9 17 rfl rfl)
theorem dX4_one_231 : decode cX4_one 231 = .ok (.ifCond .ne 10, 3) := dk_154 0 10 (dk_at dksX4_one_9 19 rfl rfl)
theorem dX4_one_234 : decode cX4_one 234 = .ok (.aload_n 0, 1) := dk_42 (dk_at dksX4_one_9 22 rfl rfl)
theorem dX4_one_235 : decode cX4_one 235 = .ok (.invokevirtual 194, 3) := dk_182 0 194 (dk_at dksX4_one_10 0 rfl rfl)
theorem dX4_one_238 : decode cX4_one 238 = .ok (.goto 4, 3) := dk_167 0 4 (dk_at dksX4_one_10 3 rfl rfl)
theorem dX4_one_241 : decode cX4_one 241 = .ok (.iload_n 3, 1) := dk_29 (dk_at dksX4_one_10 6 rfl rfl)
theorem dX4_one_242 : decode cX4_one 242 = .ok (.ireturn, 1) := dk_172 (dk_at dksX4_one_10 7 rfl rfl)
abbrev cX4_byteAt : ByteArray := prog_34_method_17_code
def yX4_byteAt : MethodName := ⟨RX4, "byteAt", "()I"⟩
def dkwX4_byteAt_2 : List UInt8 := [3, 172]
abbrev dktX4_byteAt_2 : List UInt8 := dkwX4_byteAt_2 ++ []
def dkwX4_byteAt_1 : List UInt8 := [180, 0, 157, 46, 167, 0, 21, 42, 180, 0, 34, 42, 180, 0, 163, 42, 180, 0, 157, 96, 46, 167, 0, 4]
abbrev dktX4_byteAt_1 : List UInt8 := dkwX4_byteAt_1 ++ dktX4_byteAt_2
def dkwX4_byteAt_0 : List UInt8 := [42, 180, 0, 157, 42, 180, 0, 160, 162, 0, 39, 42, 180, 0, 163, 156, 0, 15, 42, 180, 0, 31, 42]
abbrev dktX4_byteAt_0 : List UInt8 := dkwX4_byteAt_0 ++ dktX4_byteAt_1
theorem dksX4_byteAt_0 : cX4_byteAt.data.toList.drop 0 = dktX4_byteAt_0 := by decide +kernel
theorem dksX4_byteAt_1 : cX4_byteAt.data.toList.drop 23 = dktX4_byteAt_1 := dk_seg dksX4_byteAt_0 23 rfl rfl
theorem dksX4_byteAt_2 : cX4_byteAt.data.toList.drop 47 = dktX4_byteAt_2 := dk_seg dksX4_byteAt_1 24 rfl rfl
theorem dX4_byteAt_0 : decode cX4_byteAt 0 = .ok (.aload_n 0, 1) := dk_42 (dk_at dksX4_byteAt_0 0 rfl rfl)
theorem dX4_byteAt_1 : decode cX4_byteAt 1 = .ok (.getfield 157, 3) := dk_180 0 157 (dk_at dksX4_byteAt_0 1 rfl rfl)
theorem dX4_byteAt_4 : decode cX4_byteAt 4 = .ok (.aload_n 0, 1) := dk_42 (dk_at dksX4_byteAt_0 4 rfl rfl)
theorem dX4_byteAt_5 : decode cX4_byteAt 5 = .ok (.getfield 160, 3) := dk_180 0 160 (dk_at dksX4_byteAt_0 5 rfl rfl)
theorem dX4_byteAt_8 : decode cX4_byteAt 8 = .ok (.if_icmp .ge 39, 3) := dk_162 0 39 (dk_at dksX4_byteAt_0 8 rfl rfl)
theorem dX4_byteAt_11 : decode cX4_byteAt 11 = .ok (.aload_n 0, 1) := dk_42 (dk_at dksX4_byteAt_0 11 rfl rfl)
theorem dX4_byteAt_12 : decode cX4_byteAt 12 = .ok (.getfield 163, 3) := dk_180 0 163 (dk_at dksX4_byteAt_0 12 rfl rfl)
theorem dX4_byteAt_15 : decode cX4_byteAt 15 = .ok (.ifCond .ge 15, 3) := dk_156 0 15 (dk_at dksX4_byteAt_0 15 rfl rfl)
theorem dX4_byteAt_18 : decode cX4_byteAt 18 = .ok (.aload_n 0, 1) := dk_42 (dk_at dksX4_byteAt_0 18 rfl rfl)
theorem dX4_byteAt_19 : decode cX4_byteAt 19 = .ok (.getfield 31, 3) := dk_180 0 31 (dk_at dksX4_byteAt_0 19 rfl rfl)
theorem dX4_byteAt_22 : decode cX4_byteAt 22 = .ok (.aload_n 0, 1) := dk_42 (dk_at dksX4_byteAt_0 22 rfl rfl)
theorem dX4_byteAt_23 : decode cX4_byteAt 23 = .ok (.getfield 157, 3) := dk_180 0 157 (dk_at dksX4_byteAt_1 0 rfl rfl)
theorem dX4_byteAt_26 : decode cX4_byteAt 26 = .ok (.iaload, 1) := dk_46 (dk_at dksX4_byteAt_1 3 rfl rfl)
theorem dX4_byteAt_27 : decode cX4_byteAt 27 = .ok (.goto 21, 3) := dk_167 0 21 (dk_at dksX4_byteAt_1 4 rfl rfl)
theorem dX4_byteAt_30 : decode cX4_byteAt 30 = .ok (.aload_n 0, 1) := dk_42 (dk_at dksX4_byteAt_1 7 rfl rfl)
theorem dX4_byteAt_31 : decode cX4_byteAt 31 = .ok (.getfield 34, 3) := dk_180 0 34 (dk_at dksX4_byteAt_1 8 rfl rfl)
theorem dX4_byteAt_34 : decode cX4_byteAt 34 = .ok (.aload_n 0, 1) := dk_42 (dk_at dksX4_byteAt_1 11 rfl rfl)
theorem dX4_byteAt_35 : decode cX4_byteAt 35 = .ok (.getfield 163, 3) := dk_180 0 163 (dk_at dksX4_byteAt_1 12 rfl rfl)
theorem dX4_byteAt_38 : decode cX4_byteAt 38 = .ok (.aload_n 0, 1) := dk_42 (dk_at dksX4_byteAt_1 15 rfl rfl)
theorem dX4_byteAt_39 : decode cX4_byteAt 39 = .ok (.getfield 157, 3) := dk_180 0 157 (dk_at dksX4_byteAt_1 16 rfl rfl)
theorem dX4_byteAt_42 : decode cX4_byteAt 42 = .ok (.iadd, 1) := dk_96 (dk_at dksX4_byteAt_1 19 rfl rfl)
theorem dX4_byteAt_43 : decode cX4_byteAt 43 = .ok (.iaload, 1) := dk_46 (dk_at dksX4_byteAt_1 20 rfl rfl)
theorem dX4_byteAt_44 : decode cX4_byteAt 44 = .ok (.goto 4, 3) := dk_167 0 4 (dk_at dksX4_byteAt_1 21 rfl rfl)
theorem dX4_byteAt_47 : decode cX4_byteAt 47 = .ok (.iconst 0, 1) := dk_3 (dk_at dksX4_byteAt_2 0 rfl rfl)
theorem dX4_byteAt_48 : decode cX4_byteAt 48 = .ok (.ireturn, 1) := dk_172 (dk_at dksX4_byteAt_2 1 rfl rfl)
abbrev cX4_wrong : ByteArray := prog_34_method_18_code
def yX4_wrong : MethodName := ⟨RX4, "wrong", "()I"⟩
def dkwX4_wrong_0 : List UInt8 := [42, 42, 180, 0, 166, 156, 0, 10, 42, 180, 0, 157, 167, 0, 7, 42, 180, 0, 166, 181, 0, 166, 3, 172]
abbrev dktX4_wrong_0 : List UInt8 := dkwX4_wrong_0 ++ []
theorem dksX4_wrong_0 : cX4_wrong.data.toList.drop 0 = dktX4_wrong_0 := by decide +kernel
theorem dX4_wrong_0 : decode cX4_wrong 0 = .ok (.aload_n 0, 1) := dk_42 (dk_at dksX4_wrong_0 0 rfl rfl)
theorem dX4_wrong_1 : decode cX4_wrong 1 = .ok (.aload_n 0, 1) := dk_42 (dk_at dksX4_wrong_0 1 rfl rfl)
theorem dX4_wrong_2 : decode cX4_wrong 2 = .ok (.getfield 166, 3) := dk_180 0 166 (dk_at dksX4_wrong_0 2 rfl rfl)
theorem dX4_wrong_5 : decode cX4_wrong 5 = .ok (.ifCond .ge 10, 3) := dk_156 0 10 (dk_at dksX4_wrong_0 5 rfl rfl)
theorem dX4_wrong_8 : decode cX4_wrong 8 = .ok (.aload_n 0, 1) := dk_42 (dk_at dksX4_wrong_0 8 rfl rfl)
theorem dX4_wrong_9 : decode cX4_wrong 9 = .ok (.getfield 157, 3) := dk_180 0 157 (dk_at dksX4_wrong_0 9 rfl rfl)
theorem dX4_wrong_12 : decode cX4_wrong 12 = .ok (.goto 7, 3) := dk_167 0 7 (dk_at dksX4_wrong_0 12 rfl rfl)
theorem dX4_wrong_15 : decode cX4_wrong 15 = .ok (.aload_n 0, 1) := dk_42 (dk_at dksX4_wrong_0 15 rfl rfl)
theorem dX4_wrong_16 : decode cX4_wrong 16 = .ok (.getfield 166, 3) := dk_180 0 166 (dk_at dksX4_wrong_0 16 rfl rfl)
theorem dX4_wrong_19 : decode cX4_wrong 19 = .ok (.putfield 166, 3) := dk_181 0 166 (dk_at dksX4_wrong_0 19 rfl rfl)
theorem dX4_wrong_22 : decode cX4_wrong 22 = .ok (.iconst 0, 1) := dk_3 (dk_at dksX4_wrong_0 22 rfl rfl)
theorem dX4_wrong_23 : decode cX4_wrong 23 = .ok (.ireturn, 1) := dk_172 (dk_at dksX4_wrong_0 23 rfl rfl)
abbrev cX4_takes : ByteArray := prog_34_method_19_code
def yX4_takes : MethodName := ⟨RX4, "takes", "(I)Z"⟩
def dkwX4_takes_1 : List UInt8 := [181, 0, 157, 4, 172]
abbrev dktX4_takes_1 : List UInt8 := dkwX4_takes_1 ++ []
def dkwX4_takes_0 : List UInt8 := [42, 180, 0, 166, 156, 0, 11, 42, 182, 0, 169, 27, 159, 0, 5, 3, 172, 42, 89, 180, 0, 157, 4, 96]
abbrev dktX4_takes_0 : List UInt8 := dkwX4_takes_0 ++ dktX4_takes_1
theorem dksX4_takes_0 : cX4_takes.data.toList.drop 0 = dktX4_takes_0 := by decide +kernel
theorem dksX4_takes_1 : cX4_takes.data.toList.drop 24 = dktX4_takes_1 := dk_seg dksX4_takes_0 24 rfl rfl
theorem dX4_takes_0 : decode cX4_takes 0 = .ok (.aload_n 0, 1) := dk_42 (dk_at dksX4_takes_0 0 rfl rfl)
theorem dX4_takes_1 : decode cX4_takes 1 = .ok (.getfield 166, 3) := dk_180 0 166 (dk_at dksX4_takes_0 1 rfl rfl)
theorem dX4_takes_4 : decode cX4_takes 4 = .ok (.ifCond .ge 11, 3) := dk_156 0 11 (dk_at dksX4_takes_0 4 rfl rfl)
theorem dX4_takes_7 : decode cX4_takes 7 = .ok (.aload_n 0, 1) := dk_42 (dk_at dksX4_takes_0 7 rfl rfl)
theorem dX4_takes_8 : decode cX4_takes 8 = .ok (.invokevirtual 169, 3) := dk_182 0 169 (dk_at dksX4_takes_0 8 rfl rfl)
theorem dX4_takes_11 : decode cX4_takes 11 = .ok (.iload_n 1, 1) := dk_27 (dk_at dksX4_takes_0 11 rfl rfl)
theorem dX4_takes_12 : decode cX4_takes 12 = .ok (.if_icmp .eq 5, 3) := dk_159 0 5 (dk_at dksX4_takes_0 12 rfl rfl)
theorem dX4_takes_15 : decode cX4_takes 15 = .ok (.iconst 0, 1) := dk_3 (dk_at dksX4_takes_0 15 rfl rfl)
theorem dX4_takes_16 : decode cX4_takes 16 = .ok (.ireturn, 1) := dk_172 (dk_at dksX4_takes_0 16 rfl rfl)
theorem dX4_takes_17 : decode cX4_takes 17 = .ok (.aload_n 0, 1) := dk_42 (dk_at dksX4_takes_0 17 rfl rfl)
theorem dX4_takes_18 : decode cX4_takes 18 = .ok (.dup, 1) := dk_89 (dk_at dksX4_takes_0 18 rfl rfl)
theorem dX4_takes_19 : decode cX4_takes 19 = .ok (.getfield 157, 3) := dk_180 0 157 (dk_at dksX4_takes_0 19 rfl rfl)
theorem dX4_takes_22 : decode cX4_takes 22 = .ok (.iconst 1, 1) := dk_4 (dk_at dksX4_takes_0 22 rfl rfl)
theorem dX4_takes_23 : decode cX4_takes 23 = .ok (.iadd, 1) := dk_96 (dk_at dksX4_takes_0 23 rfl rfl)
theorem dX4_takes_24 : decode cX4_takes 24 = .ok (.putfield 157, 3) := dk_181 0 157 (dk_at dksX4_takes_1 0 rfl rfl)
theorem dX4_takes_27 : decode cX4_takes 27 = .ok (.iconst 1, 1) := dk_4 (dk_at dksX4_takes_1 3 rfl rfl)
theorem dX4_takes_28 : decode cX4_takes 28 = .ok (.ireturn, 1) := dk_172 (dk_at dksX4_takes_1 4 rfl rfl)
abbrev cX4_nameOf : ByteArray := prog_34_method_25_code
def yX4_nameOf : MethodName := ⟨RX4, "nameOf", "(I)I"⟩
def dkwX4_nameOf_2 : List UInt8 := [3, 172, 4, 172, 5, 172, 6, 172, 2, 172]
abbrev dktX4_nameOf_2 : List UInt8 := dkwX4_nameOf_2 ++ []
def dkwX4_nameOf_1 : List UInt8 := [171, 0, 0, 0, 0, 0, 51, 0, 0, 0, 4, 0, 0, 0, 107, 0, 0, 0, 45, 0, 0, 0, 112, 0, 0, 0, 49, 0, 0, 0, 119, 0, 0, 0, 47, 0, 0, 0, 121, 0, 0, 0, 43]
abbrev dktX4_nameOf_1 : List UInt8 := dkwX4_nameOf_1 ++ dktX4_nameOf_2
def dkwX4_nameOf_0 : List UInt8 := [26]
abbrev dktX4_nameOf_0 : List UInt8 := dkwX4_nameOf_0 ++ dktX4_nameOf_1
theorem dksX4_nameOf_0 : cX4_nameOf.data.toList.drop 0 = dktX4_nameOf_0 := by decide +kernel
theorem dksX4_nameOf_1 : cX4_nameOf.data.toList.drop 1 = dktX4_nameOf_1 := dk_seg dksX4_nameOf_0 1 rfl rfl
theorem dksX4_nameOf_2 : cX4_nameOf.data.toList.drop 44 = dktX4_nameOf_2 := dk_seg dksX4_nameOf_1 43 rfl rfl
theorem dX4_nameOf_0 : decode cX4_nameOf 0 = .ok (.iload_n 0, 1) := dk_26 (dk_at dksX4_nameOf_0 0 rfl rfl)
theorem dX4_nameOf_1 : decode cX4_nameOf 1 = .ok (.lookupswitch 51 #[(107, 45), (112, 49), (119, 47), (121, 43)], 43) := by decide +kernel
theorem dX4_nameOf_44 : decode cX4_nameOf 44 = .ok (.iconst 0, 1) := dk_3 (dk_at dksX4_nameOf_2 0 rfl rfl)
theorem dX4_nameOf_45 : decode cX4_nameOf 45 = .ok (.ireturn, 1) := dk_172 (dk_at dksX4_nameOf_2 1 rfl rfl)
theorem dX4_nameOf_46 : decode cX4_nameOf 46 = .ok (.iconst 1, 1) := dk_4 (dk_at dksX4_nameOf_2 2 rfl rfl)
theorem dX4_nameOf_47 : decode cX4_nameOf 47 = .ok (.ireturn, 1) := dk_172 (dk_at dksX4_nameOf_2 3 rfl rfl)
theorem dX4_nameOf_48 : decode cX4_nameOf 48 = .ok (.iconst 2, 1) := dk_5 (dk_at dksX4_nameOf_2 4 rfl rfl)
theorem dX4_nameOf_49 : decode cX4_nameOf 49 = .ok (.ireturn, 1) := dk_172 (dk_at dksX4_nameOf_2 5 rfl rfl)
theorem dX4_nameOf_50 : decode cX4_nameOf 50 = .ok (.iconst 3, 1) := dk_6 (dk_at dksX4_nameOf_2 6 rfl rfl)
theorem dX4_nameOf_51 : decode cX4_nameOf 51 = .ok (.ireturn, 1) := dk_172 (dk_at dksX4_nameOf_2 7 rfl rfl)
theorem dX4_nameOf_52 : decode cX4_nameOf 52 = .ok (.iconst (-1), 1) := dk_2 (dk_at dksX4_nameOf_2 8 rfl rfl)
theorem dX4_nameOf_53 : decode cX4_nameOf 53 = .ok (.ireturn, 1) := dk_172 (dk_at dksX4_nameOf_2 9 rfl rfl)
abbrev cX4_number : ByteArray := prog_34_method_30_code
def yX4_number : MethodName := ⟨RX4, "number", "(II)I"⟩
def dkwX4_number_2 : List UInt8 := [16, 100, 112, 182, 0, 207, 172]
abbrev dktX4_number_2 : List UInt8 := dkwX4_number_2 ++ []
def dkwX4_number_1 : List UInt8 := [16, 100, 112, 16, 30, 161, 0, 5, 2, 172, 42, 27, 16, 10, 108, 27, 16, 10, 112, 28, 16, 100, 108, 28]
abbrev dktX4_number_1 : List UInt8 := dkwX4_number_1 ++ dktX4_number_2
def dkwX4_number_0 : List UInt8 := [42, 27, 182, 0, 135, 153, 0, 26, 28, 155, 0, 22, 28, 16, 100, 108, 184, 0, 122, 153, 0, 12, 28]
abbrev dktX4_number_0 : List UInt8 := dkwX4_number_0 ++ dktX4_number_1
theorem dksX4_number_0 : cX4_number.data.toList.drop 0 = dktX4_number_0 := by decide +kernel
theorem dksX4_number_1 : cX4_number.data.toList.drop 23 = dktX4_number_1 := dk_seg dksX4_number_0 23 rfl rfl
theorem dksX4_number_2 : cX4_number.data.toList.drop 47 = dktX4_number_2 := dk_seg dksX4_number_1 24 rfl rfl
theorem dX4_number_0 : decode cX4_number 0 = .ok (.aload_n 0, 1) := dk_42 (dk_at dksX4_number_0 0 rfl rfl)
theorem dX4_number_1 : decode cX4_number 1 = .ok (.iload_n 1, 1) := dk_27 (dk_at dksX4_number_0 1 rfl rfl)
theorem dX4_number_2 : decode cX4_number 2 = .ok (.invokevirtual 135, 3) := dk_182 0 135 (dk_at dksX4_number_0 2 rfl rfl)
theorem dX4_number_5 : decode cX4_number 5 = .ok (.ifCond .eq 26, 3) := dk_153 0 26 (dk_at dksX4_number_0 5 rfl rfl)
theorem dX4_number_8 : decode cX4_number 8 = .ok (.iload_n 2, 1) := dk_28 (dk_at dksX4_number_0 8 rfl rfl)
theorem dX4_number_9 : decode cX4_number 9 = .ok (.ifCond .lt 22, 3) := dk_155 0 22 (dk_at dksX4_number_0 9 rfl rfl)
theorem dX4_number_12 : decode cX4_number 12 = .ok (.iload_n 2, 1) := dk_28 (dk_at dksX4_number_0 12 rfl rfl)
theorem dX4_number_13 : decode cX4_number 13 = .ok (.bipush 100, 2) := dk_16 100 (dk_at dksX4_number_0 13 rfl rfl)
theorem dX4_number_15 : decode cX4_number 15 = .ok (.idiv, 1) := dk_108 (dk_at dksX4_number_0 15 rfl rfl)
theorem dX4_number_16 : decode cX4_number 16 = .ok (.invokestatic 122, 3) := dk_184 0 122 (dk_at dksX4_number_0 16 rfl rfl)
theorem dX4_number_19 : decode cX4_number 19 = .ok (.ifCond .eq 12, 3) := dk_153 0 12 (dk_at dksX4_number_0 19 rfl rfl)
theorem dX4_number_22 : decode cX4_number 22 = .ok (.iload_n 2, 1) := dk_28 (dk_at dksX4_number_0 22 rfl rfl)
theorem dX4_number_23 : decode cX4_number 23 = .ok (.bipush 100, 2) := dk_16 100 (dk_at dksX4_number_1 0 rfl rfl)
theorem dX4_number_25 : decode cX4_number 25 = .ok (.irem, 1) := dk_112 (dk_at dksX4_number_1 2 rfl rfl)
theorem dX4_number_26 : decode cX4_number 26 = .ok (.bipush 30, 2) := dk_16 30 (dk_at dksX4_number_1 3 rfl rfl)
theorem dX4_number_28 : decode cX4_number 28 = .ok (.if_icmp .lt 5, 3) := dk_161 0 5 (dk_at dksX4_number_1 5 rfl rfl)
theorem dX4_number_31 : decode cX4_number 31 = .ok (.iconst (-1), 1) := dk_2 (dk_at dksX4_number_1 8 rfl rfl)
theorem dX4_number_32 : decode cX4_number 32 = .ok (.ireturn, 1) := dk_172 (dk_at dksX4_number_1 9 rfl rfl)
theorem dX4_number_33 : decode cX4_number 33 = .ok (.aload_n 0, 1) := dk_42 (dk_at dksX4_number_1 10 rfl rfl)
theorem dX4_number_34 : decode cX4_number 34 = .ok (.iload_n 1, 1) := dk_27 (dk_at dksX4_number_1 11 rfl rfl)
theorem dX4_number_35 : decode cX4_number 35 = .ok (.bipush 10, 2) := dk_16 10 (dk_at dksX4_number_1 12 rfl rfl)
theorem dX4_number_37 : decode cX4_number 37 = .ok (.idiv, 1) := dk_108 (dk_at dksX4_number_1 14 rfl rfl)
theorem dX4_number_38 : decode cX4_number 38 = .ok (.iload_n 1, 1) := dk_27 (dk_at dksX4_number_1 15 rfl rfl)
theorem dX4_number_39 : decode cX4_number 39 = .ok (.bipush 10, 2) := dk_16 10 (dk_at dksX4_number_1 16 rfl rfl)
theorem dX4_number_41 : decode cX4_number 41 = .ok (.irem, 1) := dk_112 (dk_at dksX4_number_1 18 rfl rfl)
theorem dX4_number_42 : decode cX4_number 42 = .ok (.iload_n 2, 1) := dk_28 (dk_at dksX4_number_1 19 rfl rfl)
theorem dX4_number_43 : decode cX4_number 43 = .ok (.bipush 100, 2) := dk_16 100 (dk_at dksX4_number_1 20 rfl rfl)
theorem dX4_number_45 : decode cX4_number 45 = .ok (.idiv, 1) := dk_108 (dk_at dksX4_number_1 22 rfl rfl)
theorem dX4_number_46 : decode cX4_number 46 = .ok (.iload_n 2, 1) := dk_28 (dk_at dksX4_number_1 23 rfl rfl)
theorem dX4_number_47 : decode cX4_number 47 = .ok (.bipush 100, 2) := dk_16 100 (dk_at dksX4_number_2 0 rfl rfl)
theorem dX4_number_49 : decode cX4_number 49 = .ok (.irem, 1) := dk_112 (dk_at dksX4_number_2 2 rfl rfl)
theorem dX4_number_50 : decode cX4_number 50 = .ok (.invokevirtual 207, 3) := dk_182 0 207 (dk_at dksX4_number_2 3 rfl rfl)
theorem dX4_number_53 : decode cX4_number 53 = .ok (.ireturn, 1) := dk_172 (dk_at dksX4_number_2 6 rfl rfl)
abbrev cX4_numberOf : ByteArray := prog_34_method_29_code
def yX4_numberOf : MethodName := ⟨RX4, "numberOf", "(IIII)I"⟩
def dkwX4_numberOf_3 : List UInt8 := [3, 167, 0, 17, 21, 5, 16, 100, 164, 0, 8, 16, 100, 167, 0, 5, 21, 5, 172]
abbrev dktX4_numberOf_3 : List UInt8 := dkwX4_numberOf_3 ++ []
def dkwX4_numberOf_2 : List UInt8 := [27, 46, 79, 42, 16, 120, 28, 104, 42, 180, 0, 37, 28, 46, 182, 0, 204, 54, 5, 21, 5, 156, 0, 7]
abbrev dktX4_numberOf_2 : List UInt8 := dkwX4_numberOf_2 ++ dktX4_numberOf_3
def dkwX4_numberOf_1 : List UInt8 := [4, 29, 79, 42, 180, 0, 40, 5, 42, 180, 0, 22, 27, 46, 79, 42, 180, 0, 40, 6, 42, 180, 0, 25]
abbrev dktX4_numberOf_1 : List UInt8 := dkwX4_numberOf_1 ++ dktX4_numberOf_2
def dkwX4_numberOf_0 : List UInt8 := [42, 180, 0, 37, 28, 46, 156, 0, 6, 16, 50, 172, 42, 180, 0, 40, 3, 21, 4, 79, 42, 180, 0, 40]
abbrev dktX4_numberOf_0 : List UInt8 := dkwX4_numberOf_0 ++ dktX4_numberOf_1
theorem dksX4_numberOf_0 : cX4_numberOf.data.toList.drop 0 = dktX4_numberOf_0 := by decide +kernel
theorem dksX4_numberOf_1 : cX4_numberOf.data.toList.drop 24 = dktX4_numberOf_1 := dk_seg dksX4_numberOf_0 24 rfl rfl
theorem dksX4_numberOf_2 : cX4_numberOf.data.toList.drop 48 = dktX4_numberOf_2 := dk_seg dksX4_numberOf_1 24 rfl rfl
theorem dksX4_numberOf_3 : cX4_numberOf.data.toList.drop 72 = dktX4_numberOf_3 := dk_seg dksX4_numberOf_2 24 rfl rfl
theorem dX4_numberOf_0 : decode cX4_numberOf 0 = .ok (.aload_n 0, 1) := dk_42 (dk_at dksX4_numberOf_0 0 rfl rfl)
theorem dX4_numberOf_1 : decode cX4_numberOf 1 = .ok (.getfield 37, 3) := dk_180 0 37 (dk_at dksX4_numberOf_0 1 rfl rfl)
theorem dX4_numberOf_4 : decode cX4_numberOf 4 = .ok (.iload_n 2, 1) := dk_28 (dk_at dksX4_numberOf_0 4 rfl rfl)
theorem dX4_numberOf_5 : decode cX4_numberOf 5 = .ok (.iaload, 1) := dk_46 (dk_at dksX4_numberOf_0 5 rfl rfl)
theorem dX4_numberOf_6 : decode cX4_numberOf 6 = .ok (.ifCond .ge 6, 3) := dk_156 0 6 (dk_at dksX4_numberOf_0 6 rfl rfl)
theorem dX4_numberOf_9 : decode cX4_numberOf 9 = .ok (.bipush 50, 2) := dk_16 50 (dk_at dksX4_numberOf_0 9 rfl rfl)
theorem dX4_numberOf_11 : decode cX4_numberOf 11 = .ok (.ireturn, 1) := dk_172 (dk_at dksX4_numberOf_0 11 rfl rfl)
theorem dX4_numberOf_12 : decode cX4_numberOf 12 = .ok (.aload_n 0, 1) := dk_42 (dk_at dksX4_numberOf_0 12 rfl rfl)
theorem dX4_numberOf_13 : decode cX4_numberOf 13 = .ok (.getfield 40, 3) := dk_180 0 40 (dk_at dksX4_numberOf_0 13 rfl rfl)
theorem dX4_numberOf_16 : decode cX4_numberOf 16 = .ok (.iconst 0, 1) := dk_3 (dk_at dksX4_numberOf_0 16 rfl rfl)
theorem dX4_numberOf_17 : decode cX4_numberOf 17 = .ok (.iload 4, 2) := dk_21 4 (dk_at dksX4_numberOf_0 17 rfl rfl)
theorem dX4_numberOf_19 : decode cX4_numberOf 19 = .ok (.iastore, 1) := dk_79 (dk_at dksX4_numberOf_0 19 rfl rfl)
theorem dX4_numberOf_20 : decode cX4_numberOf 20 = .ok (.aload_n 0, 1) := dk_42 (dk_at dksX4_numberOf_0 20 rfl rfl)
theorem dX4_numberOf_21 : decode cX4_numberOf 21 = .ok (.getfield 40, 3) := dk_180 0 40 (dk_at dksX4_numberOf_0 21 rfl rfl)
theorem dX4_numberOf_24 : decode cX4_numberOf 24 = .ok (.iconst 1, 1) := dk_4 (dk_at dksX4_numberOf_1 0 rfl rfl)
theorem dX4_numberOf_25 : decode cX4_numberOf 25 = .ok (.iload_n 3, 1) := dk_29 (dk_at dksX4_numberOf_1 1 rfl rfl)
theorem dX4_numberOf_26 : decode cX4_numberOf 26 = .ok (.iastore, 1) := dk_79 (dk_at dksX4_numberOf_1 2 rfl rfl)
theorem dX4_numberOf_27 : decode cX4_numberOf 27 = .ok (.aload_n 0, 1) := dk_42 (dk_at dksX4_numberOf_1 3 rfl rfl)
theorem dX4_numberOf_28 : decode cX4_numberOf 28 = .ok (.getfield 40, 3) := dk_180 0 40 (dk_at dksX4_numberOf_1 4 rfl rfl)
theorem dX4_numberOf_31 : decode cX4_numberOf 31 = .ok (.iconst 2, 1) := dk_5 (dk_at dksX4_numberOf_1 7 rfl rfl)
theorem dX4_numberOf_32 : decode cX4_numberOf 32 = .ok (.aload_n 0, 1) := dk_42 (dk_at dksX4_numberOf_1 8 rfl rfl)
theorem dX4_numberOf_33 : decode cX4_numberOf 33 = .ok (.getfield 22, 3) := dk_180 0 22 (dk_at dksX4_numberOf_1 9 rfl rfl)
theorem dX4_numberOf_36 : decode cX4_numberOf 36 = .ok (.iload_n 1, 1) := dk_27 (dk_at dksX4_numberOf_1 12 rfl rfl)
theorem dX4_numberOf_37 : decode cX4_numberOf 37 = .ok (.iaload, 1) := dk_46 (dk_at dksX4_numberOf_1 13 rfl rfl)
theorem dX4_numberOf_38 : decode cX4_numberOf 38 = .ok (.iastore, 1) := dk_79 (dk_at dksX4_numberOf_1 14 rfl rfl)
theorem dX4_numberOf_39 : decode cX4_numberOf 39 = .ok (.aload_n 0, 1) := dk_42 (dk_at dksX4_numberOf_1 15 rfl rfl)
theorem dX4_numberOf_40 : decode cX4_numberOf 40 = .ok (.getfield 40, 3) := dk_180 0 40 (dk_at dksX4_numberOf_1 16 rfl rfl)
theorem dX4_numberOf_43 : decode cX4_numberOf 43 = .ok (.iconst 3, 1) := dk_6 (dk_at dksX4_numberOf_1 19 rfl rfl)
theorem dX4_numberOf_44 : decode cX4_numberOf 44 = .ok (.aload_n 0, 1) := dk_42 (dk_at dksX4_numberOf_1 20 rfl rfl)
theorem dX4_numberOf_45 : decode cX4_numberOf 45 = .ok (.getfield 25, 3) := dk_180 0 25 (dk_at dksX4_numberOf_1 21 rfl rfl)
theorem dX4_numberOf_48 : decode cX4_numberOf 48 = .ok (.iload_n 1, 1) := dk_27 (dk_at dksX4_numberOf_2 0 rfl rfl)
theorem dX4_numberOf_49 : decode cX4_numberOf 49 = .ok (.iaload, 1) := dk_46 (dk_at dksX4_numberOf_2 1 rfl rfl)
theorem dX4_numberOf_50 : decode cX4_numberOf 50 = .ok (.iastore, 1) := dk_79 (dk_at dksX4_numberOf_2 2 rfl rfl)
theorem dX4_numberOf_51 : decode cX4_numberOf 51 = .ok (.aload_n 0, 1) := dk_42 (dk_at dksX4_numberOf_2 3 rfl rfl)
theorem dX4_numberOf_52 : decode cX4_numberOf 52 = .ok (.bipush 120, 2) := dk_16 120 (dk_at dksX4_numberOf_2 4 rfl rfl)
theorem dX4_numberOf_54 : decode cX4_numberOf 54 = .ok (.iload_n 2, 1) := dk_28 (dk_at dksX4_numberOf_2 6 rfl rfl)
theorem dX4_numberOf_55 : decode cX4_numberOf 55 = .ok (.imul, 1) := dk_104 (dk_at dksX4_numberOf_2 7 rfl rfl)
theorem dX4_numberOf_56 : decode cX4_numberOf 56 = .ok (.aload_n 0, 1) := dk_42 (dk_at dksX4_numberOf_2 8 rfl rfl)
theorem dX4_numberOf_57 : decode cX4_numberOf 57 = .ok (.getfield 37, 3) := dk_180 0 37 (dk_at dksX4_numberOf_2 9 rfl rfl)
theorem dX4_numberOf_60 : decode cX4_numberOf 60 = .ok (.iload_n 2, 1) := dk_28 (dk_at dksX4_numberOf_2 12 rfl rfl)
theorem dX4_numberOf_61 : decode cX4_numberOf 61 = .ok (.iaload, 1) := dk_46 (dk_at dksX4_numberOf_2 13 rfl rfl)
theorem dX4_numberOf_62 : decode cX4_numberOf 62 = .ok (.invokevirtual 204, 3) := dk_182 0 204 (dk_at dksX4_numberOf_2 14 rfl rfl)
theorem dX4_numberOf_65 : decode cX4_numberOf 65 = .ok (.istore 5, 2) := dk_54 5 (dk_at dksX4_numberOf_2 17 rfl rfl)
theorem dX4_numberOf_67 : decode cX4_numberOf 67 = .ok (.iload 5, 2) := dk_21 5 (dk_at dksX4_numberOf_2 19 rfl rfl)
theorem dX4_numberOf_69 : decode cX4_numberOf 69 = .ok (.ifCond .ge 7, 3) := dk_156 0 7 (dk_at dksX4_numberOf_2 21 rfl rfl)
theorem dX4_numberOf_72 : decode cX4_numberOf 72 = .ok (.iconst 0, 1) := dk_3 (dk_at dksX4_numberOf_3 0 rfl rfl)
theorem dX4_numberOf_73 : decode cX4_numberOf 73 = .ok (.goto 17, 3) := dk_167 0 17 (dk_at dksX4_numberOf_3 1 rfl rfl)
theorem dX4_numberOf_76 : decode cX4_numberOf 76 = .ok (.iload 5, 2) := dk_21 5 (dk_at dksX4_numberOf_3 4 rfl rfl)
theorem dX4_numberOf_78 : decode cX4_numberOf 78 = .ok (.bipush 100, 2) := dk_16 100 (dk_at dksX4_numberOf_3 6 rfl rfl)
theorem dX4_numberOf_80 : decode cX4_numberOf 80 = .ok (.if_icmp .le 8, 3) := dk_164 0 8 (dk_at dksX4_numberOf_3 8 rfl rfl)
theorem dX4_numberOf_83 : decode cX4_numberOf 83 = .ok (.bipush 100, 2) := dk_16 100 (dk_at dksX4_numberOf_3 11 rfl rfl)
theorem dX4_numberOf_85 : decode cX4_numberOf 85 = .ok (.goto 5, 3) := dk_167 0 5 (dk_at dksX4_numberOf_3 13 rfl rfl)
theorem dX4_numberOf_88 : decode cX4_numberOf 88 = .ok (.iload 5, 2) := dk_21 5 (dk_at dksX4_numberOf_3 16 rfl rfl)
theorem dX4_numberOf_90 : decode cX4_numberOf 90 = .ok (.ireturn, 1) := dk_172 (dk_at dksX4_numberOf_3 18 rfl rfl)
abbrev cX4_likely : ByteArray := prog_34_method_38_code
def yX4_likely : MethodName := ⟨RX4, "likely", "(II)J"⟩
def dkwX4_likely_3 : List UInt8 := [180, 0, 211, 22, 5, 109, 173]
abbrev dktX4_likely_3 : List UInt8 := dkwX4_likely_3 ++ []
def dkwX4_likely_2 : List UInt8 := [173, 33, 42, 180, 0, 211, 184, 0, 234, 55, 5, 28, 154, 0, 10, 33, 22, 5, 109, 167, 0, 10, 42]
abbrev dktX4_likely_2 : List UInt8 := dkwX4_likely_2 ++ dktX4_likely_3
def dkwX4_likely_1 : List UInt8 := [16, 10, 108, 182, 0, 231, 42, 180, 0, 53, 27, 16, 10, 112, 47, 66, 33, 9, 148, 154, 0, 6, 28, 133]
abbrev dktX4_likely_1 : List UInt8 := dkwX4_likely_1 ++ dktX4_likely_2
def dkwX4_likely_0 : List UInt8 := [42, 27, 182, 0, 224, 153, 0, 13, 28, 133, 9, 10, 184, 0, 102, 154, 0, 7, 20, 0, 229, 173, 42, 27]
abbrev dktX4_likely_0 : List UInt8 := dkwX4_likely_0 ++ dktX4_likely_1
theorem dksX4_likely_0 : cX4_likely.data.toList.drop 0 = dktX4_likely_0 := by decide +kernel
theorem dksX4_likely_1 : cX4_likely.data.toList.drop 24 = dktX4_likely_1 := dk_seg dksX4_likely_0 24 rfl rfl
theorem dksX4_likely_2 : cX4_likely.data.toList.drop 48 = dktX4_likely_2 := dk_seg dksX4_likely_1 24 rfl rfl
theorem dksX4_likely_3 : cX4_likely.data.toList.drop 71 = dktX4_likely_3 := dk_seg dksX4_likely_2 23 rfl rfl
theorem dX4_likely_0 : decode cX4_likely 0 = .ok (.aload_n 0, 1) := dk_42 (dk_at dksX4_likely_0 0 rfl rfl)
theorem dX4_likely_1 : decode cX4_likely 1 = .ok (.iload_n 1, 1) := dk_27 (dk_at dksX4_likely_0 1 rfl rfl)
theorem dX4_likely_2 : decode cX4_likely 2 = .ok (.invokevirtual 224, 3) := dk_182 0 224 (dk_at dksX4_likely_0 2 rfl rfl)
theorem dX4_likely_5 : decode cX4_likely 5 = .ok (.ifCond .eq 13, 3) := dk_153 0 13 (dk_at dksX4_likely_0 5 rfl rfl)
theorem dX4_likely_8 : decode cX4_likely 8 = .ok (.iload_n 2, 1) := dk_28 (dk_at dksX4_likely_0 8 rfl rfl)
theorem dX4_likely_9 : decode cX4_likely 9 = .ok (.i2l, 1) := dk_133 (dk_at dksX4_likely_0 9 rfl rfl)
theorem dX4_likely_10 : decode cX4_likely 10 = .ok (.lconst 0, 1) := dk_9 (dk_at dksX4_likely_0 10 rfl rfl)
theorem dX4_likely_11 : decode cX4_likely 11 = .ok (.lconst 1, 1) := dk_10 (dk_at dksX4_likely_0 11 rfl rfl)
theorem dX4_likely_12 : decode cX4_likely 12 = .ok (.invokestatic 102, 3) := dk_184 0 102 (dk_at dksX4_likely_0 12 rfl rfl)
theorem dX4_likely_15 : decode cX4_likely 15 = .ok (.ifCond .ne 7, 3) := dk_154 0 7 (dk_at dksX4_likely_0 15 rfl rfl)
theorem dX4_likely_18 : decode cX4_likely 18 = .ok (.ldc2_w 229, 3) := dk_20 0 229 (dk_at dksX4_likely_0 18 rfl rfl)
theorem dX4_likely_21 : decode cX4_likely 21 = .ok (.lreturn, 1) := dk_173 (dk_at dksX4_likely_0 21 rfl rfl)
theorem dX4_likely_22 : decode cX4_likely 22 = .ok (.aload_n 0, 1) := dk_42 (dk_at dksX4_likely_0 22 rfl rfl)
theorem dX4_likely_23 : decode cX4_likely 23 = .ok (.iload_n 1, 1) := dk_27 (dk_at dksX4_likely_0 23 rfl rfl)
theorem dX4_likely_24 : decode cX4_likely 24 = .ok (.bipush 10, 2) := dk_16 10 (dk_at dksX4_likely_1 0 rfl rfl)
theorem dX4_likely_26 : decode cX4_likely 26 = .ok (.idiv, 1) := dk_108 (dk_at dksX4_likely_1 2 rfl rfl)
theorem dX4_likely_27 : decode cX4_likely 27 = .ok (.invokevirtual 231, 3) := dk_182 0 231 (dk_at dksX4_likely_1 3 rfl rfl)
theorem dX4_likely_30 : decode cX4_likely 30 = .ok (.aload_n 0, 1) := dk_42 (dk_at dksX4_likely_1 6 rfl rfl)
theorem dX4_likely_31 : decode cX4_likely 31 = .ok (.getfield 53, 3) := dk_180 0 53 (dk_at dksX4_likely_1 7 rfl rfl)
theorem dX4_likely_34 : decode cX4_likely 34 = .ok (.iload_n 1, 1) := dk_27 (dk_at dksX4_likely_1 10 rfl rfl)
theorem dX4_likely_35 : decode cX4_likely 35 = .ok (.bipush 10, 2) := dk_16 10 (dk_at dksX4_likely_1 11 rfl rfl)
theorem dX4_likely_37 : decode cX4_likely 37 = .ok (.irem, 1) := dk_112 (dk_at dksX4_likely_1 13 rfl rfl)
theorem dX4_likely_38 : decode cX4_likely 38 = .ok (.laload, 1) := dk_47 (dk_at dksX4_likely_1 14 rfl rfl)
theorem dX4_likely_39 : decode cX4_likely 39 = .ok (.lstore_n 3, 1) := dk_66 (dk_at dksX4_likely_1 15 rfl rfl)
theorem dX4_likely_40 : decode cX4_likely 40 = .ok (.lload_n 3, 1) := dk_33 (dk_at dksX4_likely_1 16 rfl rfl)
theorem dX4_likely_41 : decode cX4_likely 41 = .ok (.lconst 0, 1) := dk_9 (dk_at dksX4_likely_1 17 rfl rfl)
theorem dX4_likely_42 : decode cX4_likely 42 = .ok (.lcmp, 1) := dk_148 (dk_at dksX4_likely_1 18 rfl rfl)
theorem dX4_likely_43 : decode cX4_likely 43 = .ok (.ifCond .ne 6, 3) := dk_154 0 6 (dk_at dksX4_likely_1 19 rfl rfl)
theorem dX4_likely_46 : decode cX4_likely 46 = .ok (.iload_n 2, 1) := dk_28 (dk_at dksX4_likely_1 22 rfl rfl)
theorem dX4_likely_47 : decode cX4_likely 47 = .ok (.i2l, 1) := dk_133 (dk_at dksX4_likely_1 23 rfl rfl)
theorem dX4_likely_48 : decode cX4_likely 48 = .ok (.lreturn, 1) := dk_173 (dk_at dksX4_likely_2 0 rfl rfl)
theorem dX4_likely_49 : decode cX4_likely 49 = .ok (.lload_n 3, 1) := dk_33 (dk_at dksX4_likely_2 1 rfl rfl)
theorem dX4_likely_50 : decode cX4_likely 50 = .ok (.aload_n 0, 1) := dk_42 (dk_at dksX4_likely_2 2 rfl rfl)
theorem dX4_likely_51 : decode cX4_likely 51 = .ok (.getfield 211, 3) := dk_180 0 211 (dk_at dksX4_likely_2 3 rfl rfl)
theorem dX4_likely_54 : decode cX4_likely 54 = .ok (.invokestatic 234, 3) := dk_184 0 234 (dk_at dksX4_likely_2 6 rfl rfl)
theorem dX4_likely_57 : decode cX4_likely 57 = .ok (.lstore 5, 2) := dk_55 5 (dk_at dksX4_likely_2 9 rfl rfl)
theorem dX4_likely_59 : decode cX4_likely 59 = .ok (.iload_n 2, 1) := dk_28 (dk_at dksX4_likely_2 11 rfl rfl)
theorem dX4_likely_60 : decode cX4_likely 60 = .ok (.ifCond .ne 10, 3) := dk_154 0 10 (dk_at dksX4_likely_2 12 rfl rfl)
theorem dX4_likely_63 : decode cX4_likely 63 = .ok (.lload_n 3, 1) := dk_33 (dk_at dksX4_likely_2 15 rfl rfl)
theorem dX4_likely_64 : decode cX4_likely 64 = .ok (.lload 5, 2) := dk_22 5 (dk_at dksX4_likely_2 16 rfl rfl)
theorem dX4_likely_66 : decode cX4_likely 66 = .ok (.ldiv, 1) := dk_109 (dk_at dksX4_likely_2 18 rfl rfl)
theorem dX4_likely_67 : decode cX4_likely 67 = .ok (.goto 10, 3) := dk_167 0 10 (dk_at dksX4_likely_2 19 rfl rfl)
theorem dX4_likely_70 : decode cX4_likely 70 = .ok (.aload_n 0, 1) := dk_42 (dk_at dksX4_likely_2 22 rfl rfl)
theorem dX4_likely_71 : decode cX4_likely 71 = .ok (.getfield 211, 3) := dk_180 0 211 (dk_at dksX4_likely_3 0 rfl rfl)
theorem dX4_likely_74 : decode cX4_likely 74 = .ok (.lload 5, 2) := dk_22 5 (dk_at dksX4_likely_3 3 rfl rfl)
theorem dX4_likely_76 : decode cX4_likely 76 = .ok (.ldiv, 1) := dk_109 (dk_at dksX4_likely_3 5 rfl rfl)
theorem dX4_likely_77 : decode cX4_likely 77 = .ok (.lreturn, 1) := dk_173 (dk_at dksX4_likely_3 6 rfl rfl)
abbrev cX4_isPk : ByteArray := prog_34_method_36_code
def yX4_isPk : MethodName := ⟨RX4, "isPk", "(I)Z"⟩
def dkwX4_isPk_1 : List UInt8 := [153, 0, 7, 4, 167, 0, 4, 3, 172]
abbrev dktX4_isPk_1 : List UInt8 := dkwX4_isPk_1 ++ []
def dkwX4_isPk_0 : List UInt8 := [27, 155, 0, 28, 42, 27, 16, 10, 108, 182, 0, 132, 153, 0, 17, 27, 16, 10, 112, 184, 0, 122]
abbrev dktX4_isPk_0 : List UInt8 := dkwX4_isPk_0 ++ dktX4_isPk_1
theorem dksX4_isPk_0 : cX4_isPk.data.toList.drop 0 = dktX4_isPk_0 := by decide +kernel
theorem dksX4_isPk_1 : cX4_isPk.data.toList.drop 22 = dktX4_isPk_1 := dk_seg dksX4_isPk_0 22 rfl rfl
theorem dX4_isPk_0 : decode cX4_isPk 0 = .ok (.iload_n 1, 1) := dk_27 (dk_at dksX4_isPk_0 0 rfl rfl)
theorem dX4_isPk_1 : decode cX4_isPk 1 = .ok (.ifCond .lt 28, 3) := dk_155 0 28 (dk_at dksX4_isPk_0 1 rfl rfl)
theorem dX4_isPk_4 : decode cX4_isPk 4 = .ok (.aload_n 0, 1) := dk_42 (dk_at dksX4_isPk_0 4 rfl rfl)
theorem dX4_isPk_5 : decode cX4_isPk 5 = .ok (.iload_n 1, 1) := dk_27 (dk_at dksX4_isPk_0 5 rfl rfl)
theorem dX4_isPk_6 : decode cX4_isPk 6 = .ok (.bipush 10, 2) := dk_16 10 (dk_at dksX4_isPk_0 6 rfl rfl)
theorem dX4_isPk_8 : decode cX4_isPk 8 = .ok (.idiv, 1) := dk_108 (dk_at dksX4_isPk_0 8 rfl rfl)
theorem dX4_isPk_9 : decode cX4_isPk 9 = .ok (.invokevirtual 132, 3) := dk_182 0 132 (dk_at dksX4_isPk_0 9 rfl rfl)
theorem dX4_isPk_12 : decode cX4_isPk 12 = .ok (.ifCond .eq 17, 3) := dk_153 0 17 (dk_at dksX4_isPk_0 12 rfl rfl)
theorem dX4_isPk_15 : decode cX4_isPk 15 = .ok (.iload_n 1, 1) := dk_27 (dk_at dksX4_isPk_0 15 rfl rfl)
theorem dX4_isPk_16 : decode cX4_isPk 16 = .ok (.bipush 10, 2) := dk_16 10 (dk_at dksX4_isPk_0 16 rfl rfl)
theorem dX4_isPk_18 : decode cX4_isPk 18 = .ok (.irem, 1) := dk_112 (dk_at dksX4_isPk_0 18 rfl rfl)
theorem dX4_isPk_19 : decode cX4_isPk 19 = .ok (.invokestatic 122, 3) := dk_184 0 122 (dk_at dksX4_isPk_0 19 rfl rfl)
theorem dX4_isPk_22 : decode cX4_isPk 22 = .ok (.ifCond .eq 7, 3) := dk_153 0 7 (dk_at dksX4_isPk_1 0 rfl rfl)
theorem dX4_isPk_25 : decode cX4_isPk 25 = .ok (.iconst 1, 1) := dk_4 (dk_at dksX4_isPk_1 3 rfl rfl)
theorem dX4_isPk_26 : decode cX4_isPk 26 = .ok (.goto 4, 3) := dk_167 0 4 (dk_at dksX4_isPk_1 4 rfl rfl)
theorem dX4_isPk_29 : decode cX4_isPk 29 = .ok (.iconst 0, 1) := dk_3 (dk_at dksX4_isPk_1 7 rfl rfl)
theorem dX4_isPk_30 : decode cX4_isPk 30 = .ok (.ireturn, 1) := dk_172 (dk_at dksX4_isPk_1 8 rfl rfl)
abbrev cX4_weighsPart : ByteArray := prog_34_method_33_code
def yX4_weighsPart : MethodName := ⟨RX4, "weighsPart", "(I)V"⟩
def dkwX4_weighsPart_0 : List UInt8 := [42, 27, 182, 0, 217, 42, 182, 0, 221, 177]
abbrev dktX4_weighsPart_0 : List UInt8 := dkwX4_weighsPart_0 ++ []
theorem dksX4_weighsPart_0 : cX4_weighsPart.data.toList.drop 0 = dktX4_weighsPart_0 := by decide +kernel
theorem dX4_weighsPart_0 : decode cX4_weighsPart 0 = .ok (.aload_n 0, 1) := dk_42 (dk_at dksX4_weighsPart_0 0 rfl rfl)
theorem dX4_weighsPart_1 : decode cX4_weighsPart 1 = .ok (.iload_n 1, 1) := dk_27 (dk_at dksX4_weighsPart_0 1 rfl rfl)
theorem dX4_weighsPart_2 : decode cX4_weighsPart 2 = .ok (.invokevirtual 217, 3) := dk_182 0 217 (dk_at dksX4_weighsPart_0 2 rfl rfl)
theorem dX4_weighsPart_5 : decode cX4_weighsPart 5 = .ok (.aload_n 0, 1) := dk_42 (dk_at dksX4_weighsPart_0 5 rfl rfl)
theorem dX4_weighsPart_6 : decode cX4_weighsPart 6 = .ok (.invokevirtual 221, 3) := dk_182 0 221 (dk_at dksX4_weighsPart_0 6 rfl rfl)
theorem dX4_weighsPart_9 : decode cX4_weighsPart 9 = .ok (.return_, 1) := dk_177 (dk_at dksX4_weighsPart_0 9 rfl rfl)
abbrev cX4_looksAt : ByteArray := prog_34_method_31_code
def yX4_looksAt : MethodName := ⟨RX4, "looksAt", "(I)V"⟩
def dkwX4_looksAt_3 : List UInt8 := [167, 255, 189, 177]
abbrev dktX4_looksAt_3 : List UInt8 := dkwX4_looksAt_3 ++ []
def dkwX4_looksAt_2 : List UInt8 := [167, 255, 220, 42, 180, 0, 46, 28, 42, 180, 0, 28, 16, 6, 27, 104, 28, 96, 46, 79, 132, 2, 1]
abbrev dktX4_looksAt_2 : List UInt8 := dkwX4_looksAt_2 ++ dktX4_looksAt_3
def dkwX4_looksAt_1 : List UInt8 := [28, 104, 29, 96, 42, 27, 28, 29, 16, 30, 108, 29, 16, 30, 112, 182, 0, 207, 79, 132, 3, 1]
abbrev dktX4_looksAt_1 : List UInt8 := dkwX4_looksAt_1 ++ dktX4_looksAt_2
def dkwX4_looksAt_0 : List UInt8 := [3, 61, 28, 16, 6, 162, 0, 67, 3, 62, 29, 17, 0, 180, 162, 0, 35, 42, 180, 0, 43, 17, 0, 180]
abbrev dktX4_looksAt_0 : List UInt8 := dkwX4_looksAt_0 ++ dktX4_looksAt_1
theorem dksX4_looksAt_0 : cX4_looksAt.data.toList.drop 0 = dktX4_looksAt_0 := by decide +kernel
theorem dksX4_looksAt_1 : cX4_looksAt.data.toList.drop 24 = dktX4_looksAt_1 := dk_seg dksX4_looksAt_0 24 rfl rfl
theorem dksX4_looksAt_2 : cX4_looksAt.data.toList.drop 46 = dktX4_looksAt_2 := dk_seg dksX4_looksAt_1 22 rfl rfl
theorem dksX4_looksAt_3 : cX4_looksAt.data.toList.drop 69 = dktX4_looksAt_3 := dk_seg dksX4_looksAt_2 23 rfl rfl
theorem dX4_looksAt_0 : decode cX4_looksAt 0 = .ok (.iconst 0, 1) := dk_3 (dk_at dksX4_looksAt_0 0 rfl rfl)
theorem dX4_looksAt_1 : decode cX4_looksAt 1 = .ok (.istore_n 2, 1) := dk_61 (dk_at dksX4_looksAt_0 1 rfl rfl)
theorem dX4_looksAt_2 : decode cX4_looksAt 2 = .ok (.iload_n 2, 1) := dk_28 (dk_at dksX4_looksAt_0 2 rfl rfl)
theorem dX4_looksAt_3 : decode cX4_looksAt 3 = .ok (.bipush 6, 2) := dk_16 6 (dk_at dksX4_looksAt_0 3 rfl rfl)
theorem dX4_looksAt_5 : decode cX4_looksAt 5 = .ok (.if_icmp .ge 67, 3) := dk_162 0 67 (dk_at dksX4_looksAt_0 5 rfl rfl)
theorem dX4_looksAt_8 : decode cX4_looksAt 8 = .ok (.iconst 0, 1) := dk_3 (dk_at dksX4_looksAt_0 8 rfl rfl)
theorem dX4_looksAt_9 : decode cX4_looksAt 9 = .ok (.istore_n 3, 1) := dk_62 (dk_at dksX4_looksAt_0 9 rfl rfl)
theorem dX4_looksAt_10 : decode cX4_looksAt 10 = .ok (.iload_n 3, 1) := dk_29 (dk_at dksX4_looksAt_0 10 rfl rfl)
theorem dX4_looksAt_11 : decode cX4_looksAt 11 = .ok (.sipush 180, 3) := dk_17 0 180 (dk_at dksX4_looksAt_0 11 rfl rfl)
theorem dX4_looksAt_14 : decode cX4_looksAt 14 = .ok (.if_icmp .ge 35, 3) := dk_162 0 35 (dk_at dksX4_looksAt_0 14 rfl rfl)
theorem dX4_looksAt_17 : decode cX4_looksAt 17 = .ok (.aload_n 0, 1) := dk_42 (dk_at dksX4_looksAt_0 17 rfl rfl)
theorem dX4_looksAt_18 : decode cX4_looksAt 18 = .ok (.getfield 43, 3) := dk_180 0 43 (dk_at dksX4_looksAt_0 18 rfl rfl)
theorem dX4_looksAt_21 : decode cX4_looksAt 21 = .ok (.sipush 180, 3) := dk_17 0 180 (dk_at dksX4_looksAt_0 21 rfl rfl)
theorem dX4_looksAt_24 : decode cX4_looksAt 24 = .ok (.iload_n 2, 1) := dk_28 (dk_at dksX4_looksAt_1 0 rfl rfl)
theorem dX4_looksAt_25 : decode cX4_looksAt 25 = .ok (.imul, 1) := dk_104 (dk_at dksX4_looksAt_1 1 rfl rfl)
theorem dX4_looksAt_26 : decode cX4_looksAt 26 = .ok (.iload_n 3, 1) := dk_29 (dk_at dksX4_looksAt_1 2 rfl rfl)
theorem dX4_looksAt_27 : decode cX4_looksAt 27 = .ok (.iadd, 1) := dk_96 (dk_at dksX4_looksAt_1 3 rfl rfl)
theorem dX4_looksAt_28 : decode cX4_looksAt 28 = .ok (.aload_n 0, 1) := dk_42 (dk_at dksX4_looksAt_1 4 rfl rfl)
theorem dX4_looksAt_29 : decode cX4_looksAt 29 = .ok (.iload_n 1, 1) := dk_27 (dk_at dksX4_looksAt_1 5 rfl rfl)
theorem dX4_looksAt_30 : decode cX4_looksAt 30 = .ok (.iload_n 2, 1) := dk_28 (dk_at dksX4_looksAt_1 6 rfl rfl)
theorem dX4_looksAt_31 : decode cX4_looksAt 31 = .ok (.iload_n 3, 1) := dk_29 (dk_at dksX4_looksAt_1 7 rfl rfl)
theorem dX4_looksAt_32 : decode cX4_looksAt 32 = .ok (.bipush 30, 2) := dk_16 30 (dk_at dksX4_looksAt_1 8 rfl rfl)
theorem dX4_looksAt_34 : decode cX4_looksAt 34 = .ok (.idiv, 1) := dk_108 (dk_at dksX4_looksAt_1 10 rfl rfl)
theorem dX4_looksAt_35 : decode cX4_looksAt 35 = .ok (.iload_n 3, 1) := dk_29 (dk_at dksX4_looksAt_1 11 rfl rfl)
theorem dX4_looksAt_36 : decode cX4_looksAt 36 = .ok (.bipush 30, 2) := dk_16 30 (dk_at dksX4_looksAt_1 12 rfl rfl)
theorem dX4_looksAt_38 : decode cX4_looksAt 38 = .ok (.irem, 1) := dk_112 (dk_at dksX4_looksAt_1 14 rfl rfl)
theorem dX4_looksAt_39 : decode cX4_looksAt 39 = .ok (.invokevirtual 207, 3) := dk_182 0 207 (dk_at dksX4_looksAt_1 15 rfl rfl)
theorem dX4_looksAt_42 : decode cX4_looksAt 42 = .ok (.iastore, 1) := dk_79 (dk_at dksX4_looksAt_1 18 rfl rfl)
theorem dX4_looksAt_43 : decode cX4_looksAt 43 = .ok (.iinc 3 1, 3) := dk_132 3 1 (dk_at dksX4_looksAt_1 19 rfl rfl)
theorem dX4_looksAt_46 : decode cX4_looksAt 46 = .ok (.goto (-36), 3) := dk_167 255 220 (dk_at dksX4_looksAt_2 0 rfl rfl)
theorem dX4_looksAt_49 : decode cX4_looksAt 49 = .ok (.aload_n 0, 1) := dk_42 (dk_at dksX4_looksAt_2 3 rfl rfl)
theorem dX4_looksAt_50 : decode cX4_looksAt 50 = .ok (.getfield 46, 3) := dk_180 0 46 (dk_at dksX4_looksAt_2 4 rfl rfl)
theorem dX4_looksAt_53 : decode cX4_looksAt 53 = .ok (.iload_n 2, 1) := dk_28 (dk_at dksX4_looksAt_2 7 rfl rfl)
theorem dX4_looksAt_54 : decode cX4_looksAt 54 = .ok (.aload_n 0, 1) := dk_42 (dk_at dksX4_looksAt_2 8 rfl rfl)
theorem dX4_looksAt_55 : decode cX4_looksAt 55 = .ok (.getfield 28, 3) := dk_180 0 28 (dk_at dksX4_looksAt_2 9 rfl rfl)
theorem dX4_looksAt_58 : decode cX4_looksAt 58 = .ok (.bipush 6, 2) := dk_16 6 (dk_at dksX4_looksAt_2 12 rfl rfl)
theorem dX4_looksAt_60 : decode cX4_looksAt 60 = .ok (.iload_n 1, 1) := dk_27 (dk_at dksX4_looksAt_2 14 rfl rfl)
theorem dX4_looksAt_61 : decode cX4_looksAt 61 = .ok (.imul, 1) := dk_104 (dk_at dksX4_looksAt_2 15 rfl rfl)
theorem dX4_looksAt_62 : decode cX4_looksAt 62 = .ok (.iload_n 2, 1) := dk_28 (dk_at dksX4_looksAt_2 16 rfl rfl)
theorem dX4_looksAt_63 : decode cX4_looksAt 63 = .ok (.iadd, 1) := dk_96 (dk_at dksX4_looksAt_2 17 rfl rfl)
theorem dX4_looksAt_64 : decode cX4_looksAt 64 = .ok (.iaload, 1) := dk_46 (dk_at dksX4_looksAt_2 18 rfl rfl)
theorem dX4_looksAt_65 : decode cX4_looksAt 65 = .ok (.iastore, 1) := dk_79 (dk_at dksX4_looksAt_2 19 rfl rfl)
theorem dX4_looksAt_66 : decode cX4_looksAt 66 = .ok (.iinc 2 1, 3) := dk_132 2 1 (dk_at dksX4_looksAt_2 20 rfl rfl)
theorem dX4_looksAt_69 : decode cX4_looksAt 69 = .ok (.goto (-67), 3) := dk_167 255 189 (dk_at dksX4_looksAt_3 0 rfl rfl)
theorem dX4_looksAt_72 : decode cX4_looksAt 72 = .ok (.return_, 1) := dk_177 (dk_at dksX4_looksAt_3 3 rfl rfl)
abbrev cX4_weighs : ByteArray := prog_34_method_32_code
def yX4_weighs : MethodName := ⟨RX4, "weighs", "()V"⟩
def dkwX4_weighs_6 : List UInt8 := [180, 0, 211, 32, 97, 181, 0, 211, 132, 1, 1, 167, 255, 133, 177]
abbrev dktX4_weighs_6 : List UInt8 := dkwX4_weighs_6 ++ []
def dkwX4_weighs_5 : List UInt8 := [42, 180, 0, 49, 27, 32, 80, 42, 180, 0, 53, 27, 16, 30, 108, 92, 47, 32, 97, 80, 42, 89]
abbrev dktX4_weighs_5 : List UInt8 := dkwX4_weighs_5 ++ dktX4_weighs_6
def dkwX4_weighs_4 : List UInt8 := [160, 0, 9, 21, 5, 133, 167, 0, 10, 20, 0, 215, 21, 5, 133, 101, 105, 65, 132, 4, 1, 167, 255, 190]
abbrev dktX4_weighs_4 : List UInt8 := dkwX4_weighs_4 ++ dktX4_weighs_5
def dkwX4_weighs_3 : List UInt8 := [32, 42, 180, 0, 46, 21, 4, 46, 154, 0, 7, 10, 167, 0, 27, 42, 180, 0, 46, 21, 4, 46, 4]
abbrev dktX4_weighs_3 : List UInt8 := dkwX4_weighs_3 ++ dktX4_weighs_4
def dkwX4_weighs_2 : List UInt8 := [54, 4, 21, 4, 16, 6, 162, 0, 65, 42, 180, 0, 43, 17, 0, 180, 21, 4, 104, 27, 96, 46, 54, 5]
abbrev dktX4_weighs_2 : List UInt8 := dkwX4_weighs_2 ++ dktX4_weighs_3
def dkwX4_weighs_1 : List UInt8 := [167, 255, 240, 3, 60, 27, 17, 0, 180, 162, 0, 122, 42, 180, 0, 9, 27, 16, 30, 108, 46, 133, 65, 3]
abbrev dktX4_weighs_1 : List UInt8 := dkwX4_weighs_1 ++ dktX4_weighs_2
def dkwX4_weighs_0 : List UInt8 := [42, 9, 181, 0, 211, 3, 60, 27, 16, 6, 162, 0, 16, 42, 180, 0, 53, 27, 9, 80, 132, 1, 1]
abbrev dktX4_weighs_0 : List UInt8 := dkwX4_weighs_0 ++ dktX4_weighs_1
theorem dksX4_weighs_0 : cX4_weighs.data.toList.drop 0 = dktX4_weighs_0 := by decide +kernel
theorem dksX4_weighs_1 : cX4_weighs.data.toList.drop 23 = dktX4_weighs_1 := dk_seg dksX4_weighs_0 23 rfl rfl
theorem dksX4_weighs_2 : cX4_weighs.data.toList.drop 47 = dktX4_weighs_2 := dk_seg dksX4_weighs_1 24 rfl rfl
theorem dksX4_weighs_3 : cX4_weighs.data.toList.drop 71 = dktX4_weighs_3 := dk_seg dksX4_weighs_2 24 rfl rfl
theorem dksX4_weighs_4 : cX4_weighs.data.toList.drop 94 = dktX4_weighs_4 := dk_seg dksX4_weighs_3 23 rfl rfl
theorem dksX4_weighs_5 : cX4_weighs.data.toList.drop 118 = dktX4_weighs_5 := dk_seg dksX4_weighs_4 24 rfl rfl
theorem dksX4_weighs_6 : cX4_weighs.data.toList.drop 140 = dktX4_weighs_6 := dk_seg dksX4_weighs_5 22 rfl rfl
theorem dX4_weighs_0 : decode cX4_weighs 0 = .ok (.aload_n 0, 1) := dk_42 (dk_at dksX4_weighs_0 0 rfl rfl)
theorem dX4_weighs_1 : decode cX4_weighs 1 = .ok (.lconst 0, 1) := dk_9 (dk_at dksX4_weighs_0 1 rfl rfl)
theorem dX4_weighs_2 : decode cX4_weighs 2 = .ok (.putfield 211, 3) := dk_181 0 211 (dk_at dksX4_weighs_0 2 rfl rfl)
theorem dX4_weighs_5 : decode cX4_weighs 5 = .ok (.iconst 0, 1) := dk_3 (dk_at dksX4_weighs_0 5 rfl rfl)
theorem dX4_weighs_6 : decode cX4_weighs 6 = .ok (.istore_n 1, 1) := dk_60 (dk_at dksX4_weighs_0 6 rfl rfl)
theorem dX4_weighs_7 : decode cX4_weighs 7 = .ok (.iload_n 1, 1) := dk_27 (dk_at dksX4_weighs_0 7 rfl rfl)
theorem dX4_weighs_8 : decode cX4_weighs 8 = .ok (.bipush 6, 2) := dk_16 6 (dk_at dksX4_weighs_0 8 rfl rfl)
theorem dX4_weighs_10 : decode cX4_weighs 10 = .ok (.if_icmp .ge 16, 3) := dk_162 0 16 (dk_at dksX4_weighs_0 10 rfl rfl)
theorem dX4_weighs_13 : decode cX4_weighs 13 = .ok (.aload_n 0, 1) := dk_42 (dk_at dksX4_weighs_0 13 rfl rfl)
theorem dX4_weighs_14 : decode cX4_weighs 14 = .ok (.getfield 53, 3) := dk_180 0 53 (dk_at dksX4_weighs_0 14 rfl rfl)
theorem dX4_weighs_17 : decode cX4_weighs 17 = .ok (.iload_n 1, 1) := dk_27 (dk_at dksX4_weighs_0 17 rfl rfl)
theorem dX4_weighs_18 : decode cX4_weighs 18 = .ok (.lconst 0, 1) := dk_9 (dk_at dksX4_weighs_0 18 rfl rfl)
theorem dX4_weighs_19 : decode cX4_weighs 19 = .ok (.lastore, 1) := dk_80 (dk_at dksX4_weighs_0 19 rfl rfl)
theorem dX4_weighs_20 : decode cX4_weighs 20 = .ok (.iinc 1 1, 3) := dk_132 1 1 (dk_at dksX4_weighs_0 20 rfl rfl)
theorem dX4_weighs_23 : decode cX4_weighs 23 = .ok (.goto (-16), 3) := dk_167 255 240 (dk_at dksX4_weighs_1 0 rfl rfl)
theorem dX4_weighs_26 : decode cX4_weighs 26 = .ok (.iconst 0, 1) := dk_3 (dk_at dksX4_weighs_1 3 rfl rfl)
theorem dX4_weighs_27 : decode cX4_weighs 27 = .ok (.istore_n 1, 1) := dk_60 (dk_at dksX4_weighs_1 4 rfl rfl)
theorem dX4_weighs_28 : decode cX4_weighs 28 = .ok (.iload_n 1, 1) := dk_27 (dk_at dksX4_weighs_1 5 rfl rfl)
theorem dX4_weighs_29 : decode cX4_weighs 29 = .ok (.sipush 180, 3) := dk_17 0 180 (dk_at dksX4_weighs_1 6 rfl rfl)
theorem dX4_weighs_32 : decode cX4_weighs 32 = .ok (.if_icmp .ge 122, 3) := dk_162 0 122 (dk_at dksX4_weighs_1 9 rfl rfl)
theorem dX4_weighs_35 : decode cX4_weighs 35 = .ok (.aload_n 0, 1) := dk_42 (dk_at dksX4_weighs_1 12 rfl rfl)
theorem dX4_weighs_36 : decode cX4_weighs 36 = .ok (.getfield 9, 3) := dk_180 0 9 (dk_at dksX4_weighs_1 13 rfl rfl)
theorem dX4_weighs_39 : decode cX4_weighs 39 = .ok (.iload_n 1, 1) := dk_27 (dk_at dksX4_weighs_1 16 rfl rfl)
theorem dX4_weighs_40 : decode cX4_weighs 40 = .ok (.bipush 30, 2) := dk_16 30 (dk_at dksX4_weighs_1 17 rfl rfl)
theorem dX4_weighs_42 : decode cX4_weighs 42 = .ok (.idiv, 1) := dk_108 (dk_at dksX4_weighs_1 19 rfl rfl)
theorem dX4_weighs_43 : decode cX4_weighs 43 = .ok (.iaload, 1) := dk_46 (dk_at dksX4_weighs_1 20 rfl rfl)
theorem dX4_weighs_44 : decode cX4_weighs 44 = .ok (.i2l, 1) := dk_133 (dk_at dksX4_weighs_1 21 rfl rfl)
theorem dX4_weighs_45 : decode cX4_weighs 45 = .ok (.lstore_n 2, 1) := dk_65 (dk_at dksX4_weighs_1 22 rfl rfl)
theorem dX4_weighs_46 : decode cX4_weighs 46 = .ok (.iconst 0, 1) := dk_3 (dk_at dksX4_weighs_1 23 rfl rfl)
theorem dX4_weighs_47 : decode cX4_weighs 47 = .ok (.istore 4, 2) := dk_54 4 (dk_at dksX4_weighs_2 0 rfl rfl)
theorem dX4_weighs_49 : decode cX4_weighs 49 = .ok (.iload 4, 2) := dk_21 4 (dk_at dksX4_weighs_2 2 rfl rfl)
theorem dX4_weighs_51 : decode cX4_weighs 51 = .ok (.bipush 6, 2) := dk_16 6 (dk_at dksX4_weighs_2 4 rfl rfl)
theorem dX4_weighs_53 : decode cX4_weighs 53 = .ok (.if_icmp .ge 65, 3) := dk_162 0 65 (dk_at dksX4_weighs_2 6 rfl rfl)
theorem dX4_weighs_56 : decode cX4_weighs 56 = .ok (.aload_n 0, 1) := dk_42 (dk_at dksX4_weighs_2 9 rfl rfl)
theorem dX4_weighs_57 : decode cX4_weighs 57 = .ok (.getfield 43, 3) := dk_180 0 43 (dk_at dksX4_weighs_2 10 rfl rfl)
theorem dX4_weighs_60 : decode cX4_weighs 60 = .ok (.sipush 180, 3) := dk_17 0 180 (dk_at dksX4_weighs_2 13 rfl rfl)
theorem dX4_weighs_63 : decode cX4_weighs 63 = .ok (.iload 4, 2) := dk_21 4 (dk_at dksX4_weighs_2 16 rfl rfl)
theorem dX4_weighs_65 : decode cX4_weighs 65 = .ok (.imul, 1) := dk_104 (dk_at dksX4_weighs_2 18 rfl rfl)
theorem dX4_weighs_66 : decode cX4_weighs 66 = .ok (.iload_n 1, 1) := dk_27 (dk_at dksX4_weighs_2 19 rfl rfl)
theorem dX4_weighs_67 : decode cX4_weighs 67 = .ok (.iadd, 1) := dk_96 (dk_at dksX4_weighs_2 20 rfl rfl)
theorem dX4_weighs_68 : decode cX4_weighs 68 = .ok (.iaload, 1) := dk_46 (dk_at dksX4_weighs_2 21 rfl rfl)
theorem dX4_weighs_69 : decode cX4_weighs 69 = .ok (.istore 5, 2) := dk_54 5 (dk_at dksX4_weighs_2 22 rfl rfl)
theorem dX4_weighs_71 : decode cX4_weighs 71 = .ok (.lload_n 2, 1) := dk_32 (dk_at dksX4_weighs_3 0 rfl rfl)
theorem dX4_weighs_72 : decode cX4_weighs 72 = .ok (.aload_n 0, 1) := dk_42 (dk_at dksX4_weighs_3 1 rfl rfl)
theorem dX4_weighs_73 : decode cX4_weighs 73 = .ok (.getfield 46, 3) := dk_180 0 46 (dk_at dksX4_weighs_3 2 rfl rfl)
theorem dX4_weighs_76 : decode cX4_weighs 76 = .ok (.iload 4, 2) := dk_21 4 (dk_at dksX4_weighs_3 5 rfl rfl)
theorem dX4_weighs_78 : decode cX4_weighs 78 = .ok (.iaload, 1) := dk_46 (dk_at dksX4_weighs_3 7 rfl rfl)
theorem dX4_weighs_79 : decode cX4_weighs 79 = .ok (.ifCond .ne 7, 3) := dk_154 0 7 (dk_at dksX4_weighs_3 8 rfl rfl)
theorem dX4_weighs_82 : decode cX4_weighs 82 = .ok (.lconst 1, 1) := dk_10 (dk_at dksX4_weighs_3 11 rfl rfl)
theorem dX4_weighs_83 : decode cX4_weighs 83 = .ok (.goto 27, 3) := dk_167 0 27 (dk_at dksX4_weighs_3 12 rfl rfl)
theorem dX4_weighs_86 : decode cX4_weighs 86 = .ok (.aload_n 0, 1) := dk_42 (dk_at dksX4_weighs_3 15 rfl rfl)
theorem dX4_weighs_87 : decode cX4_weighs 87 = .ok (.getfield 46, 3) := dk_180 0 46 (dk_at dksX4_weighs_3 16 rfl rfl)
theorem dX4_weighs_90 : decode cX4_weighs 90 = .ok (.iload 4, 2) := dk_21 4 (dk_at dksX4_weighs_3 19 rfl rfl)
theorem dX4_weighs_92 : decode cX4_weighs 92 = .ok (.iaload, 1) := dk_46 (dk_at dksX4_weighs_3 21 rfl rfl)
theorem dX4_weighs_93 : decode cX4_weighs 93 = .ok (.iconst 1, 1) := dk_4 (dk_at dksX4_weighs_3 22 rfl rfl)
theorem dX4_weighs_94 : decode cX4_weighs 94 = .ok (.if_icmp .ne 9, 3) := dk_160 0 9 (dk_at dksX4_weighs_4 0 rfl rfl)
theorem dX4_weighs_97 : decode cX4_weighs 97 = .ok (.iload 5, 2) := dk_21 5 (dk_at dksX4_weighs_4 3 rfl rfl)
theorem dX4_weighs_99 : decode cX4_weighs 99 = .ok (.i2l, 1) := dk_133 (dk_at dksX4_weighs_4 5 rfl rfl)
theorem dX4_weighs_100 : decode cX4_weighs 100 = .ok (.goto 10, 3) := dk_167 0 10 (dk_at dksX4_weighs_4 6 rfl rfl)
theorem dX4_weighs_103 : decode cX4_weighs 103 = .ok (.ldc2_w 215, 3) := dk_20 0 215 (dk_at dksX4_weighs_4 9 rfl rfl)
theorem dX4_weighs_106 : decode cX4_weighs 106 = .ok (.iload 5, 2) := dk_21 5 (dk_at dksX4_weighs_4 12 rfl rfl)
theorem dX4_weighs_108 : decode cX4_weighs 108 = .ok (.i2l, 1) := dk_133 (dk_at dksX4_weighs_4 14 rfl rfl)
theorem dX4_weighs_109 : decode cX4_weighs 109 = .ok (.lsub, 1) := dk_101 (dk_at dksX4_weighs_4 15 rfl rfl)
theorem dX4_weighs_110 : decode cX4_weighs 110 = .ok (.lmul, 1) := dk_105 (dk_at dksX4_weighs_4 16 rfl rfl)
theorem dX4_weighs_111 : decode cX4_weighs 111 = .ok (.lstore_n 2, 1) := dk_65 (dk_at dksX4_weighs_4 17 rfl rfl)
theorem dX4_weighs_112 : decode cX4_weighs 112 = .ok (.iinc 4 1, 3) := dk_132 4 1 (dk_at dksX4_weighs_4 18 rfl rfl)
theorem dX4_weighs_115 : decode cX4_weighs 115 = .ok (.goto (-66), 3) := dk_167 255 190 (dk_at dksX4_weighs_4 21 rfl rfl)
theorem dX4_weighs_118 : decode cX4_weighs 118 = .ok (.aload_n 0, 1) := dk_42 (dk_at dksX4_weighs_5 0 rfl rfl)
theorem dX4_weighs_119 : decode cX4_weighs 119 = .ok (.getfield 49, 3) := dk_180 0 49 (dk_at dksX4_weighs_5 1 rfl rfl)
theorem dX4_weighs_122 : decode cX4_weighs 122 = .ok (.iload_n 1, 1) := dk_27 (dk_at dksX4_weighs_5 4 rfl rfl)
theorem dX4_weighs_123 : decode cX4_weighs 123 = .ok (.lload_n 2, 1) := dk_32 (dk_at dksX4_weighs_5 5 rfl rfl)
theorem dX4_weighs_124 : decode cX4_weighs 124 = .ok (.lastore, 1) := dk_80 (dk_at dksX4_weighs_5 6 rfl rfl)
theorem dX4_weighs_125 : decode cX4_weighs 125 = .ok (.aload_n 0, 1) := dk_42 (dk_at dksX4_weighs_5 7 rfl rfl)
theorem dX4_weighs_126 : decode cX4_weighs 126 = .ok (.getfield 53, 3) := dk_180 0 53 (dk_at dksX4_weighs_5 8 rfl rfl)
theorem dX4_weighs_129 : decode cX4_weighs 129 = .ok (.iload_n 1, 1) := dk_27 (dk_at dksX4_weighs_5 11 rfl rfl)
theorem dX4_weighs_130 : decode cX4_weighs 130 = .ok (.bipush 30, 2) := dk_16 30 (dk_at dksX4_weighs_5 12 rfl rfl)
theorem dX4_weighs_132 : decode cX4_weighs 132 = .ok (.idiv, 1) := dk_108 (dk_at dksX4_weighs_5 14 rfl rfl)
theorem dX4_weighs_133 : decode cX4_weighs 133 = .ok (.dup2, 1) := dk_92 (dk_at dksX4_weighs_5 15 rfl rfl)
theorem dX4_weighs_134 : decode cX4_weighs 134 = .ok (.laload, 1) := dk_47 (dk_at dksX4_weighs_5 16 rfl rfl)
theorem dX4_weighs_135 : decode cX4_weighs 135 = .ok (.lload_n 2, 1) := dk_32 (dk_at dksX4_weighs_5 17 rfl rfl)
theorem dX4_weighs_136 : decode cX4_weighs 136 = .ok (.ladd, 1) := dk_97 (dk_at dksX4_weighs_5 18 rfl rfl)
theorem dX4_weighs_137 : decode cX4_weighs 137 = .ok (.lastore, 1) := dk_80 (dk_at dksX4_weighs_5 19 rfl rfl)
theorem dX4_weighs_138 : decode cX4_weighs 138 = .ok (.aload_n 0, 1) := dk_42 (dk_at dksX4_weighs_5 20 rfl rfl)
theorem dX4_weighs_139 : decode cX4_weighs 139 = .ok (.dup, 1) := dk_89 (dk_at dksX4_weighs_5 21 rfl rfl)
theorem dX4_weighs_140 : decode cX4_weighs 140 = .ok (.getfield 211, 3) := dk_180 0 211 (dk_at dksX4_weighs_6 0 rfl rfl)
theorem dX4_weighs_143 : decode cX4_weighs 143 = .ok (.lload_n 2, 1) := dk_32 (dk_at dksX4_weighs_6 3 rfl rfl)
theorem dX4_weighs_144 : decode cX4_weighs 144 = .ok (.ladd, 1) := dk_97 (dk_at dksX4_weighs_6 4 rfl rfl)
theorem dX4_weighs_145 : decode cX4_weighs 145 = .ok (.putfield 211, 3) := dk_181 0 211 (dk_at dksX4_weighs_6 5 rfl rfl)
theorem dX4_weighs_148 : decode cX4_weighs 148 = .ok (.iinc 1 1, 3) := dk_132 1 1 (dk_at dksX4_weighs_6 8 rfl rfl)
theorem dX4_weighs_151 : decode cX4_weighs 151 = .ok (.goto (-123), 3) := dk_167 255 133 (dk_at dksX4_weighs_6 11 rfl rfl)
theorem dX4_weighs_154 : decode cX4_weighs 154 = .ok (.return_, 1) := dk_177 (dk_at dksX4_weighs_6 14 rfl rfl)
abbrev cX4_common : ByteArray := prog_34_method_37_code
def yX4_common : MethodName := ⟨RX4, "common", "(JJ)J"⟩
def dkwX4_common_1 : List UInt8 := [22, 8, 55, 6, 167, 255, 234, 22, 4, 173]
abbrev dktX4_common_1 : List UInt8 := dkwX4_common_1 ++ []
def dkwX4_common_0 : List UInt8 := [30, 55, 4, 32, 55, 6, 22, 6, 9, 148, 153, 0, 21, 22, 4, 22, 6, 113, 55, 8, 22, 6, 55, 4]
abbrev dktX4_common_0 : List UInt8 := dkwX4_common_0 ++ dktX4_common_1
theorem dksX4_common_0 : cX4_common.data.toList.drop 0 = dktX4_common_0 := by decide +kernel
theorem dksX4_common_1 : cX4_common.data.toList.drop 24 = dktX4_common_1 := dk_seg dksX4_common_0 24 rfl rfl
theorem dX4_common_0 : decode cX4_common 0 = .ok (.lload_n 0, 1) := dk_30 (dk_at dksX4_common_0 0 rfl rfl)
theorem dX4_common_1 : decode cX4_common 1 = .ok (.lstore 4, 2) := dk_55 4 (dk_at dksX4_common_0 1 rfl rfl)
theorem dX4_common_3 : decode cX4_common 3 = .ok (.lload_n 2, 1) := dk_32 (dk_at dksX4_common_0 3 rfl rfl)
theorem dX4_common_4 : decode cX4_common 4 = .ok (.lstore 6, 2) := dk_55 6 (dk_at dksX4_common_0 4 rfl rfl)
theorem dX4_common_6 : decode cX4_common 6 = .ok (.lload 6, 2) := dk_22 6 (dk_at dksX4_common_0 6 rfl rfl)
theorem dX4_common_8 : decode cX4_common 8 = .ok (.lconst 0, 1) := dk_9 (dk_at dksX4_common_0 8 rfl rfl)
theorem dX4_common_9 : decode cX4_common 9 = .ok (.lcmp, 1) := dk_148 (dk_at dksX4_common_0 9 rfl rfl)
theorem dX4_common_10 : decode cX4_common 10 = .ok (.ifCond .eq 21, 3) := dk_153 0 21 (dk_at dksX4_common_0 10 rfl rfl)
theorem dX4_common_13 : decode cX4_common 13 = .ok (.lload 4, 2) := dk_22 4 (dk_at dksX4_common_0 13 rfl rfl)
theorem dX4_common_15 : decode cX4_common 15 = .ok (.lload 6, 2) := dk_22 6 (dk_at dksX4_common_0 15 rfl rfl)
theorem dX4_common_17 : decode cX4_common 17 = .ok (.lrem, 1) := dk_113 (dk_at dksX4_common_0 17 rfl rfl)
theorem dX4_common_18 : decode cX4_common 18 = .ok (.lstore 8, 2) := dk_55 8 (dk_at dksX4_common_0 18 rfl rfl)
theorem dX4_common_20 : decode cX4_common 20 = .ok (.lload 6, 2) := dk_22 6 (dk_at dksX4_common_0 20 rfl rfl)
theorem dX4_common_22 : decode cX4_common 22 = .ok (.lstore 4, 2) := dk_55 4 (dk_at dksX4_common_0 22 rfl rfl)
theorem dX4_common_24 : decode cX4_common 24 = .ok (.lload 8, 2) := dk_22 8 (dk_at dksX4_common_1 0 rfl rfl)
theorem dX4_common_26 : decode cX4_common 26 = .ok (.lstore 6, 2) := dk_55 6 (dk_at dksX4_common_1 2 rfl rfl)
theorem dX4_common_28 : decode cX4_common 28 = .ok (.goto (-22), 3) := dk_167 255 234 (dk_at dksX4_common_1 4 rfl rfl)
theorem dX4_common_31 : decode cX4_common 31 = .ok (.lload 4, 2) := dk_22 4 (dk_at dksX4_common_1 7 rfl rfl)
theorem dX4_common_33 : decode cX4_common 33 = .ok (.lreturn, 1) := dk_173 (dk_at dksX4_common_1 9 rfl rfl)
abbrev cX4_percent : ByteArray := prog_34_method_39_code
def yX4_percent : MethodName := ⟨RX4, "percent", "(I)I"⟩
def dkwX4_percent_1 : List UInt8 := [182, 0, 238, 172]
abbrev dktX4_percent_1 : List UInt8 := dkwX4_percent_1 ++ []
def dkwX4_percent_0 : List UInt8 := [42, 27, 182, 0, 224, 154, 0, 5, 2, 172, 42, 27, 16, 10, 108, 182, 0, 231, 42, 27, 16, 10, 112]
abbrev dktX4_percent_0 : List UInt8 := dkwX4_percent_0 ++ dktX4_percent_1
theorem dksX4_percent_0 : cX4_percent.data.toList.drop 0 = dktX4_percent_0 := by decide +kernel
theorem dksX4_percent_1 : cX4_percent.data.toList.drop 23 = dktX4_percent_1 := dk_seg dksX4_percent_0 23 rfl rfl
theorem dX4_percent_0 : decode cX4_percent 0 = .ok (.aload_n 0, 1) := dk_42 (dk_at dksX4_percent_0 0 rfl rfl)
theorem dX4_percent_1 : decode cX4_percent 1 = .ok (.iload_n 1, 1) := dk_27 (dk_at dksX4_percent_0 1 rfl rfl)
theorem dX4_percent_2 : decode cX4_percent 2 = .ok (.invokevirtual 224, 3) := dk_182 0 224 (dk_at dksX4_percent_0 2 rfl rfl)
theorem dX4_percent_5 : decode cX4_percent 5 = .ok (.ifCond .ne 5, 3) := dk_154 0 5 (dk_at dksX4_percent_0 5 rfl rfl)
theorem dX4_percent_8 : decode cX4_percent 8 = .ok (.iconst (-1), 1) := dk_2 (dk_at dksX4_percent_0 8 rfl rfl)
theorem dX4_percent_9 : decode cX4_percent 9 = .ok (.ireturn, 1) := dk_172 (dk_at dksX4_percent_0 9 rfl rfl)
theorem dX4_percent_10 : decode cX4_percent 10 = .ok (.aload_n 0, 1) := dk_42 (dk_at dksX4_percent_0 10 rfl rfl)
theorem dX4_percent_11 : decode cX4_percent 11 = .ok (.iload_n 1, 1) := dk_27 (dk_at dksX4_percent_0 11 rfl rfl)
theorem dX4_percent_12 : decode cX4_percent 12 = .ok (.bipush 10, 2) := dk_16 10 (dk_at dksX4_percent_0 12 rfl rfl)
theorem dX4_percent_14 : decode cX4_percent 14 = .ok (.idiv, 1) := dk_108 (dk_at dksX4_percent_0 14 rfl rfl)
theorem dX4_percent_15 : decode cX4_percent 15 = .ok (.invokevirtual 231, 3) := dk_182 0 231 (dk_at dksX4_percent_0 15 rfl rfl)
theorem dX4_percent_18 : decode cX4_percent 18 = .ok (.aload_n 0, 1) := dk_42 (dk_at dksX4_percent_0 18 rfl rfl)
theorem dX4_percent_19 : decode cX4_percent 19 = .ok (.iload_n 1, 1) := dk_27 (dk_at dksX4_percent_0 19 rfl rfl)
theorem dX4_percent_20 : decode cX4_percent 20 = .ok (.bipush 10, 2) := dk_16 10 (dk_at dksX4_percent_0 20 rfl rfl)
theorem dX4_percent_22 : decode cX4_percent 22 = .ok (.irem, 1) := dk_112 (dk_at dksX4_percent_0 22 rfl rfl)
theorem dX4_percent_23 : decode cX4_percent 23 = .ok (.invokevirtual 238, 3) := dk_182 0 238 (dk_at dksX4_percent_1 0 rfl rfl)
theorem dX4_percent_26 : decode cX4_percent 26 = .ok (.ireturn, 1) := dk_172 (dk_at dksX4_percent_1 3 rfl rfl)
abbrev cX4_percentNow : ByteArray := prog_34_method_35_code
def yX4_percentNow : MethodName := ⟨RX4, "percentNow", "(I)I"⟩
def dkwX4_percentNow_1 : List UInt8 := [180, 0, 211, 109, 136, 172]
abbrev dktX4_percentNow_1 : List UInt8 := dkwX4_percentNow_1 ++ []
def dkwX4_percentNow_0 : List UInt8 := [42, 180, 0, 211, 9, 148, 154, 0, 7, 3, 167, 0, 19, 20, 0, 215, 42, 180, 0, 53, 27, 47, 105, 42]
abbrev dktX4_percentNow_0 : List UInt8 := dkwX4_percentNow_0 ++ dktX4_percentNow_1
theorem dksX4_percentNow_0 : cX4_percentNow.data.toList.drop 0 = dktX4_percentNow_0 := by decide +kernel
theorem dksX4_percentNow_1 : cX4_percentNow.data.toList.drop 24 = dktX4_percentNow_1 := dk_seg dksX4_percentNow_0 24 rfl rfl
theorem dX4_percentNow_0 : decode cX4_percentNow 0 = .ok (.aload_n 0, 1) := dk_42 (dk_at dksX4_percentNow_0 0 rfl rfl)
theorem dX4_percentNow_1 : decode cX4_percentNow 1 = .ok (.getfield 211, 3) := dk_180 0 211 (dk_at dksX4_percentNow_0 1 rfl rfl)
theorem dX4_percentNow_4 : decode cX4_percentNow 4 = .ok (.lconst 0, 1) := dk_9 (dk_at dksX4_percentNow_0 4 rfl rfl)
theorem dX4_percentNow_5 : decode cX4_percentNow 5 = .ok (.lcmp, 1) := dk_148 (dk_at dksX4_percentNow_0 5 rfl rfl)
theorem dX4_percentNow_6 : decode cX4_percentNow 6 = .ok (.ifCond .ne 7, 3) := dk_154 0 7 (dk_at dksX4_percentNow_0 6 rfl rfl)
theorem dX4_percentNow_9 : decode cX4_percentNow 9 = .ok (.iconst 0, 1) := dk_3 (dk_at dksX4_percentNow_0 9 rfl rfl)
theorem dX4_percentNow_10 : decode cX4_percentNow 10 = .ok (.goto 19, 3) := dk_167 0 19 (dk_at dksX4_percentNow_0 10 rfl rfl)
theorem dX4_percentNow_13 : decode cX4_percentNow 13 = .ok (.ldc2_w 215, 3) := dk_20 0 215 (dk_at dksX4_percentNow_0 13 rfl rfl)
theorem dX4_percentNow_16 : decode cX4_percentNow 16 = .ok (.aload_n 0, 1) := dk_42 (dk_at dksX4_percentNow_0 16 rfl rfl)
theorem dX4_percentNow_17 : decode cX4_percentNow 17 = .ok (.getfield 53, 3) := dk_180 0 53 (dk_at dksX4_percentNow_0 17 rfl rfl)
theorem dX4_percentNow_20 : decode cX4_percentNow 20 = .ok (.iload_n 1, 1) := dk_27 (dk_at dksX4_percentNow_0 20 rfl rfl)
theorem dX4_percentNow_21 : decode cX4_percentNow 21 = .ok (.laload, 1) := dk_47 (dk_at dksX4_percentNow_0 21 rfl rfl)
theorem dX4_percentNow_22 : decode cX4_percentNow 22 = .ok (.lmul, 1) := dk_105 (dk_at dksX4_percentNow_0 22 rfl rfl)
theorem dX4_percentNow_23 : decode cX4_percentNow 23 = .ok (.aload_n 0, 1) := dk_42 (dk_at dksX4_percentNow_0 23 rfl rfl)
theorem dX4_percentNow_24 : decode cX4_percentNow 24 = .ok (.getfield 211, 3) := dk_180 0 211 (dk_at dksX4_percentNow_1 0 rfl rfl)
theorem dX4_percentNow_27 : decode cX4_percentNow 27 = .ok (.ldiv, 1) := dk_109 (dk_at dksX4_percentNow_1 3 rfl rfl)
theorem dX4_percentNow_28 : decode cX4_percentNow 28 = .ok (.l2i, 1) := dk_136 (dk_at dksX4_percentNow_1 4 rfl rfl)
theorem dX4_percentNow_29 : decode cX4_percentNow 29 = .ok (.ireturn, 1) := dk_172 (dk_at dksX4_percentNow_1 5 rfl rfl)
abbrev cX4_likeliest : ByteArray := prog_34_method_40_code
def yX4_likeliest : MethodName := ⟨RX4, "likeliest", "(I)I"⟩
def dkwX4_likeliest_1 : List UInt8 := [16, 254, 167, 0, 7, 42, 182, 0, 241, 172]
abbrev dktX4_likeliest_1 : List UInt8 := dkwX4_likeliest_1 ++ []
def dkwX4_likeliest_0 : List UInt8 := [42, 27, 182, 0, 132, 154, 0, 5, 2, 172, 42, 27, 182, 0, 231, 42, 180, 0, 211, 9, 148, 154, 0, 8]
abbrev dktX4_likeliest_0 : List UInt8 := dkwX4_likeliest_0 ++ dktX4_likeliest_1
theorem dksX4_likeliest_0 : cX4_likeliest.data.toList.drop 0 = dktX4_likeliest_0 := by decide +kernel
theorem dksX4_likeliest_1 : cX4_likeliest.data.toList.drop 24 = dktX4_likeliest_1 := dk_seg dksX4_likeliest_0 24 rfl rfl
theorem dX4_likeliest_0 : decode cX4_likeliest 0 = .ok (.aload_n 0, 1) := dk_42 (dk_at dksX4_likeliest_0 0 rfl rfl)
theorem dX4_likeliest_1 : decode cX4_likeliest 1 = .ok (.iload_n 1, 1) := dk_27 (dk_at dksX4_likeliest_0 1 rfl rfl)
theorem dX4_likeliest_2 : decode cX4_likeliest 2 = .ok (.invokevirtual 132, 3) := dk_182 0 132 (dk_at dksX4_likeliest_0 2 rfl rfl)
theorem dX4_likeliest_5 : decode cX4_likeliest 5 = .ok (.ifCond .ne 5, 3) := dk_154 0 5 (dk_at dksX4_likeliest_0 5 rfl rfl)
theorem dX4_likeliest_8 : decode cX4_likeliest 8 = .ok (.iconst (-1), 1) := dk_2 (dk_at dksX4_likeliest_0 8 rfl rfl)
theorem dX4_likeliest_9 : decode cX4_likeliest 9 = .ok (.ireturn, 1) := dk_172 (dk_at dksX4_likeliest_0 9 rfl rfl)
theorem dX4_likeliest_10 : decode cX4_likeliest 10 = .ok (.aload_n 0, 1) := dk_42 (dk_at dksX4_likeliest_0 10 rfl rfl)
theorem dX4_likeliest_11 : decode cX4_likeliest 11 = .ok (.iload_n 1, 1) := dk_27 (dk_at dksX4_likeliest_0 11 rfl rfl)
theorem dX4_likeliest_12 : decode cX4_likeliest 12 = .ok (.invokevirtual 231, 3) := dk_182 0 231 (dk_at dksX4_likeliest_0 12 rfl rfl)
theorem dX4_likeliest_15 : decode cX4_likeliest 15 = .ok (.aload_n 0, 1) := dk_42 (dk_at dksX4_likeliest_0 15 rfl rfl)
theorem dX4_likeliest_16 : decode cX4_likeliest 16 = .ok (.getfield 211, 3) := dk_180 0 211 (dk_at dksX4_likeliest_0 16 rfl rfl)
theorem dX4_likeliest_19 : decode cX4_likeliest 19 = .ok (.lconst 0, 1) := dk_9 (dk_at dksX4_likeliest_0 19 rfl rfl)
theorem dX4_likeliest_20 : decode cX4_likeliest 20 = .ok (.lcmp, 1) := dk_148 (dk_at dksX4_likeliest_0 20 rfl rfl)
theorem dX4_likeliest_21 : decode cX4_likeliest 21 = .ok (.ifCond .ne 8, 3) := dk_154 0 8 (dk_at dksX4_likeliest_0 21 rfl rfl)
theorem dX4_likeliest_24 : decode cX4_likeliest 24 = .ok (.bipush (-2), 2) := dk_16 254 (dk_at dksX4_likeliest_1 0 rfl rfl)
theorem dX4_likeliest_26 : decode cX4_likeliest 26 = .ok (.goto 7, 3) := dk_167 0 7 (dk_at dksX4_likeliest_1 2 rfl rfl)
theorem dX4_likeliest_29 : decode cX4_likeliest 29 = .ok (.aload_n 0, 1) := dk_42 (dk_at dksX4_likeliest_1 5 rfl rfl)
theorem dX4_likeliest_30 : decode cX4_likeliest 30 = .ok (.invokevirtual 241, 3) := dk_182 0 241 (dk_at dksX4_likeliest_1 6 rfl rfl)
theorem dX4_likeliest_33 : decode cX4_likeliest 33 = .ok (.ireturn, 1) := dk_172 (dk_at dksX4_likeliest_1 9 rfl rfl)
abbrev cX4_mostOf : ByteArray := prog_34_method_34_code
def yX4_mostOf : MethodName := ⟨RX4, "mostOf", "()I"⟩
def dkwX4_mostOf_1 : List UInt8 := [158, 0, 7, 28, 167, 0, 4, 27, 60, 132, 2, 1, 167, 255, 225, 27, 172]
abbrev dktX4_mostOf_1 : List UInt8 := dkwX4_mostOf_1 ++ []
def dkwX4_mostOf_0 : List UInt8 := [3, 60, 4, 61, 28, 16, 6, 162, 0, 31, 42, 180, 0, 53, 28, 47, 42, 180, 0, 53, 27, 47, 148]
abbrev dktX4_mostOf_0 : List UInt8 := dkwX4_mostOf_0 ++ dktX4_mostOf_1
theorem dksX4_mostOf_0 : cX4_mostOf.data.toList.drop 0 = dktX4_mostOf_0 := by decide +kernel
theorem dksX4_mostOf_1 : cX4_mostOf.data.toList.drop 23 = dktX4_mostOf_1 := dk_seg dksX4_mostOf_0 23 rfl rfl
theorem dX4_mostOf_0 : decode cX4_mostOf 0 = .ok (.iconst 0, 1) := dk_3 (dk_at dksX4_mostOf_0 0 rfl rfl)
theorem dX4_mostOf_1 : decode cX4_mostOf 1 = .ok (.istore_n 1, 1) := dk_60 (dk_at dksX4_mostOf_0 1 rfl rfl)
theorem dX4_mostOf_2 : decode cX4_mostOf 2 = .ok (.iconst 1, 1) := dk_4 (dk_at dksX4_mostOf_0 2 rfl rfl)
theorem dX4_mostOf_3 : decode cX4_mostOf 3 = .ok (.istore_n 2, 1) := dk_61 (dk_at dksX4_mostOf_0 3 rfl rfl)
theorem dX4_mostOf_4 : decode cX4_mostOf 4 = .ok (.iload_n 2, 1) := dk_28 (dk_at dksX4_mostOf_0 4 rfl rfl)
theorem dX4_mostOf_5 : decode cX4_mostOf 5 = .ok (.bipush 6, 2) := dk_16 6 (dk_at dksX4_mostOf_0 5 rfl rfl)
theorem dX4_mostOf_7 : decode cX4_mostOf 7 = .ok (.if_icmp .ge 31, 3) := dk_162 0 31 (dk_at dksX4_mostOf_0 7 rfl rfl)
theorem dX4_mostOf_10 : decode cX4_mostOf 10 = .ok (.aload_n 0, 1) := dk_42 (dk_at dksX4_mostOf_0 10 rfl rfl)
theorem dX4_mostOf_11 : decode cX4_mostOf 11 = .ok (.getfield 53, 3) := dk_180 0 53 (dk_at dksX4_mostOf_0 11 rfl rfl)
theorem dX4_mostOf_14 : decode cX4_mostOf 14 = .ok (.iload_n 2, 1) := dk_28 (dk_at dksX4_mostOf_0 14 rfl rfl)
theorem dX4_mostOf_15 : decode cX4_mostOf 15 = .ok (.laload, 1) := dk_47 (dk_at dksX4_mostOf_0 15 rfl rfl)
theorem dX4_mostOf_16 : decode cX4_mostOf 16 = .ok (.aload_n 0, 1) := dk_42 (dk_at dksX4_mostOf_0 16 rfl rfl)
theorem dX4_mostOf_17 : decode cX4_mostOf 17 = .ok (.getfield 53, 3) := dk_180 0 53 (dk_at dksX4_mostOf_0 17 rfl rfl)
theorem dX4_mostOf_20 : decode cX4_mostOf 20 = .ok (.iload_n 1, 1) := dk_27 (dk_at dksX4_mostOf_0 20 rfl rfl)
theorem dX4_mostOf_21 : decode cX4_mostOf 21 = .ok (.laload, 1) := dk_47 (dk_at dksX4_mostOf_0 21 rfl rfl)
theorem dX4_mostOf_22 : decode cX4_mostOf 22 = .ok (.lcmp, 1) := dk_148 (dk_at dksX4_mostOf_0 22 rfl rfl)
theorem dX4_mostOf_23 : decode cX4_mostOf 23 = .ok (.ifCond .le 7, 3) := dk_158 0 7 (dk_at dksX4_mostOf_1 0 rfl rfl)
theorem dX4_mostOf_26 : decode cX4_mostOf 26 = .ok (.iload_n 2, 1) := dk_28 (dk_at dksX4_mostOf_1 3 rfl rfl)
theorem dX4_mostOf_27 : decode cX4_mostOf 27 = .ok (.goto 4, 3) := dk_167 0 4 (dk_at dksX4_mostOf_1 4 rfl rfl)
theorem dX4_mostOf_30 : decode cX4_mostOf 30 = .ok (.iload_n 1, 1) := dk_27 (dk_at dksX4_mostOf_1 7 rfl rfl)
theorem dX4_mostOf_31 : decode cX4_mostOf 31 = .ok (.istore_n 1, 1) := dk_60 (dk_at dksX4_mostOf_1 8 rfl rfl)
theorem dX4_mostOf_32 : decode cX4_mostOf 32 = .ok (.iinc 2 1, 3) := dk_132 2 1 (dk_at dksX4_mostOf_1 9 rfl rfl)
theorem dX4_mostOf_35 : decode cX4_mostOf 35 = .ok (.goto (-31), 3) := dk_167 255 225 (dk_at dksX4_mostOf_1 12 rfl rfl)
theorem dX4_mostOf_38 : decode cX4_mostOf 38 = .ok (.iload_n 1, 1) := dk_27 (dk_at dksX4_mostOf_1 15 rfl rfl)
theorem dX4_mostOf_39 : decode cX4_mostOf 39 = .ok (.ireturn, 1) := dk_172 (dk_at dksX4_mostOf_1 16 rfl rfl)
abbrev cX4_when : ByteArray := prog_34_method_42_code
def yX4_when : MethodName := ⟨RX4, "when", "(II)I"⟩
def dkwX4_when_5 : List UInt8 := [160, 0, 8, 21, 4, 167, 0, 5, 21, 5, 172]
abbrev dktX4_when_5 : List UInt8 := dkwX4_when_5 ++ []
def dkwX4_when_4 : List UInt8 := [21, 6, 54, 5, 132, 6, 1, 167, 255, 211, 28, 154, 0, 11, 42, 29, 182, 0, 244, 167, 0, 15, 28, 4]
abbrev dktX4_when_4 : List UInt8 := dkwX4_when_4 ++ dktX4_when_5
def dkwX4_when_3 : List UInt8 := [104, 21, 6, 96, 47, 9, 148, 158, 0, 21, 21, 4, 156, 0, 8, 21, 6, 167, 0, 5, 21, 4, 54, 4]
abbrev dktX4_when_3 : List UInt8 := dkwX4_when_3 ++ dktX4_when_4
def dkwX4_when_2 : List UInt8 := [172, 2, 54, 4, 2, 54, 5, 3, 54, 6, 21, 6, 16, 30, 162, 0, 44, 42, 180, 0, 49, 16, 30, 29]
abbrev dktX4_when_2 : List UInt8 := dkwX4_when_2 ++ dktX4_when_3
def dkwX4_when_1 : List UInt8 := [16, 10, 108, 182, 0, 231, 27, 16, 10, 112, 62, 42, 180, 0, 53, 29, 47, 9, 148, 154, 0, 6, 16, 254]
abbrev dktX4_when_1 : List UInt8 := dkwX4_when_1 ++ dktX4_when_2
def dkwX4_when_0 : List UInt8 := [42, 27, 182, 0, 224, 153, 0, 15, 28, 133, 9, 20, 0, 138, 184, 0, 102, 154, 0, 5, 2, 172, 42, 27]
abbrev dktX4_when_0 : List UInt8 := dkwX4_when_0 ++ dktX4_when_1
theorem dksX4_when_0 : cX4_when.data.toList.drop 0 = dktX4_when_0 := by decide +kernel
theorem dksX4_when_1 : cX4_when.data.toList.drop 24 = dktX4_when_1 := dk_seg dksX4_when_0 24 rfl rfl
theorem dksX4_when_2 : cX4_when.data.toList.drop 48 = dktX4_when_2 := dk_seg dksX4_when_1 24 rfl rfl
theorem dksX4_when_3 : cX4_when.data.toList.drop 72 = dktX4_when_3 := dk_seg dksX4_when_2 24 rfl rfl
theorem dksX4_when_4 : cX4_when.data.toList.drop 96 = dktX4_when_4 := dk_seg dksX4_when_3 24 rfl rfl
theorem dksX4_when_5 : cX4_when.data.toList.drop 120 = dktX4_when_5 := dk_seg dksX4_when_4 24 rfl rfl
theorem dX4_when_0 : decode cX4_when 0 = .ok (.aload_n 0, 1) := dk_42 (dk_at dksX4_when_0 0 rfl rfl)
theorem dX4_when_1 : decode cX4_when 1 = .ok (.iload_n 1, 1) := dk_27 (dk_at dksX4_when_0 1 rfl rfl)
theorem dX4_when_2 : decode cX4_when 2 = .ok (.invokevirtual 224, 3) := dk_182 0 224 (dk_at dksX4_when_0 2 rfl rfl)
theorem dX4_when_5 : decode cX4_when 5 = .ok (.ifCond .eq 15, 3) := dk_153 0 15 (dk_at dksX4_when_0 5 rfl rfl)
theorem dX4_when_8 : decode cX4_when 8 = .ok (.iload_n 2, 1) := dk_28 (dk_at dksX4_when_0 8 rfl rfl)
theorem dX4_when_9 : decode cX4_when 9 = .ok (.i2l, 1) := dk_133 (dk_at dksX4_when_0 9 rfl rfl)
theorem dX4_when_10 : decode cX4_when 10 = .ok (.lconst 0, 1) := dk_9 (dk_at dksX4_when_0 10 rfl rfl)
theorem dX4_when_11 : decode cX4_when 11 = .ok (.ldc2_w 138, 3) := dk_20 0 138 (dk_at dksX4_when_0 11 rfl rfl)
theorem dX4_when_14 : decode cX4_when 14 = .ok (.invokestatic 102, 3) := dk_184 0 102 (dk_at dksX4_when_0 14 rfl rfl)
theorem dX4_when_17 : decode cX4_when 17 = .ok (.ifCond .ne 5, 3) := dk_154 0 5 (dk_at dksX4_when_0 17 rfl rfl)
theorem dX4_when_20 : decode cX4_when 20 = .ok (.iconst (-1), 1) := dk_2 (dk_at dksX4_when_0 20 rfl rfl)
theorem dX4_when_21 : decode cX4_when 21 = .ok (.ireturn, 1) := dk_172 (dk_at dksX4_when_0 21 rfl rfl)
theorem dX4_when_22 : decode cX4_when 22 = .ok (.aload_n 0, 1) := dk_42 (dk_at dksX4_when_0 22 rfl rfl)
theorem dX4_when_23 : decode cX4_when 23 = .ok (.iload_n 1, 1) := dk_27 (dk_at dksX4_when_0 23 rfl rfl)
theorem dX4_when_24 : decode cX4_when 24 = .ok (.bipush 10, 2) := dk_16 10 (dk_at dksX4_when_1 0 rfl rfl)
theorem dX4_when_26 : decode cX4_when 26 = .ok (.idiv, 1) := dk_108 (dk_at dksX4_when_1 2 rfl rfl)
theorem dX4_when_27 : decode cX4_when 27 = .ok (.invokevirtual 231, 3) := dk_182 0 231 (dk_at dksX4_when_1 3 rfl rfl)
theorem dX4_when_30 : decode cX4_when 30 = .ok (.iload_n 1, 1) := dk_27 (dk_at dksX4_when_1 6 rfl rfl)
theorem dX4_when_31 : decode cX4_when 31 = .ok (.bipush 10, 2) := dk_16 10 (dk_at dksX4_when_1 7 rfl rfl)
theorem dX4_when_33 : decode cX4_when 33 = .ok (.irem, 1) := dk_112 (dk_at dksX4_when_1 9 rfl rfl)
theorem dX4_when_34 : decode cX4_when 34 = .ok (.istore_n 3, 1) := dk_62 (dk_at dksX4_when_1 10 rfl rfl)
theorem dX4_when_35 : decode cX4_when 35 = .ok (.aload_n 0, 1) := dk_42 (dk_at dksX4_when_1 11 rfl rfl)
theorem dX4_when_36 : decode cX4_when 36 = .ok (.getfield 53, 3) := dk_180 0 53 (dk_at dksX4_when_1 12 rfl rfl)
theorem dX4_when_39 : decode cX4_when 39 = .ok (.iload_n 3, 1) := dk_29 (dk_at dksX4_when_1 15 rfl rfl)
theorem dX4_when_40 : decode cX4_when 40 = .ok (.laload, 1) := dk_47 (dk_at dksX4_when_1 16 rfl rfl)
theorem dX4_when_41 : decode cX4_when 41 = .ok (.lconst 0, 1) := dk_9 (dk_at dksX4_when_1 17 rfl rfl)
theorem dX4_when_42 : decode cX4_when 42 = .ok (.lcmp, 1) := dk_148 (dk_at dksX4_when_1 18 rfl rfl)
theorem dX4_when_43 : decode cX4_when 43 = .ok (.ifCond .ne 6, 3) := dk_154 0 6 (dk_at dksX4_when_1 19 rfl rfl)
theorem dX4_when_46 : decode cX4_when 46 = .ok (.bipush (-2), 2) := dk_16 254 (dk_at dksX4_when_1 22 rfl rfl)
theorem dX4_when_48 : decode cX4_when 48 = .ok (.ireturn, 1) := dk_172 (dk_at dksX4_when_2 0 rfl rfl)
theorem dX4_when_49 : decode cX4_when 49 = .ok (.iconst (-1), 1) := dk_2 (dk_at dksX4_when_2 1 rfl rfl)
theorem dX4_when_50 : decode cX4_when 50 = .ok (.istore 4, 2) := dk_54 4 (dk_at dksX4_when_2 2 rfl rfl)
theorem dX4_when_52 : decode cX4_when 52 = .ok (.iconst (-1), 1) := dk_2 (dk_at dksX4_when_2 4 rfl rfl)
theorem dX4_when_53 : decode cX4_when 53 = .ok (.istore 5, 2) := dk_54 5 (dk_at dksX4_when_2 5 rfl rfl)
theorem dX4_when_55 : decode cX4_when 55 = .ok (.iconst 0, 1) := dk_3 (dk_at dksX4_when_2 7 rfl rfl)
theorem dX4_when_56 : decode cX4_when 56 = .ok (.istore 6, 2) := dk_54 6 (dk_at dksX4_when_2 8 rfl rfl)
theorem dX4_when_58 : decode cX4_when 58 = .ok (.iload 6, 2) := dk_21 6 (dk_at dksX4_when_2 10 rfl rfl)
theorem dX4_when_60 : decode cX4_when 60 = .ok (.bipush 30, 2) := dk_16 30 (dk_at dksX4_when_2 12 rfl rfl)
theorem dX4_when_62 : decode cX4_when 62 = .ok (.if_icmp .ge 44, 3) := dk_162 0 44 (dk_at dksX4_when_2 14 rfl rfl)
theorem dX4_when_65 : decode cX4_when 65 = .ok (.aload_n 0, 1) := dk_42 (dk_at dksX4_when_2 17 rfl rfl)
theorem dX4_when_66 : decode cX4_when 66 = .ok (.getfield 49, 3) := dk_180 0 49 (dk_at dksX4_when_2 18 rfl rfl)
theorem dX4_when_69 : decode cX4_when 69 = .ok (.bipush 30, 2) := dk_16 30 (dk_at dksX4_when_2 21 rfl rfl)
theorem dX4_when_71 : decode cX4_when 71 = .ok (.iload_n 3, 1) := dk_29 (dk_at dksX4_when_2 23 rfl rfl)
theorem dX4_when_72 : decode cX4_when 72 = .ok (.imul, 1) := dk_104 (dk_at dksX4_when_3 0 rfl rfl)
theorem dX4_when_73 : decode cX4_when 73 = .ok (.iload 6, 2) := dk_21 6 (dk_at dksX4_when_3 1 rfl rfl)
theorem dX4_when_75 : decode cX4_when 75 = .ok (.iadd, 1) := dk_96 (dk_at dksX4_when_3 3 rfl rfl)
theorem dX4_when_76 : decode cX4_when 76 = .ok (.laload, 1) := dk_47 (dk_at dksX4_when_3 4 rfl rfl)
theorem dX4_when_77 : decode cX4_when 77 = .ok (.lconst 0, 1) := dk_9 (dk_at dksX4_when_3 5 rfl rfl)
theorem dX4_when_78 : decode cX4_when 78 = .ok (.lcmp, 1) := dk_148 (dk_at dksX4_when_3 6 rfl rfl)
theorem dX4_when_79 : decode cX4_when 79 = .ok (.ifCond .le 21, 3) := dk_158 0 21 (dk_at dksX4_when_3 7 rfl rfl)
theorem dX4_when_82 : decode cX4_when 82 = .ok (.iload 4, 2) := dk_21 4 (dk_at dksX4_when_3 10 rfl rfl)
theorem dX4_when_84 : decode cX4_when 84 = .ok (.ifCond .ge 8, 3) := dk_156 0 8 (dk_at dksX4_when_3 12 rfl rfl)
theorem dX4_when_87 : decode cX4_when 87 = .ok (.iload 6, 2) := dk_21 6 (dk_at dksX4_when_3 15 rfl rfl)
theorem dX4_when_89 : decode cX4_when 89 = .ok (.goto 5, 3) := dk_167 0 5 (dk_at dksX4_when_3 17 rfl rfl)
theorem dX4_when_92 : decode cX4_when 92 = .ok (.iload 4, 2) := dk_21 4 (dk_at dksX4_when_3 20 rfl rfl)
theorem dX4_when_94 : decode cX4_when 94 = .ok (.istore 4, 2) := dk_54 4 (dk_at dksX4_when_3 22 rfl rfl)
theorem dX4_when_96 : decode cX4_when 96 = .ok (.iload 6, 2) := dk_21 6 (dk_at dksX4_when_4 0 rfl rfl)
theorem dX4_when_98 : decode cX4_when 98 = .ok (.istore 5, 2) := dk_54 5 (dk_at dksX4_when_4 2 rfl rfl)
theorem dX4_when_100 : decode cX4_when 100 = .ok (.iinc 6 1, 3) := dk_132 6 1 (dk_at dksX4_when_4 4 rfl rfl)
theorem dX4_when_103 : decode cX4_when 103 = .ok (.goto (-45), 3) := dk_167 255 211 (dk_at dksX4_when_4 7 rfl rfl)
theorem dX4_when_106 : decode cX4_when 106 = .ok (.iload_n 2, 1) := dk_28 (dk_at dksX4_when_4 10 rfl rfl)
theorem dX4_when_107 : decode cX4_when 107 = .ok (.ifCond .ne 11, 3) := dk_154 0 11 (dk_at dksX4_when_4 11 rfl rfl)
theorem dX4_when_110 : decode cX4_when 110 = .ok (.aload_n 0, 1) := dk_42 (dk_at dksX4_when_4 14 rfl rfl)
theorem dX4_when_111 : decode cX4_when 111 = .ok (.iload_n 3, 1) := dk_29 (dk_at dksX4_when_4 15 rfl rfl)
theorem dX4_when_112 : decode cX4_when 112 = .ok (.invokevirtual 244, 3) := dk_182 0 244 (dk_at dksX4_when_4 16 rfl rfl)
theorem dX4_when_115 : decode cX4_when 115 = .ok (.goto 15, 3) := dk_167 0 15 (dk_at dksX4_when_4 19 rfl rfl)
theorem dX4_when_118 : decode cX4_when 118 = .ok (.iload_n 2, 1) := dk_28 (dk_at dksX4_when_4 22 rfl rfl)
theorem dX4_when_119 : decode cX4_when 119 = .ok (.iconst 1, 1) := dk_4 (dk_at dksX4_when_4 23 rfl rfl)
theorem dX4_when_120 : decode cX4_when 120 = .ok (.if_icmp .ne 8, 3) := dk_160 0 8 (dk_at dksX4_when_5 0 rfl rfl)
theorem dX4_when_123 : decode cX4_when 123 = .ok (.iload 4, 2) := dk_21 4 (dk_at dksX4_when_5 3 rfl rfl)
theorem dX4_when_125 : decode cX4_when 125 = .ok (.goto 5, 3) := dk_167 0 5 (dk_at dksX4_when_5 5 rfl rfl)
theorem dX4_when_128 : decode cX4_when 128 = .ok (.iload 5, 2) := dk_21 5 (dk_at dksX4_when_5 8 rfl rfl)
theorem dX4_when_130 : decode cX4_when 130 = .ok (.ireturn, 1) := dk_172 (dk_at dksX4_when_5 10 rfl rfl)
abbrev cX4_whenNow : ByteArray := prog_34_method_41_code
def yX4_whenNow : MethodName := ⟨RX4, "whenNow", "(I)I"⟩
def dkwX4_whenNow_2 : List UInt8 := [167, 255, 215, 28, 172]
abbrev dktX4_whenNow_2 : List UInt8 := dkwX4_whenNow_2 ++ []
def dkwX4_whenNow_1 : List UInt8 := [180, 0, 49, 16, 30, 27, 104, 28, 96, 47, 148, 158, 0, 7, 29, 167, 0, 4, 28, 61, 132, 3, 1]
abbrev dktX4_whenNow_1 : List UInt8 := dkwX4_whenNow_1 ++ dktX4_whenNow_2
def dkwX4_whenNow_0 : List UInt8 := [3, 61, 4, 62, 29, 16, 30, 162, 0, 41, 42, 180, 0, 49, 16, 30, 27, 104, 29, 96, 47, 42]
abbrev dktX4_whenNow_0 : List UInt8 := dkwX4_whenNow_0 ++ dktX4_whenNow_1
theorem dksX4_whenNow_0 : cX4_whenNow.data.toList.drop 0 = dktX4_whenNow_0 := by decide +kernel
theorem dksX4_whenNow_1 : cX4_whenNow.data.toList.drop 22 = dktX4_whenNow_1 := dk_seg dksX4_whenNow_0 22 rfl rfl
theorem dksX4_whenNow_2 : cX4_whenNow.data.toList.drop 45 = dktX4_whenNow_2 := dk_seg dksX4_whenNow_1 23 rfl rfl
theorem dX4_whenNow_0 : decode cX4_whenNow 0 = .ok (.iconst 0, 1) := dk_3 (dk_at dksX4_whenNow_0 0 rfl rfl)
theorem dX4_whenNow_1 : decode cX4_whenNow 1 = .ok (.istore_n 2, 1) := dk_61 (dk_at dksX4_whenNow_0 1 rfl rfl)
theorem dX4_whenNow_2 : decode cX4_whenNow 2 = .ok (.iconst 1, 1) := dk_4 (dk_at dksX4_whenNow_0 2 rfl rfl)
theorem dX4_whenNow_3 : decode cX4_whenNow 3 = .ok (.istore_n 3, 1) := dk_62 (dk_at dksX4_whenNow_0 3 rfl rfl)
theorem dX4_whenNow_4 : decode cX4_whenNow 4 = .ok (.iload_n 3, 1) := dk_29 (dk_at dksX4_whenNow_0 4 rfl rfl)
theorem dX4_whenNow_5 : decode cX4_whenNow 5 = .ok (.bipush 30, 2) := dk_16 30 (dk_at dksX4_whenNow_0 5 rfl rfl)
theorem dX4_whenNow_7 : decode cX4_whenNow 7 = .ok (.if_icmp .ge 41, 3) := dk_162 0 41 (dk_at dksX4_whenNow_0 7 rfl rfl)
theorem dX4_whenNow_10 : decode cX4_whenNow 10 = .ok (.aload_n 0, 1) := dk_42 (dk_at dksX4_whenNow_0 10 rfl rfl)
theorem dX4_whenNow_11 : decode cX4_whenNow 11 = .ok (.getfield 49, 3) := dk_180 0 49 (dk_at dksX4_whenNow_0 11 rfl rfl)
theorem dX4_whenNow_14 : decode cX4_whenNow 14 = .ok (.bipush 30, 2) := dk_16 30 (dk_at dksX4_whenNow_0 14 rfl rfl)
theorem dX4_whenNow_16 : decode cX4_whenNow 16 = .ok (.iload_n 1, 1) := dk_27 (dk_at dksX4_whenNow_0 16 rfl rfl)
theorem dX4_whenNow_17 : decode cX4_whenNow 17 = .ok (.imul, 1) := dk_104 (dk_at dksX4_whenNow_0 17 rfl rfl)
theorem dX4_whenNow_18 : decode cX4_whenNow 18 = .ok (.iload_n 3, 1) := dk_29 (dk_at dksX4_whenNow_0 18 rfl rfl)
theorem dX4_whenNow_19 : decode cX4_whenNow 19 = .ok (.iadd, 1) := dk_96 (dk_at dksX4_whenNow_0 19 rfl rfl)
theorem dX4_whenNow_20 : decode cX4_whenNow 20 = .ok (.laload, 1) := dk_47 (dk_at dksX4_whenNow_0 20 rfl rfl)
theorem dX4_whenNow_21 : decode cX4_whenNow 21 = .ok (.aload_n 0, 1) := dk_42 (dk_at dksX4_whenNow_0 21 rfl rfl)
theorem dX4_whenNow_22 : decode cX4_whenNow 22 = .ok (.getfield 49, 3) := dk_180 0 49 (dk_at dksX4_whenNow_1 0 rfl rfl)
theorem dX4_whenNow_25 : decode cX4_whenNow 25 = .ok (.bipush 30, 2) := dk_16 30 (dk_at dksX4_whenNow_1 3 rfl rfl)
theorem dX4_whenNow_27 : decode cX4_whenNow 27 = .ok (.iload_n 1, 1) := dk_27 (dk_at dksX4_whenNow_1 5 rfl rfl)
theorem dX4_whenNow_28 : decode cX4_whenNow 28 = .ok (.imul, 1) := dk_104 (dk_at dksX4_whenNow_1 6 rfl rfl)
theorem dX4_whenNow_29 : decode cX4_whenNow 29 = .ok (.iload_n 2, 1) := dk_28 (dk_at dksX4_whenNow_1 7 rfl rfl)
theorem dX4_whenNow_30 : decode cX4_whenNow 30 = .ok (.iadd, 1) := dk_96 (dk_at dksX4_whenNow_1 8 rfl rfl)
theorem dX4_whenNow_31 : decode cX4_whenNow 31 = .ok (.laload, 1) := dk_47 (dk_at dksX4_whenNow_1 9 rfl rfl)
theorem dX4_whenNow_32 : decode cX4_whenNow 32 = .ok (.lcmp, 1) := dk_148 (dk_at dksX4_whenNow_1 10 rfl rfl)
theorem dX4_whenNow_33 : decode cX4_whenNow 33 = .ok (.ifCond .le 7, 3) := dk_158 0 7 (dk_at dksX4_whenNow_1 11 rfl rfl)
theorem dX4_whenNow_36 : decode cX4_whenNow 36 = .ok (.iload_n 3, 1) := dk_29 (dk_at dksX4_whenNow_1 14 rfl rfl)
theorem dX4_whenNow_37 : decode cX4_whenNow 37 = .ok (.goto 4, 3) := dk_167 0 4 (dk_at dksX4_whenNow_1 15 rfl rfl)
theorem dX4_whenNow_40 : decode cX4_whenNow 40 = .ok (.iload_n 2, 1) := dk_28 (dk_at dksX4_whenNow_1 18 rfl rfl)
theorem dX4_whenNow_41 : decode cX4_whenNow 41 = .ok (.istore_n 2, 1) := dk_61 (dk_at dksX4_whenNow_1 19 rfl rfl)
theorem dX4_whenNow_42 : decode cX4_whenNow 42 = .ok (.iinc 3 1, 3) := dk_132 3 1 (dk_at dksX4_whenNow_1 20 rfl rfl)
theorem dX4_whenNow_45 : decode cX4_whenNow 45 = .ok (.goto (-41), 3) := dk_167 255 215 (dk_at dksX4_whenNow_2 0 rfl rfl)
theorem dX4_whenNow_48 : decode cX4_whenNow 48 = .ok (.iload_n 2, 1) := dk_28 (dk_at dksX4_whenNow_2 3 rfl rfl)
theorem dX4_whenNow_49 : decode cX4_whenNow 49 = .ok (.ireturn, 1) := dk_172 (dk_at dksX4_whenNow_2 4 rfl rfl)
abbrev cX4_whole : ByteArray := prog_34_method_43_code
def yX4_whole : MethodName := ⟨RX4, "whole", "(I)I"⟩
def dkwX4_whole_5 : List UInt8 := [22, 7, 20, 0, 247, 109, 109, 136, 172]
abbrev dktX4_whole_5 : List UInt8 := dkwX4_whole_5 ++ []
def dkwX4_whole_4 : List UInt8 := [154, 0, 5, 28, 172, 42, 180, 0, 99, 5, 162, 0, 7, 3, 167, 0, 18, 22, 7, 33, 101, 22, 5, 101]
abbrev dktX4_whole_4 : List UInt8 := dkwX4_whole_4 ++ dktX4_whole_5
def dkwX4_whole_3 : List UInt8 := [55, 5, 33, 21, 10, 133, 105, 66, 22, 7, 20, 0, 215, 105, 55, 7, 132, 9, 1, 167, 255, 192, 27]
abbrev dktX4_whole_3 : List UInt8 := dkwX4_whole_3 ++ dktX4_whole_4
def dkwX4_whole_2 : List UInt8 := [28, 21, 10, 104, 16, 100, 108, 61, 22, 5, 21, 10, 133, 105, 33, 16, 100, 21, 10, 100, 133, 105, 97]
abbrev dktX4_whole_2 : List UInt8 := dkwX4_whole_2 ++ dktX4_whole_3
def dkwX4_whole_1 : List UInt8 := [54, 9, 21, 9, 42, 180, 0, 99, 162, 0, 61, 42, 21, 9, 182, 0, 231, 42, 3, 182, 0, 238, 54, 10]
abbrev dktX4_whole_1 : List UInt8 := dkwX4_whole_1 ++ dktX4_whole_2
def dkwX4_whole_0 : List UInt8 := [27, 133, 9, 10, 184, 0, 102, 154, 0, 5, 2, 172, 16, 100, 61, 10, 66, 9, 55, 5, 10, 55, 7, 3]
abbrev dktX4_whole_0 : List UInt8 := dkwX4_whole_0 ++ dktX4_whole_1
theorem dksX4_whole_0 : cX4_whole.data.toList.drop 0 = dktX4_whole_0 := by decide +kernel
theorem dksX4_whole_1 : cX4_whole.data.toList.drop 24 = dktX4_whole_1 := dk_seg dksX4_whole_0 24 rfl rfl
theorem dksX4_whole_2 : cX4_whole.data.toList.drop 48 = dktX4_whole_2 := dk_seg dksX4_whole_1 24 rfl rfl
theorem dksX4_whole_3 : cX4_whole.data.toList.drop 71 = dktX4_whole_3 := dk_seg dksX4_whole_2 23 rfl rfl
theorem dksX4_whole_4 : cX4_whole.data.toList.drop 94 = dktX4_whole_4 := dk_seg dksX4_whole_3 23 rfl rfl
theorem dksX4_whole_5 : cX4_whole.data.toList.drop 118 = dktX4_whole_5 := dk_seg dksX4_whole_4 24 rfl rfl
theorem dX4_whole_0 : decode cX4_whole 0 = .ok (.iload_n 1, 1) := dk_27 (dk_at dksX4_whole_0 0 rfl rfl)
theorem dX4_whole_1 : decode cX4_whole 1 = .ok (.i2l, 1) := dk_133 (dk_at dksX4_whole_0 1 rfl rfl)
theorem dX4_whole_2 : decode cX4_whole 2 = .ok (.lconst 0, 1) := dk_9 (dk_at dksX4_whole_0 2 rfl rfl)
theorem dX4_whole_3 : decode cX4_whole 3 = .ok (.lconst 1, 1) := dk_10 (dk_at dksX4_whole_0 3 rfl rfl)
theorem dX4_whole_4 : decode cX4_whole 4 = .ok (.invokestatic 102, 3) := dk_184 0 102 (dk_at dksX4_whole_0 4 rfl rfl)
theorem dX4_whole_7 : decode cX4_whole 7 = .ok (.ifCond .ne 5, 3) := dk_154 0 5 (dk_at dksX4_whole_0 7 rfl rfl)
theorem dX4_whole_10 : decode cX4_whole 10 = .ok (.iconst (-1), 1) := dk_2 (dk_at dksX4_whole_0 10 rfl rfl)
theorem dX4_whole_11 : decode cX4_whole 11 = .ok (.ireturn, 1) := dk_172 (dk_at dksX4_whole_0 11 rfl rfl)
theorem dX4_whole_12 : decode cX4_whole 12 = .ok (.bipush 100, 2) := dk_16 100 (dk_at dksX4_whole_0 12 rfl rfl)
theorem dX4_whole_14 : decode cX4_whole 14 = .ok (.istore_n 2, 1) := dk_61 (dk_at dksX4_whole_0 14 rfl rfl)
theorem dX4_whole_15 : decode cX4_whole 15 = .ok (.lconst 1, 1) := dk_10 (dk_at dksX4_whole_0 15 rfl rfl)
theorem dX4_whole_16 : decode cX4_whole 16 = .ok (.lstore_n 3, 1) := dk_66 (dk_at dksX4_whole_0 16 rfl rfl)
theorem dX4_whole_17 : decode cX4_whole 17 = .ok (.lconst 0, 1) := dk_9 (dk_at dksX4_whole_0 17 rfl rfl)
theorem dX4_whole_18 : decode cX4_whole 18 = .ok (.lstore 5, 2) := dk_55 5 (dk_at dksX4_whole_0 18 rfl rfl)
theorem dX4_whole_20 : decode cX4_whole 20 = .ok (.lconst 1, 1) := dk_10 (dk_at dksX4_whole_0 20 rfl rfl)
theorem dX4_whole_21 : decode cX4_whole 21 = .ok (.lstore 7, 2) := dk_55 7 (dk_at dksX4_whole_0 21 rfl rfl)
theorem dX4_whole_23 : decode cX4_whole 23 = .ok (.iconst 0, 1) := dk_3 (dk_at dksX4_whole_0 23 rfl rfl)
theorem dX4_whole_24 : decode cX4_whole 24 = .ok (.istore 9, 2) := dk_54 9 (dk_at dksX4_whole_1 0 rfl rfl)
theorem dX4_whole_26 : decode cX4_whole 26 = .ok (.iload 9, 2) := dk_21 9 (dk_at dksX4_whole_1 2 rfl rfl)
theorem dX4_whole_28 : decode cX4_whole 28 = .ok (.aload_n 0, 1) := dk_42 (dk_at dksX4_whole_1 4 rfl rfl)
theorem dX4_whole_29 : decode cX4_whole 29 = .ok (.getfield 99, 3) := dk_180 0 99 (dk_at dksX4_whole_1 5 rfl rfl)
theorem dX4_whole_32 : decode cX4_whole 32 = .ok (.if_icmp .ge 61, 3) := dk_162 0 61 (dk_at dksX4_whole_1 8 rfl rfl)
theorem dX4_whole_35 : decode cX4_whole 35 = .ok (.aload_n 0, 1) := dk_42 (dk_at dksX4_whole_1 11 rfl rfl)
theorem dX4_whole_36 : decode cX4_whole 36 = .ok (.iload 9, 2) := dk_21 9 (dk_at dksX4_whole_1 12 rfl rfl)
theorem dX4_whole_38 : decode cX4_whole 38 = .ok (.invokevirtual 231, 3) := dk_182 0 231 (dk_at dksX4_whole_1 14 rfl rfl)
theorem dX4_whole_41 : decode cX4_whole 41 = .ok (.aload_n 0, 1) := dk_42 (dk_at dksX4_whole_1 17 rfl rfl)
theorem dX4_whole_42 : decode cX4_whole 42 = .ok (.iconst 0, 1) := dk_3 (dk_at dksX4_whole_1 18 rfl rfl)
theorem dX4_whole_43 : decode cX4_whole 43 = .ok (.invokevirtual 238, 3) := dk_182 0 238 (dk_at dksX4_whole_1 19 rfl rfl)
theorem dX4_whole_46 : decode cX4_whole 46 = .ok (.istore 10, 2) := dk_54 10 (dk_at dksX4_whole_1 22 rfl rfl)
theorem dX4_whole_48 : decode cX4_whole 48 = .ok (.iload_n 2, 1) := dk_28 (dk_at dksX4_whole_2 0 rfl rfl)
theorem dX4_whole_49 : decode cX4_whole 49 = .ok (.iload 10, 2) := dk_21 10 (dk_at dksX4_whole_2 1 rfl rfl)
theorem dX4_whole_51 : decode cX4_whole 51 = .ok (.imul, 1) := dk_104 (dk_at dksX4_whole_2 3 rfl rfl)
theorem dX4_whole_52 : decode cX4_whole 52 = .ok (.bipush 100, 2) := dk_16 100 (dk_at dksX4_whole_2 4 rfl rfl)
theorem dX4_whole_54 : decode cX4_whole 54 = .ok (.idiv, 1) := dk_108 (dk_at dksX4_whole_2 6 rfl rfl)
theorem dX4_whole_55 : decode cX4_whole 55 = .ok (.istore_n 2, 1) := dk_61 (dk_at dksX4_whole_2 7 rfl rfl)
theorem dX4_whole_56 : decode cX4_whole 56 = .ok (.lload 5, 2) := dk_22 5 (dk_at dksX4_whole_2 8 rfl rfl)
theorem dX4_whole_58 : decode cX4_whole 58 = .ok (.iload 10, 2) := dk_21 10 (dk_at dksX4_whole_2 10 rfl rfl)
theorem dX4_whole_60 : decode cX4_whole 60 = .ok (.i2l, 1) := dk_133 (dk_at dksX4_whole_2 12 rfl rfl)
theorem dX4_whole_61 : decode cX4_whole 61 = .ok (.lmul, 1) := dk_105 (dk_at dksX4_whole_2 13 rfl rfl)
theorem dX4_whole_62 : decode cX4_whole 62 = .ok (.lload_n 3, 1) := dk_33 (dk_at dksX4_whole_2 14 rfl rfl)
theorem dX4_whole_63 : decode cX4_whole 63 = .ok (.bipush 100, 2) := dk_16 100 (dk_at dksX4_whole_2 15 rfl rfl)
theorem dX4_whole_65 : decode cX4_whole 65 = .ok (.iload 10, 2) := dk_21 10 (dk_at dksX4_whole_2 17 rfl rfl)
theorem dX4_whole_67 : decode cX4_whole 67 = .ok (.isub, 1) := dk_100 (dk_at dksX4_whole_2 19 rfl rfl)
theorem dX4_whole_68 : decode cX4_whole 68 = .ok (.i2l, 1) := dk_133 (dk_at dksX4_whole_2 20 rfl rfl)
theorem dX4_whole_69 : decode cX4_whole 69 = .ok (.lmul, 1) := dk_105 (dk_at dksX4_whole_2 21 rfl rfl)
theorem dX4_whole_70 : decode cX4_whole 70 = .ok (.ladd, 1) := dk_97 (dk_at dksX4_whole_2 22 rfl rfl)
theorem dX4_whole_71 : decode cX4_whole 71 = .ok (.lstore 5, 2) := dk_55 5 (dk_at dksX4_whole_3 0 rfl rfl)
theorem dX4_whole_73 : decode cX4_whole 73 = .ok (.lload_n 3, 1) := dk_33 (dk_at dksX4_whole_3 2 rfl rfl)
theorem dX4_whole_74 : decode cX4_whole 74 = .ok (.iload 10, 2) := dk_21 10 (dk_at dksX4_whole_3 3 rfl rfl)
theorem dX4_whole_76 : decode cX4_whole 76 = .ok (.i2l, 1) := dk_133 (dk_at dksX4_whole_3 5 rfl rfl)
theorem dX4_whole_77 : decode cX4_whole 77 = .ok (.lmul, 1) := dk_105 (dk_at dksX4_whole_3 6 rfl rfl)
theorem dX4_whole_78 : decode cX4_whole 78 = .ok (.lstore_n 3, 1) := dk_66 (dk_at dksX4_whole_3 7 rfl rfl)
theorem dX4_whole_79 : decode cX4_whole 79 = .ok (.lload 7, 2) := dk_22 7 (dk_at dksX4_whole_3 8 rfl rfl)
theorem dX4_whole_81 : decode cX4_whole 81 = .ok (.ldc2_w 215, 3) := dk_20 0 215 (dk_at dksX4_whole_3 10 rfl rfl)
theorem dX4_whole_84 : decode cX4_whole 84 = .ok (.lmul, 1) := dk_105 (dk_at dksX4_whole_3 13 rfl rfl)
theorem dX4_whole_85 : decode cX4_whole 85 = .ok (.lstore 7, 2) := dk_55 7 (dk_at dksX4_whole_3 14 rfl rfl)
theorem dX4_whole_87 : decode cX4_whole 87 = .ok (.iinc 9 1, 3) := dk_132 9 1 (dk_at dksX4_whole_3 16 rfl rfl)
theorem dX4_whole_90 : decode cX4_whole 90 = .ok (.goto (-64), 3) := dk_167 255 192 (dk_at dksX4_whole_3 19 rfl rfl)
theorem dX4_whole_93 : decode cX4_whole 93 = .ok (.iload_n 1, 1) := dk_27 (dk_at dksX4_whole_3 22 rfl rfl)
theorem dX4_whole_94 : decode cX4_whole 94 = .ok (.ifCond .ne 5, 3) := dk_154 0 5 (dk_at dksX4_whole_4 0 rfl rfl)
theorem dX4_whole_97 : decode cX4_whole 97 = .ok (.iload_n 2, 1) := dk_28 (dk_at dksX4_whole_4 3 rfl rfl)
theorem dX4_whole_98 : decode cX4_whole 98 = .ok (.ireturn, 1) := dk_172 (dk_at dksX4_whole_4 4 rfl rfl)
theorem dX4_whole_99 : decode cX4_whole 99 = .ok (.aload_n 0, 1) := dk_42 (dk_at dksX4_whole_4 5 rfl rfl)
theorem dX4_whole_100 : decode cX4_whole 100 = .ok (.getfield 99, 3) := dk_180 0 99 (dk_at dksX4_whole_4 6 rfl rfl)
theorem dX4_whole_103 : decode cX4_whole 103 = .ok (.iconst 2, 1) := dk_5 (dk_at dksX4_whole_4 9 rfl rfl)
theorem dX4_whole_104 : decode cX4_whole 104 = .ok (.if_icmp .ge 7, 3) := dk_162 0 7 (dk_at dksX4_whole_4 10 rfl rfl)
theorem dX4_whole_107 : decode cX4_whole 107 = .ok (.iconst 0, 1) := dk_3 (dk_at dksX4_whole_4 13 rfl rfl)
theorem dX4_whole_108 : decode cX4_whole 108 = .ok (.goto 18, 3) := dk_167 0 18 (dk_at dksX4_whole_4 14 rfl rfl)
theorem dX4_whole_111 : decode cX4_whole 111 = .ok (.lload 7, 2) := dk_22 7 (dk_at dksX4_whole_4 17 rfl rfl)
theorem dX4_whole_113 : decode cX4_whole 113 = .ok (.lload_n 3, 1) := dk_33 (dk_at dksX4_whole_4 19 rfl rfl)
theorem dX4_whole_114 : decode cX4_whole 114 = .ok (.lsub, 1) := dk_101 (dk_at dksX4_whole_4 20 rfl rfl)
theorem dX4_whole_115 : decode cX4_whole 115 = .ok (.lload 5, 2) := dk_22 5 (dk_at dksX4_whole_4 21 rfl rfl)
theorem dX4_whole_117 : decode cX4_whole 117 = .ok (.lsub, 1) := dk_101 (dk_at dksX4_whole_4 23 rfl rfl)
theorem dX4_whole_118 : decode cX4_whole 118 = .ok (.lload 7, 2) := dk_22 7 (dk_at dksX4_whole_5 0 rfl rfl)
theorem dX4_whole_120 : decode cX4_whole 120 = .ok (.ldc2_w 247, 3) := dk_20 0 247 (dk_at dksX4_whole_5 2 rfl rfl)
theorem dX4_whole_123 : decode cX4_whole 123 = .ok (.ldiv, 1) := dk_109 (dk_at dksX4_whole_5 5 rfl rfl)
theorem dX4_whole_124 : decode cX4_whole 124 = .ok (.ldiv, 1) := dk_109 (dk_at dksX4_whole_5 6 rfl rfl)
theorem dX4_whole_125 : decode cX4_whole 125 = .ok (.l2i, 1) := dk_136 (dk_at dksX4_whole_5 7 rfl rfl)
theorem dX4_whole_126 : decode cX4_whole 126 = .ok (.ireturn, 1) := dk_172 (dk_at dksX4_whole_5 8 rfl rfl)
abbrev cX4_odd : ByteArray := prog_34_method_44_code
def yX4_odd : MethodName := ⟨RX4, "odd", "()I"⟩
def dkwX4_odd_8 : List UInt8 := [61, 132, 3, 1, 167, 255, 190, 28, 172]
abbrev dktX4_odd_8 : List UInt8 := dkwX4_odd_8 ++ []
def dkwX4_odd_7 : List UInt8 := [54, 4, 28, 21, 4, 5, 163, 0, 10, 21, 4, 16, 254, 162, 0, 9, 4, 29, 120, 167, 0, 4, 3, 128]
abbrev dktX4_odd_7 : List UInt8 := dkwX4_odd_7 ++ dktX4_odd_8
def dkwX4_odd_6 : List UInt8 := [156, 0, 7, 3, 167, 0, 20, 42, 180, 0, 56, 29, 46, 42, 180, 0, 59, 27, 4, 100, 5, 108, 46, 100]
abbrev dktX4_odd_6 : List UInt8 := dkwX4_odd_6 ++ dktX4_odd_7
def dkwX4_odd_5 : List UInt8 := [132, 2, 1, 167, 255, 139, 3, 61, 3, 62, 29, 42, 180, 0, 99, 162, 0, 64, 42, 180, 0, 56, 29, 46]
abbrev dktX4_odd_5 : List UInt8 := dkwX4_odd_5 ++ dktX4_odd_6
def dkwX4_odd_4 : List UInt8 := [46, 79, 132, 3, 255, 167, 255, 218, 42, 180, 0, 59, 29, 42, 180, 0, 56, 28, 46, 79, 132, 1, 1]
abbrev dktX4_odd_4 : List UInt8 := dkwX4_odd_4 ++ dktX4_odd_5
def dkwX4_odd_3 : List UInt8 := [4, 100, 46, 42, 180, 0, 56, 28, 46, 164, 0, 23, 42, 180, 0, 59, 29, 42, 180, 0, 59, 29, 4, 100]
abbrev dktX4_odd_3 : List UInt8 := dkwX4_odd_3 ++ dktX4_odd_4
def dkwX4_odd_2 : List UInt8 := [79, 42, 180, 0, 56, 28, 46, 156, 0, 6, 167, 0, 61, 27, 62, 29, 158, 0, 40, 42, 180, 0, 59, 29]
abbrev dktX4_odd_2 : List UInt8 := dkwX4_odd_2 ++ dktX4_odd_3
def dkwX4_odd_1 : List UInt8 := [180, 0, 211, 9, 148, 158, 0, 18, 42, 182, 0, 241, 154, 0, 11, 42, 3, 182, 0, 244, 167, 0, 4, 2]
abbrev dktX4_odd_1 : List UInt8 := dkwX4_odd_1 ++ dktX4_odd_2
def dkwX4_odd_0 : List UInt8 := [3, 60, 3, 61, 28, 42, 180, 0, 99, 162, 0, 115, 42, 28, 182, 0, 231, 42, 180, 0, 56, 28, 42]
abbrev dktX4_odd_0 : List UInt8 := dkwX4_odd_0 ++ dktX4_odd_1
theorem dksX4_odd_0 : cX4_odd.data.toList.drop 0 = dktX4_odd_0 := by decide +kernel
theorem dksX4_odd_1 : cX4_odd.data.toList.drop 23 = dktX4_odd_1 := dk_seg dksX4_odd_0 23 rfl rfl
theorem dksX4_odd_2 : cX4_odd.data.toList.drop 47 = dktX4_odd_2 := dk_seg dksX4_odd_1 24 rfl rfl
theorem dksX4_odd_3 : cX4_odd.data.toList.drop 71 = dktX4_odd_3 := dk_seg dksX4_odd_2 24 rfl rfl
theorem dksX4_odd_4 : cX4_odd.data.toList.drop 95 = dktX4_odd_4 := dk_seg dksX4_odd_3 24 rfl rfl
theorem dksX4_odd_5 : cX4_odd.data.toList.drop 118 = dktX4_odd_5 := dk_seg dksX4_odd_4 23 rfl rfl
theorem dksX4_odd_6 : cX4_odd.data.toList.drop 142 = dktX4_odd_6 := dk_seg dksX4_odd_5 24 rfl rfl
theorem dksX4_odd_7 : cX4_odd.data.toList.drop 166 = dktX4_odd_7 := dk_seg dksX4_odd_6 24 rfl rfl
theorem dksX4_odd_8 : cX4_odd.data.toList.drop 190 = dktX4_odd_8 := dk_seg dksX4_odd_7 24 rfl rfl
theorem dX4_odd_0 : decode cX4_odd 0 = .ok (.iconst 0, 1) := dk_3 (dk_at dksX4_odd_0 0 rfl rfl)
theorem dX4_odd_1 : decode cX4_odd 1 = .ok (.istore_n 1, 1) := dk_60 (dk_at dksX4_odd_0 1 rfl rfl)
theorem dX4_odd_2 : decode cX4_odd 2 = .ok (.iconst 0, 1) := dk_3 (dk_at dksX4_odd_0 2 rfl rfl)
theorem dX4_odd_3 : decode cX4_odd 3 = .ok (.istore_n 2, 1) := dk_61 (dk_at dksX4_odd_0 3 rfl rfl)
theorem dX4_odd_4 : decode cX4_odd 4 = .ok (.iload_n 2, 1) := dk_28 (dk_at dksX4_odd_0 4 rfl rfl)
theorem dX4_odd_5 : decode cX4_odd 5 = .ok (.aload_n 0, 1) := dk_42 (dk_at dksX4_odd_0 5 rfl rfl)
theorem dX4_odd_6 : decode cX4_odd 6 = .ok (.getfield 99, 3) := dk_180 0 99 (dk_at dksX4_odd_0 6 rfl rfl)
theorem dX4_odd_9 : decode cX4_odd 9 = .ok (.if_icmp .ge 115, 3) := dk_162 0 115 (dk_at dksX4_odd_0 9 rfl rfl)
theorem dX4_odd_12 : decode cX4_odd 12 = .ok (.aload_n 0, 1) := dk_42 (dk_at dksX4_odd_0 12 rfl rfl)
theorem dX4_odd_13 : decode cX4_odd 13 = .ok (.iload_n 2, 1) := dk_28 (dk_at dksX4_odd_0 13 rfl rfl)
theorem dX4_odd_14 : decode cX4_odd 14 = .ok (.invokevirtual 231, 3) := dk_182 0 231 (dk_at dksX4_odd_0 14 rfl rfl)
theorem dX4_odd_17 : decode cX4_odd 17 = .ok (.aload_n 0, 1) := dk_42 (dk_at dksX4_odd_0 17 rfl rfl)
theorem dX4_odd_18 : decode cX4_odd 18 = .ok (.getfield 56, 3) := dk_180 0 56 (dk_at dksX4_odd_0 18 rfl rfl)
theorem dX4_odd_21 : decode cX4_odd 21 = .ok (.iload_n 2, 1) := dk_28 (dk_at dksX4_odd_0 21 rfl rfl)
theorem dX4_odd_22 : decode cX4_odd 22 = .ok (.aload_n 0, 1) := dk_42 (dk_at dksX4_odd_0 22 rfl rfl)
theorem dX4_odd_23 : decode cX4_odd 23 = .ok (.getfield 211, 3) := dk_180 0 211 (dk_at dksX4_odd_1 0 rfl rfl)
theorem dX4_odd_26 : decode cX4_odd 26 = .ok (.lconst 0, 1) := dk_9 (dk_at dksX4_odd_1 3 rfl rfl)
theorem dX4_odd_27 : decode cX4_odd 27 = .ok (.lcmp, 1) := dk_148 (dk_at dksX4_odd_1 4 rfl rfl)
theorem dX4_odd_28 : decode cX4_odd 28 = .ok (.ifCond .le 18, 3) := dk_158 0 18 (dk_at dksX4_odd_1 5 rfl rfl)
theorem dX4_odd_31 : decode cX4_odd 31 = .ok (.aload_n 0, 1) := dk_42 (dk_at dksX4_odd_1 8 rfl rfl)
theorem dX4_odd_32 : decode cX4_odd 32 = .ok (.invokevirtual 241, 3) := dk_182 0 241 (dk_at dksX4_odd_1 9 rfl rfl)
theorem dX4_odd_35 : decode cX4_odd 35 = .ok (.ifCond .ne 11, 3) := dk_154 0 11 (dk_at dksX4_odd_1 12 rfl rfl)
theorem dX4_odd_38 : decode cX4_odd 38 = .ok (.aload_n 0, 1) := dk_42 (dk_at dksX4_odd_1 15 rfl rfl)
theorem dX4_odd_39 : decode cX4_odd 39 = .ok (.iconst 0, 1) := dk_3 (dk_at dksX4_odd_1 16 rfl rfl)
theorem dX4_odd_40 : decode cX4_odd 40 = .ok (.invokevirtual 244, 3) := dk_182 0 244 (dk_at dksX4_odd_1 17 rfl rfl)
theorem dX4_odd_43 : decode cX4_odd 43 = .ok (.goto 4, 3) := dk_167 0 4 (dk_at dksX4_odd_1 20 rfl rfl)
theorem dX4_odd_46 : decode cX4_odd 46 = .ok (.iconst (-1), 1) := dk_2 (dk_at dksX4_odd_1 23 rfl rfl)
theorem dX4_odd_47 : decode cX4_odd 47 = .ok (.iastore, 1) := dk_79 (dk_at dksX4_odd_2 0 rfl rfl)
theorem dX4_odd_48 : decode cX4_odd 48 = .ok (.aload_n 0, 1) := dk_42 (dk_at dksX4_odd_2 1 rfl rfl)
theorem dX4_odd_49 : decode cX4_odd 49 = .ok (.getfield 56, 3) := dk_180 0 56 (dk_at dksX4_odd_2 2 rfl rfl)
theorem dX4_odd_52 : decode cX4_odd 52 = .ok (.iload_n 2, 1) := dk_28 (dk_at dksX4_odd_2 5 rfl rfl)
theorem dX4_odd_53 : decode cX4_odd 53 = .ok (.iaload, 1) := dk_46 (dk_at dksX4_odd_2 6 rfl rfl)
theorem dX4_odd_54 : decode cX4_odd 54 = .ok (.ifCond .ge 6, 3) := dk_156 0 6 (dk_at dksX4_odd_2 7 rfl rfl)
theorem dX4_odd_57 : decode cX4_odd 57 = .ok (.goto 61, 3) := dk_167 0 61 (dk_at dksX4_odd_2 10 rfl rfl)
theorem dX4_odd_60 : decode cX4_odd 60 = .ok (.iload_n 1, 1) := dk_27 (dk_at dksX4_odd_2 13 rfl rfl)
theorem dX4_odd_61 : decode cX4_odd 61 = .ok (.istore_n 3, 1) := dk_62 (dk_at dksX4_odd_2 14 rfl rfl)
theorem dX4_odd_62 : decode cX4_odd 62 = .ok (.iload_n 3, 1) := dk_29 (dk_at dksX4_odd_2 15 rfl rfl)
theorem dX4_odd_63 : decode cX4_odd 63 = .ok (.ifCond .le 40, 3) := dk_158 0 40 (dk_at dksX4_odd_2 16 rfl rfl)
theorem dX4_odd_66 : decode cX4_odd 66 = .ok (.aload_n 0, 1) := dk_42 (dk_at dksX4_odd_2 19 rfl rfl)
theorem dX4_odd_67 : decode cX4_odd 67 = .ok (.getfield 59, 3) := dk_180 0 59 (dk_at dksX4_odd_2 20 rfl rfl)
theorem dX4_odd_70 : decode cX4_odd 70 = .ok (.iload_n 3, 1) := dk_29 (dk_at dksX4_odd_2 23 rfl rfl)
theorem dX4_odd_71 : decode cX4_odd 71 = .ok (.iconst 1, 1) := dk_4 (dk_at dksX4_odd_3 0 rfl rfl)
theorem dX4_odd_72 : decode cX4_odd 72 = .ok (.isub, 1) := dk_100 (dk_at dksX4_odd_3 1 rfl rfl)
theorem dX4_odd_73 : decode cX4_odd 73 = .ok (.iaload, 1) := dk_46 (dk_at dksX4_odd_3 2 rfl rfl)
theorem dX4_odd_74 : decode cX4_odd 74 = .ok (.aload_n 0, 1) := dk_42 (dk_at dksX4_odd_3 3 rfl rfl)
theorem dX4_odd_75 : decode cX4_odd 75 = .ok (.getfield 56, 3) := dk_180 0 56 (dk_at dksX4_odd_3 4 rfl rfl)
theorem dX4_odd_78 : decode cX4_odd 78 = .ok (.iload_n 2, 1) := dk_28 (dk_at dksX4_odd_3 7 rfl rfl)
theorem dX4_odd_79 : decode cX4_odd 79 = .ok (.iaload, 1) := dk_46 (dk_at dksX4_odd_3 8 rfl rfl)
theorem dX4_odd_80 : decode cX4_odd 80 = .ok (.if_icmp .le 23, 3) := dk_164 0 23 (dk_at dksX4_odd_3 9 rfl rfl)
theorem dX4_odd_83 : decode cX4_odd 83 = .ok (.aload_n 0, 1) := dk_42 (dk_at dksX4_odd_3 12 rfl rfl)
theorem dX4_odd_84 : decode cX4_odd 84 = .ok (.getfield 59, 3) := dk_180 0 59 (dk_at dksX4_odd_3 13 rfl rfl)
theorem dX4_odd_87 : decode cX4_odd 87 = .ok (.iload_n 3, 1) := dk_29 (dk_at dksX4_odd_3 16 rfl rfl)
theorem dX4_odd_88 : decode cX4_odd 88 = .ok (.aload_n 0, 1) := dk_42 (dk_at dksX4_odd_3 17 rfl rfl)
theorem dX4_odd_89 : decode cX4_odd 89 = .ok (.getfield 59, 3) := dk_180 0 59 (dk_at dksX4_odd_3 18 rfl rfl)
theorem dX4_odd_92 : decode cX4_odd 92 = .ok (.iload_n 3, 1) := dk_29 (dk_at dksX4_odd_3 21 rfl rfl)
theorem dX4_odd_93 : decode cX4_odd 93 = .ok (.iconst 1, 1) := dk_4 (dk_at dksX4_odd_3 22 rfl rfl)
theorem dX4_odd_94 : decode cX4_odd 94 = .ok (.isub, 1) := dk_100 (dk_at dksX4_odd_3 23 rfl rfl)
theorem dX4_odd_95 : decode cX4_odd 95 = .ok (.iaload, 1) := dk_46 (dk_at dksX4_odd_4 0 rfl rfl)
theorem dX4_odd_96 : decode cX4_odd 96 = .ok (.iastore, 1) := dk_79 (dk_at dksX4_odd_4 1 rfl rfl)
theorem dX4_odd_97 : decode cX4_odd 97 = .ok (.iinc 3 (-1), 3) := dk_132 3 255 (dk_at dksX4_odd_4 2 rfl rfl)
theorem dX4_odd_100 : decode cX4_odd 100 = .ok (.goto (-38), 3) := dk_167 255 218 (dk_at dksX4_odd_4 5 rfl rfl)
theorem dX4_odd_103 : decode cX4_odd 103 = .ok (.aload_n 0, 1) := dk_42 (dk_at dksX4_odd_4 8 rfl rfl)
theorem dX4_odd_104 : decode cX4_odd 104 = .ok (.getfield 59, 3) := dk_180 0 59 (dk_at dksX4_odd_4 9 rfl rfl)
theorem dX4_odd_107 : decode cX4_odd 107 = .ok (.iload_n 3, 1) := dk_29 (dk_at dksX4_odd_4 12 rfl rfl)
theorem dX4_odd_108 : decode cX4_odd 108 = .ok (.aload_n 0, 1) := dk_42 (dk_at dksX4_odd_4 13 rfl rfl)
theorem dX4_odd_109 : decode cX4_odd 109 = .ok (.getfield 56, 3) := dk_180 0 56 (dk_at dksX4_odd_4 14 rfl rfl)
theorem dX4_odd_112 : decode cX4_odd 112 = .ok (.iload_n 2, 1) := dk_28 (dk_at dksX4_odd_4 17 rfl rfl)
theorem dX4_odd_113 : decode cX4_odd 113 = .ok (.iaload, 1) := dk_46 (dk_at dksX4_odd_4 18 rfl rfl)
theorem dX4_odd_114 : decode cX4_odd 114 = .ok (.iastore, 1) := dk_79 (dk_at dksX4_odd_4 19 rfl rfl)
theorem dX4_odd_115 : decode cX4_odd 115 = .ok (.iinc 1 1, 3) := dk_132 1 1 (dk_at dksX4_odd_4 20 rfl rfl)
theorem dX4_odd_118 : decode cX4_odd 118 = .ok (.iinc 2 1, 3) := dk_132 2 1 (dk_at dksX4_odd_5 0 rfl rfl)
theorem dX4_odd_121 : decode cX4_odd 121 = .ok (.goto (-117), 3) := dk_167 255 139 (dk_at dksX4_odd_5 3 rfl rfl)
theorem dX4_odd_124 : decode cX4_odd 124 = .ok (.iconst 0, 1) := dk_3 (dk_at dksX4_odd_5 6 rfl rfl)
theorem dX4_odd_125 : decode cX4_odd 125 = .ok (.istore_n 2, 1) := dk_61 (dk_at dksX4_odd_5 7 rfl rfl)
theorem dX4_odd_126 : decode cX4_odd 126 = .ok (.iconst 0, 1) := dk_3 (dk_at dksX4_odd_5 8 rfl rfl)
theorem dX4_odd_127 : decode cX4_odd 127 = .ok (.istore_n 3, 1) := dk_62 (dk_at dksX4_odd_5 9 rfl rfl)
theorem dX4_odd_128 : decode cX4_odd 128 = .ok (.iload_n 3, 1) := dk_29 (dk_at dksX4_odd_5 10 rfl rfl)
theorem dX4_odd_129 : decode cX4_odd 129 = .ok (.aload_n 0, 1) := dk_42 (dk_at dksX4_odd_5 11 rfl rfl)
theorem dX4_odd_130 : decode cX4_odd 130 = .ok (.getfield 99, 3) := dk_180 0 99 (dk_at dksX4_odd_5 12 rfl rfl)
theorem dX4_odd_133 : decode cX4_odd 133 = .ok (.if_icmp .ge 64, 3) := dk_162 0 64 (dk_at dksX4_odd_5 15 rfl rfl)
theorem dX4_odd_136 : decode cX4_odd 136 = .ok (.aload_n 0, 1) := dk_42 (dk_at dksX4_odd_5 18 rfl rfl)
theorem dX4_odd_137 : decode cX4_odd 137 = .ok (.getfield 56, 3) := dk_180 0 56 (dk_at dksX4_odd_5 19 rfl rfl)
theorem dX4_odd_140 : decode cX4_odd 140 = .ok (.iload_n 3, 1) := dk_29 (dk_at dksX4_odd_5 22 rfl rfl)
theorem dX4_odd_141 : decode cX4_odd 141 = .ok (.iaload, 1) := dk_46 (dk_at dksX4_odd_5 23 rfl rfl)
theorem dX4_odd_142 : decode cX4_odd 142 = .ok (.ifCond .ge 7, 3) := dk_156 0 7 (dk_at dksX4_odd_6 0 rfl rfl)
theorem dX4_odd_145 : decode cX4_odd 145 = .ok (.iconst 0, 1) := dk_3 (dk_at dksX4_odd_6 3 rfl rfl)
theorem dX4_odd_146 : decode cX4_odd 146 = .ok (.goto 20, 3) := dk_167 0 20 (dk_at dksX4_odd_6 4 rfl rfl)
theorem dX4_odd_149 : decode cX4_odd 149 = .ok (.aload_n 0, 1) := dk_42 (dk_at dksX4_odd_6 7 rfl rfl)
theorem dX4_odd_150 : decode cX4_odd 150 = .ok (.getfield 56, 3) := dk_180 0 56 (dk_at dksX4_odd_6 8 rfl rfl)
theorem dX4_odd_153 : decode cX4_odd 153 = .ok (.iload_n 3, 1) := dk_29 (dk_at dksX4_odd_6 11 rfl rfl)
theorem dX4_odd_154 : decode cX4_odd 154 = .ok (.iaload, 1) := dk_46 (dk_at dksX4_odd_6 12 rfl rfl)
theorem dX4_odd_155 : decode cX4_odd 155 = .ok (.aload_n 0, 1) := dk_42 (dk_at dksX4_odd_6 13 rfl rfl)
theorem dX4_odd_156 : decode cX4_odd 156 = .ok (.getfield 59, 3) := dk_180 0 59 (dk_at dksX4_odd_6 14 rfl rfl)
theorem dX4_odd_159 : decode cX4_odd 159 = .ok (.iload_n 1, 1) := dk_27 (dk_at dksX4_odd_6 17 rfl rfl)
theorem dX4_odd_160 : decode cX4_odd 160 = .ok (.iconst 1, 1) := dk_4 (dk_at dksX4_odd_6 18 rfl rfl)
theorem dX4_odd_161 : decode cX4_odd 161 = .ok (.isub, 1) := dk_100 (dk_at dksX4_odd_6 19 rfl rfl)
theorem dX4_odd_162 : decode cX4_odd 162 = .ok (.iconst 2, 1) := dk_5 (dk_at dksX4_odd_6 20 rfl rfl)
theorem dX4_odd_163 : decode cX4_odd 163 = .ok (.idiv, 1) := dk_108 (dk_at dksX4_odd_6 21 rfl rfl)
theorem dX4_odd_164 : decode cX4_odd 164 = .ok (.iaload, 1) := dk_46 (dk_at dksX4_odd_6 22 rfl rfl)
theorem dX4_odd_165 : decode cX4_odd 165 = .ok (.isub, 1) := dk_100 (dk_at dksX4_odd_6 23 rfl rfl)
theorem dX4_odd_166 : decode cX4_odd 166 = .ok (.istore 4, 2) := dk_54 4 (dk_at dksX4_odd_7 0 rfl rfl)
theorem dX4_odd_168 : decode cX4_odd 168 = .ok (.iload_n 2, 1) := dk_28 (dk_at dksX4_odd_7 2 rfl rfl)
theorem dX4_odd_169 : decode cX4_odd 169 = .ok (.iload 4, 2) := dk_21 4 (dk_at dksX4_odd_7 3 rfl rfl)
theorem dX4_odd_171 : decode cX4_odd 171 = .ok (.iconst 2, 1) := dk_5 (dk_at dksX4_odd_7 5 rfl rfl)
theorem dX4_odd_172 : decode cX4_odd 172 = .ok (.if_icmp .gt 10, 3) := dk_163 0 10 (dk_at dksX4_odd_7 6 rfl rfl)
theorem dX4_odd_175 : decode cX4_odd 175 = .ok (.iload 4, 2) := dk_21 4 (dk_at dksX4_odd_7 9 rfl rfl)
theorem dX4_odd_177 : decode cX4_odd 177 = .ok (.bipush (-2), 2) := dk_16 254 (dk_at dksX4_odd_7 11 rfl rfl)
theorem dX4_odd_179 : decode cX4_odd 179 = .ok (.if_icmp .ge 9, 3) := dk_162 0 9 (dk_at dksX4_odd_7 13 rfl rfl)
theorem dX4_odd_182 : decode cX4_odd 182 = .ok (.iconst 1, 1) := dk_4 (dk_at dksX4_odd_7 16 rfl rfl)
theorem dX4_odd_183 : decode cX4_odd 183 = .ok (.iload_n 3, 1) := dk_29 (dk_at dksX4_odd_7 17 rfl rfl)
theorem dX4_odd_184 : decode cX4_odd 184 = .ok (.ishl, 1) := dk_120 (dk_at dksX4_odd_7 18 rfl rfl)
theorem dX4_odd_185 : decode cX4_odd 185 = .ok (.goto 4, 3) := dk_167 0 4 (dk_at dksX4_odd_7 19 rfl rfl)
theorem dX4_odd_188 : decode cX4_odd 188 = .ok (.iconst 0, 1) := dk_3 (dk_at dksX4_odd_7 22 rfl rfl)
theorem dX4_odd_189 : decode cX4_odd 189 = .ok (.ior, 1) := dk_128 (dk_at dksX4_odd_7 23 rfl rfl)
theorem dX4_odd_190 : decode cX4_odd 190 = .ok (.istore_n 2, 1) := dk_61 (dk_at dksX4_odd_8 0 rfl rfl)
theorem dX4_odd_191 : decode cX4_odd 191 = .ok (.iinc 3 1, 3) := dk_132 3 1 (dk_at dksX4_odd_8 1 rfl rfl)
theorem dX4_odd_194 : decode cX4_odd 194 = .ok (.goto (-66), 3) := dk_167 255 190 (dk_at dksX4_odd_8 4 rfl rfl)
theorem dX4_odd_197 : decode cX4_odd 197 = .ok (.iload_n 2, 1) := dk_28 (dk_at dksX4_odd_8 7 rfl rfl)
theorem dX4_odd_198 : decode cX4_odd 198 = .ok (.ireturn, 1) := dk_172 (dk_at dksX4_odd_8 8 rfl rfl)
abbrev cX4_next : ByteArray := prog_34_method_45_code
def yX4_next : MethodName := ⟨RX4, "next", "(I)I"⟩
def dkwX4_next_7 : List UInt8 := [132, 5, 1, 167, 255, 113, 28, 172]
abbrev dktX4_next_7 : List UInt8 := dkwX4_next_7 ++ []
def dkwX4_next_6 : List UInt8 := [46, 133, 105, 55, 10, 28, 155, 0, 10, 22, 10, 33, 148, 156, 0, 9, 21, 5, 61, 22, 10, 66]
abbrev dktX4_next_6 : List UInt8 := dkwX4_next_6 ++ dktX4_next_7
def dkwX4_next_5 : List UInt8 := [22, 6, 22, 8, 148, 158, 0, 8, 22, 6, 167, 0, 5, 22, 8, 42, 180, 0, 9, 16, 12, 21, 5, 96]
abbrev dktX4_next_5 : List UInt8 := dkwX4_next_5 ++ dktX4_next_6
def dkwX4_next_4 : List UInt8 := [42, 180, 0, 49, 21, 10, 47, 16, 100, 21, 11, 100, 133, 105, 97, 55, 8, 132, 10, 1, 167, 255, 194]
abbrev dktX4_next_4 : List UInt8 := dkwX4_next_4 ++ dktX4_next_5
def dkwX4_next_3 : List UInt8 := [21, 10, 96, 46, 54, 11, 22, 6, 42, 180, 0, 49, 21, 10, 47, 21, 11, 133, 105, 97, 55, 6, 22, 8]
abbrev dktX4_next_3 : List UInt8 := dkwX4_next_3 ++ dktX4_next_4
def dkwX4_next_2 : List UInt8 := [55, 8, 3, 54, 10, 21, 10, 17, 0, 180, 162, 0, 60, 42, 180, 0, 43, 17, 0, 180, 21, 5, 104]
abbrev dktX4_next_2 : List UInt8 := dkwX4_next_2 ++ dktX4_next_3
def dkwX4_next_1 : List UInt8 := [21, 5, 16, 6, 162, 0, 142, 42, 180, 0, 46, 21, 5, 46, 153, 0, 6, 167, 0, 123, 9, 55, 6, 9]
abbrev dktX4_next_1 : List UInt8 := dkwX4_next_1 ++ dktX4_next_2
def dkwX4_next_0 : List UInt8 := [42, 27, 182, 0, 132, 154, 0, 5, 2, 172, 42, 27, 182, 0, 231, 16, 254, 61, 9, 66, 3, 54, 5]
abbrev dktX4_next_0 : List UInt8 := dkwX4_next_0 ++ dktX4_next_1
theorem dksX4_next_0 : cX4_next.data.toList.drop 0 = dktX4_next_0 := by decide +kernel
theorem dksX4_next_1 : cX4_next.data.toList.drop 23 = dktX4_next_1 := dk_seg dksX4_next_0 23 rfl rfl
theorem dksX4_next_2 : cX4_next.data.toList.drop 47 = dktX4_next_2 := dk_seg dksX4_next_1 24 rfl rfl
theorem dksX4_next_3 : cX4_next.data.toList.drop 70 = dktX4_next_3 := dk_seg dksX4_next_2 23 rfl rfl
theorem dksX4_next_4 : cX4_next.data.toList.drop 94 = dktX4_next_4 := dk_seg dksX4_next_3 24 rfl rfl
theorem dksX4_next_5 : cX4_next.data.toList.drop 117 = dktX4_next_5 := dk_seg dksX4_next_4 23 rfl rfl
theorem dksX4_next_6 : cX4_next.data.toList.drop 141 = dktX4_next_6 := dk_seg dksX4_next_5 24 rfl rfl
theorem dksX4_next_7 : cX4_next.data.toList.drop 163 = dktX4_next_7 := dk_seg dksX4_next_6 22 rfl rfl
theorem dX4_next_0 : decode cX4_next 0 = .ok (.aload_n 0, 1) := dk_42 (dk_at dksX4_next_0 0 rfl rfl)
theorem dX4_next_1 : decode cX4_next 1 = .ok (.iload_n 1, 1) := dk_27 (dk_at dksX4_next_0 1 rfl rfl)
theorem dX4_next_2 : decode cX4_next 2 = .ok (.invokevirtual 132, 3) := dk_182 0 132 (dk_at dksX4_next_0 2 rfl rfl)
theorem dX4_next_5 : decode cX4_next 5 = .ok (.ifCond .ne 5, 3) := dk_154 0 5 (dk_at dksX4_next_0 5 rfl rfl)
theorem dX4_next_8 : decode cX4_next 8 = .ok (.iconst (-1), 1) := dk_2 (dk_at dksX4_next_0 8 rfl rfl)
theorem dX4_next_9 : decode cX4_next 9 = .ok (.ireturn, 1) := dk_172 (dk_at dksX4_next_0 9 rfl rfl)
theorem dX4_next_10 : decode cX4_next 10 = .ok (.aload_n 0, 1) := dk_42 (dk_at dksX4_next_0 10 rfl rfl)
theorem dX4_next_11 : decode cX4_next 11 = .ok (.iload_n 1, 1) := dk_27 (dk_at dksX4_next_0 11 rfl rfl)
theorem dX4_next_12 : decode cX4_next 12 = .ok (.invokevirtual 231, 3) := dk_182 0 231 (dk_at dksX4_next_0 12 rfl rfl)
theorem dX4_next_15 : decode cX4_next 15 = .ok (.bipush (-2), 2) := dk_16 254 (dk_at dksX4_next_0 15 rfl rfl)
theorem dX4_next_17 : decode cX4_next 17 = .ok (.istore_n 2, 1) := dk_61 (dk_at dksX4_next_0 17 rfl rfl)
theorem dX4_next_18 : decode cX4_next 18 = .ok (.lconst 0, 1) := dk_9 (dk_at dksX4_next_0 18 rfl rfl)
theorem dX4_next_19 : decode cX4_next 19 = .ok (.lstore_n 3, 1) := dk_66 (dk_at dksX4_next_0 19 rfl rfl)
theorem dX4_next_20 : decode cX4_next 20 = .ok (.iconst 0, 1) := dk_3 (dk_at dksX4_next_0 20 rfl rfl)
theorem dX4_next_21 : decode cX4_next 21 = .ok (.istore 5, 2) := dk_54 5 (dk_at dksX4_next_0 21 rfl rfl)
theorem dX4_next_23 : decode cX4_next 23 = .ok (.iload 5, 2) := dk_21 5 (dk_at dksX4_next_1 0 rfl rfl)
theorem dX4_next_25 : decode cX4_next 25 = .ok (.bipush 6, 2) := dk_16 6 (dk_at dksX4_next_1 2 rfl rfl)
theorem dX4_next_27 : decode cX4_next 27 = .ok (.if_icmp .ge 142, 3) := dk_162 0 142 (dk_at dksX4_next_1 4 rfl rfl)
theorem dX4_next_30 : decode cX4_next 30 = .ok (.aload_n 0, 1) := dk_42 (dk_at dksX4_next_1 7 rfl rfl)
theorem dX4_next_31 : decode cX4_next 31 = .ok (.getfield 46, 3) := dk_180 0 46 (dk_at dksX4_next_1 8 rfl rfl)
theorem dX4_next_34 : decode cX4_next 34 = .ok (.iload 5, 2) := dk_21 5 (dk_at dksX4_next_1 11 rfl rfl)
theorem dX4_next_36 : decode cX4_next 36 = .ok (.iaload, 1) := dk_46 (dk_at dksX4_next_1 13 rfl rfl)
theorem dX4_next_37 : decode cX4_next 37 = .ok (.ifCond .eq 6, 3) := dk_153 0 6 (dk_at dksX4_next_1 14 rfl rfl)
theorem dX4_next_40 : decode cX4_next 40 = .ok (.goto 123, 3) := dk_167 0 123 (dk_at dksX4_next_1 17 rfl rfl)
theorem dX4_next_43 : decode cX4_next 43 = .ok (.lconst 0, 1) := dk_9 (dk_at dksX4_next_1 20 rfl rfl)
theorem dX4_next_44 : decode cX4_next 44 = .ok (.lstore 6, 2) := dk_55 6 (dk_at dksX4_next_1 21 rfl rfl)
theorem dX4_next_46 : decode cX4_next 46 = .ok (.lconst 0, 1) := dk_9 (dk_at dksX4_next_1 23 rfl rfl)
theorem dX4_next_47 : decode cX4_next 47 = .ok (.lstore 8, 2) := dk_55 8 (dk_at dksX4_next_2 0 rfl rfl)
theorem dX4_next_49 : decode cX4_next 49 = .ok (.iconst 0, 1) := dk_3 (dk_at dksX4_next_2 2 rfl rfl)
theorem dX4_next_50 : decode cX4_next 50 = .ok (.istore 10, 2) := dk_54 10 (dk_at dksX4_next_2 3 rfl rfl)
theorem dX4_next_52 : decode cX4_next 52 = .ok (.iload 10, 2) := dk_21 10 (dk_at dksX4_next_2 5 rfl rfl)
theorem dX4_next_54 : decode cX4_next 54 = .ok (.sipush 180, 3) := dk_17 0 180 (dk_at dksX4_next_2 7 rfl rfl)
theorem dX4_next_57 : decode cX4_next 57 = .ok (.if_icmp .ge 60, 3) := dk_162 0 60 (dk_at dksX4_next_2 10 rfl rfl)
theorem dX4_next_60 : decode cX4_next 60 = .ok (.aload_n 0, 1) := dk_42 (dk_at dksX4_next_2 13 rfl rfl)
theorem dX4_next_61 : decode cX4_next 61 = .ok (.getfield 43, 3) := dk_180 0 43 (dk_at dksX4_next_2 14 rfl rfl)
theorem dX4_next_64 : decode cX4_next 64 = .ok (.sipush 180, 3) := dk_17 0 180 (dk_at dksX4_next_2 17 rfl rfl)
theorem dX4_next_67 : decode cX4_next 67 = .ok (.iload 5, 2) := dk_21 5 (dk_at dksX4_next_2 20 rfl rfl)
theorem dX4_next_69 : decode cX4_next 69 = .ok (.imul, 1) := dk_104 (dk_at dksX4_next_2 22 rfl rfl)
theorem dX4_next_70 : decode cX4_next 70 = .ok (.iload 10, 2) := dk_21 10 (dk_at dksX4_next_3 0 rfl rfl)
theorem dX4_next_72 : decode cX4_next 72 = .ok (.iadd, 1) := dk_96 (dk_at dksX4_next_3 2 rfl rfl)
theorem dX4_next_73 : decode cX4_next 73 = .ok (.iaload, 1) := dk_46 (dk_at dksX4_next_3 3 rfl rfl)
theorem dX4_next_74 : decode cX4_next 74 = .ok (.istore 11, 2) := dk_54 11 (dk_at dksX4_next_3 4 rfl rfl)
theorem dX4_next_76 : decode cX4_next 76 = .ok (.lload 6, 2) := dk_22 6 (dk_at dksX4_next_3 6 rfl rfl)
theorem dX4_next_78 : decode cX4_next 78 = .ok (.aload_n 0, 1) := dk_42 (dk_at dksX4_next_3 8 rfl rfl)
theorem dX4_next_79 : decode cX4_next 79 = .ok (.getfield 49, 3) := dk_180 0 49 (dk_at dksX4_next_3 9 rfl rfl)
theorem dX4_next_82 : decode cX4_next 82 = .ok (.iload 10, 2) := dk_21 10 (dk_at dksX4_next_3 12 rfl rfl)
theorem dX4_next_84 : decode cX4_next 84 = .ok (.laload, 1) := dk_47 (dk_at dksX4_next_3 14 rfl rfl)
theorem dX4_next_85 : decode cX4_next 85 = .ok (.iload 11, 2) := dk_21 11 (dk_at dksX4_next_3 15 rfl rfl)
theorem dX4_next_87 : decode cX4_next 87 = .ok (.i2l, 1) := dk_133 (dk_at dksX4_next_3 17 rfl rfl)
theorem dX4_next_88 : decode cX4_next 88 = .ok (.lmul, 1) := dk_105 (dk_at dksX4_next_3 18 rfl rfl)
theorem dX4_next_89 : decode cX4_next 89 = .ok (.ladd, 1) := dk_97 (dk_at dksX4_next_3 19 rfl rfl)
theorem dX4_next_90 : decode cX4_next 90 = .ok (.lstore 6, 2) := dk_55 6 (dk_at dksX4_next_3 20 rfl rfl)
theorem dX4_next_92 : decode cX4_next 92 = .ok (.lload 8, 2) := dk_22 8 (dk_at dksX4_next_3 22 rfl rfl)
theorem dX4_next_94 : decode cX4_next 94 = .ok (.aload_n 0, 1) := dk_42 (dk_at dksX4_next_4 0 rfl rfl)
theorem dX4_next_95 : decode cX4_next 95 = .ok (.getfield 49, 3) := dk_180 0 49 (dk_at dksX4_next_4 1 rfl rfl)
theorem dX4_next_98 : decode cX4_next 98 = .ok (.iload 10, 2) := dk_21 10 (dk_at dksX4_next_4 4 rfl rfl)
theorem dX4_next_100 : decode cX4_next 100 = .ok (.laload, 1) := dk_47 (dk_at dksX4_next_4 6 rfl rfl)
theorem dX4_next_101 : decode cX4_next 101 = .ok (.bipush 100, 2) := dk_16 100 (dk_at dksX4_next_4 7 rfl rfl)
theorem dX4_next_103 : decode cX4_next 103 = .ok (.iload 11, 2) := dk_21 11 (dk_at dksX4_next_4 9 rfl rfl)
theorem dX4_next_105 : decode cX4_next 105 = .ok (.isub, 1) := dk_100 (dk_at dksX4_next_4 11 rfl rfl)
theorem dX4_next_106 : decode cX4_next 106 = .ok (.i2l, 1) := dk_133 (dk_at dksX4_next_4 12 rfl rfl)
theorem dX4_next_107 : decode cX4_next 107 = .ok (.lmul, 1) := dk_105 (dk_at dksX4_next_4 13 rfl rfl)
theorem dX4_next_108 : decode cX4_next 108 = .ok (.ladd, 1) := dk_97 (dk_at dksX4_next_4 14 rfl rfl)
theorem dX4_next_109 : decode cX4_next 109 = .ok (.lstore 8, 2) := dk_55 8 (dk_at dksX4_next_4 15 rfl rfl)
theorem dX4_next_111 : decode cX4_next 111 = .ok (.iinc 10 1, 3) := dk_132 10 1 (dk_at dksX4_next_4 17 rfl rfl)
theorem dX4_next_114 : decode cX4_next 114 = .ok (.goto (-62), 3) := dk_167 255 194 (dk_at dksX4_next_4 20 rfl rfl)
theorem dX4_next_117 : decode cX4_next 117 = .ok (.lload 6, 2) := dk_22 6 (dk_at dksX4_next_5 0 rfl rfl)
theorem dX4_next_119 : decode cX4_next 119 = .ok (.lload 8, 2) := dk_22 8 (dk_at dksX4_next_5 2 rfl rfl)
theorem dX4_next_121 : decode cX4_next 121 = .ok (.lcmp, 1) := dk_148 (dk_at dksX4_next_5 4 rfl rfl)
theorem dX4_next_122 : decode cX4_next 122 = .ok (.ifCond .le 8, 3) := dk_158 0 8 (dk_at dksX4_next_5 5 rfl rfl)
theorem dX4_next_125 : decode cX4_next 125 = .ok (.lload 6, 2) := dk_22 6 (dk_at dksX4_next_5 8 rfl rfl)
theorem dX4_next_127 : decode cX4_next 127 = .ok (.goto 5, 3) := dk_167 0 5 (dk_at dksX4_next_5 10 rfl rfl)
theorem dX4_next_130 : decode cX4_next 130 = .ok (.lload 8, 2) := dk_22 8 (dk_at dksX4_next_5 13 rfl rfl)
theorem dX4_next_132 : decode cX4_next 132 = .ok (.aload_n 0, 1) := dk_42 (dk_at dksX4_next_5 15 rfl rfl)
theorem dX4_next_133 : decode cX4_next 133 = .ok (.getfield 9, 3) := dk_180 0 9 (dk_at dksX4_next_5 16 rfl rfl)
theorem dX4_next_136 : decode cX4_next 136 = .ok (.bipush 12, 2) := dk_16 12 (dk_at dksX4_next_5 19 rfl rfl)
theorem dX4_next_138 : decode cX4_next 138 = .ok (.iload 5, 2) := dk_21 5 (dk_at dksX4_next_5 21 rfl rfl)
theorem dX4_next_140 : decode cX4_next 140 = .ok (.iadd, 1) := dk_96 (dk_at dksX4_next_5 23 rfl rfl)
theorem dX4_next_141 : decode cX4_next 141 = .ok (.iaload, 1) := dk_46 (dk_at dksX4_next_6 0 rfl rfl)
theorem dX4_next_142 : decode cX4_next 142 = .ok (.i2l, 1) := dk_133 (dk_at dksX4_next_6 1 rfl rfl)
theorem dX4_next_143 : decode cX4_next 143 = .ok (.lmul, 1) := dk_105 (dk_at dksX4_next_6 2 rfl rfl)
theorem dX4_next_144 : decode cX4_next 144 = .ok (.lstore 10, 2) := dk_55 10 (dk_at dksX4_next_6 3 rfl rfl)
theorem dX4_next_146 : decode cX4_next 146 = .ok (.iload_n 2, 1) := dk_28 (dk_at dksX4_next_6 5 rfl rfl)
theorem dX4_next_147 : decode cX4_next 147 = .ok (.ifCond .lt 10, 3) := dk_155 0 10 (dk_at dksX4_next_6 6 rfl rfl)
theorem dX4_next_150 : decode cX4_next 150 = .ok (.lload 10, 2) := dk_22 10 (dk_at dksX4_next_6 9 rfl rfl)
theorem dX4_next_152 : decode cX4_next 152 = .ok (.lload_n 3, 1) := dk_33 (dk_at dksX4_next_6 11 rfl rfl)
theorem dX4_next_153 : decode cX4_next 153 = .ok (.lcmp, 1) := dk_148 (dk_at dksX4_next_6 12 rfl rfl)
theorem dX4_next_154 : decode cX4_next 154 = .ok (.ifCond .ge 9, 3) := dk_156 0 9 (dk_at dksX4_next_6 13 rfl rfl)
theorem dX4_next_157 : decode cX4_next 157 = .ok (.iload 5, 2) := dk_21 5 (dk_at dksX4_next_6 16 rfl rfl)
theorem dX4_next_159 : decode cX4_next 159 = .ok (.istore_n 2, 1) := dk_61 (dk_at dksX4_next_6 18 rfl rfl)
theorem dX4_next_160 : decode cX4_next 160 = .ok (.lload 10, 2) := dk_22 10 (dk_at dksX4_next_6 19 rfl rfl)
theorem dX4_next_162 : decode cX4_next 162 = .ok (.lstore_n 3, 1) := dk_66 (dk_at dksX4_next_6 21 rfl rfl)
theorem dX4_next_163 : decode cX4_next 163 = .ok (.iinc 5 1, 3) := dk_132 5 1 (dk_at dksX4_next_7 0 rfl rfl)
theorem dX4_next_166 : decode cX4_next 166 = .ok (.goto (-143), 3) := dk_167 255 113 (dk_at dksX4_next_7 3 rfl rfl)
theorem dX4_next_169 : decode cX4_next 169 = .ok (.iload_n 2, 1) := dk_28 (dk_at dksX4_next_7 6 rfl rfl)
theorem dX4_next_170 : decode cX4_next 170 = .ok (.ireturn, 1) := dk_172 (dk_at dksX4_next_7 7 rfl rfl)
abbrev cX4_named : ByteArray := prog_34_method_49_code
def yX4_named : MethodName := ⟨RX4, "named", "(II)I"⟩
def dkwX4_named_2 : List UInt8 := [182, 0, 253, 126, 42, 180, 0, 211, 182, 1, 0, 172]
abbrev dktX4_named_2 : List UInt8 := dkwX4_named_2 ++ []
def dkwX4_named_1 : List UInt8 := [182, 0, 231, 42, 180, 0, 211, 9, 148, 154, 0, 8, 16, 254, 167, 0, 19, 42, 27, 28, 42, 27]
abbrev dktX4_named_1 : List UInt8 := dkwX4_named_1 ++ dktX4_named_2
def dkwX4_named_0 : List UInt8 := [42, 27, 182, 0, 132, 153, 0, 15, 28, 133, 9, 20, 0, 251, 184, 0, 102, 154, 0, 5, 2, 172, 42, 27]
abbrev dktX4_named_0 : List UInt8 := dkwX4_named_0 ++ dktX4_named_1
theorem dksX4_named_0 : cX4_named.data.toList.drop 0 = dktX4_named_0 := by decide +kernel
theorem dksX4_named_1 : cX4_named.data.toList.drop 24 = dktX4_named_1 := dk_seg dksX4_named_0 24 rfl rfl
theorem dksX4_named_2 : cX4_named.data.toList.drop 46 = dktX4_named_2 := dk_seg dksX4_named_1 22 rfl rfl
theorem dX4_named_0 : decode cX4_named 0 = .ok (.aload_n 0, 1) := dk_42 (dk_at dksX4_named_0 0 rfl rfl)
theorem dX4_named_1 : decode cX4_named 1 = .ok (.iload_n 1, 1) := dk_27 (dk_at dksX4_named_0 1 rfl rfl)
theorem dX4_named_2 : decode cX4_named 2 = .ok (.invokevirtual 132, 3) := dk_182 0 132 (dk_at dksX4_named_0 2 rfl rfl)
theorem dX4_named_5 : decode cX4_named 5 = .ok (.ifCond .eq 15, 3) := dk_153 0 15 (dk_at dksX4_named_0 5 rfl rfl)
theorem dX4_named_8 : decode cX4_named 8 = .ok (.iload_n 2, 1) := dk_28 (dk_at dksX4_named_0 8 rfl rfl)
theorem dX4_named_9 : decode cX4_named 9 = .ok (.i2l, 1) := dk_133 (dk_at dksX4_named_0 9 rfl rfl)
theorem dX4_named_10 : decode cX4_named 10 = .ok (.lconst 0, 1) := dk_9 (dk_at dksX4_named_0 10 rfl rfl)
theorem dX4_named_11 : decode cX4_named 11 = .ok (.ldc2_w 251, 3) := dk_20 0 251 (dk_at dksX4_named_0 11 rfl rfl)
theorem dX4_named_14 : decode cX4_named 14 = .ok (.invokestatic 102, 3) := dk_184 0 102 (dk_at dksX4_named_0 14 rfl rfl)
theorem dX4_named_17 : decode cX4_named 17 = .ok (.ifCond .ne 5, 3) := dk_154 0 5 (dk_at dksX4_named_0 17 rfl rfl)
theorem dX4_named_20 : decode cX4_named 20 = .ok (.iconst (-1), 1) := dk_2 (dk_at dksX4_named_0 20 rfl rfl)
theorem dX4_named_21 : decode cX4_named 21 = .ok (.ireturn, 1) := dk_172 (dk_at dksX4_named_0 21 rfl rfl)
theorem dX4_named_22 : decode cX4_named 22 = .ok (.aload_n 0, 1) := dk_42 (dk_at dksX4_named_0 22 rfl rfl)
theorem dX4_named_23 : decode cX4_named 23 = .ok (.iload_n 1, 1) := dk_27 (dk_at dksX4_named_0 23 rfl rfl)
theorem dX4_named_24 : decode cX4_named 24 = .ok (.invokevirtual 231, 3) := dk_182 0 231 (dk_at dksX4_named_1 0 rfl rfl)
theorem dX4_named_27 : decode cX4_named 27 = .ok (.aload_n 0, 1) := dk_42 (dk_at dksX4_named_1 3 rfl rfl)
theorem dX4_named_28 : decode cX4_named 28 = .ok (.getfield 211, 3) := dk_180 0 211 (dk_at dksX4_named_1 4 rfl rfl)
theorem dX4_named_31 : decode cX4_named 31 = .ok (.lconst 0, 1) := dk_9 (dk_at dksX4_named_1 7 rfl rfl)
theorem dX4_named_32 : decode cX4_named 32 = .ok (.lcmp, 1) := dk_148 (dk_at dksX4_named_1 8 rfl rfl)
theorem dX4_named_33 : decode cX4_named 33 = .ok (.ifCond .ne 8, 3) := dk_154 0 8 (dk_at dksX4_named_1 9 rfl rfl)
theorem dX4_named_36 : decode cX4_named 36 = .ok (.bipush (-2), 2) := dk_16 254 (dk_at dksX4_named_1 12 rfl rfl)
theorem dX4_named_38 : decode cX4_named 38 = .ok (.goto 19, 3) := dk_167 0 19 (dk_at dksX4_named_1 14 rfl rfl)
theorem dX4_named_41 : decode cX4_named 41 = .ok (.aload_n 0, 1) := dk_42 (dk_at dksX4_named_1 17 rfl rfl)
theorem dX4_named_42 : decode cX4_named 42 = .ok (.iload_n 1, 1) := dk_27 (dk_at dksX4_named_1 18 rfl rfl)
theorem dX4_named_43 : decode cX4_named 43 = .ok (.iload_n 2, 1) := dk_28 (dk_at dksX4_named_1 19 rfl rfl)
theorem dX4_named_44 : decode cX4_named 44 = .ok (.aload_n 0, 1) := dk_42 (dk_at dksX4_named_1 20 rfl rfl)
theorem dX4_named_45 : decode cX4_named 45 = .ok (.iload_n 1, 1) := dk_27 (dk_at dksX4_named_1 21 rfl rfl)
theorem dX4_named_46 : decode cX4_named 46 = .ok (.invokevirtual 253, 3) := dk_182 0 253 (dk_at dksX4_named_2 0 rfl rfl)
theorem dX4_named_49 : decode cX4_named 49 = .ok (.iand, 1) := dk_126 (dk_at dksX4_named_2 3 rfl rfl)
theorem dX4_named_50 : decode cX4_named 50 = .ok (.aload_n 0, 1) := dk_42 (dk_at dksX4_named_2 4 rfl rfl)
theorem dX4_named_51 : decode cX4_named 51 = .ok (.getfield 211, 3) := dk_180 0 211 (dk_at dksX4_named_2 5 rfl rfl)
theorem dX4_named_54 : decode cX4_named 54 = .ok (.invokevirtual 256, 3) := dk_182 1 0 (dk_at dksX4_named_2 8 rfl rfl)
theorem dX4_named_57 : decode cX4_named 57 = .ok (.ireturn, 1) := dk_172 (dk_at dksX4_named_2 11 rfl rfl)
abbrev cX4_unlooked : ByteArray := prog_34_method_47_code
def yX4_unlooked : MethodName := ⟨RX4, "unlooked", "(I)I"⟩
def dkwX4_unlooked_1 : List UInt8 := [154, 0, 9, 4, 29, 120, 167, 0, 4, 3, 128, 61, 132, 3, 1, 167, 255, 223, 28, 172]
abbrev dktX4_unlooked_1 : List UInt8 := dkwX4_unlooked_1 ++ []
def dkwX4_unlooked_0 : List UInt8 := [3, 61, 3, 62, 29, 16, 6, 162, 0, 33, 28, 42, 180, 0, 28, 16, 6, 27, 104, 29, 96, 46]
abbrev dktX4_unlooked_0 : List UInt8 := dkwX4_unlooked_0 ++ dktX4_unlooked_1
theorem dksX4_unlooked_0 : cX4_unlooked.data.toList.drop 0 = dktX4_unlooked_0 := by decide +kernel
theorem dksX4_unlooked_1 : cX4_unlooked.data.toList.drop 22 = dktX4_unlooked_1 := dk_seg dksX4_unlooked_0 22 rfl rfl
theorem dX4_unlooked_0 : decode cX4_unlooked 0 = .ok (.iconst 0, 1) := dk_3 (dk_at dksX4_unlooked_0 0 rfl rfl)
theorem dX4_unlooked_1 : decode cX4_unlooked 1 = .ok (.istore_n 2, 1) := dk_61 (dk_at dksX4_unlooked_0 1 rfl rfl)
theorem dX4_unlooked_2 : decode cX4_unlooked 2 = .ok (.iconst 0, 1) := dk_3 (dk_at dksX4_unlooked_0 2 rfl rfl)
theorem dX4_unlooked_3 : decode cX4_unlooked 3 = .ok (.istore_n 3, 1) := dk_62 (dk_at dksX4_unlooked_0 3 rfl rfl)
theorem dX4_unlooked_4 : decode cX4_unlooked 4 = .ok (.iload_n 3, 1) := dk_29 (dk_at dksX4_unlooked_0 4 rfl rfl)
theorem dX4_unlooked_5 : decode cX4_unlooked 5 = .ok (.bipush 6, 2) := dk_16 6 (dk_at dksX4_unlooked_0 5 rfl rfl)
theorem dX4_unlooked_7 : decode cX4_unlooked 7 = .ok (.if_icmp .ge 33, 3) := dk_162 0 33 (dk_at dksX4_unlooked_0 7 rfl rfl)
theorem dX4_unlooked_10 : decode cX4_unlooked 10 = .ok (.iload_n 2, 1) := dk_28 (dk_at dksX4_unlooked_0 10 rfl rfl)
theorem dX4_unlooked_11 : decode cX4_unlooked 11 = .ok (.aload_n 0, 1) := dk_42 (dk_at dksX4_unlooked_0 11 rfl rfl)
theorem dX4_unlooked_12 : decode cX4_unlooked 12 = .ok (.getfield 28, 3) := dk_180 0 28 (dk_at dksX4_unlooked_0 12 rfl rfl)
theorem dX4_unlooked_15 : decode cX4_unlooked 15 = .ok (.bipush 6, 2) := dk_16 6 (dk_at dksX4_unlooked_0 15 rfl rfl)
theorem dX4_unlooked_17 : decode cX4_unlooked 17 = .ok (.iload_n 1, 1) := dk_27 (dk_at dksX4_unlooked_0 17 rfl rfl)
theorem dX4_unlooked_18 : decode cX4_unlooked 18 = .ok (.imul, 1) := dk_104 (dk_at dksX4_unlooked_0 18 rfl rfl)
theorem dX4_unlooked_19 : decode cX4_unlooked 19 = .ok (.iload_n 3, 1) := dk_29 (dk_at dksX4_unlooked_0 19 rfl rfl)
theorem dX4_unlooked_20 : decode cX4_unlooked 20 = .ok (.iadd, 1) := dk_96 (dk_at dksX4_unlooked_0 20 rfl rfl)
theorem dX4_unlooked_21 : decode cX4_unlooked 21 = .ok (.iaload, 1) := dk_46 (dk_at dksX4_unlooked_0 21 rfl rfl)
theorem dX4_unlooked_22 : decode cX4_unlooked 22 = .ok (.ifCond .ne 9, 3) := dk_154 0 9 (dk_at dksX4_unlooked_1 0 rfl rfl)
theorem dX4_unlooked_25 : decode cX4_unlooked 25 = .ok (.iconst 1, 1) := dk_4 (dk_at dksX4_unlooked_1 3 rfl rfl)
theorem dX4_unlooked_26 : decode cX4_unlooked 26 = .ok (.iload_n 3, 1) := dk_29 (dk_at dksX4_unlooked_1 4 rfl rfl)
theorem dX4_unlooked_27 : decode cX4_unlooked 27 = .ok (.ishl, 1) := dk_120 (dk_at dksX4_unlooked_1 5 rfl rfl)
theorem dX4_unlooked_28 : decode cX4_unlooked 28 = .ok (.goto 4, 3) := dk_167 0 4 (dk_at dksX4_unlooked_1 6 rfl rfl)
theorem dX4_unlooked_31 : decode cX4_unlooked 31 = .ok (.iconst 0, 1) := dk_3 (dk_at dksX4_unlooked_1 9 rfl rfl)
theorem dX4_unlooked_32 : decode cX4_unlooked 32 = .ok (.ior, 1) := dk_128 (dk_at dksX4_unlooked_1 10 rfl rfl)
theorem dX4_unlooked_33 : decode cX4_unlooked 33 = .ok (.istore_n 2, 1) := dk_61 (dk_at dksX4_unlooked_1 11 rfl rfl)
theorem dX4_unlooked_34 : decode cX4_unlooked 34 = .ok (.iinc 3 1, 3) := dk_132 3 1 (dk_at dksX4_unlooked_1 12 rfl rfl)
theorem dX4_unlooked_37 : decode cX4_unlooked 37 = .ok (.goto (-33), 3) := dk_167 255 223 (dk_at dksX4_unlooked_1 15 rfl rfl)
theorem dX4_unlooked_40 : decode cX4_unlooked 40 = .ok (.iload_n 2, 1) := dk_28 (dk_at dksX4_unlooked_1 18 rfl rfl)
theorem dX4_unlooked_41 : decode cX4_unlooked 41 = .ok (.ireturn, 1) := dk_172 (dk_at dksX4_unlooked_1 19 rfl rfl)
abbrev cX4_namedBy : ByteArray := prog_34_method_48_code
def yX4_namedBy : MethodName := ⟨RX4, "namedBy", "(IIJ)I"⟩
def dkwX4_namedBy_7 : List UInt8 := [22, 7, 109, 136, 172]
abbrev dktX4_namedBy_7 : List UInt8 := dkwX4_namedBy_7 ++ []
def dkwX4_namedBy_6 : List UInt8 := [167, 0, 4, 3, 54, 10, 21, 9, 4, 100, 28, 126, 54, 9, 167, 255, 150, 20, 0, 249, 22, 5, 105]
abbrev dktX4_namedBy_6 : List UInt8 := dkwX4_namedBy_6 ++ dktX4_namedBy_7
def dkwX4_namedBy_5 : List UInt8 := [182, 0, 221, 22, 5, 42, 180, 0, 53, 42, 182, 0, 241, 47, 97, 55, 5, 21, 9, 153, 0, 7, 4]
abbrev dktX4_namedBy_5 : List UInt8 := dkwX4_namedBy_5 ++ dktX4_namedBy_6
def dkwX4_namedBy_4 : List UInt8 := [21, 9, 21, 11, 122, 4, 126, 4, 160, 0, 7, 4, 167, 0, 4, 5, 79, 132, 11, 1, 167, 255, 199, 42]
abbrev dktX4_namedBy_4 : List UInt8 := dkwX4_namedBy_4 ++ dktX4_namedBy_5
def dkwX4_namedBy_3 : List UInt8 := [21, 11, 122, 4, 126, 154, 0, 18, 42, 180, 0, 28, 16, 6, 27, 104, 21, 11, 96, 46, 167, 0, 19]
abbrev dktX4_namedBy_3 : List UInt8 := dkwX4_namedBy_3 ++ dktX4_namedBy_4
def dkwX4_namedBy_2 : List UInt8 := [54, 10, 21, 10, 153, 0, 107, 3, 54, 11, 21, 11, 16, 6, 162, 0, 56, 42, 180, 0, 46, 21, 11, 28]
abbrev dktX4_namedBy_2 : List UInt8 := dkwX4_namedBy_2 ++ dktX4_namedBy_3
def dkwX4_namedBy_1 : List UInt8 := [4, 160, 0, 9, 20, 0, 215, 167, 0, 4, 10, 105, 55, 7, 132, 9, 1, 167, 255, 224, 28, 54, 9, 4]
abbrev dktX4_namedBy_1 : List UInt8 := dkwX4_namedBy_1 ++ dktX4_namedBy_2
def dkwX4_namedBy_0 : List UInt8 := [9, 55, 5, 33, 55, 7, 3, 54, 9, 21, 9, 16, 6, 162, 0, 31, 22, 7, 28, 21, 9, 122, 4, 126]
abbrev dktX4_namedBy_0 : List UInt8 := dkwX4_namedBy_0 ++ dktX4_namedBy_1
theorem dksX4_namedBy_0 : cX4_namedBy.data.toList.drop 0 = dktX4_namedBy_0 := by decide +kernel
theorem dksX4_namedBy_1 : cX4_namedBy.data.toList.drop 24 = dktX4_namedBy_1 := dk_seg dksX4_namedBy_0 24 rfl rfl
theorem dksX4_namedBy_2 : cX4_namedBy.data.toList.drop 48 = dktX4_namedBy_2 := dk_seg dksX4_namedBy_1 24 rfl rfl
theorem dksX4_namedBy_3 : cX4_namedBy.data.toList.drop 72 = dktX4_namedBy_3 := dk_seg dksX4_namedBy_2 24 rfl rfl
theorem dksX4_namedBy_4 : cX4_namedBy.data.toList.drop 95 = dktX4_namedBy_4 := dk_seg dksX4_namedBy_3 23 rfl rfl
theorem dksX4_namedBy_5 : cX4_namedBy.data.toList.drop 119 = dktX4_namedBy_5 := dk_seg dksX4_namedBy_4 24 rfl rfl
theorem dksX4_namedBy_6 : cX4_namedBy.data.toList.drop 142 = dktX4_namedBy_6 := dk_seg dksX4_namedBy_5 23 rfl rfl
theorem dksX4_namedBy_7 : cX4_namedBy.data.toList.drop 165 = dktX4_namedBy_7 := dk_seg dksX4_namedBy_6 23 rfl rfl
theorem dX4_namedBy_0 : decode cX4_namedBy 0 = .ok (.lconst 0, 1) := dk_9 (dk_at dksX4_namedBy_0 0 rfl rfl)
theorem dX4_namedBy_1 : decode cX4_namedBy 1 = .ok (.lstore 5, 2) := dk_55 5 (dk_at dksX4_namedBy_0 1 rfl rfl)
theorem dX4_namedBy_3 : decode cX4_namedBy 3 = .ok (.lload_n 3, 1) := dk_33 (dk_at dksX4_namedBy_0 3 rfl rfl)
theorem dX4_namedBy_4 : decode cX4_namedBy 4 = .ok (.lstore 7, 2) := dk_55 7 (dk_at dksX4_namedBy_0 4 rfl rfl)
theorem dX4_namedBy_6 : decode cX4_namedBy 6 = .ok (.iconst 0, 1) := dk_3 (dk_at dksX4_namedBy_0 6 rfl rfl)
theorem dX4_namedBy_7 : decode cX4_namedBy 7 = .ok (.istore 9, 2) := dk_54 9 (dk_at dksX4_namedBy_0 7 rfl rfl)
theorem dX4_namedBy_9 : decode cX4_namedBy 9 = .ok (.iload 9, 2) := dk_21 9 (dk_at dksX4_namedBy_0 9 rfl rfl)
theorem dX4_namedBy_11 : decode cX4_namedBy 11 = .ok (.bipush 6, 2) := dk_16 6 (dk_at dksX4_namedBy_0 11 rfl rfl)
theorem dX4_namedBy_13 : decode cX4_namedBy 13 = .ok (.if_icmp .ge 31, 3) := dk_162 0 31 (dk_at dksX4_namedBy_0 13 rfl rfl)
theorem dX4_namedBy_16 : decode cX4_namedBy 16 = .ok (.lload 7, 2) := dk_22 7 (dk_at dksX4_namedBy_0 16 rfl rfl)
theorem dX4_namedBy_18 : decode cX4_namedBy 18 = .ok (.iload_n 2, 1) := dk_28 (dk_at dksX4_namedBy_0 18 rfl rfl)
theorem dX4_namedBy_19 : decode cX4_namedBy 19 = .ok (.iload 9, 2) := dk_21 9 (dk_at dksX4_namedBy_0 19 rfl rfl)
theorem dX4_namedBy_21 : decode cX4_namedBy 21 = .ok (.ishr, 1) := dk_122 (dk_at dksX4_namedBy_0 21 rfl rfl)
theorem dX4_namedBy_22 : decode cX4_namedBy 22 = .ok (.iconst 1, 1) := dk_4 (dk_at dksX4_namedBy_0 22 rfl rfl)
theorem dX4_namedBy_23 : decode cX4_namedBy 23 = .ok (.iand, 1) := dk_126 (dk_at dksX4_namedBy_0 23 rfl rfl)
theorem dX4_namedBy_24 : decode cX4_namedBy 24 = .ok (.iconst 1, 1) := dk_4 (dk_at dksX4_namedBy_1 0 rfl rfl)
theorem dX4_namedBy_25 : decode cX4_namedBy 25 = .ok (.if_icmp .ne 9, 3) := dk_160 0 9 (dk_at dksX4_namedBy_1 1 rfl rfl)
theorem dX4_namedBy_28 : decode cX4_namedBy 28 = .ok (.ldc2_w 215, 3) := dk_20 0 215 (dk_at dksX4_namedBy_1 4 rfl rfl)
theorem dX4_namedBy_31 : decode cX4_namedBy 31 = .ok (.goto 4, 3) := dk_167 0 4 (dk_at dksX4_namedBy_1 7 rfl rfl)
theorem dX4_namedBy_34 : decode cX4_namedBy 34 = .ok (.lconst 1, 1) := dk_10 (dk_at dksX4_namedBy_1 10 rfl rfl)
theorem dX4_namedBy_35 : decode cX4_namedBy 35 = .ok (.lmul, 1) := dk_105 (dk_at dksX4_namedBy_1 11 rfl rfl)
theorem dX4_namedBy_36 : decode cX4_namedBy 36 = .ok (.lstore 7, 2) := dk_55 7 (dk_at dksX4_namedBy_1 12 rfl rfl)
theorem dX4_namedBy_38 : decode cX4_namedBy 38 = .ok (.iinc 9 1, 3) := dk_132 9 1 (dk_at dksX4_namedBy_1 14 rfl rfl)
theorem dX4_namedBy_41 : decode cX4_namedBy 41 = .ok (.goto (-32), 3) := dk_167 255 224 (dk_at dksX4_namedBy_1 17 rfl rfl)
theorem dX4_namedBy_44 : decode cX4_namedBy 44 = .ok (.iload_n 2, 1) := dk_28 (dk_at dksX4_namedBy_1 20 rfl rfl)
theorem dX4_namedBy_45 : decode cX4_namedBy 45 = .ok (.istore 9, 2) := dk_54 9 (dk_at dksX4_namedBy_1 21 rfl rfl)
theorem dX4_namedBy_47 : decode cX4_namedBy 47 = .ok (.iconst 1, 1) := dk_4 (dk_at dksX4_namedBy_1 23 rfl rfl)
theorem dX4_namedBy_48 : decode cX4_namedBy 48 = .ok (.istore 10, 2) := dk_54 10 (dk_at dksX4_namedBy_2 0 rfl rfl)
theorem dX4_namedBy_50 : decode cX4_namedBy 50 = .ok (.iload 10, 2) := dk_21 10 (dk_at dksX4_namedBy_2 2 rfl rfl)
theorem dX4_namedBy_52 : decode cX4_namedBy 52 = .ok (.ifCond .eq 107, 3) := dk_153 0 107 (dk_at dksX4_namedBy_2 4 rfl rfl)
theorem dX4_namedBy_55 : decode cX4_namedBy 55 = .ok (.iconst 0, 1) := dk_3 (dk_at dksX4_namedBy_2 7 rfl rfl)
theorem dX4_namedBy_56 : decode cX4_namedBy 56 = .ok (.istore 11, 2) := dk_54 11 (dk_at dksX4_namedBy_2 8 rfl rfl)
theorem dX4_namedBy_58 : decode cX4_namedBy 58 = .ok (.iload 11, 2) := dk_21 11 (dk_at dksX4_namedBy_2 10 rfl rfl)
theorem dX4_namedBy_60 : decode cX4_namedBy 60 = .ok (.bipush 6, 2) := dk_16 6 (dk_at dksX4_namedBy_2 12 rfl rfl)
theorem dX4_namedBy_62 : decode cX4_namedBy 62 = .ok (.if_icmp .ge 56, 3) := dk_162 0 56 (dk_at dksX4_namedBy_2 14 rfl rfl)
theorem dX4_namedBy_65 : decode cX4_namedBy 65 = .ok (.aload_n 0, 1) := dk_42 (dk_at dksX4_namedBy_2 17 rfl rfl)
theorem dX4_namedBy_66 : decode cX4_namedBy 66 = .ok (.getfield 46, 3) := dk_180 0 46 (dk_at dksX4_namedBy_2 18 rfl rfl)
theorem dX4_namedBy_69 : decode cX4_namedBy 69 = .ok (.iload 11, 2) := dk_21 11 (dk_at dksX4_namedBy_2 21 rfl rfl)
theorem dX4_namedBy_71 : decode cX4_namedBy 71 = .ok (.iload_n 2, 1) := dk_28 (dk_at dksX4_namedBy_2 23 rfl rfl)
theorem dX4_namedBy_72 : decode cX4_namedBy 72 = .ok (.iload 11, 2) := dk_21 11 (dk_at dksX4_namedBy_3 0 rfl rfl)
theorem dX4_namedBy_74 : decode cX4_namedBy 74 = .ok (.ishr, 1) := dk_122 (dk_at dksX4_namedBy_3 2 rfl rfl)
theorem dX4_namedBy_75 : decode cX4_namedBy 75 = .ok (.iconst 1, 1) := dk_4 (dk_at dksX4_namedBy_3 3 rfl rfl)
theorem dX4_namedBy_76 : decode cX4_namedBy 76 = .ok (.iand, 1) := dk_126 (dk_at dksX4_namedBy_3 4 rfl rfl)
theorem dX4_namedBy_77 : decode cX4_namedBy 77 = .ok (.ifCond .ne 18, 3) := dk_154 0 18 (dk_at dksX4_namedBy_3 5 rfl rfl)
theorem dX4_namedBy_80 : decode cX4_namedBy 80 = .ok (.aload_n 0, 1) := dk_42 (dk_at dksX4_namedBy_3 8 rfl rfl)
theorem dX4_namedBy_81 : decode cX4_namedBy 81 = .ok (.getfield 28, 3) := dk_180 0 28 (dk_at dksX4_namedBy_3 9 rfl rfl)
theorem dX4_namedBy_84 : decode cX4_namedBy 84 = .ok (.bipush 6, 2) := dk_16 6 (dk_at dksX4_namedBy_3 12 rfl rfl)
theorem dX4_namedBy_86 : decode cX4_namedBy 86 = .ok (.iload_n 1, 1) := dk_27 (dk_at dksX4_namedBy_3 14 rfl rfl)
theorem dX4_namedBy_87 : decode cX4_namedBy 87 = .ok (.imul, 1) := dk_104 (dk_at dksX4_namedBy_3 15 rfl rfl)
theorem dX4_namedBy_88 : decode cX4_namedBy 88 = .ok (.iload 11, 2) := dk_21 11 (dk_at dksX4_namedBy_3 16 rfl rfl)
theorem dX4_namedBy_90 : decode cX4_namedBy 90 = .ok (.iadd, 1) := dk_96 (dk_at dksX4_namedBy_3 18 rfl rfl)
theorem dX4_namedBy_91 : decode cX4_namedBy 91 = .ok (.iaload, 1) := dk_46 (dk_at dksX4_namedBy_3 19 rfl rfl)
theorem dX4_namedBy_92 : decode cX4_namedBy 92 = .ok (.goto 19, 3) := dk_167 0 19 (dk_at dksX4_namedBy_3 20 rfl rfl)
theorem dX4_namedBy_95 : decode cX4_namedBy 95 = .ok (.iload 9, 2) := dk_21 9 (dk_at dksX4_namedBy_4 0 rfl rfl)
theorem dX4_namedBy_97 : decode cX4_namedBy 97 = .ok (.iload 11, 2) := dk_21 11 (dk_at dksX4_namedBy_4 2 rfl rfl)
theorem dX4_namedBy_99 : decode cX4_namedBy 99 = .ok (.ishr, 1) := dk_122 (dk_at dksX4_namedBy_4 4 rfl rfl)
theorem dX4_namedBy_100 : decode cX4_namedBy 100 = .ok (.iconst 1, 1) := dk_4 (dk_at dksX4_namedBy_4 5 rfl rfl)
theorem dX4_namedBy_101 : decode cX4_namedBy 101 = .ok (.iand, 1) := dk_126 (dk_at dksX4_namedBy_4 6 rfl rfl)
theorem dX4_namedBy_102 : decode cX4_namedBy 102 = .ok (.iconst 1, 1) := dk_4 (dk_at dksX4_namedBy_4 7 rfl rfl)
theorem dX4_namedBy_103 : decode cX4_namedBy 103 = .ok (.if_icmp .ne 7, 3) := dk_160 0 7 (dk_at dksX4_namedBy_4 8 rfl rfl)
theorem dX4_namedBy_106 : decode cX4_namedBy 106 = .ok (.iconst 1, 1) := dk_4 (dk_at dksX4_namedBy_4 11 rfl rfl)
theorem dX4_namedBy_107 : decode cX4_namedBy 107 = .ok (.goto 4, 3) := dk_167 0 4 (dk_at dksX4_namedBy_4 12 rfl rfl)
theorem dX4_namedBy_110 : decode cX4_namedBy 110 = .ok (.iconst 2, 1) := dk_5 (dk_at dksX4_namedBy_4 15 rfl rfl)
theorem dX4_namedBy_111 : decode cX4_namedBy 111 = .ok (.iastore, 1) := dk_79 (dk_at dksX4_namedBy_4 16 rfl rfl)
theorem dX4_namedBy_112 : decode cX4_namedBy 112 = .ok (.iinc 11 1, 3) := dk_132 11 1 (dk_at dksX4_namedBy_4 17 rfl rfl)
theorem dX4_namedBy_115 : decode cX4_namedBy 115 = .ok (.goto (-57), 3) := dk_167 255 199 (dk_at dksX4_namedBy_4 20 rfl rfl)
theorem dX4_namedBy_118 : decode cX4_namedBy 118 = .ok (.aload_n 0, 1) := dk_42 (dk_at dksX4_namedBy_4 23 rfl rfl)
theorem dX4_namedBy_119 : decode cX4_namedBy 119 = .ok (.invokevirtual 221, 3) := dk_182 0 221 (dk_at dksX4_namedBy_5 0 rfl rfl)
theorem dX4_namedBy_122 : decode cX4_namedBy 122 = .ok (.lload 5, 2) := dk_22 5 (dk_at dksX4_namedBy_5 3 rfl rfl)
theorem dX4_namedBy_124 : decode cX4_namedBy 124 = .ok (.aload_n 0, 1) := dk_42 (dk_at dksX4_namedBy_5 5 rfl rfl)
theorem dX4_namedBy_125 : decode cX4_namedBy 125 = .ok (.getfield 53, 3) := dk_180 0 53 (dk_at dksX4_namedBy_5 6 rfl rfl)
theorem dX4_namedBy_128 : decode cX4_namedBy 128 = .ok (.aload_n 0, 1) := dk_42 (dk_at dksX4_namedBy_5 9 rfl rfl)
theorem dX4_namedBy_129 : decode cX4_namedBy 129 = .ok (.invokevirtual 241, 3) := dk_182 0 241 (dk_at dksX4_namedBy_5 10 rfl rfl)
theorem dX4_namedBy_132 : decode cX4_namedBy 132 = .ok (.laload, 1) := dk_47 (dk_at dksX4_namedBy_5 13 rfl rfl)
theorem dX4_namedBy_133 : decode cX4_namedBy 133 = .ok (.ladd, 1) := dk_97 (dk_at dksX4_namedBy_5 14 rfl rfl)
theorem dX4_namedBy_134 : decode cX4_namedBy 134 = .ok (.lstore 5, 2) := dk_55 5 (dk_at dksX4_namedBy_5 15 rfl rfl)
theorem dX4_namedBy_136 : decode cX4_namedBy 136 = .ok (.iload 9, 2) := dk_21 9 (dk_at dksX4_namedBy_5 17 rfl rfl)
theorem dX4_namedBy_138 : decode cX4_namedBy 138 = .ok (.ifCond .eq 7, 3) := dk_153 0 7 (dk_at dksX4_namedBy_5 19 rfl rfl)
theorem dX4_namedBy_141 : decode cX4_namedBy 141 = .ok (.iconst 1, 1) := dk_4 (dk_at dksX4_namedBy_5 22 rfl rfl)
theorem dX4_namedBy_142 : decode cX4_namedBy 142 = .ok (.goto 4, 3) := dk_167 0 4 (dk_at dksX4_namedBy_6 0 rfl rfl)
theorem dX4_namedBy_145 : decode cX4_namedBy 145 = .ok (.iconst 0, 1) := dk_3 (dk_at dksX4_namedBy_6 3 rfl rfl)
theorem dX4_namedBy_146 : decode cX4_namedBy 146 = .ok (.istore 10, 2) := dk_54 10 (dk_at dksX4_namedBy_6 4 rfl rfl)
theorem dX4_namedBy_148 : decode cX4_namedBy 148 = .ok (.iload 9, 2) := dk_21 9 (dk_at dksX4_namedBy_6 6 rfl rfl)
theorem dX4_namedBy_150 : decode cX4_namedBy 150 = .ok (.iconst 1, 1) := dk_4 (dk_at dksX4_namedBy_6 8 rfl rfl)
theorem dX4_namedBy_151 : decode cX4_namedBy 151 = .ok (.isub, 1) := dk_100 (dk_at dksX4_namedBy_6 9 rfl rfl)
theorem dX4_namedBy_152 : decode cX4_namedBy 152 = .ok (.iload_n 2, 1) := dk_28 (dk_at dksX4_namedBy_6 10 rfl rfl)
theorem dX4_namedBy_153 : decode cX4_namedBy 153 = .ok (.iand, 1) := dk_126 (dk_at dksX4_namedBy_6 11 rfl rfl)
theorem dX4_namedBy_154 : decode cX4_namedBy 154 = .ok (.istore 9, 2) := dk_54 9 (dk_at dksX4_namedBy_6 12 rfl rfl)
theorem dX4_namedBy_156 : decode cX4_namedBy 156 = .ok (.goto (-106), 3) := dk_167 255 150 (dk_at dksX4_namedBy_6 14 rfl rfl)
theorem dX4_namedBy_159 : decode cX4_namedBy 159 = .ok (.ldc2_w 249, 3) := dk_20 0 249 (dk_at dksX4_namedBy_6 17 rfl rfl)
theorem dX4_namedBy_162 : decode cX4_namedBy 162 = .ok (.lload 5, 2) := dk_22 5 (dk_at dksX4_namedBy_6 20 rfl rfl)
theorem dX4_namedBy_164 : decode cX4_namedBy 164 = .ok (.lmul, 1) := dk_105 (dk_at dksX4_namedBy_6 22 rfl rfl)
theorem dX4_namedBy_165 : decode cX4_namedBy 165 = .ok (.lload 7, 2) := dk_22 7 (dk_at dksX4_namedBy_7 0 rfl rfl)
theorem dX4_namedBy_167 : decode cX4_namedBy 167 = .ok (.ldiv, 1) := dk_109 (dk_at dksX4_namedBy_7 2 rfl rfl)
theorem dX4_namedBy_168 : decode cX4_namedBy 168 = .ok (.l2i, 1) := dk_136 (dk_at dksX4_namedBy_7 3 rfl rfl)
theorem dX4_namedBy_169 : decode cX4_namedBy 169 = .ok (.ireturn, 1) := dk_172 (dk_at dksX4_namedBy_7 4 rfl rfl)
abbrev cX4_plan : ByteArray := prog_34_method_51_code
def yX4_plan : MethodName := ⟨RX4, "plan", "(II)I"⟩
def dkwX4_plan_6 : List UInt8 := [54, 7, 132, 8, 1, 167, 255, 171, 21, 6, 172]
abbrev dktX4_plan_6 : List UInt8 := dkwX4_plan_6 ++ []
def dkwX4_plan_5 : List UInt8 := [160, 0, 26, 42, 21, 8, 182, 1, 6, 42, 21, 6, 182, 1, 6, 162, 0, 11, 21, 8, 54, 6, 21, 9]
abbrev dktX4_plan_5 : List UInt8 := dkwX4_plan_5 ++ dktX4_plan_6
def dkwX4_plan_4 : List UInt8 := [21, 8, 33, 182, 1, 0, 54, 9, 21, 6, 155, 0, 32, 21, 9, 21, 7, 163, 0, 25, 21, 9, 21, 7]
abbrev dktX4_plan_4 : List UInt8 := dkwX4_plan_4 ++ dktX4_plan_5
def dkwX4_plan_3 : List UInt8 := [21, 5, 2, 130, 126, 154, 0, 68, 42, 21, 8, 182, 1, 6, 28, 164, 0, 6, 167, 0, 55, 42, 27]
abbrev dktX4_plan_3 : List UInt8 := dkwX4_plan_3 ++ dktX4_plan_4
def dkwX4_plan_2 : List UInt8 := [182, 0, 253, 54, 5, 2, 54, 6, 3, 54, 7, 3, 54, 8, 21, 8, 16, 64, 162, 0, 84, 21, 8]
abbrev dktX4_plan_2 : List UInt8 := dkwX4_plan_2 ++ dktX4_plan_3
def dkwX4_plan_1 : List UInt8 := [182, 0, 231, 42, 180, 0, 211, 9, 148, 154, 0, 6, 16, 254, 172, 42, 180, 0, 211, 66, 42, 27]
abbrev dktX4_plan_1 : List UInt8 := dkwX4_plan_1 ++ dktX4_plan_2
def dkwX4_plan_0 : List UInt8 := [42, 27, 182, 0, 132, 153, 0, 15, 28, 133, 9, 20, 1, 4, 184, 0, 102, 154, 0, 5, 2, 172, 42, 27]
abbrev dktX4_plan_0 : List UInt8 := dkwX4_plan_0 ++ dktX4_plan_1
theorem dksX4_plan_0 : cX4_plan.data.toList.drop 0 = dktX4_plan_0 := by decide +kernel
theorem dksX4_plan_1 : cX4_plan.data.toList.drop 24 = dktX4_plan_1 := dk_seg dksX4_plan_0 24 rfl rfl
theorem dksX4_plan_2 : cX4_plan.data.toList.drop 46 = dktX4_plan_2 := dk_seg dksX4_plan_1 22 rfl rfl
theorem dksX4_plan_3 : cX4_plan.data.toList.drop 69 = dktX4_plan_3 := dk_seg dksX4_plan_2 23 rfl rfl
theorem dksX4_plan_4 : cX4_plan.data.toList.drop 92 = dktX4_plan_4 := dk_seg dksX4_plan_3 23 rfl rfl
theorem dksX4_plan_5 : cX4_plan.data.toList.drop 116 = dktX4_plan_5 := dk_seg dksX4_plan_4 24 rfl rfl
theorem dksX4_plan_6 : cX4_plan.data.toList.drop 140 = dktX4_plan_6 := dk_seg dksX4_plan_5 24 rfl rfl
theorem dX4_plan_0 : decode cX4_plan 0 = .ok (.aload_n 0, 1) := dk_42 (dk_at dksX4_plan_0 0 rfl rfl)
theorem dX4_plan_1 : decode cX4_plan 1 = .ok (.iload_n 1, 1) := dk_27 (dk_at dksX4_plan_0 1 rfl rfl)
theorem dX4_plan_2 : decode cX4_plan 2 = .ok (.invokevirtual 132, 3) := dk_182 0 132 (dk_at dksX4_plan_0 2 rfl rfl)
theorem dX4_plan_5 : decode cX4_plan 5 = .ok (.ifCond .eq 15, 3) := dk_153 0 15 (dk_at dksX4_plan_0 5 rfl rfl)
theorem dX4_plan_8 : decode cX4_plan 8 = .ok (.iload_n 2, 1) := dk_28 (dk_at dksX4_plan_0 8 rfl rfl)
theorem dX4_plan_9 : decode cX4_plan 9 = .ok (.i2l, 1) := dk_133 (dk_at dksX4_plan_0 9 rfl rfl)
theorem dX4_plan_10 : decode cX4_plan 10 = .ok (.lconst 0, 1) := dk_9 (dk_at dksX4_plan_0 10 rfl rfl)
theorem dX4_plan_11 : decode cX4_plan 11 = .ok (.ldc2_w 260, 3) := dk_20 1 4 (dk_at dksX4_plan_0 11 rfl rfl)
theorem dX4_plan_14 : decode cX4_plan 14 = .ok (.invokestatic 102, 3) := dk_184 0 102 (dk_at dksX4_plan_0 14 rfl rfl)
theorem dX4_plan_17 : decode cX4_plan 17 = .ok (.ifCond .ne 5, 3) := dk_154 0 5 (dk_at dksX4_plan_0 17 rfl rfl)
theorem dX4_plan_20 : decode cX4_plan 20 = .ok (.iconst (-1), 1) := dk_2 (dk_at dksX4_plan_0 20 rfl rfl)
theorem dX4_plan_21 : decode cX4_plan 21 = .ok (.ireturn, 1) := dk_172 (dk_at dksX4_plan_0 21 rfl rfl)
theorem dX4_plan_22 : decode cX4_plan 22 = .ok (.aload_n 0, 1) := dk_42 (dk_at dksX4_plan_0 22 rfl rfl)
theorem dX4_plan_23 : decode cX4_plan 23 = .ok (.iload_n 1, 1) := dk_27 (dk_at dksX4_plan_0 23 rfl rfl)
theorem dX4_plan_24 : decode cX4_plan 24 = .ok (.invokevirtual 231, 3) := dk_182 0 231 (dk_at dksX4_plan_1 0 rfl rfl)
theorem dX4_plan_27 : decode cX4_plan 27 = .ok (.aload_n 0, 1) := dk_42 (dk_at dksX4_plan_1 3 rfl rfl)
theorem dX4_plan_28 : decode cX4_plan 28 = .ok (.getfield 211, 3) := dk_180 0 211 (dk_at dksX4_plan_1 4 rfl rfl)
theorem dX4_plan_31 : decode cX4_plan 31 = .ok (.lconst 0, 1) := dk_9 (dk_at dksX4_plan_1 7 rfl rfl)
theorem dX4_plan_32 : decode cX4_plan 32 = .ok (.lcmp, 1) := dk_148 (dk_at dksX4_plan_1 8 rfl rfl)
theorem dX4_plan_33 : decode cX4_plan 33 = .ok (.ifCond .ne 6, 3) := dk_154 0 6 (dk_at dksX4_plan_1 9 rfl rfl)
theorem dX4_plan_36 : decode cX4_plan 36 = .ok (.bipush (-2), 2) := dk_16 254 (dk_at dksX4_plan_1 12 rfl rfl)
theorem dX4_plan_38 : decode cX4_plan 38 = .ok (.ireturn, 1) := dk_172 (dk_at dksX4_plan_1 14 rfl rfl)
theorem dX4_plan_39 : decode cX4_plan 39 = .ok (.aload_n 0, 1) := dk_42 (dk_at dksX4_plan_1 15 rfl rfl)
theorem dX4_plan_40 : decode cX4_plan 40 = .ok (.getfield 211, 3) := dk_180 0 211 (dk_at dksX4_plan_1 16 rfl rfl)
theorem dX4_plan_43 : decode cX4_plan 43 = .ok (.lstore_n 3, 1) := dk_66 (dk_at dksX4_plan_1 19 rfl rfl)
theorem dX4_plan_44 : decode cX4_plan 44 = .ok (.aload_n 0, 1) := dk_42 (dk_at dksX4_plan_1 20 rfl rfl)
theorem dX4_plan_45 : decode cX4_plan 45 = .ok (.iload_n 1, 1) := dk_27 (dk_at dksX4_plan_1 21 rfl rfl)
theorem dX4_plan_46 : decode cX4_plan 46 = .ok (.invokevirtual 253, 3) := dk_182 0 253 (dk_at dksX4_plan_2 0 rfl rfl)
theorem dX4_plan_49 : decode cX4_plan 49 = .ok (.istore 5, 2) := dk_54 5 (dk_at dksX4_plan_2 3 rfl rfl)
theorem dX4_plan_51 : decode cX4_plan 51 = .ok (.iconst (-1), 1) := dk_2 (dk_at dksX4_plan_2 5 rfl rfl)
theorem dX4_plan_52 : decode cX4_plan 52 = .ok (.istore 6, 2) := dk_54 6 (dk_at dksX4_plan_2 6 rfl rfl)
theorem dX4_plan_54 : decode cX4_plan 54 = .ok (.iconst 0, 1) := dk_3 (dk_at dksX4_plan_2 8 rfl rfl)
theorem dX4_plan_55 : decode cX4_plan 55 = .ok (.istore 7, 2) := dk_54 7 (dk_at dksX4_plan_2 9 rfl rfl)
theorem dX4_plan_57 : decode cX4_plan 57 = .ok (.iconst 0, 1) := dk_3 (dk_at dksX4_plan_2 11 rfl rfl)
theorem dX4_plan_58 : decode cX4_plan 58 = .ok (.istore 8, 2) := dk_54 8 (dk_at dksX4_plan_2 12 rfl rfl)
theorem dX4_plan_60 : decode cX4_plan 60 = .ok (.iload 8, 2) := dk_21 8 (dk_at dksX4_plan_2 14 rfl rfl)
theorem dX4_plan_62 : decode cX4_plan 62 = .ok (.bipush 64, 2) := dk_16 64 (dk_at dksX4_plan_2 16 rfl rfl)
theorem dX4_plan_64 : decode cX4_plan 64 = .ok (.if_icmp .ge 84, 3) := dk_162 0 84 (dk_at dksX4_plan_2 18 rfl rfl)
theorem dX4_plan_67 : decode cX4_plan 67 = .ok (.iload 8, 2) := dk_21 8 (dk_at dksX4_plan_2 21 rfl rfl)
theorem dX4_plan_69 : decode cX4_plan 69 = .ok (.iload 5, 2) := dk_21 5 (dk_at dksX4_plan_3 0 rfl rfl)
theorem dX4_plan_71 : decode cX4_plan 71 = .ok (.iconst (-1), 1) := dk_2 (dk_at dksX4_plan_3 2 rfl rfl)
theorem dX4_plan_72 : decode cX4_plan 72 = .ok (.ixor, 1) := dk_130 (dk_at dksX4_plan_3 3 rfl rfl)
theorem dX4_plan_73 : decode cX4_plan 73 = .ok (.iand, 1) := dk_126 (dk_at dksX4_plan_3 4 rfl rfl)
theorem dX4_plan_74 : decode cX4_plan 74 = .ok (.ifCond .ne 68, 3) := dk_154 0 68 (dk_at dksX4_plan_3 5 rfl rfl)
theorem dX4_plan_77 : decode cX4_plan 77 = .ok (.aload_n 0, 1) := dk_42 (dk_at dksX4_plan_3 8 rfl rfl)
theorem dX4_plan_78 : decode cX4_plan 78 = .ok (.iload 8, 2) := dk_21 8 (dk_at dksX4_plan_3 9 rfl rfl)
theorem dX4_plan_80 : decode cX4_plan 80 = .ok (.invokevirtual 262, 3) := dk_182 1 6 (dk_at dksX4_plan_3 11 rfl rfl)
theorem dX4_plan_83 : decode cX4_plan 83 = .ok (.iload_n 2, 1) := dk_28 (dk_at dksX4_plan_3 14 rfl rfl)
theorem dX4_plan_84 : decode cX4_plan 84 = .ok (.if_icmp .le 6, 3) := dk_164 0 6 (dk_at dksX4_plan_3 15 rfl rfl)
theorem dX4_plan_87 : decode cX4_plan 87 = .ok (.goto 55, 3) := dk_167 0 55 (dk_at dksX4_plan_3 18 rfl rfl)
theorem dX4_plan_90 : decode cX4_plan 90 = .ok (.aload_n 0, 1) := dk_42 (dk_at dksX4_plan_3 21 rfl rfl)
theorem dX4_plan_91 : decode cX4_plan 91 = .ok (.iload_n 1, 1) := dk_27 (dk_at dksX4_plan_3 22 rfl rfl)
theorem dX4_plan_92 : decode cX4_plan 92 = .ok (.iload 8, 2) := dk_21 8 (dk_at dksX4_plan_4 0 rfl rfl)
theorem dX4_plan_94 : decode cX4_plan 94 = .ok (.lload_n 3, 1) := dk_33 (dk_at dksX4_plan_4 2 rfl rfl)
theorem dX4_plan_95 : decode cX4_plan 95 = .ok (.invokevirtual 256, 3) := dk_182 1 0 (dk_at dksX4_plan_4 3 rfl rfl)
theorem dX4_plan_98 : decode cX4_plan 98 = .ok (.istore 9, 2) := dk_54 9 (dk_at dksX4_plan_4 6 rfl rfl)
theorem dX4_plan_100 : decode cX4_plan 100 = .ok (.iload 6, 2) := dk_21 6 (dk_at dksX4_plan_4 8 rfl rfl)
theorem dX4_plan_102 : decode cX4_plan 102 = .ok (.ifCond .lt 32, 3) := dk_155 0 32 (dk_at dksX4_plan_4 10 rfl rfl)
theorem dX4_plan_105 : decode cX4_plan 105 = .ok (.iload 9, 2) := dk_21 9 (dk_at dksX4_plan_4 13 rfl rfl)
theorem dX4_plan_107 : decode cX4_plan 107 = .ok (.iload 7, 2) := dk_21 7 (dk_at dksX4_plan_4 15 rfl rfl)
theorem dX4_plan_109 : decode cX4_plan 109 = .ok (.if_icmp .gt 25, 3) := dk_163 0 25 (dk_at dksX4_plan_4 17 rfl rfl)
theorem dX4_plan_112 : decode cX4_plan 112 = .ok (.iload 9, 2) := dk_21 9 (dk_at dksX4_plan_4 20 rfl rfl)
theorem dX4_plan_114 : decode cX4_plan 114 = .ok (.iload 7, 2) := dk_21 7 (dk_at dksX4_plan_4 22 rfl rfl)
theorem dX4_plan_116 : decode cX4_plan 116 = .ok (.if_icmp .ne 26, 3) := dk_160 0 26 (dk_at dksX4_plan_5 0 rfl rfl)
theorem dX4_plan_119 : decode cX4_plan 119 = .ok (.aload_n 0, 1) := dk_42 (dk_at dksX4_plan_5 3 rfl rfl)
theorem dX4_plan_120 : decode cX4_plan 120 = .ok (.iload 8, 2) := dk_21 8 (dk_at dksX4_plan_5 4 rfl rfl)
theorem dX4_plan_122 : decode cX4_plan 122 = .ok (.invokevirtual 262, 3) := dk_182 1 6 (dk_at dksX4_plan_5 6 rfl rfl)
theorem dX4_plan_125 : decode cX4_plan 125 = .ok (.aload_n 0, 1) := dk_42 (dk_at dksX4_plan_5 9 rfl rfl)
theorem dX4_plan_126 : decode cX4_plan 126 = .ok (.iload 6, 2) := dk_21 6 (dk_at dksX4_plan_5 10 rfl rfl)
theorem dX4_plan_128 : decode cX4_plan 128 = .ok (.invokevirtual 262, 3) := dk_182 1 6 (dk_at dksX4_plan_5 12 rfl rfl)
theorem dX4_plan_131 : decode cX4_plan 131 = .ok (.if_icmp .ge 11, 3) := dk_162 0 11 (dk_at dksX4_plan_5 15 rfl rfl)
theorem dX4_plan_134 : decode cX4_plan 134 = .ok (.iload 8, 2) := dk_21 8 (dk_at dksX4_plan_5 18 rfl rfl)
theorem dX4_plan_136 : decode cX4_plan 136 = .ok (.istore 6, 2) := dk_54 6 (dk_at dksX4_plan_5 20 rfl rfl)
theorem dX4_plan_138 : decode cX4_plan 138 = .ok (.iload 9, 2) := dk_21 9 (dk_at dksX4_plan_5 22 rfl rfl)
theorem dX4_plan_140 : decode cX4_plan 140 = .ok (.istore 7, 2) := dk_54 7 (dk_at dksX4_plan_6 0 rfl rfl)
theorem dX4_plan_142 : decode cX4_plan 142 = .ok (.iinc 8 1, 3) := dk_132 8 1 (dk_at dksX4_plan_6 2 rfl rfl)
theorem dX4_plan_145 : decode cX4_plan 145 = .ok (.goto (-85), 3) := dk_167 255 171 (dk_at dksX4_plan_6 5 rfl rfl)
theorem dX4_plan_148 : decode cX4_plan 148 = .ok (.iload 6, 2) := dk_21 6 (dk_at dksX4_plan_6 8 rfl rfl)
theorem dX4_plan_150 : decode cX4_plan 150 = .ok (.ireturn, 1) := dk_172 (dk_at dksX4_plan_6 10 rfl rfl)
abbrev cX4_minutesOf : ByteArray := prog_34_method_50_code
def yX4_minutesOf : MethodName := ⟨RX4, "minutesOf", "(I)I"⟩
def dkwX4_minutesOf_1 : List UInt8 := [16, 12, 29, 96, 46, 167, 0, 4, 3, 96, 61, 132, 3, 1, 167, 255, 222, 28, 172]
abbrev dktX4_minutesOf_1 : List UInt8 := dkwX4_minutesOf_1 ++ []
def dkwX4_minutesOf_0 : List UInt8 := [3, 61, 3, 62, 29, 16, 6, 162, 0, 34, 28, 27, 29, 122, 4, 126, 4, 160, 0, 15, 42, 180, 0, 9]
abbrev dktX4_minutesOf_0 : List UInt8 := dkwX4_minutesOf_0 ++ dktX4_minutesOf_1
theorem dksX4_minutesOf_0 : cX4_minutesOf.data.toList.drop 0 = dktX4_minutesOf_0 := by decide +kernel
theorem dksX4_minutesOf_1 : cX4_minutesOf.data.toList.drop 24 = dktX4_minutesOf_1 := dk_seg dksX4_minutesOf_0 24 rfl rfl
theorem dX4_minutesOf_0 : decode cX4_minutesOf 0 = .ok (.iconst 0, 1) := dk_3 (dk_at dksX4_minutesOf_0 0 rfl rfl)
theorem dX4_minutesOf_1 : decode cX4_minutesOf 1 = .ok (.istore_n 2, 1) := dk_61 (dk_at dksX4_minutesOf_0 1 rfl rfl)
theorem dX4_minutesOf_2 : decode cX4_minutesOf 2 = .ok (.iconst 0, 1) := dk_3 (dk_at dksX4_minutesOf_0 2 rfl rfl)
theorem dX4_minutesOf_3 : decode cX4_minutesOf 3 = .ok (.istore_n 3, 1) := dk_62 (dk_at dksX4_minutesOf_0 3 rfl rfl)
theorem dX4_minutesOf_4 : decode cX4_minutesOf 4 = .ok (.iload_n 3, 1) := dk_29 (dk_at dksX4_minutesOf_0 4 rfl rfl)
theorem dX4_minutesOf_5 : decode cX4_minutesOf 5 = .ok (.bipush 6, 2) := dk_16 6 (dk_at dksX4_minutesOf_0 5 rfl rfl)
theorem dX4_minutesOf_7 : decode cX4_minutesOf 7 = .ok (.if_icmp .ge 34, 3) := dk_162 0 34 (dk_at dksX4_minutesOf_0 7 rfl rfl)
theorem dX4_minutesOf_10 : decode cX4_minutesOf 10 = .ok (.iload_n 2, 1) := dk_28 (dk_at dksX4_minutesOf_0 10 rfl rfl)
theorem dX4_minutesOf_11 : decode cX4_minutesOf 11 = .ok (.iload_n 1, 1) := dk_27 (dk_at dksX4_minutesOf_0 11 rfl rfl)
theorem dX4_minutesOf_12 : decode cX4_minutesOf 12 = .ok (.iload_n 3, 1) := dk_29 (dk_at dksX4_minutesOf_0 12 rfl rfl)
theorem dX4_minutesOf_13 : decode cX4_minutesOf 13 = .ok (.ishr, 1) := dk_122 (dk_at dksX4_minutesOf_0 13 rfl rfl)
theorem dX4_minutesOf_14 : decode cX4_minutesOf 14 = .ok (.iconst 1, 1) := dk_4 (dk_at dksX4_minutesOf_0 14 rfl rfl)
theorem dX4_minutesOf_15 : decode cX4_minutesOf 15 = .ok (.iand, 1) := dk_126 (dk_at dksX4_minutesOf_0 15 rfl rfl)
theorem dX4_minutesOf_16 : decode cX4_minutesOf 16 = .ok (.iconst 1, 1) := dk_4 (dk_at dksX4_minutesOf_0 16 rfl rfl)
theorem dX4_minutesOf_17 : decode cX4_minutesOf 17 = .ok (.if_icmp .ne 15, 3) := dk_160 0 15 (dk_at dksX4_minutesOf_0 17 rfl rfl)
theorem dX4_minutesOf_20 : decode cX4_minutesOf 20 = .ok (.aload_n 0, 1) := dk_42 (dk_at dksX4_minutesOf_0 20 rfl rfl)
theorem dX4_minutesOf_21 : decode cX4_minutesOf 21 = .ok (.getfield 9, 3) := dk_180 0 9 (dk_at dksX4_minutesOf_0 21 rfl rfl)
theorem dX4_minutesOf_24 : decode cX4_minutesOf 24 = .ok (.bipush 12, 2) := dk_16 12 (dk_at dksX4_minutesOf_1 0 rfl rfl)
theorem dX4_minutesOf_26 : decode cX4_minutesOf 26 = .ok (.iload_n 3, 1) := dk_29 (dk_at dksX4_minutesOf_1 2 rfl rfl)
theorem dX4_minutesOf_27 : decode cX4_minutesOf 27 = .ok (.iadd, 1) := dk_96 (dk_at dksX4_minutesOf_1 3 rfl rfl)
theorem dX4_minutesOf_28 : decode cX4_minutesOf 28 = .ok (.iaload, 1) := dk_46 (dk_at dksX4_minutesOf_1 4 rfl rfl)
theorem dX4_minutesOf_29 : decode cX4_minutesOf 29 = .ok (.goto 4, 3) := dk_167 0 4 (dk_at dksX4_minutesOf_1 5 rfl rfl)
theorem dX4_minutesOf_32 : decode cX4_minutesOf 32 = .ok (.iconst 0, 1) := dk_3 (dk_at dksX4_minutesOf_1 8 rfl rfl)
theorem dX4_minutesOf_33 : decode cX4_minutesOf 33 = .ok (.iadd, 1) := dk_96 (dk_at dksX4_minutesOf_1 9 rfl rfl)
theorem dX4_minutesOf_34 : decode cX4_minutesOf 34 = .ok (.istore_n 2, 1) := dk_61 (dk_at dksX4_minutesOf_1 10 rfl rfl)
theorem dX4_minutesOf_35 : decode cX4_minutesOf 35 = .ok (.iinc 3 1, 3) := dk_132 3 1 (dk_at dksX4_minutesOf_1 11 rfl rfl)
theorem dX4_minutesOf_38 : decode cX4_minutesOf 38 = .ok (.goto (-34), 3) := dk_167 255 222 (dk_at dksX4_minutesOf_1 14 rfl rfl)
theorem dX4_minutesOf_41 : decode cX4_minutesOf 41 = .ok (.iload_n 2, 1) := dk_28 (dk_at dksX4_minutesOf_1 17 rfl rfl)
theorem dX4_minutesOf_42 : decode cX4_minutesOf 42 = .ok (.ireturn, 1) := dk_172 (dk_at dksX4_minutesOf_1 18 rfl rfl)
abbrev cX4_believed : ByteArray := prog_34_method_53_code
def yX4_believed : MethodName := ⟨RX4, "believed", "(II)I"⟩
def dkwX4_believed_1 : List UInt8 := [182, 0, 217, 42, 28, 182, 1, 9, 172]
abbrev dktX4_believed_1 : List UInt8 := dkwX4_believed_1 ++ []
def dkwX4_believed_0 : List UInt8 := [42, 27, 182, 0, 132, 153, 0, 15, 28, 133, 9, 20, 0, 251, 184, 0, 102, 154, 0, 5, 2, 172, 42, 27]
abbrev dktX4_believed_0 : List UInt8 := dkwX4_believed_0 ++ dktX4_believed_1
theorem dksX4_believed_0 : cX4_believed.data.toList.drop 0 = dktX4_believed_0 := by decide +kernel
theorem dksX4_believed_1 : cX4_believed.data.toList.drop 24 = dktX4_believed_1 := dk_seg dksX4_believed_0 24 rfl rfl
theorem dX4_believed_0 : decode cX4_believed 0 = .ok (.aload_n 0, 1) := dk_42 (dk_at dksX4_believed_0 0 rfl rfl)
theorem dX4_believed_1 : decode cX4_believed 1 = .ok (.iload_n 1, 1) := dk_27 (dk_at dksX4_believed_0 1 rfl rfl)
theorem dX4_believed_2 : decode cX4_believed 2 = .ok (.invokevirtual 132, 3) := dk_182 0 132 (dk_at dksX4_believed_0 2 rfl rfl)
theorem dX4_believed_5 : decode cX4_believed 5 = .ok (.ifCond .eq 15, 3) := dk_153 0 15 (dk_at dksX4_believed_0 5 rfl rfl)
theorem dX4_believed_8 : decode cX4_believed 8 = .ok (.iload_n 2, 1) := dk_28 (dk_at dksX4_believed_0 8 rfl rfl)
theorem dX4_believed_9 : decode cX4_believed 9 = .ok (.i2l, 1) := dk_133 (dk_at dksX4_believed_0 9 rfl rfl)
theorem dX4_believed_10 : decode cX4_believed 10 = .ok (.lconst 0, 1) := dk_9 (dk_at dksX4_believed_0 10 rfl rfl)
theorem dX4_believed_11 : decode cX4_believed 11 = .ok (.ldc2_w 251, 3) := dk_20 0 251 (dk_at dksX4_believed_0 11 rfl rfl)
theorem dX4_believed_14 : decode cX4_believed 14 = .ok (.invokestatic 102, 3) := dk_184 0 102 (dk_at dksX4_believed_0 14 rfl rfl)
theorem dX4_believed_17 : decode cX4_believed 17 = .ok (.ifCond .ne 5, 3) := dk_154 0 5 (dk_at dksX4_believed_0 17 rfl rfl)
theorem dX4_believed_20 : decode cX4_believed 20 = .ok (.iconst (-1), 1) := dk_2 (dk_at dksX4_believed_0 20 rfl rfl)
theorem dX4_believed_21 : decode cX4_believed 21 = .ok (.ireturn, 1) := dk_172 (dk_at dksX4_believed_0 21 rfl rfl)
theorem dX4_believed_22 : decode cX4_believed 22 = .ok (.aload_n 0, 1) := dk_42 (dk_at dksX4_believed_0 22 rfl rfl)
theorem dX4_believed_23 : decode cX4_believed 23 = .ok (.iload_n 1, 1) := dk_27 (dk_at dksX4_believed_0 23 rfl rfl)
theorem dX4_believed_24 : decode cX4_believed 24 = .ok (.invokevirtual 217, 3) := dk_182 0 217 (dk_at dksX4_believed_1 0 rfl rfl)
theorem dX4_believed_27 : decode cX4_believed 27 = .ok (.aload_n 0, 1) := dk_42 (dk_at dksX4_believed_1 3 rfl rfl)
theorem dX4_believed_28 : decode cX4_believed 28 = .ok (.iload_n 2, 1) := dk_28 (dk_at dksX4_believed_1 4 rfl rfl)
theorem dX4_believed_29 : decode cX4_believed 29 = .ok (.invokevirtual 265, 3) := dk_182 1 9 (dk_at dksX4_believed_1 5 rfl rfl)
theorem dX4_believed_32 : decode cX4_believed 32 = .ok (.ireturn, 1) := dk_172 (dk_at dksX4_believed_1 8 rfl rfl)
abbrev cX4_believedBy : ByteArray := prog_34_method_52_code
def yX4_believedBy : MethodName := ⟨RX4, "believedBy", "(I)I"⟩
def dkwX4_believedBy_1 : List UInt8 := [167, 0, 4, 5, 79, 132, 2, 1, 167, 255, 227, 42, 182, 0, 221, 42, 3, 182, 0, 238, 172]
abbrev dktX4_believedBy_1 : List UInt8 := dkwX4_believedBy_1 ++ []
def dkwX4_believedBy_0 : List UInt8 := [3, 61, 28, 16, 6, 162, 0, 29, 42, 180, 0, 46, 28, 27, 28, 122, 4, 126, 4, 160, 0, 7, 4]
abbrev dktX4_believedBy_0 : List UInt8 := dkwX4_believedBy_0 ++ dktX4_believedBy_1
theorem dksX4_believedBy_0 : cX4_believedBy.data.toList.drop 0 = dktX4_believedBy_0 := by decide +kernel
theorem dksX4_believedBy_1 : cX4_believedBy.data.toList.drop 23 = dktX4_believedBy_1 := dk_seg dksX4_believedBy_0 23 rfl rfl
theorem dX4_believedBy_0 : decode cX4_believedBy 0 = .ok (.iconst 0, 1) := dk_3 (dk_at dksX4_believedBy_0 0 rfl rfl)
theorem dX4_believedBy_1 : decode cX4_believedBy 1 = .ok (.istore_n 2, 1) := dk_61 (dk_at dksX4_believedBy_0 1 rfl rfl)
theorem dX4_believedBy_2 : decode cX4_believedBy 2 = .ok (.iload_n 2, 1) := dk_28 (dk_at dksX4_believedBy_0 2 rfl rfl)
theorem dX4_believedBy_3 : decode cX4_believedBy 3 = .ok (.bipush 6, 2) := dk_16 6 (dk_at dksX4_believedBy_0 3 rfl rfl)
theorem dX4_believedBy_5 : decode cX4_believedBy 5 = .ok (.if_icmp .ge 29, 3) := dk_162 0 29 (dk_at dksX4_believedBy_0 5 rfl rfl)
theorem dX4_believedBy_8 : decode cX4_believedBy 8 = .ok (.aload_n 0, 1) := dk_42 (dk_at dksX4_believedBy_0 8 rfl rfl)
theorem dX4_believedBy_9 : decode cX4_believedBy 9 = .ok (.getfield 46, 3) := dk_180 0 46 (dk_at dksX4_believedBy_0 9 rfl rfl)
theorem dX4_believedBy_12 : decode cX4_believedBy 12 = .ok (.iload_n 2, 1) := dk_28 (dk_at dksX4_believedBy_0 12 rfl rfl)
theorem dX4_believedBy_13 : decode cX4_believedBy 13 = .ok (.iload_n 1, 1) := dk_27 (dk_at dksX4_believedBy_0 13 rfl rfl)
theorem dX4_believedBy_14 : decode cX4_believedBy 14 = .ok (.iload_n 2, 1) := dk_28 (dk_at dksX4_believedBy_0 14 rfl rfl)
theorem dX4_believedBy_15 : decode cX4_believedBy 15 = .ok (.ishr, 1) := dk_122 (dk_at dksX4_believedBy_0 15 rfl rfl)
theorem dX4_believedBy_16 : decode cX4_believedBy 16 = .ok (.iconst 1, 1) := dk_4 (dk_at dksX4_believedBy_0 16 rfl rfl)
theorem dX4_believedBy_17 : decode cX4_believedBy 17 = .ok (.iand, 1) := dk_126 (dk_at dksX4_believedBy_0 17 rfl rfl)
theorem dX4_believedBy_18 : decode cX4_believedBy 18 = .ok (.iconst 1, 1) := dk_4 (dk_at dksX4_believedBy_0 18 rfl rfl)
theorem dX4_believedBy_19 : decode cX4_believedBy 19 = .ok (.if_icmp .ne 7, 3) := dk_160 0 7 (dk_at dksX4_believedBy_0 19 rfl rfl)
theorem dX4_believedBy_22 : decode cX4_believedBy 22 = .ok (.iconst 1, 1) := dk_4 (dk_at dksX4_believedBy_0 22 rfl rfl)
theorem dX4_believedBy_23 : decode cX4_believedBy 23 = .ok (.goto 4, 3) := dk_167 0 4 (dk_at dksX4_believedBy_1 0 rfl rfl)
theorem dX4_believedBy_26 : decode cX4_believedBy 26 = .ok (.iconst 2, 1) := dk_5 (dk_at dksX4_believedBy_1 3 rfl rfl)
theorem dX4_believedBy_27 : decode cX4_believedBy 27 = .ok (.iastore, 1) := dk_79 (dk_at dksX4_believedBy_1 4 rfl rfl)
theorem dX4_believedBy_28 : decode cX4_believedBy 28 = .ok (.iinc 2 1, 3) := dk_132 2 1 (dk_at dksX4_believedBy_1 5 rfl rfl)
theorem dX4_believedBy_31 : decode cX4_believedBy 31 = .ok (.goto (-29), 3) := dk_167 255 227 (dk_at dksX4_believedBy_1 8 rfl rfl)
theorem dX4_believedBy_34 : decode cX4_believedBy 34 = .ok (.aload_n 0, 1) := dk_42 (dk_at dksX4_believedBy_1 11 rfl rfl)
theorem dX4_believedBy_35 : decode cX4_believedBy 35 = .ok (.invokevirtual 221, 3) := dk_182 0 221 (dk_at dksX4_believedBy_1 12 rfl rfl)
theorem dX4_believedBy_38 : decode cX4_believedBy 38 = .ok (.aload_n 0, 1) := dk_42 (dk_at dksX4_believedBy_1 15 rfl rfl)
theorem dX4_believedBy_39 : decode cX4_believedBy 39 = .ok (.iconst 0, 1) := dk_3 (dk_at dksX4_believedBy_1 16 rfl rfl)
theorem dX4_believedBy_40 : decode cX4_believedBy 40 = .ok (.invokevirtual 238, 3) := dk_182 0 238 (dk_at dksX4_believedBy_1 17 rfl rfl)
theorem dX4_believedBy_43 : decode cX4_believedBy 43 = .ok (.ireturn, 1) := dk_172 (dk_at dksX4_believedBy_1 20 rfl rfl)
abbrev cX4_cheapest : ByteArray := prog_34_method_55_code
def yX4_cheapest : MethodName := ⟨RX4, "cheapest", "(III)I"⟩
def dkwX4_cheapest_4 : List UInt8 := [29, 154, 0, 8, 21, 4, 167, 0, 9, 42, 21, 4, 182, 1, 12, 172]
abbrev dktX4_cheapest_4 : List UInt8 := dkwX4_cheapest_4 ++ []
def dkwX4_cheapest_3 : List UInt8 := [42, 21, 4, 182, 1, 12, 162, 0, 7, 21, 5, 54, 4, 132, 5, 1, 167, 255, 212, 21, 4, 155, 0, 7]
abbrev dktX4_cheapest_3 : List UInt8 := dkwX4_cheapest_3 ++ dktX4_cheapest_4
def dkwX4_cheapest_2 : List UInt8 := [162, 0, 43, 42, 21, 5, 182, 1, 9, 28, 161, 0, 27, 21, 4, 155, 0, 18, 42, 21, 5, 182, 1, 12]
abbrev dktX4_cheapest_2 : List UInt8 := dkwX4_cheapest_2 ++ dktX4_cheapest_3
def dkwX4_cheapest_1 : List UInt8 := [184, 0, 102, 154, 0, 5, 2, 172, 42, 27, 182, 0, 217, 16, 254, 54, 4, 3, 54, 5, 21, 5, 16, 64]
abbrev dktX4_cheapest_1 : List UInt8 := dkwX4_cheapest_1 ++ dktX4_cheapest_2
def dkwX4_cheapest_0 : List UInt8 := [42, 27, 182, 0, 132, 153, 0, 25, 28, 133, 9, 20, 0, 215, 184, 0, 102, 153, 0, 13, 29, 133, 9, 10]
abbrev dktX4_cheapest_0 : List UInt8 := dkwX4_cheapest_0 ++ dktX4_cheapest_1
theorem dksX4_cheapest_0 : cX4_cheapest.data.toList.drop 0 = dktX4_cheapest_0 := by decide +kernel
theorem dksX4_cheapest_1 : cX4_cheapest.data.toList.drop 24 = dktX4_cheapest_1 := dk_seg dksX4_cheapest_0 24 rfl rfl
theorem dksX4_cheapest_2 : cX4_cheapest.data.toList.drop 48 = dktX4_cheapest_2 := dk_seg dksX4_cheapest_1 24 rfl rfl
theorem dksX4_cheapest_3 : cX4_cheapest.data.toList.drop 72 = dktX4_cheapest_3 := dk_seg dksX4_cheapest_2 24 rfl rfl
theorem dksX4_cheapest_4 : cX4_cheapest.data.toList.drop 96 = dktX4_cheapest_4 := dk_seg dksX4_cheapest_3 24 rfl rfl
theorem dX4_cheapest_0 : decode cX4_cheapest 0 = .ok (.aload_n 0, 1) := dk_42 (dk_at dksX4_cheapest_0 0 rfl rfl)
theorem dX4_cheapest_1 : decode cX4_cheapest 1 = .ok (.iload_n 1, 1) := dk_27 (dk_at dksX4_cheapest_0 1 rfl rfl)
theorem dX4_cheapest_2 : decode cX4_cheapest 2 = .ok (.invokevirtual 132, 3) := dk_182 0 132 (dk_at dksX4_cheapest_0 2 rfl rfl)
theorem dX4_cheapest_5 : decode cX4_cheapest 5 = .ok (.ifCond .eq 25, 3) := dk_153 0 25 (dk_at dksX4_cheapest_0 5 rfl rfl)
theorem dX4_cheapest_8 : decode cX4_cheapest 8 = .ok (.iload_n 2, 1) := dk_28 (dk_at dksX4_cheapest_0 8 rfl rfl)
theorem dX4_cheapest_9 : decode cX4_cheapest 9 = .ok (.i2l, 1) := dk_133 (dk_at dksX4_cheapest_0 9 rfl rfl)
theorem dX4_cheapest_10 : decode cX4_cheapest 10 = .ok (.lconst 0, 1) := dk_9 (dk_at dksX4_cheapest_0 10 rfl rfl)
theorem dX4_cheapest_11 : decode cX4_cheapest 11 = .ok (.ldc2_w 215, 3) := dk_20 0 215 (dk_at dksX4_cheapest_0 11 rfl rfl)
theorem dX4_cheapest_14 : decode cX4_cheapest 14 = .ok (.invokestatic 102, 3) := dk_184 0 102 (dk_at dksX4_cheapest_0 14 rfl rfl)
theorem dX4_cheapest_17 : decode cX4_cheapest 17 = .ok (.ifCond .eq 13, 3) := dk_153 0 13 (dk_at dksX4_cheapest_0 17 rfl rfl)
theorem dX4_cheapest_20 : decode cX4_cheapest 20 = .ok (.iload_n 3, 1) := dk_29 (dk_at dksX4_cheapest_0 20 rfl rfl)
theorem dX4_cheapest_21 : decode cX4_cheapest 21 = .ok (.i2l, 1) := dk_133 (dk_at dksX4_cheapest_0 21 rfl rfl)
theorem dX4_cheapest_22 : decode cX4_cheapest 22 = .ok (.lconst 0, 1) := dk_9 (dk_at dksX4_cheapest_0 22 rfl rfl)
theorem dX4_cheapest_23 : decode cX4_cheapest 23 = .ok (.lconst 1, 1) := dk_10 (dk_at dksX4_cheapest_0 23 rfl rfl)
theorem dX4_cheapest_24 : decode cX4_cheapest 24 = .ok (.invokestatic 102, 3) := dk_184 0 102 (dk_at dksX4_cheapest_1 0 rfl rfl)
theorem dX4_cheapest_27 : decode cX4_cheapest 27 = .ok (.ifCond .ne 5, 3) := dk_154 0 5 (dk_at dksX4_cheapest_1 3 rfl rfl)
theorem dX4_cheapest_30 : decode cX4_cheapest 30 = .ok (.iconst (-1), 1) := dk_2 (dk_at dksX4_cheapest_1 6 rfl rfl)
theorem dX4_cheapest_31 : decode cX4_cheapest 31 = .ok (.ireturn, 1) := dk_172 (dk_at dksX4_cheapest_1 7 rfl rfl)
theorem dX4_cheapest_32 : decode cX4_cheapest 32 = .ok (.aload_n 0, 1) := dk_42 (dk_at dksX4_cheapest_1 8 rfl rfl)
theorem dX4_cheapest_33 : decode cX4_cheapest 33 = .ok (.iload_n 1, 1) := dk_27 (dk_at dksX4_cheapest_1 9 rfl rfl)
theorem dX4_cheapest_34 : decode cX4_cheapest 34 = .ok (.invokevirtual 217, 3) := dk_182 0 217 (dk_at dksX4_cheapest_1 10 rfl rfl)
theorem dX4_cheapest_37 : decode cX4_cheapest 37 = .ok (.bipush (-2), 2) := dk_16 254 (dk_at dksX4_cheapest_1 13 rfl rfl)
theorem dX4_cheapest_39 : decode cX4_cheapest 39 = .ok (.istore 4, 2) := dk_54 4 (dk_at dksX4_cheapest_1 15 rfl rfl)
theorem dX4_cheapest_41 : decode cX4_cheapest 41 = .ok (.iconst 0, 1) := dk_3 (dk_at dksX4_cheapest_1 17 rfl rfl)
theorem dX4_cheapest_42 : decode cX4_cheapest 42 = .ok (.istore 5, 2) := dk_54 5 (dk_at dksX4_cheapest_1 18 rfl rfl)
theorem dX4_cheapest_44 : decode cX4_cheapest 44 = .ok (.iload 5, 2) := dk_21 5 (dk_at dksX4_cheapest_1 20 rfl rfl)
theorem dX4_cheapest_46 : decode cX4_cheapest 46 = .ok (.bipush 64, 2) := dk_16 64 (dk_at dksX4_cheapest_1 22 rfl rfl)
theorem dX4_cheapest_48 : decode cX4_cheapest 48 = .ok (.if_icmp .ge 43, 3) := dk_162 0 43 (dk_at dksX4_cheapest_2 0 rfl rfl)
theorem dX4_cheapest_51 : decode cX4_cheapest 51 = .ok (.aload_n 0, 1) := dk_42 (dk_at dksX4_cheapest_2 3 rfl rfl)
theorem dX4_cheapest_52 : decode cX4_cheapest 52 = .ok (.iload 5, 2) := dk_21 5 (dk_at dksX4_cheapest_2 4 rfl rfl)
theorem dX4_cheapest_54 : decode cX4_cheapest 54 = .ok (.invokevirtual 265, 3) := dk_182 1 9 (dk_at dksX4_cheapest_2 6 rfl rfl)
theorem dX4_cheapest_57 : decode cX4_cheapest 57 = .ok (.iload_n 2, 1) := dk_28 (dk_at dksX4_cheapest_2 9 rfl rfl)
theorem dX4_cheapest_58 : decode cX4_cheapest 58 = .ok (.if_icmp .lt 27, 3) := dk_161 0 27 (dk_at dksX4_cheapest_2 10 rfl rfl)
theorem dX4_cheapest_61 : decode cX4_cheapest 61 = .ok (.iload 4, 2) := dk_21 4 (dk_at dksX4_cheapest_2 13 rfl rfl)
theorem dX4_cheapest_63 : decode cX4_cheapest 63 = .ok (.ifCond .lt 18, 3) := dk_155 0 18 (dk_at dksX4_cheapest_2 15 rfl rfl)
theorem dX4_cheapest_66 : decode cX4_cheapest 66 = .ok (.aload_n 0, 1) := dk_42 (dk_at dksX4_cheapest_2 18 rfl rfl)
theorem dX4_cheapest_67 : decode cX4_cheapest 67 = .ok (.iload 5, 2) := dk_21 5 (dk_at dksX4_cheapest_2 19 rfl rfl)
theorem dX4_cheapest_69 : decode cX4_cheapest 69 = .ok (.invokevirtual 268, 3) := dk_182 1 12 (dk_at dksX4_cheapest_2 21 rfl rfl)
theorem dX4_cheapest_72 : decode cX4_cheapest 72 = .ok (.aload_n 0, 1) := dk_42 (dk_at dksX4_cheapest_3 0 rfl rfl)
theorem dX4_cheapest_73 : decode cX4_cheapest 73 = .ok (.iload 4, 2) := dk_21 4 (dk_at dksX4_cheapest_3 1 rfl rfl)
theorem dX4_cheapest_75 : decode cX4_cheapest 75 = .ok (.invokevirtual 268, 3) := dk_182 1 12 (dk_at dksX4_cheapest_3 3 rfl rfl)
theorem dX4_cheapest_78 : decode cX4_cheapest 78 = .ok (.if_icmp .ge 7, 3) := dk_162 0 7 (dk_at dksX4_cheapest_3 6 rfl rfl)
theorem dX4_cheapest_81 : decode cX4_cheapest 81 = .ok (.iload 5, 2) := dk_21 5 (dk_at dksX4_cheapest_3 9 rfl rfl)
theorem dX4_cheapest_83 : decode cX4_cheapest 83 = .ok (.istore 4, 2) := dk_54 4 (dk_at dksX4_cheapest_3 11 rfl rfl)
theorem dX4_cheapest_85 : decode cX4_cheapest 85 = .ok (.iinc 5 1, 3) := dk_132 5 1 (dk_at dksX4_cheapest_3 13 rfl rfl)
theorem dX4_cheapest_88 : decode cX4_cheapest 88 = .ok (.goto (-44), 3) := dk_167 255 212 (dk_at dksX4_cheapest_3 16 rfl rfl)
theorem dX4_cheapest_91 : decode cX4_cheapest 91 = .ok (.iload 4, 2) := dk_21 4 (dk_at dksX4_cheapest_3 19 rfl rfl)
theorem dX4_cheapest_93 : decode cX4_cheapest 93 = .ok (.ifCond .lt 7, 3) := dk_155 0 7 (dk_at dksX4_cheapest_3 21 rfl rfl)
theorem dX4_cheapest_96 : decode cX4_cheapest 96 = .ok (.iload_n 3, 1) := dk_29 (dk_at dksX4_cheapest_4 0 rfl rfl)
theorem dX4_cheapest_97 : decode cX4_cheapest 97 = .ok (.ifCond .ne 8, 3) := dk_154 0 8 (dk_at dksX4_cheapest_4 1 rfl rfl)
theorem dX4_cheapest_100 : decode cX4_cheapest 100 = .ok (.iload 4, 2) := dk_21 4 (dk_at dksX4_cheapest_4 4 rfl rfl)
theorem dX4_cheapest_102 : decode cX4_cheapest 102 = .ok (.goto 9, 3) := dk_167 0 9 (dk_at dksX4_cheapest_4 6 rfl rfl)
theorem dX4_cheapest_105 : decode cX4_cheapest 105 = .ok (.aload_n 0, 1) := dk_42 (dk_at dksX4_cheapest_4 9 rfl rfl)
theorem dX4_cheapest_106 : decode cX4_cheapest 106 = .ok (.iload 4, 2) := dk_21 4 (dk_at dksX4_cheapest_4 10 rfl rfl)
theorem dX4_cheapest_108 : decode cX4_cheapest 108 = .ok (.invokevirtual 268, 3) := dk_182 1 12 (dk_at dksX4_cheapest_4 12 rfl rfl)
theorem dX4_cheapest_111 : decode cX4_cheapest 111 = .ok (.ireturn, 1) := dk_172 (dk_at dksX4_cheapest_4 15 rfl rfl)
abbrev cX4_costOf : ByteArray := prog_34_method_54_code
def yX4_costOf : MethodName := ⟨RX4, "costOf", "(I)I"⟩
def dkwX4_costOf_1 : List UInt8 := [16, 18, 29, 96, 46, 167, 0, 4, 3, 96, 61, 132, 3, 1, 167, 255, 222, 28, 172]
abbrev dktX4_costOf_1 : List UInt8 := dkwX4_costOf_1 ++ []
def dkwX4_costOf_0 : List UInt8 := [3, 61, 3, 62, 29, 16, 6, 162, 0, 34, 28, 27, 29, 122, 4, 126, 4, 160, 0, 15, 42, 180, 0, 9]
abbrev dktX4_costOf_0 : List UInt8 := dkwX4_costOf_0 ++ dktX4_costOf_1
theorem dksX4_costOf_0 : cX4_costOf.data.toList.drop 0 = dktX4_costOf_0 := by decide +kernel
theorem dksX4_costOf_1 : cX4_costOf.data.toList.drop 24 = dktX4_costOf_1 := dk_seg dksX4_costOf_0 24 rfl rfl
theorem dX4_costOf_0 : decode cX4_costOf 0 = .ok (.iconst 0, 1) := dk_3 (dk_at dksX4_costOf_0 0 rfl rfl)
theorem dX4_costOf_1 : decode cX4_costOf 1 = .ok (.istore_n 2, 1) := dk_61 (dk_at dksX4_costOf_0 1 rfl rfl)
theorem dX4_costOf_2 : decode cX4_costOf 2 = .ok (.iconst 0, 1) := dk_3 (dk_at dksX4_costOf_0 2 rfl rfl)
theorem dX4_costOf_3 : decode cX4_costOf 3 = .ok (.istore_n 3, 1) := dk_62 (dk_at dksX4_costOf_0 3 rfl rfl)
theorem dX4_costOf_4 : decode cX4_costOf 4 = .ok (.iload_n 3, 1) := dk_29 (dk_at dksX4_costOf_0 4 rfl rfl)
theorem dX4_costOf_5 : decode cX4_costOf 5 = .ok (.bipush 6, 2) := dk_16 6 (dk_at dksX4_costOf_0 5 rfl rfl)
theorem dX4_costOf_7 : decode cX4_costOf 7 = .ok (.if_icmp .ge 34, 3) := dk_162 0 34 (dk_at dksX4_costOf_0 7 rfl rfl)
theorem dX4_costOf_10 : decode cX4_costOf 10 = .ok (.iload_n 2, 1) := dk_28 (dk_at dksX4_costOf_0 10 rfl rfl)
theorem dX4_costOf_11 : decode cX4_costOf 11 = .ok (.iload_n 1, 1) := dk_27 (dk_at dksX4_costOf_0 11 rfl rfl)
theorem dX4_costOf_12 : decode cX4_costOf 12 = .ok (.iload_n 3, 1) := dk_29 (dk_at dksX4_costOf_0 12 rfl rfl)
theorem dX4_costOf_13 : decode cX4_costOf 13 = .ok (.ishr, 1) := dk_122 (dk_at dksX4_costOf_0 13 rfl rfl)
theorem dX4_costOf_14 : decode cX4_costOf 14 = .ok (.iconst 1, 1) := dk_4 (dk_at dksX4_costOf_0 14 rfl rfl)
theorem dX4_costOf_15 : decode cX4_costOf 15 = .ok (.iand, 1) := dk_126 (dk_at dksX4_costOf_0 15 rfl rfl)
theorem dX4_costOf_16 : decode cX4_costOf 16 = .ok (.iconst 1, 1) := dk_4 (dk_at dksX4_costOf_0 16 rfl rfl)
theorem dX4_costOf_17 : decode cX4_costOf 17 = .ok (.if_icmp .ne 15, 3) := dk_160 0 15 (dk_at dksX4_costOf_0 17 rfl rfl)
theorem dX4_costOf_20 : decode cX4_costOf 20 = .ok (.aload_n 0, 1) := dk_42 (dk_at dksX4_costOf_0 20 rfl rfl)
theorem dX4_costOf_21 : decode cX4_costOf 21 = .ok (.getfield 9, 3) := dk_180 0 9 (dk_at dksX4_costOf_0 21 rfl rfl)
theorem dX4_costOf_24 : decode cX4_costOf 24 = .ok (.bipush 18, 2) := dk_16 18 (dk_at dksX4_costOf_1 0 rfl rfl)
theorem dX4_costOf_26 : decode cX4_costOf 26 = .ok (.iload_n 3, 1) := dk_29 (dk_at dksX4_costOf_1 2 rfl rfl)
theorem dX4_costOf_27 : decode cX4_costOf 27 = .ok (.iadd, 1) := dk_96 (dk_at dksX4_costOf_1 3 rfl rfl)
theorem dX4_costOf_28 : decode cX4_costOf 28 = .ok (.iaload, 1) := dk_46 (dk_at dksX4_costOf_1 4 rfl rfl)
theorem dX4_costOf_29 : decode cX4_costOf 29 = .ok (.goto 4, 3) := dk_167 0 4 (dk_at dksX4_costOf_1 5 rfl rfl)
theorem dX4_costOf_32 : decode cX4_costOf 32 = .ok (.iconst 0, 1) := dk_3 (dk_at dksX4_costOf_1 8 rfl rfl)
theorem dX4_costOf_33 : decode cX4_costOf 33 = .ok (.iadd, 1) := dk_96 (dk_at dksX4_costOf_1 9 rfl rfl)
theorem dX4_costOf_34 : decode cX4_costOf 34 = .ok (.istore_n 2, 1) := dk_61 (dk_at dksX4_costOf_1 10 rfl rfl)
theorem dX4_costOf_35 : decode cX4_costOf 35 = .ok (.iinc 3 1, 3) := dk_132 3 1 (dk_at dksX4_costOf_1 11 rfl rfl)
theorem dX4_costOf_38 : decode cX4_costOf 38 = .ok (.goto (-34), 3) := dk_167 255 222 (dk_at dksX4_costOf_1 14 rfl rfl)
theorem dX4_costOf_41 : decode cX4_costOf 41 = .ok (.iload_n 2, 1) := dk_28 (dk_at dksX4_costOf_1 17 rfl rfl)
theorem dX4_costOf_42 : decode cX4_costOf 42 = .ok (.ireturn, 1) := dk_172 (dk_at dksX4_costOf_1 18 rfl rfl)
abbrev cX4_spoils : ByteArray := prog_34_method_56_code
def yX4_spoils : MethodName := ⟨RX4, "spoils", "(II)I"⟩
def dkwX4_spoils_4 : List UInt8 := [132, 5, 1, 167, 255, 195, 29, 172]
abbrev dktX4_spoils_4 : List UInt8 := dkwX4_spoils_4 ++ []
def dkwX4_spoils_3 : List UInt8 := [21, 6, 155, 0, 21, 29, 155, 0, 10, 21, 6, 21, 4, 162, 0, 10, 21, 5, 62, 21, 6, 54, 4]
abbrev dktX4_spoils_3 : List UInt8 := dkwX4_spoils_3 ++ dktX4_spoils_4
def dkwX4_spoils_2 : List UInt8 := [126, 4, 160, 0, 18, 42, 28, 4, 21, 5, 120, 2, 130, 126, 182, 1, 9, 167, 0, 4, 2, 54, 6]
abbrev dktX4_spoils_2 : List UInt8 := dkwX4_spoils_2 ++ dktX4_spoils_3
def dkwX4_spoils_1 : List UInt8 := [182, 0, 217, 16, 254, 62, 3, 54, 4, 3, 54, 5, 21, 5, 16, 6, 162, 0, 60, 28, 21, 5, 122, 4]
abbrev dktX4_spoils_1 : List UInt8 := dkwX4_spoils_1 ++ dktX4_spoils_2
def dkwX4_spoils_0 : List UInt8 := [42, 27, 182, 0, 132, 153, 0, 15, 28, 133, 9, 20, 0, 251, 184, 0, 102, 154, 0, 5, 2, 172, 42, 27]
abbrev dktX4_spoils_0 : List UInt8 := dkwX4_spoils_0 ++ dktX4_spoils_1
theorem dksX4_spoils_0 : cX4_spoils.data.toList.drop 0 = dktX4_spoils_0 := by decide +kernel
theorem dksX4_spoils_1 : cX4_spoils.data.toList.drop 24 = dktX4_spoils_1 := dk_seg dksX4_spoils_0 24 rfl rfl
theorem dksX4_spoils_2 : cX4_spoils.data.toList.drop 48 = dktX4_spoils_2 := dk_seg dksX4_spoils_1 24 rfl rfl
theorem dksX4_spoils_3 : cX4_spoils.data.toList.drop 71 = dktX4_spoils_3 := dk_seg dksX4_spoils_2 23 rfl rfl
theorem dksX4_spoils_4 : cX4_spoils.data.toList.drop 94 = dktX4_spoils_4 := dk_seg dksX4_spoils_3 23 rfl rfl
theorem dX4_spoils_0 : decode cX4_spoils 0 = .ok (.aload_n 0, 1) := dk_42 (dk_at dksX4_spoils_0 0 rfl rfl)
theorem dX4_spoils_1 : decode cX4_spoils 1 = .ok (.iload_n 1, 1) := dk_27 (dk_at dksX4_spoils_0 1 rfl rfl)
theorem dX4_spoils_2 : decode cX4_spoils 2 = .ok (.invokevirtual 132, 3) := dk_182 0 132 (dk_at dksX4_spoils_0 2 rfl rfl)
theorem dX4_spoils_5 : decode cX4_spoils 5 = .ok (.ifCond .eq 15, 3) := dk_153 0 15 (dk_at dksX4_spoils_0 5 rfl rfl)
theorem dX4_spoils_8 : decode cX4_spoils 8 = .ok (.iload_n 2, 1) := dk_28 (dk_at dksX4_spoils_0 8 rfl rfl)
theorem dX4_spoils_9 : decode cX4_spoils 9 = .ok (.i2l, 1) := dk_133 (dk_at dksX4_spoils_0 9 rfl rfl)
theorem dX4_spoils_10 : decode cX4_spoils 10 = .ok (.lconst 0, 1) := dk_9 (dk_at dksX4_spoils_0 10 rfl rfl)
theorem dX4_spoils_11 : decode cX4_spoils 11 = .ok (.ldc2_w 251, 3) := dk_20 0 251 (dk_at dksX4_spoils_0 11 rfl rfl)
theorem dX4_spoils_14 : decode cX4_spoils 14 = .ok (.invokestatic 102, 3) := dk_184 0 102 (dk_at dksX4_spoils_0 14 rfl rfl)
theorem dX4_spoils_17 : decode cX4_spoils 17 = .ok (.ifCond .ne 5, 3) := dk_154 0 5 (dk_at dksX4_spoils_0 17 rfl rfl)
theorem dX4_spoils_20 : decode cX4_spoils 20 = .ok (.iconst (-1), 1) := dk_2 (dk_at dksX4_spoils_0 20 rfl rfl)
theorem dX4_spoils_21 : decode cX4_spoils 21 = .ok (.ireturn, 1) := dk_172 (dk_at dksX4_spoils_0 21 rfl rfl)
theorem dX4_spoils_22 : decode cX4_spoils 22 = .ok (.aload_n 0, 1) := dk_42 (dk_at dksX4_spoils_0 22 rfl rfl)
theorem dX4_spoils_23 : decode cX4_spoils 23 = .ok (.iload_n 1, 1) := dk_27 (dk_at dksX4_spoils_0 23 rfl rfl)
theorem dX4_spoils_24 : decode cX4_spoils 24 = .ok (.invokevirtual 217, 3) := dk_182 0 217 (dk_at dksX4_spoils_1 0 rfl rfl)
theorem dX4_spoils_27 : decode cX4_spoils 27 = .ok (.bipush (-2), 2) := dk_16 254 (dk_at dksX4_spoils_1 3 rfl rfl)
theorem dX4_spoils_29 : decode cX4_spoils 29 = .ok (.istore_n 3, 1) := dk_62 (dk_at dksX4_spoils_1 5 rfl rfl)
theorem dX4_spoils_30 : decode cX4_spoils 30 = .ok (.iconst 0, 1) := dk_3 (dk_at dksX4_spoils_1 6 rfl rfl)
theorem dX4_spoils_31 : decode cX4_spoils 31 = .ok (.istore 4, 2) := dk_54 4 (dk_at dksX4_spoils_1 7 rfl rfl)
theorem dX4_spoils_33 : decode cX4_spoils 33 = .ok (.iconst 0, 1) := dk_3 (dk_at dksX4_spoils_1 9 rfl rfl)
theorem dX4_spoils_34 : decode cX4_spoils 34 = .ok (.istore 5, 2) := dk_54 5 (dk_at dksX4_spoils_1 10 rfl rfl)
theorem dX4_spoils_36 : decode cX4_spoils 36 = .ok (.iload 5, 2) := dk_21 5 (dk_at dksX4_spoils_1 12 rfl rfl)
theorem dX4_spoils_38 : decode cX4_spoils 38 = .ok (.bipush 6, 2) := dk_16 6 (dk_at dksX4_spoils_1 14 rfl rfl)
theorem dX4_spoils_40 : decode cX4_spoils 40 = .ok (.if_icmp .ge 60, 3) := dk_162 0 60 (dk_at dksX4_spoils_1 16 rfl rfl)
theorem dX4_spoils_43 : decode cX4_spoils 43 = .ok (.iload_n 2, 1) := dk_28 (dk_at dksX4_spoils_1 19 rfl rfl)
theorem dX4_spoils_44 : decode cX4_spoils 44 = .ok (.iload 5, 2) := dk_21 5 (dk_at dksX4_spoils_1 20 rfl rfl)
theorem dX4_spoils_46 : decode cX4_spoils 46 = .ok (.ishr, 1) := dk_122 (dk_at dksX4_spoils_1 22 rfl rfl)
theorem dX4_spoils_47 : decode cX4_spoils 47 = .ok (.iconst 1, 1) := dk_4 (dk_at dksX4_spoils_1 23 rfl rfl)
theorem dX4_spoils_48 : decode cX4_spoils 48 = .ok (.iand, 1) := dk_126 (dk_at dksX4_spoils_2 0 rfl rfl)
theorem dX4_spoils_49 : decode cX4_spoils 49 = .ok (.iconst 1, 1) := dk_4 (dk_at dksX4_spoils_2 1 rfl rfl)
theorem dX4_spoils_50 : decode cX4_spoils 50 = .ok (.if_icmp .ne 18, 3) := dk_160 0 18 (dk_at dksX4_spoils_2 2 rfl rfl)
theorem dX4_spoils_53 : decode cX4_spoils 53 = .ok (.aload_n 0, 1) := dk_42 (dk_at dksX4_spoils_2 5 rfl rfl)
theorem dX4_spoils_54 : decode cX4_spoils 54 = .ok (.iload_n 2, 1) := dk_28 (dk_at dksX4_spoils_2 6 rfl rfl)
theorem dX4_spoils_55 : decode cX4_spoils 55 = .ok (.iconst 1, 1) := dk_4 (dk_at dksX4_spoils_2 7 rfl rfl)
theorem dX4_spoils_56 : decode cX4_spoils 56 = .ok (.iload 5, 2) := dk_21 5 (dk_at dksX4_spoils_2 8 rfl rfl)
theorem dX4_spoils_58 : decode cX4_spoils 58 = .ok (.ishl, 1) := dk_120 (dk_at dksX4_spoils_2 10 rfl rfl)
theorem dX4_spoils_59 : decode cX4_spoils 59 = .ok (.iconst (-1), 1) := dk_2 (dk_at dksX4_spoils_2 11 rfl rfl)
theorem dX4_spoils_60 : decode cX4_spoils 60 = .ok (.ixor, 1) := dk_130 (dk_at dksX4_spoils_2 12 rfl rfl)
theorem dX4_spoils_61 : decode cX4_spoils 61 = .ok (.iand, 1) := dk_126 (dk_at dksX4_spoils_2 13 rfl rfl)
theorem dX4_spoils_62 : decode cX4_spoils 62 = .ok (.invokevirtual 265, 3) := dk_182 1 9 (dk_at dksX4_spoils_2 14 rfl rfl)
theorem dX4_spoils_65 : decode cX4_spoils 65 = .ok (.goto 4, 3) := dk_167 0 4 (dk_at dksX4_spoils_2 17 rfl rfl)
theorem dX4_spoils_68 : decode cX4_spoils 68 = .ok (.iconst (-1), 1) := dk_2 (dk_at dksX4_spoils_2 20 rfl rfl)
theorem dX4_spoils_69 : decode cX4_spoils 69 = .ok (.istore 6, 2) := dk_54 6 (dk_at dksX4_spoils_2 21 rfl rfl)
theorem dX4_spoils_71 : decode cX4_spoils 71 = .ok (.iload 6, 2) := dk_21 6 (dk_at dksX4_spoils_3 0 rfl rfl)
theorem dX4_spoils_73 : decode cX4_spoils 73 = .ok (.ifCond .lt 21, 3) := dk_155 0 21 (dk_at dksX4_spoils_3 2 rfl rfl)
theorem dX4_spoils_76 : decode cX4_spoils 76 = .ok (.iload_n 3, 1) := dk_29 (dk_at dksX4_spoils_3 5 rfl rfl)
theorem dX4_spoils_77 : decode cX4_spoils 77 = .ok (.ifCond .lt 10, 3) := dk_155 0 10 (dk_at dksX4_spoils_3 6 rfl rfl)
theorem dX4_spoils_80 : decode cX4_spoils 80 = .ok (.iload 6, 2) := dk_21 6 (dk_at dksX4_spoils_3 9 rfl rfl)
theorem dX4_spoils_82 : decode cX4_spoils 82 = .ok (.iload 4, 2) := dk_21 4 (dk_at dksX4_spoils_3 11 rfl rfl)
theorem dX4_spoils_84 : decode cX4_spoils 84 = .ok (.if_icmp .ge 10, 3) := dk_162 0 10 (dk_at dksX4_spoils_3 13 rfl rfl)
theorem dX4_spoils_87 : decode cX4_spoils 87 = .ok (.iload 5, 2) := dk_21 5 (dk_at dksX4_spoils_3 16 rfl rfl)
theorem dX4_spoils_89 : decode cX4_spoils 89 = .ok (.istore_n 3, 1) := dk_62 (dk_at dksX4_spoils_3 18 rfl rfl)
theorem dX4_spoils_90 : decode cX4_spoils 90 = .ok (.iload 6, 2) := dk_21 6 (dk_at dksX4_spoils_3 19 rfl rfl)
theorem dX4_spoils_92 : decode cX4_spoils 92 = .ok (.istore 4, 2) := dk_54 4 (dk_at dksX4_spoils_3 21 rfl rfl)
theorem dX4_spoils_94 : decode cX4_spoils 94 = .ok (.iinc 5 1, 3) := dk_132 5 1 (dk_at dksX4_spoils_4 0 rfl rfl)
theorem dX4_spoils_97 : decode cX4_spoils 97 = .ok (.goto (-61), 3) := dk_167 255 195 (dk_at dksX4_spoils_4 3 rfl rfl)
theorem dX4_spoils_100 : decode cX4_spoils 100 = .ok (.iload_n 3, 1) := dk_29 (dk_at dksX4_spoils_4 6 rfl rfl)
theorem dX4_spoils_101 : decode cX4_spoils 101 = .ok (.ireturn, 1) := dk_172 (dk_at dksX4_spoils_4 7 rfl rfl)
abbrev cX4_price : ByteArray := prog_34_method_58_code
def yX4_price : MethodName := ⟨RX4, "price", "(I)I"⟩
def dkwX4_price_2 : List UInt8 := [167, 0, 4, 2, 172]
abbrev dktX4_price_2 : List UInt8 := dkwX4_price_2 ++ []
def dkwX4_price_1 : List UInt8 := [61, 132, 3, 1, 167, 255, 237, 28, 172, 42, 27, 182, 0, 132, 153, 0, 11, 42, 27, 182, 1, 15]
abbrev dktX4_price_1 : List UInt8 := dkwX4_price_1 ++ dktX4_price_2
def dkwX4_price_0 : List UInt8 := [27, 2, 160, 0, 31, 3, 61, 3, 62, 29, 42, 180, 0, 99, 162, 0, 17, 28, 42, 29, 182, 1, 15, 96]
abbrev dktX4_price_0 : List UInt8 := dkwX4_price_0 ++ dktX4_price_1
theorem dksX4_price_0 : cX4_price.data.toList.drop 0 = dktX4_price_0 := by decide +kernel
theorem dksX4_price_1 : cX4_price.data.toList.drop 24 = dktX4_price_1 := dk_seg dksX4_price_0 24 rfl rfl
theorem dksX4_price_2 : cX4_price.data.toList.drop 46 = dktX4_price_2 := dk_seg dksX4_price_1 22 rfl rfl
theorem dX4_price_0 : decode cX4_price 0 = .ok (.iload_n 1, 1) := dk_27 (dk_at dksX4_price_0 0 rfl rfl)
theorem dX4_price_1 : decode cX4_price 1 = .ok (.iconst (-1), 1) := dk_2 (dk_at dksX4_price_0 1 rfl rfl)
theorem dX4_price_2 : decode cX4_price 2 = .ok (.if_icmp .ne 31, 3) := dk_160 0 31 (dk_at dksX4_price_0 2 rfl rfl)
theorem dX4_price_5 : decode cX4_price 5 = .ok (.iconst 0, 1) := dk_3 (dk_at dksX4_price_0 5 rfl rfl)
theorem dX4_price_6 : decode cX4_price 6 = .ok (.istore_n 2, 1) := dk_61 (dk_at dksX4_price_0 6 rfl rfl)
theorem dX4_price_7 : decode cX4_price 7 = .ok (.iconst 0, 1) := dk_3 (dk_at dksX4_price_0 7 rfl rfl)
theorem dX4_price_8 : decode cX4_price 8 = .ok (.istore_n 3, 1) := dk_62 (dk_at dksX4_price_0 8 rfl rfl)
theorem dX4_price_9 : decode cX4_price 9 = .ok (.iload_n 3, 1) := dk_29 (dk_at dksX4_price_0 9 rfl rfl)
theorem dX4_price_10 : decode cX4_price 10 = .ok (.aload_n 0, 1) := dk_42 (dk_at dksX4_price_0 10 rfl rfl)
theorem dX4_price_11 : decode cX4_price 11 = .ok (.getfield 99, 3) := dk_180 0 99 (dk_at dksX4_price_0 11 rfl rfl)
theorem dX4_price_14 : decode cX4_price 14 = .ok (.if_icmp .ge 17, 3) := dk_162 0 17 (dk_at dksX4_price_0 14 rfl rfl)
theorem dX4_price_17 : decode cX4_price 17 = .ok (.iload_n 2, 1) := dk_28 (dk_at dksX4_price_0 17 rfl rfl)
theorem dX4_price_18 : decode cX4_price 18 = .ok (.aload_n 0, 1) := dk_42 (dk_at dksX4_price_0 18 rfl rfl)
theorem dX4_price_19 : decode cX4_price 19 = .ok (.iload_n 3, 1) := dk_29 (dk_at dksX4_price_0 19 rfl rfl)
theorem dX4_price_20 : decode cX4_price 20 = .ok (.invokevirtual 271, 3) := dk_182 1 15 (dk_at dksX4_price_0 20 rfl rfl)
theorem dX4_price_23 : decode cX4_price 23 = .ok (.iadd, 1) := dk_96 (dk_at dksX4_price_0 23 rfl rfl)
theorem dX4_price_24 : decode cX4_price 24 = .ok (.istore_n 2, 1) := dk_61 (dk_at dksX4_price_1 0 rfl rfl)
theorem dX4_price_25 : decode cX4_price 25 = .ok (.iinc 3 1, 3) := dk_132 3 1 (dk_at dksX4_price_1 1 rfl rfl)
theorem dX4_price_28 : decode cX4_price 28 = .ok (.goto (-19), 3) := dk_167 255 237 (dk_at dksX4_price_1 4 rfl rfl)
theorem dX4_price_31 : decode cX4_price 31 = .ok (.iload_n 2, 1) := dk_28 (dk_at dksX4_price_1 7 rfl rfl)
theorem dX4_price_32 : decode cX4_price 32 = .ok (.ireturn, 1) := dk_172 (dk_at dksX4_price_1 8 rfl rfl)
theorem dX4_price_33 : decode cX4_price 33 = .ok (.aload_n 0, 1) := dk_42 (dk_at dksX4_price_1 9 rfl rfl)
theorem dX4_price_34 : decode cX4_price 34 = .ok (.iload_n 1, 1) := dk_27 (dk_at dksX4_price_1 10 rfl rfl)
theorem dX4_price_35 : decode cX4_price 35 = .ok (.invokevirtual 132, 3) := dk_182 0 132 (dk_at dksX4_price_1 11 rfl rfl)
theorem dX4_price_38 : decode cX4_price 38 = .ok (.ifCond .eq 11, 3) := dk_153 0 11 (dk_at dksX4_price_1 14 rfl rfl)
theorem dX4_price_41 : decode cX4_price 41 = .ok (.aload_n 0, 1) := dk_42 (dk_at dksX4_price_1 17 rfl rfl)
theorem dX4_price_42 : decode cX4_price 42 = .ok (.iload_n 1, 1) := dk_27 (dk_at dksX4_price_1 18 rfl rfl)
theorem dX4_price_43 : decode cX4_price 43 = .ok (.invokevirtual 271, 3) := dk_182 1 15 (dk_at dksX4_price_1 19 rfl rfl)
theorem dX4_price_46 : decode cX4_price 46 = .ok (.goto 4, 3) := dk_167 0 4 (dk_at dksX4_price_2 0 rfl rfl)
theorem dX4_price_49 : decode cX4_price 49 = .ok (.iconst (-1), 1) := dk_2 (dk_at dksX4_price_2 3 rfl rfl)
theorem dX4_price_50 : decode cX4_price 50 = .ok (.ireturn, 1) := dk_172 (dk_at dksX4_price_2 4 rfl rfl)
abbrev cX4_priceOf : ByteArray := prog_34_method_57_code
def yX4_priceOf : MethodName := ⟨RX4, "priceOf", "(I)I"⟩
def dkwX4_priceOf_1 : List UInt8 := [46, 42, 29, 182, 0, 238, 104, 96, 61, 132, 3, 1, 167, 255, 229, 28, 16, 100, 108, 172]
abbrev dktX4_priceOf_1 : List UInt8 := dkwX4_priceOf_1 ++ []
def dkwX4_priceOf_0 : List UInt8 := [42, 27, 182, 0, 231, 3, 61, 3, 62, 29, 16, 6, 162, 0, 27, 28, 42, 180, 0, 9, 16, 6, 29, 96]
abbrev dktX4_priceOf_0 : List UInt8 := dkwX4_priceOf_0 ++ dktX4_priceOf_1
theorem dksX4_priceOf_0 : cX4_priceOf.data.toList.drop 0 = dktX4_priceOf_0 := by decide +kernel
theorem dksX4_priceOf_1 : cX4_priceOf.data.toList.drop 24 = dktX4_priceOf_1 := dk_seg dksX4_priceOf_0 24 rfl rfl
theorem dX4_priceOf_0 : decode cX4_priceOf 0 = .ok (.aload_n 0, 1) := dk_42 (dk_at dksX4_priceOf_0 0 rfl rfl)
theorem dX4_priceOf_1 : decode cX4_priceOf 1 = .ok (.iload_n 1, 1) := dk_27 (dk_at dksX4_priceOf_0 1 rfl rfl)
theorem dX4_priceOf_2 : decode cX4_priceOf 2 = .ok (.invokevirtual 231, 3) := dk_182 0 231 (dk_at dksX4_priceOf_0 2 rfl rfl)
theorem dX4_priceOf_5 : decode cX4_priceOf 5 = .ok (.iconst 0, 1) := dk_3 (dk_at dksX4_priceOf_0 5 rfl rfl)
theorem dX4_priceOf_6 : decode cX4_priceOf 6 = .ok (.istore_n 2, 1) := dk_61 (dk_at dksX4_priceOf_0 6 rfl rfl)
theorem dX4_priceOf_7 : decode cX4_priceOf 7 = .ok (.iconst 0, 1) := dk_3 (dk_at dksX4_priceOf_0 7 rfl rfl)
theorem dX4_priceOf_8 : decode cX4_priceOf 8 = .ok (.istore_n 3, 1) := dk_62 (dk_at dksX4_priceOf_0 8 rfl rfl)
theorem dX4_priceOf_9 : decode cX4_priceOf 9 = .ok (.iload_n 3, 1) := dk_29 (dk_at dksX4_priceOf_0 9 rfl rfl)
theorem dX4_priceOf_10 : decode cX4_priceOf 10 = .ok (.bipush 6, 2) := dk_16 6 (dk_at dksX4_priceOf_0 10 rfl rfl)
theorem dX4_priceOf_12 : decode cX4_priceOf 12 = .ok (.if_icmp .ge 27, 3) := dk_162 0 27 (dk_at dksX4_priceOf_0 12 rfl rfl)
theorem dX4_priceOf_15 : decode cX4_priceOf 15 = .ok (.iload_n 2, 1) := dk_28 (dk_at dksX4_priceOf_0 15 rfl rfl)
theorem dX4_priceOf_16 : decode cX4_priceOf 16 = .ok (.aload_n 0, 1) := dk_42 (dk_at dksX4_priceOf_0 16 rfl rfl)
theorem dX4_priceOf_17 : decode cX4_priceOf 17 = .ok (.getfield 9, 3) := dk_180 0 9 (dk_at dksX4_priceOf_0 17 rfl rfl)
theorem dX4_priceOf_20 : decode cX4_priceOf 20 = .ok (.bipush 6, 2) := dk_16 6 (dk_at dksX4_priceOf_0 20 rfl rfl)
theorem dX4_priceOf_22 : decode cX4_priceOf 22 = .ok (.iload_n 3, 1) := dk_29 (dk_at dksX4_priceOf_0 22 rfl rfl)
theorem dX4_priceOf_23 : decode cX4_priceOf 23 = .ok (.iadd, 1) := dk_96 (dk_at dksX4_priceOf_0 23 rfl rfl)
theorem dX4_priceOf_24 : decode cX4_priceOf 24 = .ok (.iaload, 1) := dk_46 (dk_at dksX4_priceOf_1 0 rfl rfl)
theorem dX4_priceOf_25 : decode cX4_priceOf 25 = .ok (.aload_n 0, 1) := dk_42 (dk_at dksX4_priceOf_1 1 rfl rfl)
theorem dX4_priceOf_26 : decode cX4_priceOf 26 = .ok (.iload_n 3, 1) := dk_29 (dk_at dksX4_priceOf_1 2 rfl rfl)
theorem dX4_priceOf_27 : decode cX4_priceOf 27 = .ok (.invokevirtual 238, 3) := dk_182 0 238 (dk_at dksX4_priceOf_1 3 rfl rfl)
theorem dX4_priceOf_30 : decode cX4_priceOf 30 = .ok (.imul, 1) := dk_104 (dk_at dksX4_priceOf_1 6 rfl rfl)
theorem dX4_priceOf_31 : decode cX4_priceOf 31 = .ok (.iadd, 1) := dk_96 (dk_at dksX4_priceOf_1 7 rfl rfl)
theorem dX4_priceOf_32 : decode cX4_priceOf 32 = .ok (.istore_n 2, 1) := dk_61 (dk_at dksX4_priceOf_1 8 rfl rfl)
theorem dX4_priceOf_33 : decode cX4_priceOf 33 = .ok (.iinc 3 1, 3) := dk_132 3 1 (dk_at dksX4_priceOf_1 9 rfl rfl)
theorem dX4_priceOf_36 : decode cX4_priceOf 36 = .ok (.goto (-27), 3) := dk_167 255 229 (dk_at dksX4_priceOf_1 12 rfl rfl)
theorem dX4_priceOf_39 : decode cX4_priceOf 39 = .ok (.iload_n 2, 1) := dk_28 (dk_at dksX4_priceOf_1 15 rfl rfl)
theorem dX4_priceOf_40 : decode cX4_priceOf 40 = .ok (.bipush 100, 2) := dk_16 100 (dk_at dksX4_priceOf_1 16 rfl rfl)
theorem dX4_priceOf_42 : decode cX4_priceOf 42 = .ok (.idiv, 1) := dk_108 (dk_at dksX4_priceOf_1 18 rfl rfl)
theorem dX4_priceOf_43 : decode cX4_priceOf 43 = .ok (.ireturn, 1) := dk_172 (dk_at dksX4_priceOf_1 19 rfl rfl)
abbrev cX4_paper : ByteArray := prog_34_method_59_code
def yX4_paper : MethodName := ⟨RX4, "paper", "(II)I"⟩
def dkwX4_paper_4 : List UInt8 := [42, 89, 180, 1, 18, 4, 96, 181, 1, 18, 42, 180, 1, 18, 4, 100, 172]
abbrev dktX4_paper_4 : List UInt8 := dkwX4_paper_4 ++ []
def dkwX4_paper_3 : List UInt8 := [79, 42, 180, 0, 65, 42, 180, 1, 18, 27, 16, 100, 112, 79, 42, 180, 0, 68, 42, 180, 1, 18, 28, 79]
abbrev dktX4_paper_3 : List UInt8 := dkwX4_paper_3 ++ dktX4_paper_4
def dkwX4_paper_2 : List UInt8 := [42, 180, 1, 18, 16, 10, 160, 0, 6, 16, 253, 172, 42, 180, 0, 62, 42, 180, 1, 18, 27, 16, 100, 108]
abbrev dktX4_paper_2 : List UInt8 := dkwX4_paper_2 ++ dktX4_paper_3
def dkwX4_paper_1 : List UInt8 := [16, 100, 108, 27, 16, 100, 112, 163, 0, 15, 28, 133, 9, 20, 0, 120, 184, 0, 102, 154, 0, 5, 2, 172]
abbrev dktX4_paper_1 : List UInt8 := dkwX4_paper_1 ++ dktX4_paper_2
def dkwX4_paper_0 : List UInt8 := [27, 155, 0, 44, 27, 16, 100, 108, 16, 30, 162, 0, 35, 27, 16, 100, 112, 16, 30, 162, 0, 26, 27]
abbrev dktX4_paper_0 : List UInt8 := dkwX4_paper_0 ++ dktX4_paper_1
theorem dksX4_paper_0 : cX4_paper.data.toList.drop 0 = dktX4_paper_0 := by decide +kernel
theorem dksX4_paper_1 : cX4_paper.data.toList.drop 23 = dktX4_paper_1 := dk_seg dksX4_paper_0 23 rfl rfl
theorem dksX4_paper_2 : cX4_paper.data.toList.drop 47 = dktX4_paper_2 := dk_seg dksX4_paper_1 24 rfl rfl
theorem dksX4_paper_3 : cX4_paper.data.toList.drop 71 = dktX4_paper_3 := dk_seg dksX4_paper_2 24 rfl rfl
theorem dksX4_paper_4 : cX4_paper.data.toList.drop 95 = dktX4_paper_4 := dk_seg dksX4_paper_3 24 rfl rfl
theorem dX4_paper_0 : decode cX4_paper 0 = .ok (.iload_n 1, 1) := dk_27 (dk_at dksX4_paper_0 0 rfl rfl)
theorem dX4_paper_1 : decode cX4_paper 1 = .ok (.ifCond .lt 44, 3) := dk_155 0 44 (dk_at dksX4_paper_0 1 rfl rfl)
theorem dX4_paper_4 : decode cX4_paper 4 = .ok (.iload_n 1, 1) := dk_27 (dk_at dksX4_paper_0 4 rfl rfl)
theorem dX4_paper_5 : decode cX4_paper 5 = .ok (.bipush 100, 2) := dk_16 100 (dk_at dksX4_paper_0 5 rfl rfl)
theorem dX4_paper_7 : decode cX4_paper 7 = .ok (.idiv, 1) := dk_108 (dk_at dksX4_paper_0 7 rfl rfl)
theorem dX4_paper_8 : decode cX4_paper 8 = .ok (.bipush 30, 2) := dk_16 30 (dk_at dksX4_paper_0 8 rfl rfl)
theorem dX4_paper_10 : decode cX4_paper 10 = .ok (.if_icmp .ge 35, 3) := dk_162 0 35 (dk_at dksX4_paper_0 10 rfl rfl)
theorem dX4_paper_13 : decode cX4_paper 13 = .ok (.iload_n 1, 1) := dk_27 (dk_at dksX4_paper_0 13 rfl rfl)
theorem dX4_paper_14 : decode cX4_paper 14 = .ok (.bipush 100, 2) := dk_16 100 (dk_at dksX4_paper_0 14 rfl rfl)
theorem dX4_paper_16 : decode cX4_paper 16 = .ok (.irem, 1) := dk_112 (dk_at dksX4_paper_0 16 rfl rfl)
theorem dX4_paper_17 : decode cX4_paper 17 = .ok (.bipush 30, 2) := dk_16 30 (dk_at dksX4_paper_0 17 rfl rfl)
theorem dX4_paper_19 : decode cX4_paper 19 = .ok (.if_icmp .ge 26, 3) := dk_162 0 26 (dk_at dksX4_paper_0 19 rfl rfl)
theorem dX4_paper_22 : decode cX4_paper 22 = .ok (.iload_n 1, 1) := dk_27 (dk_at dksX4_paper_0 22 rfl rfl)
theorem dX4_paper_23 : decode cX4_paper 23 = .ok (.bipush 100, 2) := dk_16 100 (dk_at dksX4_paper_1 0 rfl rfl)
theorem dX4_paper_25 : decode cX4_paper 25 = .ok (.idiv, 1) := dk_108 (dk_at dksX4_paper_1 2 rfl rfl)
theorem dX4_paper_26 : decode cX4_paper 26 = .ok (.iload_n 1, 1) := dk_27 (dk_at dksX4_paper_1 3 rfl rfl)
theorem dX4_paper_27 : decode cX4_paper 27 = .ok (.bipush 100, 2) := dk_16 100 (dk_at dksX4_paper_1 4 rfl rfl)
theorem dX4_paper_29 : decode cX4_paper 29 = .ok (.irem, 1) := dk_112 (dk_at dksX4_paper_1 6 rfl rfl)
theorem dX4_paper_30 : decode cX4_paper 30 = .ok (.if_icmp .gt 15, 3) := dk_163 0 15 (dk_at dksX4_paper_1 7 rfl rfl)
theorem dX4_paper_33 : decode cX4_paper 33 = .ok (.iload_n 2, 1) := dk_28 (dk_at dksX4_paper_1 10 rfl rfl)
theorem dX4_paper_34 : decode cX4_paper 34 = .ok (.i2l, 1) := dk_133 (dk_at dksX4_paper_1 11 rfl rfl)
theorem dX4_paper_35 : decode cX4_paper 35 = .ok (.lconst 0, 1) := dk_9 (dk_at dksX4_paper_1 12 rfl rfl)
theorem dX4_paper_36 : decode cX4_paper 36 = .ok (.ldc2_w 120, 3) := dk_20 0 120 (dk_at dksX4_paper_1 13 rfl rfl)
theorem dX4_paper_39 : decode cX4_paper 39 = .ok (.invokestatic 102, 3) := dk_184 0 102 (dk_at dksX4_paper_1 16 rfl rfl)
theorem dX4_paper_42 : decode cX4_paper 42 = .ok (.ifCond .ne 5, 3) := dk_154 0 5 (dk_at dksX4_paper_1 19 rfl rfl)
theorem dX4_paper_45 : decode cX4_paper 45 = .ok (.iconst (-1), 1) := dk_2 (dk_at dksX4_paper_1 22 rfl rfl)
theorem dX4_paper_46 : decode cX4_paper 46 = .ok (.ireturn, 1) := dk_172 (dk_at dksX4_paper_1 23 rfl rfl)
theorem dX4_paper_47 : decode cX4_paper 47 = .ok (.aload_n 0, 1) := dk_42 (dk_at dksX4_paper_2 0 rfl rfl)
theorem dX4_paper_48 : decode cX4_paper 48 = .ok (.getfield 274, 3) := dk_180 1 18 (dk_at dksX4_paper_2 1 rfl rfl)
theorem dX4_paper_51 : decode cX4_paper 51 = .ok (.bipush 10, 2) := dk_16 10 (dk_at dksX4_paper_2 4 rfl rfl)
theorem dX4_paper_53 : decode cX4_paper 53 = .ok (.if_icmp .ne 6, 3) := dk_160 0 6 (dk_at dksX4_paper_2 6 rfl rfl)
theorem dX4_paper_56 : decode cX4_paper 56 = .ok (.bipush (-3), 2) := dk_16 253 (dk_at dksX4_paper_2 9 rfl rfl)
theorem dX4_paper_58 : decode cX4_paper 58 = .ok (.ireturn, 1) := dk_172 (dk_at dksX4_paper_2 11 rfl rfl)
theorem dX4_paper_59 : decode cX4_paper 59 = .ok (.aload_n 0, 1) := dk_42 (dk_at dksX4_paper_2 12 rfl rfl)
theorem dX4_paper_60 : decode cX4_paper 60 = .ok (.getfield 62, 3) := dk_180 0 62 (dk_at dksX4_paper_2 13 rfl rfl)
theorem dX4_paper_63 : decode cX4_paper 63 = .ok (.aload_n 0, 1) := dk_42 (dk_at dksX4_paper_2 16 rfl rfl)
theorem dX4_paper_64 : decode cX4_paper 64 = .ok (.getfield 274, 3) := dk_180 1 18 (dk_at dksX4_paper_2 17 rfl rfl)
theorem dX4_paper_67 : decode cX4_paper 67 = .ok (.iload_n 1, 1) := dk_27 (dk_at dksX4_paper_2 20 rfl rfl)
theorem dX4_paper_68 : decode cX4_paper 68 = .ok (.bipush 100, 2) := dk_16 100 (dk_at dksX4_paper_2 21 rfl rfl)
theorem dX4_paper_70 : decode cX4_paper 70 = .ok (.idiv, 1) := dk_108 (dk_at dksX4_paper_2 23 rfl rfl)
theorem dX4_paper_71 : decode cX4_paper 71 = .ok (.iastore, 1) := dk_79 (dk_at dksX4_paper_3 0 rfl rfl)
theorem dX4_paper_72 : decode cX4_paper 72 = .ok (.aload_n 0, 1) := dk_42 (dk_at dksX4_paper_3 1 rfl rfl)
theorem dX4_paper_73 : decode cX4_paper 73 = .ok (.getfield 65, 3) := dk_180 0 65 (dk_at dksX4_paper_3 2 rfl rfl)
theorem dX4_paper_76 : decode cX4_paper 76 = .ok (.aload_n 0, 1) := dk_42 (dk_at dksX4_paper_3 5 rfl rfl)
theorem dX4_paper_77 : decode cX4_paper 77 = .ok (.getfield 274, 3) := dk_180 1 18 (dk_at dksX4_paper_3 6 rfl rfl)
theorem dX4_paper_80 : decode cX4_paper 80 = .ok (.iload_n 1, 1) := dk_27 (dk_at dksX4_paper_3 9 rfl rfl)
theorem dX4_paper_81 : decode cX4_paper 81 = .ok (.bipush 100, 2) := dk_16 100 (dk_at dksX4_paper_3 10 rfl rfl)
theorem dX4_paper_83 : decode cX4_paper 83 = .ok (.irem, 1) := dk_112 (dk_at dksX4_paper_3 12 rfl rfl)
theorem dX4_paper_84 : decode cX4_paper 84 = .ok (.iastore, 1) := dk_79 (dk_at dksX4_paper_3 13 rfl rfl)
theorem dX4_paper_85 : decode cX4_paper 85 = .ok (.aload_n 0, 1) := dk_42 (dk_at dksX4_paper_3 14 rfl rfl)
theorem dX4_paper_86 : decode cX4_paper 86 = .ok (.getfield 68, 3) := dk_180 0 68 (dk_at dksX4_paper_3 15 rfl rfl)
theorem dX4_paper_89 : decode cX4_paper 89 = .ok (.aload_n 0, 1) := dk_42 (dk_at dksX4_paper_3 18 rfl rfl)
theorem dX4_paper_90 : decode cX4_paper 90 = .ok (.getfield 274, 3) := dk_180 1 18 (dk_at dksX4_paper_3 19 rfl rfl)
theorem dX4_paper_93 : decode cX4_paper 93 = .ok (.iload_n 2, 1) := dk_28 (dk_at dksX4_paper_3 22 rfl rfl)
theorem dX4_paper_94 : decode cX4_paper 94 = .ok (.iastore, 1) := dk_79 (dk_at dksX4_paper_3 23 rfl rfl)
theorem dX4_paper_95 : decode cX4_paper 95 = .ok (.aload_n 0, 1) := dk_42 (dk_at dksX4_paper_4 0 rfl rfl)
theorem dX4_paper_96 : decode cX4_paper 96 = .ok (.dup, 1) := dk_89 (dk_at dksX4_paper_4 1 rfl rfl)
theorem dX4_paper_97 : decode cX4_paper 97 = .ok (.getfield 274, 3) := dk_180 1 18 (dk_at dksX4_paper_4 2 rfl rfl)
theorem dX4_paper_100 : decode cX4_paper 100 = .ok (.iconst 1, 1) := dk_4 (dk_at dksX4_paper_4 5 rfl rfl)
theorem dX4_paper_101 : decode cX4_paper 101 = .ok (.iadd, 1) := dk_96 (dk_at dksX4_paper_4 6 rfl rfl)
theorem dX4_paper_102 : decode cX4_paper 102 = .ok (.putfield 274, 3) := dk_181 1 18 (dk_at dksX4_paper_4 7 rfl rfl)
theorem dX4_paper_105 : decode cX4_paper 105 = .ok (.aload_n 0, 1) := dk_42 (dk_at dksX4_paper_4 10 rfl rfl)
theorem dX4_paper_106 : decode cX4_paper 106 = .ok (.getfield 274, 3) := dk_180 1 18 (dk_at dksX4_paper_4 11 rfl rfl)
theorem dX4_paper_109 : decode cX4_paper 109 = .ok (.iconst 1, 1) := dk_4 (dk_at dksX4_paper_4 14 rfl rfl)
theorem dX4_paper_110 : decode cX4_paper 110 = .ok (.isub, 1) := dk_100 (dk_at dksX4_paper_4 15 rfl rfl)
theorem dX4_paper_111 : decode cX4_paper 111 = .ok (.ireturn, 1) := dk_172 (dk_at dksX4_paper_4 16 rfl rfl)
abbrev cX4_papers : ByteArray := prog_34_method_63_code
def yX4_papers : MethodName := ⟨RX4, "papers", "(I)I"⟩
def dkwX4_papers_1 : List UInt8 := [172]
abbrev dktX4_papers_1 : List UInt8 := dkwX4_papers_1 ++ []
def dkwX4_papers_0 : List UInt8 := [27, 154, 0, 10, 42, 182, 1, 24, 167, 0, 16, 27, 4, 160, 0, 10, 42, 182, 1, 27, 167, 0, 4, 2]
abbrev dktX4_papers_0 : List UInt8 := dkwX4_papers_0 ++ dktX4_papers_1
theorem dksX4_papers_0 : cX4_papers.data.toList.drop 0 = dktX4_papers_0 := by decide +kernel
theorem dksX4_papers_1 : cX4_papers.data.toList.drop 24 = dktX4_papers_1 := dk_seg dksX4_papers_0 24 rfl rfl
theorem dX4_papers_0 : decode cX4_papers 0 = .ok (.iload_n 1, 1) := dk_27 (dk_at dksX4_papers_0 0 rfl rfl)
theorem dX4_papers_1 : decode cX4_papers 1 = .ok (.ifCond .ne 10, 3) := dk_154 0 10 (dk_at dksX4_papers_0 1 rfl rfl)
theorem dX4_papers_4 : decode cX4_papers 4 = .ok (.aload_n 0, 1) := dk_42 (dk_at dksX4_papers_0 4 rfl rfl)
theorem dX4_papers_5 : decode cX4_papers 5 = .ok (.invokevirtual 280, 3) := dk_182 1 24 (dk_at dksX4_papers_0 5 rfl rfl)
theorem dX4_papers_8 : decode cX4_papers 8 = .ok (.goto 16, 3) := dk_167 0 16 (dk_at dksX4_papers_0 8 rfl rfl)
theorem dX4_papers_11 : decode cX4_papers 11 = .ok (.iload_n 1, 1) := dk_27 (dk_at dksX4_papers_0 11 rfl rfl)
theorem dX4_papers_12 : decode cX4_papers 12 = .ok (.iconst 1, 1) := dk_4 (dk_at dksX4_papers_0 12 rfl rfl)
theorem dX4_papers_13 : decode cX4_papers 13 = .ok (.if_icmp .ne 10, 3) := dk_160 0 10 (dk_at dksX4_papers_0 13 rfl rfl)
theorem dX4_papers_16 : decode cX4_papers 16 = .ok (.aload_n 0, 1) := dk_42 (dk_at dksX4_papers_0 16 rfl rfl)
theorem dX4_papers_17 : decode cX4_papers 17 = .ok (.invokevirtual 283, 3) := dk_182 1 27 (dk_at dksX4_papers_0 17 rfl rfl)
theorem dX4_papers_20 : decode cX4_papers 20 = .ok (.goto 4, 3) := dk_167 0 4 (dk_at dksX4_papers_0 20 rfl rfl)
theorem dX4_papers_23 : decode cX4_papers 23 = .ok (.iconst (-1), 1) := dk_2 (dk_at dksX4_papers_0 23 rfl rfl)
theorem dX4_papers_24 : decode cX4_papers 24 = .ok (.ireturn, 1) := dk_172 (dk_at dksX4_papers_1 0 rfl rfl)
abbrev cX4_clash : ByteArray := prog_34_method_60_code
def yX4_clash : MethodName := ⟨RX4, "clash", "()I"⟩
def dkwX4_clash_3 : List UInt8 := [132, 1, 1, 167, 255, 185, 16, 254, 172]
abbrev dktX4_clash_3 : List UInt8 := dkwX4_clash_3 ++ []
def dkwX4_clash_2 : List UInt8 := [180, 0, 62, 27, 46, 42, 180, 0, 65, 28, 46, 163, 0, 5, 27, 172, 132, 2, 1, 167, 255, 201]
abbrev dktX4_clash_2 : List UInt8 := dkwX4_clash_2 ++ dktX4_clash_3
def dkwX4_clash_1 : List UInt8 := [180, 0, 68, 27, 46, 159, 0, 35, 42, 180, 0, 62, 28, 46, 42, 180, 0, 65, 27, 46, 163, 0, 20, 42]
abbrev dktX4_clash_1 : List UInt8 := dkwX4_clash_1 ++ dktX4_clash_2
def dkwX4_clash_0 : List UInt8 := [3, 60, 27, 42, 180, 1, 18, 162, 0, 69, 3, 61, 28, 27, 162, 0, 56, 42, 180, 0, 68, 28, 46, 42]
abbrev dktX4_clash_0 : List UInt8 := dkwX4_clash_0 ++ dktX4_clash_1
theorem dksX4_clash_0 : cX4_clash.data.toList.drop 0 = dktX4_clash_0 := by decide +kernel
theorem dksX4_clash_1 : cX4_clash.data.toList.drop 24 = dktX4_clash_1 := dk_seg dksX4_clash_0 24 rfl rfl
theorem dksX4_clash_2 : cX4_clash.data.toList.drop 48 = dktX4_clash_2 := dk_seg dksX4_clash_1 24 rfl rfl
theorem dksX4_clash_3 : cX4_clash.data.toList.drop 70 = dktX4_clash_3 := dk_seg dksX4_clash_2 22 rfl rfl
theorem dX4_clash_0 : decode cX4_clash 0 = .ok (.iconst 0, 1) := dk_3 (dk_at dksX4_clash_0 0 rfl rfl)
theorem dX4_clash_1 : decode cX4_clash 1 = .ok (.istore_n 1, 1) := dk_60 (dk_at dksX4_clash_0 1 rfl rfl)
theorem dX4_clash_2 : decode cX4_clash 2 = .ok (.iload_n 1, 1) := dk_27 (dk_at dksX4_clash_0 2 rfl rfl)
theorem dX4_clash_3 : decode cX4_clash 3 = .ok (.aload_n 0, 1) := dk_42 (dk_at dksX4_clash_0 3 rfl rfl)
theorem dX4_clash_4 : decode cX4_clash 4 = .ok (.getfield 274, 3) := dk_180 1 18 (dk_at dksX4_clash_0 4 rfl rfl)
theorem dX4_clash_7 : decode cX4_clash 7 = .ok (.if_icmp .ge 69, 3) := dk_162 0 69 (dk_at dksX4_clash_0 7 rfl rfl)
theorem dX4_clash_10 : decode cX4_clash 10 = .ok (.iconst 0, 1) := dk_3 (dk_at dksX4_clash_0 10 rfl rfl)
theorem dX4_clash_11 : decode cX4_clash 11 = .ok (.istore_n 2, 1) := dk_61 (dk_at dksX4_clash_0 11 rfl rfl)
theorem dX4_clash_12 : decode cX4_clash 12 = .ok (.iload_n 2, 1) := dk_28 (dk_at dksX4_clash_0 12 rfl rfl)
theorem dX4_clash_13 : decode cX4_clash 13 = .ok (.iload_n 1, 1) := dk_27 (dk_at dksX4_clash_0 13 rfl rfl)
theorem dX4_clash_14 : decode cX4_clash 14 = .ok (.if_icmp .ge 56, 3) := dk_162 0 56 (dk_at dksX4_clash_0 14 rfl rfl)
theorem dX4_clash_17 : decode cX4_clash 17 = .ok (.aload_n 0, 1) := dk_42 (dk_at dksX4_clash_0 17 rfl rfl)
theorem dX4_clash_18 : decode cX4_clash 18 = .ok (.getfield 68, 3) := dk_180 0 68 (dk_at dksX4_clash_0 18 rfl rfl)
theorem dX4_clash_21 : decode cX4_clash 21 = .ok (.iload_n 2, 1) := dk_28 (dk_at dksX4_clash_0 21 rfl rfl)
theorem dX4_clash_22 : decode cX4_clash 22 = .ok (.iaload, 1) := dk_46 (dk_at dksX4_clash_0 22 rfl rfl)
theorem dX4_clash_23 : decode cX4_clash 23 = .ok (.aload_n 0, 1) := dk_42 (dk_at dksX4_clash_0 23 rfl rfl)
theorem dX4_clash_24 : decode cX4_clash 24 = .ok (.getfield 68, 3) := dk_180 0 68 (dk_at dksX4_clash_1 0 rfl rfl)
theorem dX4_clash_27 : decode cX4_clash 27 = .ok (.iload_n 1, 1) := dk_27 (dk_at dksX4_clash_1 3 rfl rfl)
theorem dX4_clash_28 : decode cX4_clash 28 = .ok (.iaload, 1) := dk_46 (dk_at dksX4_clash_1 4 rfl rfl)
theorem dX4_clash_29 : decode cX4_clash 29 = .ok (.if_icmp .eq 35, 3) := dk_159 0 35 (dk_at dksX4_clash_1 5 rfl rfl)
theorem dX4_clash_32 : decode cX4_clash 32 = .ok (.aload_n 0, 1) := dk_42 (dk_at dksX4_clash_1 8 rfl rfl)
theorem dX4_clash_33 : decode cX4_clash 33 = .ok (.getfield 62, 3) := dk_180 0 62 (dk_at dksX4_clash_1 9 rfl rfl)
theorem dX4_clash_36 : decode cX4_clash 36 = .ok (.iload_n 2, 1) := dk_28 (dk_at dksX4_clash_1 12 rfl rfl)
theorem dX4_clash_37 : decode cX4_clash 37 = .ok (.iaload, 1) := dk_46 (dk_at dksX4_clash_1 13 rfl rfl)
theorem dX4_clash_38 : decode cX4_clash 38 = .ok (.aload_n 0, 1) := dk_42 (dk_at dksX4_clash_1 14 rfl rfl)
theorem dX4_clash_39 : decode cX4_clash 39 = .ok (.getfield 65, 3) := dk_180 0 65 (dk_at dksX4_clash_1 15 rfl rfl)
theorem dX4_clash_42 : decode cX4_clash 42 = .ok (.iload_n 1, 1) := dk_27 (dk_at dksX4_clash_1 18 rfl rfl)
theorem dX4_clash_43 : decode cX4_clash 43 = .ok (.iaload, 1) := dk_46 (dk_at dksX4_clash_1 19 rfl rfl)
theorem dX4_clash_44 : decode cX4_clash 44 = .ok (.if_icmp .gt 20, 3) := dk_163 0 20 (dk_at dksX4_clash_1 20 rfl rfl)
theorem dX4_clash_47 : decode cX4_clash 47 = .ok (.aload_n 0, 1) := dk_42 (dk_at dksX4_clash_1 23 rfl rfl)
theorem dX4_clash_48 : decode cX4_clash 48 = .ok (.getfield 62, 3) := dk_180 0 62 (dk_at dksX4_clash_2 0 rfl rfl)
theorem dX4_clash_51 : decode cX4_clash 51 = .ok (.iload_n 1, 1) := dk_27 (dk_at dksX4_clash_2 3 rfl rfl)
theorem dX4_clash_52 : decode cX4_clash 52 = .ok (.iaload, 1) := dk_46 (dk_at dksX4_clash_2 4 rfl rfl)
theorem dX4_clash_53 : decode cX4_clash 53 = .ok (.aload_n 0, 1) := dk_42 (dk_at dksX4_clash_2 5 rfl rfl)
theorem dX4_clash_54 : decode cX4_clash 54 = .ok (.getfield 65, 3) := dk_180 0 65 (dk_at dksX4_clash_2 6 rfl rfl)
theorem dX4_clash_57 : decode cX4_clash 57 = .ok (.iload_n 2, 1) := dk_28 (dk_at dksX4_clash_2 9 rfl rfl)
theorem dX4_clash_58 : decode cX4_clash 58 = .ok (.iaload, 1) := dk_46 (dk_at dksX4_clash_2 10 rfl rfl)
theorem dX4_clash_59 : decode cX4_clash 59 = .ok (.if_icmp .gt 5, 3) := dk_163 0 5 (dk_at dksX4_clash_2 11 rfl rfl)
theorem dX4_clash_62 : decode cX4_clash 62 = .ok (.iload_n 1, 1) := dk_27 (dk_at dksX4_clash_2 14 rfl rfl)
theorem dX4_clash_63 : decode cX4_clash 63 = .ok (.ireturn, 1) := dk_172 (dk_at dksX4_clash_2 15 rfl rfl)
theorem dX4_clash_64 : decode cX4_clash 64 = .ok (.iinc 2 1, 3) := dk_132 2 1 (dk_at dksX4_clash_2 16 rfl rfl)
theorem dX4_clash_67 : decode cX4_clash 67 = .ok (.goto (-55), 3) := dk_167 255 201 (dk_at dksX4_clash_2 19 rfl rfl)
theorem dX4_clash_70 : decode cX4_clash 70 = .ok (.iinc 1 1, 3) := dk_132 1 1 (dk_at dksX4_clash_3 0 rfl rfl)
theorem dX4_clash_73 : decode cX4_clash 73 = .ok (.goto (-71), 3) := dk_167 255 185 (dk_at dksX4_clash_3 3 rfl rfl)
theorem dX4_clash_76 : decode cX4_clash 76 = .ok (.bipush (-2), 2) := dk_16 254 (dk_at dksX4_clash_3 6 rfl rfl)
theorem dX4_clash_78 : decode cX4_clash 78 = .ok (.ireturn, 1) := dk_172 (dk_at dksX4_clash_3 8 rfl rfl)
abbrev cX4_gaps : ByteArray := prog_34_method_62_code
def yX4_gaps : MethodName := ⟨RX4, "gaps", "()I"⟩
def dkwX4_gaps_4 : List UInt8 := [167, 255, 230, 29, 172]
abbrev dktX4_gaps_4 : List UInt8 := dkwX4_gaps_4 ++ []
def dkwX4_gaps_3 : List UInt8 := [28, 163, 0, 26, 29, 42, 21, 4, 182, 1, 21, 156, 0, 7, 4, 167, 0, 4, 3, 96, 62, 132, 4, 1]
abbrev dktX4_gaps_3 : List UInt8 := dkwX4_gaps_3 ++ dktX4_gaps_4
def dkwX4_gaps_2 : List UInt8 := [42, 180, 0, 65, 29, 46, 167, 0, 4, 28, 61, 132, 3, 1, 167, 255, 203, 3, 62, 27, 54, 4, 21, 4]
abbrev dktX4_gaps_2 : List UInt8 := dkwX4_gaps_2 ++ dktX4_gaps_3
def dkwX4_gaps_1 : List UInt8 := [162, 0, 12, 42, 180, 0, 62, 29, 46, 167, 0, 4, 27, 60, 42, 180, 0, 65, 29, 46, 28, 164, 0, 12]
abbrev dktX4_gaps_1 : List UInt8 := dkwX4_gaps_1 ++ dktX4_gaps_2
def dkwX4_gaps_0 : List UInt8 := [16, 30, 60, 2, 61, 3, 62, 29, 42, 180, 1, 18, 162, 0, 51, 42, 180, 0, 62, 29, 46, 27]
abbrev dktX4_gaps_0 : List UInt8 := dkwX4_gaps_0 ++ dktX4_gaps_1
theorem dksX4_gaps_0 : cX4_gaps.data.toList.drop 0 = dktX4_gaps_0 := by decide +kernel
theorem dksX4_gaps_1 : cX4_gaps.data.toList.drop 22 = dktX4_gaps_1 := dk_seg dksX4_gaps_0 22 rfl rfl
theorem dksX4_gaps_2 : cX4_gaps.data.toList.drop 46 = dktX4_gaps_2 := dk_seg dksX4_gaps_1 24 rfl rfl
theorem dksX4_gaps_3 : cX4_gaps.data.toList.drop 70 = dktX4_gaps_3 := dk_seg dksX4_gaps_2 24 rfl rfl
theorem dksX4_gaps_4 : cX4_gaps.data.toList.drop 94 = dktX4_gaps_4 := dk_seg dksX4_gaps_3 24 rfl rfl
theorem dX4_gaps_0 : decode cX4_gaps 0 = .ok (.bipush 30, 2) := dk_16 30 (dk_at dksX4_gaps_0 0 rfl rfl)
theorem dX4_gaps_2 : decode cX4_gaps 2 = .ok (.istore_n 1, 1) := dk_60 (dk_at dksX4_gaps_0 2 rfl rfl)
theorem dX4_gaps_3 : decode cX4_gaps 3 = .ok (.iconst (-1), 1) := dk_2 (dk_at dksX4_gaps_0 3 rfl rfl)
theorem dX4_gaps_4 : decode cX4_gaps 4 = .ok (.istore_n 2, 1) := dk_61 (dk_at dksX4_gaps_0 4 rfl rfl)
theorem dX4_gaps_5 : decode cX4_gaps 5 = .ok (.iconst 0, 1) := dk_3 (dk_at dksX4_gaps_0 5 rfl rfl)
theorem dX4_gaps_6 : decode cX4_gaps 6 = .ok (.istore_n 3, 1) := dk_62 (dk_at dksX4_gaps_0 6 rfl rfl)
theorem dX4_gaps_7 : decode cX4_gaps 7 = .ok (.iload_n 3, 1) := dk_29 (dk_at dksX4_gaps_0 7 rfl rfl)
theorem dX4_gaps_8 : decode cX4_gaps 8 = .ok (.aload_n 0, 1) := dk_42 (dk_at dksX4_gaps_0 8 rfl rfl)
theorem dX4_gaps_9 : decode cX4_gaps 9 = .ok (.getfield 274, 3) := dk_180 1 18 (dk_at dksX4_gaps_0 9 rfl rfl)
theorem dX4_gaps_12 : decode cX4_gaps 12 = .ok (.if_icmp .ge 51, 3) := dk_162 0 51 (dk_at dksX4_gaps_0 12 rfl rfl)
theorem dX4_gaps_15 : decode cX4_gaps 15 = .ok (.aload_n 0, 1) := dk_42 (dk_at dksX4_gaps_0 15 rfl rfl)
theorem dX4_gaps_16 : decode cX4_gaps 16 = .ok (.getfield 62, 3) := dk_180 0 62 (dk_at dksX4_gaps_0 16 rfl rfl)
theorem dX4_gaps_19 : decode cX4_gaps 19 = .ok (.iload_n 3, 1) := dk_29 (dk_at dksX4_gaps_0 19 rfl rfl)
theorem dX4_gaps_20 : decode cX4_gaps 20 = .ok (.iaload, 1) := dk_46 (dk_at dksX4_gaps_0 20 rfl rfl)
theorem dX4_gaps_21 : decode cX4_gaps 21 = .ok (.iload_n 1, 1) := dk_27 (dk_at dksX4_gaps_0 21 rfl rfl)
theorem dX4_gaps_22 : decode cX4_gaps 22 = .ok (.if_icmp .ge 12, 3) := dk_162 0 12 (dk_at dksX4_gaps_1 0 rfl rfl)
theorem dX4_gaps_25 : decode cX4_gaps 25 = .ok (.aload_n 0, 1) := dk_42 (dk_at dksX4_gaps_1 3 rfl rfl)
theorem dX4_gaps_26 : decode cX4_gaps 26 = .ok (.getfield 62, 3) := dk_180 0 62 (dk_at dksX4_gaps_1 4 rfl rfl)
theorem dX4_gaps_29 : decode cX4_gaps 29 = .ok (.iload_n 3, 1) := dk_29 (dk_at dksX4_gaps_1 7 rfl rfl)
theorem dX4_gaps_30 : decode cX4_gaps 30 = .ok (.iaload, 1) := dk_46 (dk_at dksX4_gaps_1 8 rfl rfl)
theorem dX4_gaps_31 : decode cX4_gaps 31 = .ok (.goto 4, 3) := dk_167 0 4 (dk_at dksX4_gaps_1 9 rfl rfl)
theorem dX4_gaps_34 : decode cX4_gaps 34 = .ok (.iload_n 1, 1) := dk_27 (dk_at dksX4_gaps_1 12 rfl rfl)
theorem dX4_gaps_35 : decode cX4_gaps 35 = .ok (.istore_n 1, 1) := dk_60 (dk_at dksX4_gaps_1 13 rfl rfl)
theorem dX4_gaps_36 : decode cX4_gaps 36 = .ok (.aload_n 0, 1) := dk_42 (dk_at dksX4_gaps_1 14 rfl rfl)
theorem dX4_gaps_37 : decode cX4_gaps 37 = .ok (.getfield 65, 3) := dk_180 0 65 (dk_at dksX4_gaps_1 15 rfl rfl)
theorem dX4_gaps_40 : decode cX4_gaps 40 = .ok (.iload_n 3, 1) := dk_29 (dk_at dksX4_gaps_1 18 rfl rfl)
theorem dX4_gaps_41 : decode cX4_gaps 41 = .ok (.iaload, 1) := dk_46 (dk_at dksX4_gaps_1 19 rfl rfl)
theorem dX4_gaps_42 : decode cX4_gaps 42 = .ok (.iload_n 2, 1) := dk_28 (dk_at dksX4_gaps_1 20 rfl rfl)
theorem dX4_gaps_43 : decode cX4_gaps 43 = .ok (.if_icmp .le 12, 3) := dk_164 0 12 (dk_at dksX4_gaps_1 21 rfl rfl)
theorem dX4_gaps_46 : decode cX4_gaps 46 = .ok (.aload_n 0, 1) := dk_42 (dk_at dksX4_gaps_2 0 rfl rfl)
theorem dX4_gaps_47 : decode cX4_gaps 47 = .ok (.getfield 65, 3) := dk_180 0 65 (dk_at dksX4_gaps_2 1 rfl rfl)
theorem dX4_gaps_50 : decode cX4_gaps 50 = .ok (.iload_n 3, 1) := dk_29 (dk_at dksX4_gaps_2 4 rfl rfl)
theorem dX4_gaps_51 : decode cX4_gaps 51 = .ok (.iaload, 1) := dk_46 (dk_at dksX4_gaps_2 5 rfl rfl)
theorem dX4_gaps_52 : decode cX4_gaps 52 = .ok (.goto 4, 3) := dk_167 0 4 (dk_at dksX4_gaps_2 6 rfl rfl)
theorem dX4_gaps_55 : decode cX4_gaps 55 = .ok (.iload_n 2, 1) := dk_28 (dk_at dksX4_gaps_2 9 rfl rfl)
theorem dX4_gaps_56 : decode cX4_gaps 56 = .ok (.istore_n 2, 1) := dk_61 (dk_at dksX4_gaps_2 10 rfl rfl)
theorem dX4_gaps_57 : decode cX4_gaps 57 = .ok (.iinc 3 1, 3) := dk_132 3 1 (dk_at dksX4_gaps_2 11 rfl rfl)
theorem dX4_gaps_60 : decode cX4_gaps 60 = .ok (.goto (-53), 3) := dk_167 255 203 (dk_at dksX4_gaps_2 14 rfl rfl)
theorem dX4_gaps_63 : decode cX4_gaps 63 = .ok (.iconst 0, 1) := dk_3 (dk_at dksX4_gaps_2 17 rfl rfl)
theorem dX4_gaps_64 : decode cX4_gaps 64 = .ok (.istore_n 3, 1) := dk_62 (dk_at dksX4_gaps_2 18 rfl rfl)
theorem dX4_gaps_65 : decode cX4_gaps 65 = .ok (.iload_n 1, 1) := dk_27 (dk_at dksX4_gaps_2 19 rfl rfl)
theorem dX4_gaps_66 : decode cX4_gaps 66 = .ok (.istore 4, 2) := dk_54 4 (dk_at dksX4_gaps_2 20 rfl rfl)
theorem dX4_gaps_68 : decode cX4_gaps 68 = .ok (.iload 4, 2) := dk_21 4 (dk_at dksX4_gaps_2 22 rfl rfl)
theorem dX4_gaps_70 : decode cX4_gaps 70 = .ok (.iload_n 2, 1) := dk_28 (dk_at dksX4_gaps_3 0 rfl rfl)
theorem dX4_gaps_71 : decode cX4_gaps 71 = .ok (.if_icmp .gt 26, 3) := dk_163 0 26 (dk_at dksX4_gaps_3 1 rfl rfl)
theorem dX4_gaps_74 : decode cX4_gaps 74 = .ok (.iload_n 3, 1) := dk_29 (dk_at dksX4_gaps_3 4 rfl rfl)
theorem dX4_gaps_75 : decode cX4_gaps 75 = .ok (.aload_n 0, 1) := dk_42 (dk_at dksX4_gaps_3 5 rfl rfl)
theorem dX4_gaps_76 : decode cX4_gaps 76 = .ok (.iload 4, 2) := dk_21 4 (dk_at dksX4_gaps_3 6 rfl rfl)
theorem dX4_gaps_78 : decode cX4_gaps 78 = .ok (.invokevirtual 277, 3) := dk_182 1 21 (dk_at dksX4_gaps_3 8 rfl rfl)
theorem dX4_gaps_81 : decode cX4_gaps 81 = .ok (.ifCond .ge 7, 3) := dk_156 0 7 (dk_at dksX4_gaps_3 11 rfl rfl)
theorem dX4_gaps_84 : decode cX4_gaps 84 = .ok (.iconst 1, 1) := dk_4 (dk_at dksX4_gaps_3 14 rfl rfl)
theorem dX4_gaps_85 : decode cX4_gaps 85 = .ok (.goto 4, 3) := dk_167 0 4 (dk_at dksX4_gaps_3 15 rfl rfl)
theorem dX4_gaps_88 : decode cX4_gaps 88 = .ok (.iconst 0, 1) := dk_3 (dk_at dksX4_gaps_3 18 rfl rfl)
theorem dX4_gaps_89 : decode cX4_gaps 89 = .ok (.iadd, 1) := dk_96 (dk_at dksX4_gaps_3 19 rfl rfl)
theorem dX4_gaps_90 : decode cX4_gaps 90 = .ok (.istore_n 3, 1) := dk_62 (dk_at dksX4_gaps_3 20 rfl rfl)
theorem dX4_gaps_91 : decode cX4_gaps 91 = .ok (.iinc 4 1, 3) := dk_132 4 1 (dk_at dksX4_gaps_3 21 rfl rfl)
theorem dX4_gaps_94 : decode cX4_gaps 94 = .ok (.goto (-26), 3) := dk_167 255 230 (dk_at dksX4_gaps_4 0 rfl rfl)
theorem dX4_gaps_97 : decode cX4_gaps 97 = .ok (.iload_n 3, 1) := dk_29 (dk_at dksX4_gaps_4 3 rfl rfl)
theorem dX4_gaps_98 : decode cX4_gaps 98 = .ok (.ireturn, 1) := dk_172 (dk_at dksX4_gaps_4 4 rfl rfl)
abbrev cX4_houseOf : ByteArray := prog_34_method_61_code
def yX4_houseOf : MethodName := ⟨RX4, "houseOf", "(I)I"⟩
def dkwX4_houseOf_1 : List UInt8 := [46, 133, 184, 0, 102, 153, 0, 10, 42, 180, 0, 68, 28, 46, 172, 132, 2, 1, 167, 255, 216, 16, 254, 172]
abbrev dktX4_houseOf_1 : List UInt8 := dkwX4_houseOf_1 ++ []
def dkwX4_houseOf_0 : List UInt8 := [3, 61, 28, 42, 180, 1, 18, 162, 0, 38, 27, 133, 42, 180, 0, 62, 28, 46, 133, 42, 180, 0, 65, 28]
abbrev dktX4_houseOf_0 : List UInt8 := dkwX4_houseOf_0 ++ dktX4_houseOf_1
theorem dksX4_houseOf_0 : cX4_houseOf.data.toList.drop 0 = dktX4_houseOf_0 := by decide +kernel
theorem dksX4_houseOf_1 : cX4_houseOf.data.toList.drop 24 = dktX4_houseOf_1 := dk_seg dksX4_houseOf_0 24 rfl rfl
theorem dX4_houseOf_0 : decode cX4_houseOf 0 = .ok (.iconst 0, 1) := dk_3 (dk_at dksX4_houseOf_0 0 rfl rfl)
theorem dX4_houseOf_1 : decode cX4_houseOf 1 = .ok (.istore_n 2, 1) := dk_61 (dk_at dksX4_houseOf_0 1 rfl rfl)
theorem dX4_houseOf_2 : decode cX4_houseOf 2 = .ok (.iload_n 2, 1) := dk_28 (dk_at dksX4_houseOf_0 2 rfl rfl)
theorem dX4_houseOf_3 : decode cX4_houseOf 3 = .ok (.aload_n 0, 1) := dk_42 (dk_at dksX4_houseOf_0 3 rfl rfl)
theorem dX4_houseOf_4 : decode cX4_houseOf 4 = .ok (.getfield 274, 3) := dk_180 1 18 (dk_at dksX4_houseOf_0 4 rfl rfl)
theorem dX4_houseOf_7 : decode cX4_houseOf 7 = .ok (.if_icmp .ge 38, 3) := dk_162 0 38 (dk_at dksX4_houseOf_0 7 rfl rfl)
theorem dX4_houseOf_10 : decode cX4_houseOf 10 = .ok (.iload_n 1, 1) := dk_27 (dk_at dksX4_houseOf_0 10 rfl rfl)
theorem dX4_houseOf_11 : decode cX4_houseOf 11 = .ok (.i2l, 1) := dk_133 (dk_at dksX4_houseOf_0 11 rfl rfl)
theorem dX4_houseOf_12 : decode cX4_houseOf 12 = .ok (.aload_n 0, 1) := dk_42 (dk_at dksX4_houseOf_0 12 rfl rfl)
theorem dX4_houseOf_13 : decode cX4_houseOf 13 = .ok (.getfield 62, 3) := dk_180 0 62 (dk_at dksX4_houseOf_0 13 rfl rfl)
theorem dX4_houseOf_16 : decode cX4_houseOf 16 = .ok (.iload_n 2, 1) := dk_28 (dk_at dksX4_houseOf_0 16 rfl rfl)
theorem dX4_houseOf_17 : decode cX4_houseOf 17 = .ok (.iaload, 1) := dk_46 (dk_at dksX4_houseOf_0 17 rfl rfl)
theorem dX4_houseOf_18 : decode cX4_houseOf 18 = .ok (.i2l, 1) := dk_133 (dk_at dksX4_houseOf_0 18 rfl rfl)
theorem dX4_houseOf_19 : decode cX4_houseOf 19 = .ok (.aload_n 0, 1) := dk_42 (dk_at dksX4_houseOf_0 19 rfl rfl)
theorem dX4_houseOf_20 : decode cX4_houseOf 20 = .ok (.getfield 65, 3) := dk_180 0 65 (dk_at dksX4_houseOf_0 20 rfl rfl)
theorem dX4_houseOf_23 : decode cX4_houseOf 23 = .ok (.iload_n 2, 1) := dk_28 (dk_at dksX4_houseOf_0 23 rfl rfl)
theorem dX4_houseOf_24 : decode cX4_houseOf 24 = .ok (.iaload, 1) := dk_46 (dk_at dksX4_houseOf_1 0 rfl rfl)
theorem dX4_houseOf_25 : decode cX4_houseOf 25 = .ok (.i2l, 1) := dk_133 (dk_at dksX4_houseOf_1 1 rfl rfl)
theorem dX4_houseOf_26 : decode cX4_houseOf 26 = .ok (.invokestatic 102, 3) := dk_184 0 102 (dk_at dksX4_houseOf_1 2 rfl rfl)
theorem dX4_houseOf_29 : decode cX4_houseOf 29 = .ok (.ifCond .eq 10, 3) := dk_153 0 10 (dk_at dksX4_houseOf_1 5 rfl rfl)
theorem dX4_houseOf_32 : decode cX4_houseOf 32 = .ok (.aload_n 0, 1) := dk_42 (dk_at dksX4_houseOf_1 8 rfl rfl)
theorem dX4_houseOf_33 : decode cX4_houseOf 33 = .ok (.getfield 68, 3) := dk_180 0 68 (dk_at dksX4_houseOf_1 9 rfl rfl)
theorem dX4_houseOf_36 : decode cX4_houseOf 36 = .ok (.iload_n 2, 1) := dk_28 (dk_at dksX4_houseOf_1 12 rfl rfl)
theorem dX4_houseOf_37 : decode cX4_houseOf 37 = .ok (.iaload, 1) := dk_46 (dk_at dksX4_houseOf_1 13 rfl rfl)
theorem dX4_houseOf_38 : decode cX4_houseOf 38 = .ok (.ireturn, 1) := dk_172 (dk_at dksX4_houseOf_1 14 rfl rfl)
theorem dX4_houseOf_39 : decode cX4_houseOf 39 = .ok (.iinc 2 1, 3) := dk_132 2 1 (dk_at dksX4_houseOf_1 15 rfl rfl)
theorem dX4_houseOf_42 : decode cX4_houseOf 42 = .ok (.goto (-40), 3) := dk_167 255 216 (dk_at dksX4_houseOf_1 18 rfl rfl)
theorem dX4_houseOf_45 : decode cX4_houseOf 45 = .ok (.bipush (-2), 2) := dk_16 254 (dk_at dksX4_houseOf_1 21 rfl rfl)
theorem dX4_houseOf_47 : decode cX4_houseOf 47 = .ok (.ireturn, 1) := dk_172 (dk_at dksX4_houseOf_1 23 rfl rfl)
abbrev cX4_house : ByteArray := prog_34_method_64_code
def yX4_house : MethodName := ⟨RX4, "house", "(I)I"⟩
def dkwX4_house_0 : List UInt8 := [27, 133, 9, 20, 1, 30, 184, 0, 102, 153, 0, 11, 42, 27, 182, 1, 21, 167, 0, 4, 2, 172]
abbrev dktX4_house_0 : List UInt8 := dkwX4_house_0 ++ []
theorem dksX4_house_0 : cX4_house.data.toList.drop 0 = dktX4_house_0 := by decide +kernel
theorem dX4_house_0 : decode cX4_house 0 = .ok (.iload_n 1, 1) := dk_27 (dk_at dksX4_house_0 0 rfl rfl)
theorem dX4_house_1 : decode cX4_house 1 = .ok (.i2l, 1) := dk_133 (dk_at dksX4_house_0 1 rfl rfl)
theorem dX4_house_2 : decode cX4_house 2 = .ok (.lconst 0, 1) := dk_9 (dk_at dksX4_house_0 2 rfl rfl)
theorem dX4_house_3 : decode cX4_house 3 = .ok (.ldc2_w 286, 3) := dk_20 1 30 (dk_at dksX4_house_0 3 rfl rfl)
theorem dX4_house_6 : decode cX4_house 6 = .ok (.invokestatic 102, 3) := dk_184 0 102 (dk_at dksX4_house_0 6 rfl rfl)
theorem dX4_house_9 : decode cX4_house 9 = .ok (.ifCond .eq 11, 3) := dk_153 0 11 (dk_at dksX4_house_0 9 rfl rfl)
theorem dX4_house_12 : decode cX4_house 12 = .ok (.aload_n 0, 1) := dk_42 (dk_at dksX4_house_0 12 rfl rfl)
theorem dX4_house_13 : decode cX4_house 13 = .ok (.iload_n 1, 1) := dk_27 (dk_at dksX4_house_0 13 rfl rfl)
theorem dX4_house_14 : decode cX4_house 14 = .ok (.invokevirtual 277, 3) := dk_182 1 21 (dk_at dksX4_house_0 14 rfl rfl)
theorem dX4_house_17 : decode cX4_house 17 = .ok (.goto 4, 3) := dk_167 0 4 (dk_at dksX4_house_0 17 rfl rfl)
theorem dX4_house_20 : decode cX4_house 20 = .ok (.iconst (-1), 1) := dk_2 (dk_at dksX4_house_0 20 rfl rfl)
theorem dX4_house_21 : decode cX4_house 21 = .ok (.ireturn, 1) := dk_172 (dk_at dksX4_house_0 21 rfl rfl)
abbrev cX4_drawn : ByteArray := prog_34_method_65_code
def yX4_drawn : MethodName := ⟨RX4, "drawn", "(III)I"⟩
def dkwX4_drawn_8 : List UInt8 := [167, 0, 4, 3, 96, 54, 6, 132, 7, 1, 167, 255, 142, 21, 6, 172]
abbrev dktX4_drawn_8 : List UInt8 := dkwX4_drawn_8 ++ []
def dkwX4_drawn_7 : List UInt8 := [182, 0, 221, 21, 6, 42, 180, 0, 211, 9, 148, 158, 0, 16, 42, 182, 0, 241, 21, 4, 160, 0, 7, 4]
abbrev dktX4_drawn_7 : List UInt8 := dkwX4_drawn_7 ++ dktX4_drawn_8
def dkwX4_drawn_6 : List UInt8 := [29, 16, 100, 112, 96, 46, 162, 0, 7, 4, 167, 0, 4, 5, 79, 132, 8, 1, 167, 255, 189, 42]
abbrev dktX4_drawn_6 : List UInt8 := dkwX4_drawn_6 ++ dktX4_drawn_7
def dkwX4_drawn_5 : List UInt8 := [21, 5, 16, 8, 124, 16, 100, 112, 42, 180, 0, 43, 17, 0, 180, 21, 8, 104, 16, 30, 21, 4, 104, 96]
abbrev dktX4_drawn_5 : List UInt8 := dkwX4_drawn_5 ++ dktX4_drawn_6
def dkwX4_drawn_4 : List UInt8 := [16, 6, 162, 0, 66, 21, 5, 19, 1, 32, 104, 17, 48, 57, 96, 54, 5, 42, 180, 0, 46, 21, 8]
abbrev dktX4_drawn_4 : List UInt8 := dkwX4_drawn_4 ++ dktX4_drawn_5
def dkwX4_drawn_3 : List UInt8 := [182, 0, 217, 27, 54, 5, 3, 54, 6, 3, 54, 7, 21, 7, 28, 162, 0, 114, 3, 54, 8, 21, 8]
abbrev dktX4_drawn_3 : List UInt8 := dkwX4_drawn_3 ++ dktX4_drawn_4
def dkwX4_drawn_2 : List UInt8 := [16, 30, 161, 0, 5, 2, 172, 29, 16, 100, 108, 16, 10, 112, 54, 4, 42, 29, 17, 3, 232, 108]
abbrev dktX4_drawn_2 : List UInt8 := dkwX4_drawn_2 ++ dktX4_drawn_3
def dkwX4_drawn_1 : List UInt8 := [182, 0, 132, 153, 0, 25, 29, 16, 100, 108, 16, 10, 112, 184, 0, 122, 153, 0, 12, 29, 16, 100, 112]
abbrev dktX4_drawn_1 : List UInt8 := dkwX4_drawn_1 ++ dktX4_drawn_2
def dkwX4_drawn_0 : List UInt8 := [28, 133, 10, 20, 0, 148, 184, 0, 102, 153, 0, 41, 29, 155, 0, 37, 42, 29, 17, 3, 232, 108]
abbrev dktX4_drawn_0 : List UInt8 := dkwX4_drawn_0 ++ dktX4_drawn_1
theorem dksX4_drawn_0 : cX4_drawn.data.toList.drop 0 = dktX4_drawn_0 := by decide +kernel
theorem dksX4_drawn_1 : cX4_drawn.data.toList.drop 22 = dktX4_drawn_1 := dk_seg dksX4_drawn_0 22 rfl rfl
theorem dksX4_drawn_2 : cX4_drawn.data.toList.drop 45 = dktX4_drawn_2 := dk_seg dksX4_drawn_1 23 rfl rfl
theorem dksX4_drawn_3 : cX4_drawn.data.toList.drop 67 = dktX4_drawn_3 := dk_seg dksX4_drawn_2 22 rfl rfl
theorem dksX4_drawn_4 : cX4_drawn.data.toList.drop 90 = dktX4_drawn_4 := dk_seg dksX4_drawn_3 23 rfl rfl
theorem dksX4_drawn_5 : cX4_drawn.data.toList.drop 113 = dktX4_drawn_5 := dk_seg dksX4_drawn_4 23 rfl rfl
theorem dksX4_drawn_6 : cX4_drawn.data.toList.drop 137 = dktX4_drawn_6 := dk_seg dksX4_drawn_5 24 rfl rfl
theorem dksX4_drawn_7 : cX4_drawn.data.toList.drop 159 = dktX4_drawn_7 := dk_seg dksX4_drawn_6 22 rfl rfl
theorem dksX4_drawn_8 : cX4_drawn.data.toList.drop 183 = dktX4_drawn_8 := dk_seg dksX4_drawn_7 24 rfl rfl
theorem dX4_drawn_0 : decode cX4_drawn 0 = .ok (.iload_n 2, 1) := dk_28 (dk_at dksX4_drawn_0 0 rfl rfl)
theorem dX4_drawn_1 : decode cX4_drawn 1 = .ok (.i2l, 1) := dk_133 (dk_at dksX4_drawn_0 1 rfl rfl)
theorem dX4_drawn_2 : decode cX4_drawn 2 = .ok (.lconst 1, 1) := dk_10 (dk_at dksX4_drawn_0 2 rfl rfl)
theorem dX4_drawn_3 : decode cX4_drawn 3 = .ok (.ldc2_w 148, 3) := dk_20 0 148 (dk_at dksX4_drawn_0 3 rfl rfl)
theorem dX4_drawn_6 : decode cX4_drawn 6 = .ok (.invokestatic 102, 3) := dk_184 0 102 (dk_at dksX4_drawn_0 6 rfl rfl)
theorem dX4_drawn_9 : decode cX4_drawn 9 = .ok (.ifCond .eq 41, 3) := dk_153 0 41 (dk_at dksX4_drawn_0 9 rfl rfl)
theorem dX4_drawn_12 : decode cX4_drawn 12 = .ok (.iload_n 3, 1) := dk_29 (dk_at dksX4_drawn_0 12 rfl rfl)
theorem dX4_drawn_13 : decode cX4_drawn 13 = .ok (.ifCond .lt 37, 3) := dk_155 0 37 (dk_at dksX4_drawn_0 13 rfl rfl)
theorem dX4_drawn_16 : decode cX4_drawn 16 = .ok (.aload_n 0, 1) := dk_42 (dk_at dksX4_drawn_0 16 rfl rfl)
theorem dX4_drawn_17 : decode cX4_drawn 17 = .ok (.iload_n 3, 1) := dk_29 (dk_at dksX4_drawn_0 17 rfl rfl)
theorem dX4_drawn_18 : decode cX4_drawn 18 = .ok (.sipush 1000, 3) := dk_17 3 232 (dk_at dksX4_drawn_0 18 rfl rfl)
theorem dX4_drawn_21 : decode cX4_drawn 21 = .ok (.idiv, 1) := dk_108 (dk_at dksX4_drawn_0 21 rfl rfl)
theorem dX4_drawn_22 : decode cX4_drawn 22 = .ok (.invokevirtual 132, 3) := dk_182 0 132 (dk_at dksX4_drawn_1 0 rfl rfl)
theorem dX4_drawn_25 : decode cX4_drawn 25 = .ok (.ifCond .eq 25, 3) := dk_153 0 25 (dk_at dksX4_drawn_1 3 rfl rfl)
theorem dX4_drawn_28 : decode cX4_drawn 28 = .ok (.iload_n 3, 1) := dk_29 (dk_at dksX4_drawn_1 6 rfl rfl)
theorem dX4_drawn_29 : decode cX4_drawn 29 = .ok (.bipush 100, 2) := dk_16 100 (dk_at dksX4_drawn_1 7 rfl rfl)
theorem dX4_drawn_31 : decode cX4_drawn 31 = .ok (.idiv, 1) := dk_108 (dk_at dksX4_drawn_1 9 rfl rfl)
theorem dX4_drawn_32 : decode cX4_drawn 32 = .ok (.bipush 10, 2) := dk_16 10 (dk_at dksX4_drawn_1 10 rfl rfl)
theorem dX4_drawn_34 : decode cX4_drawn 34 = .ok (.irem, 1) := dk_112 (dk_at dksX4_drawn_1 12 rfl rfl)
theorem dX4_drawn_35 : decode cX4_drawn 35 = .ok (.invokestatic 122, 3) := dk_184 0 122 (dk_at dksX4_drawn_1 13 rfl rfl)
theorem dX4_drawn_38 : decode cX4_drawn 38 = .ok (.ifCond .eq 12, 3) := dk_153 0 12 (dk_at dksX4_drawn_1 16 rfl rfl)
theorem dX4_drawn_41 : decode cX4_drawn 41 = .ok (.iload_n 3, 1) := dk_29 (dk_at dksX4_drawn_1 19 rfl rfl)
theorem dX4_drawn_42 : decode cX4_drawn 42 = .ok (.bipush 100, 2) := dk_16 100 (dk_at dksX4_drawn_1 20 rfl rfl)
theorem dX4_drawn_44 : decode cX4_drawn 44 = .ok (.irem, 1) := dk_112 (dk_at dksX4_drawn_1 22 rfl rfl)
theorem dX4_drawn_45 : decode cX4_drawn 45 = .ok (.bipush 30, 2) := dk_16 30 (dk_at dksX4_drawn_2 0 rfl rfl)
theorem dX4_drawn_47 : decode cX4_drawn 47 = .ok (.if_icmp .lt 5, 3) := dk_161 0 5 (dk_at dksX4_drawn_2 2 rfl rfl)
theorem dX4_drawn_50 : decode cX4_drawn 50 = .ok (.iconst (-1), 1) := dk_2 (dk_at dksX4_drawn_2 5 rfl rfl)
theorem dX4_drawn_51 : decode cX4_drawn 51 = .ok (.ireturn, 1) := dk_172 (dk_at dksX4_drawn_2 6 rfl rfl)
theorem dX4_drawn_52 : decode cX4_drawn 52 = .ok (.iload_n 3, 1) := dk_29 (dk_at dksX4_drawn_2 7 rfl rfl)
theorem dX4_drawn_53 : decode cX4_drawn 53 = .ok (.bipush 100, 2) := dk_16 100 (dk_at dksX4_drawn_2 8 rfl rfl)
theorem dX4_drawn_55 : decode cX4_drawn 55 = .ok (.idiv, 1) := dk_108 (dk_at dksX4_drawn_2 10 rfl rfl)
theorem dX4_drawn_56 : decode cX4_drawn 56 = .ok (.bipush 10, 2) := dk_16 10 (dk_at dksX4_drawn_2 11 rfl rfl)
theorem dX4_drawn_58 : decode cX4_drawn 58 = .ok (.irem, 1) := dk_112 (dk_at dksX4_drawn_2 13 rfl rfl)
theorem dX4_drawn_59 : decode cX4_drawn 59 = .ok (.istore 4, 2) := dk_54 4 (dk_at dksX4_drawn_2 14 rfl rfl)
theorem dX4_drawn_61 : decode cX4_drawn 61 = .ok (.aload_n 0, 1) := dk_42 (dk_at dksX4_drawn_2 16 rfl rfl)
theorem dX4_drawn_62 : decode cX4_drawn 62 = .ok (.iload_n 3, 1) := dk_29 (dk_at dksX4_drawn_2 17 rfl rfl)
theorem dX4_drawn_63 : decode cX4_drawn 63 = .ok (.sipush 1000, 3) := dk_17 3 232 (dk_at dksX4_drawn_2 18 rfl rfl)
theorem dX4_drawn_66 : decode cX4_drawn 66 = .ok (.idiv, 1) := dk_108 (dk_at dksX4_drawn_2 21 rfl rfl)
theorem dX4_drawn_67 : decode cX4_drawn 67 = .ok (.invokevirtual 217, 3) := dk_182 0 217 (dk_at dksX4_drawn_3 0 rfl rfl)
theorem dX4_drawn_70 : decode cX4_drawn 70 = .ok (.iload_n 1, 1) := dk_27 (dk_at dksX4_drawn_3 3 rfl rfl)
theorem dX4_drawn_71 : decode cX4_drawn 71 = .ok (.istore 5, 2) := dk_54 5 (dk_at dksX4_drawn_3 4 rfl rfl)
theorem dX4_drawn_73 : decode cX4_drawn 73 = .ok (.iconst 0, 1) := dk_3 (dk_at dksX4_drawn_3 6 rfl rfl)
theorem dX4_drawn_74 : decode cX4_drawn 74 = .ok (.istore 6, 2) := dk_54 6 (dk_at dksX4_drawn_3 7 rfl rfl)
theorem dX4_drawn_76 : decode cX4_drawn 76 = .ok (.iconst 0, 1) := dk_3 (dk_at dksX4_drawn_3 9 rfl rfl)
theorem dX4_drawn_77 : decode cX4_drawn 77 = .ok (.istore 7, 2) := dk_54 7 (dk_at dksX4_drawn_3 10 rfl rfl)
theorem dX4_drawn_79 : decode cX4_drawn 79 = .ok (.iload 7, 2) := dk_21 7 (dk_at dksX4_drawn_3 12 rfl rfl)
theorem dX4_drawn_81 : decode cX4_drawn 81 = .ok (.iload_n 2, 1) := dk_28 (dk_at dksX4_drawn_3 14 rfl rfl)
theorem dX4_drawn_82 : decode cX4_drawn 82 = .ok (.if_icmp .ge 114, 3) := dk_162 0 114 (dk_at dksX4_drawn_3 15 rfl rfl)
theorem dX4_drawn_85 : decode cX4_drawn 85 = .ok (.iconst 0, 1) := dk_3 (dk_at dksX4_drawn_3 18 rfl rfl)
theorem dX4_drawn_86 : decode cX4_drawn 86 = .ok (.istore 8, 2) := dk_54 8 (dk_at dksX4_drawn_3 19 rfl rfl)
theorem dX4_drawn_88 : decode cX4_drawn 88 = .ok (.iload 8, 2) := dk_21 8 (dk_at dksX4_drawn_3 21 rfl rfl)
theorem dX4_drawn_90 : decode cX4_drawn 90 = .ok (.bipush 6, 2) := dk_16 6 (dk_at dksX4_drawn_4 0 rfl rfl)
theorem dX4_drawn_92 : decode cX4_drawn 92 = .ok (.if_icmp .ge 66, 3) := dk_162 0 66 (dk_at dksX4_drawn_4 2 rfl rfl)
theorem dX4_drawn_95 : decode cX4_drawn 95 = .ok (.iload 5, 2) := dk_21 5 (dk_at dksX4_drawn_4 5 rfl rfl)
theorem dX4_drawn_97 : decode cX4_drawn 97 = .ok (.ldc_w 288, 3) := dk_19 1 32 (dk_at dksX4_drawn_4 7 rfl rfl)
theorem dX4_drawn_100 : decode cX4_drawn 100 = .ok (.imul, 1) := dk_104 (dk_at dksX4_drawn_4 10 rfl rfl)
theorem dX4_drawn_101 : decode cX4_drawn 101 = .ok (.sipush 12345, 3) := dk_17 48 57 (dk_at dksX4_drawn_4 11 rfl rfl)
theorem dX4_drawn_104 : decode cX4_drawn 104 = .ok (.iadd, 1) := dk_96 (dk_at dksX4_drawn_4 14 rfl rfl)
theorem dX4_drawn_105 : decode cX4_drawn 105 = .ok (.istore 5, 2) := dk_54 5 (dk_at dksX4_drawn_4 15 rfl rfl)
theorem dX4_drawn_107 : decode cX4_drawn 107 = .ok (.aload_n 0, 1) := dk_42 (dk_at dksX4_drawn_4 17 rfl rfl)
theorem dX4_drawn_108 : decode cX4_drawn 108 = .ok (.getfield 46, 3) := dk_180 0 46 (dk_at dksX4_drawn_4 18 rfl rfl)
theorem dX4_drawn_111 : decode cX4_drawn 111 = .ok (.iload 8, 2) := dk_21 8 (dk_at dksX4_drawn_4 21 rfl rfl)
theorem dX4_drawn_113 : decode cX4_drawn 113 = .ok (.iload 5, 2) := dk_21 5 (dk_at dksX4_drawn_5 0 rfl rfl)
theorem dX4_drawn_115 : decode cX4_drawn 115 = .ok (.bipush 8, 2) := dk_16 8 (dk_at dksX4_drawn_5 2 rfl rfl)
theorem dX4_drawn_117 : decode cX4_drawn 117 = .ok (.iushr, 1) := dk_124 (dk_at dksX4_drawn_5 4 rfl rfl)
theorem dX4_drawn_118 : decode cX4_drawn 118 = .ok (.bipush 100, 2) := dk_16 100 (dk_at dksX4_drawn_5 5 rfl rfl)
theorem dX4_drawn_120 : decode cX4_drawn 120 = .ok (.irem, 1) := dk_112 (dk_at dksX4_drawn_5 7 rfl rfl)
theorem dX4_drawn_121 : decode cX4_drawn 121 = .ok (.aload_n 0, 1) := dk_42 (dk_at dksX4_drawn_5 8 rfl rfl)
theorem dX4_drawn_122 : decode cX4_drawn 122 = .ok (.getfield 43, 3) := dk_180 0 43 (dk_at dksX4_drawn_5 9 rfl rfl)
theorem dX4_drawn_125 : decode cX4_drawn 125 = .ok (.sipush 180, 3) := dk_17 0 180 (dk_at dksX4_drawn_5 12 rfl rfl)
theorem dX4_drawn_128 : decode cX4_drawn 128 = .ok (.iload 8, 2) := dk_21 8 (dk_at dksX4_drawn_5 15 rfl rfl)
theorem dX4_drawn_130 : decode cX4_drawn 130 = .ok (.imul, 1) := dk_104 (dk_at dksX4_drawn_5 17 rfl rfl)
theorem dX4_drawn_131 : decode cX4_drawn 131 = .ok (.bipush 30, 2) := dk_16 30 (dk_at dksX4_drawn_5 18 rfl rfl)
theorem dX4_drawn_133 : decode cX4_drawn 133 = .ok (.iload 4, 2) := dk_21 4 (dk_at dksX4_drawn_5 20 rfl rfl)
theorem dX4_drawn_135 : decode cX4_drawn 135 = .ok (.imul, 1) := dk_104 (dk_at dksX4_drawn_5 22 rfl rfl)
theorem dX4_drawn_136 : decode cX4_drawn 136 = .ok (.iadd, 1) := dk_96 (dk_at dksX4_drawn_5 23 rfl rfl)
theorem dX4_drawn_137 : decode cX4_drawn 137 = .ok (.iload_n 3, 1) := dk_29 (dk_at dksX4_drawn_6 0 rfl rfl)
theorem dX4_drawn_138 : decode cX4_drawn 138 = .ok (.bipush 100, 2) := dk_16 100 (dk_at dksX4_drawn_6 1 rfl rfl)
theorem dX4_drawn_140 : decode cX4_drawn 140 = .ok (.irem, 1) := dk_112 (dk_at dksX4_drawn_6 3 rfl rfl)
theorem dX4_drawn_141 : decode cX4_drawn 141 = .ok (.iadd, 1) := dk_96 (dk_at dksX4_drawn_6 4 rfl rfl)
theorem dX4_drawn_142 : decode cX4_drawn 142 = .ok (.iaload, 1) := dk_46 (dk_at dksX4_drawn_6 5 rfl rfl)
theorem dX4_drawn_143 : decode cX4_drawn 143 = .ok (.if_icmp .ge 7, 3) := dk_162 0 7 (dk_at dksX4_drawn_6 6 rfl rfl)
theorem dX4_drawn_146 : decode cX4_drawn 146 = .ok (.iconst 1, 1) := dk_4 (dk_at dksX4_drawn_6 9 rfl rfl)
theorem dX4_drawn_147 : decode cX4_drawn 147 = .ok (.goto 4, 3) := dk_167 0 4 (dk_at dksX4_drawn_6 10 rfl rfl)
theorem dX4_drawn_150 : decode cX4_drawn 150 = .ok (.iconst 2, 1) := dk_5 (dk_at dksX4_drawn_6 13 rfl rfl)
theorem dX4_drawn_151 : decode cX4_drawn 151 = .ok (.iastore, 1) := dk_79 (dk_at dksX4_drawn_6 14 rfl rfl)
theorem dX4_drawn_152 : decode cX4_drawn 152 = .ok (.iinc 8 1, 3) := dk_132 8 1 (dk_at dksX4_drawn_6 15 rfl rfl)
theorem dX4_drawn_155 : decode cX4_drawn 155 = .ok (.goto (-67), 3) := dk_167 255 189 (dk_at dksX4_drawn_6 18 rfl rfl)
theorem dX4_drawn_158 : decode cX4_drawn 158 = .ok (.aload_n 0, 1) := dk_42 (dk_at dksX4_drawn_6 21 rfl rfl)
theorem dX4_drawn_159 : decode cX4_drawn 159 = .ok (.invokevirtual 221, 3) := dk_182 0 221 (dk_at dksX4_drawn_7 0 rfl rfl)
theorem dX4_drawn_162 : decode cX4_drawn 162 = .ok (.iload 6, 2) := dk_21 6 (dk_at dksX4_drawn_7 3 rfl rfl)
theorem dX4_drawn_164 : decode cX4_drawn 164 = .ok (.aload_n 0, 1) := dk_42 (dk_at dksX4_drawn_7 5 rfl rfl)
theorem dX4_drawn_165 : decode cX4_drawn 165 = .ok (.getfield 211, 3) := dk_180 0 211 (dk_at dksX4_drawn_7 6 rfl rfl)
theorem dX4_drawn_168 : decode cX4_drawn 168 = .ok (.lconst 0, 1) := dk_9 (dk_at dksX4_drawn_7 9 rfl rfl)
theorem dX4_drawn_169 : decode cX4_drawn 169 = .ok (.lcmp, 1) := dk_148 (dk_at dksX4_drawn_7 10 rfl rfl)
theorem dX4_drawn_170 : decode cX4_drawn 170 = .ok (.ifCond .le 16, 3) := dk_158 0 16 (dk_at dksX4_drawn_7 11 rfl rfl)
theorem dX4_drawn_173 : decode cX4_drawn 173 = .ok (.aload_n 0, 1) := dk_42 (dk_at dksX4_drawn_7 14 rfl rfl)
theorem dX4_drawn_174 : decode cX4_drawn 174 = .ok (.invokevirtual 241, 3) := dk_182 0 241 (dk_at dksX4_drawn_7 15 rfl rfl)
theorem dX4_drawn_177 : decode cX4_drawn 177 = .ok (.iload 4, 2) := dk_21 4 (dk_at dksX4_drawn_7 18 rfl rfl)
theorem dX4_drawn_179 : decode cX4_drawn 179 = .ok (.if_icmp .ne 7, 3) := dk_160 0 7 (dk_at dksX4_drawn_7 20 rfl rfl)
theorem dX4_drawn_182 : decode cX4_drawn 182 = .ok (.iconst 1, 1) := dk_4 (dk_at dksX4_drawn_7 23 rfl rfl)
theorem dX4_drawn_183 : decode cX4_drawn 183 = .ok (.goto 4, 3) := dk_167 0 4 (dk_at dksX4_drawn_8 0 rfl rfl)
theorem dX4_drawn_186 : decode cX4_drawn 186 = .ok (.iconst 0, 1) := dk_3 (dk_at dksX4_drawn_8 3 rfl rfl)
theorem dX4_drawn_187 : decode cX4_drawn 187 = .ok (.iadd, 1) := dk_96 (dk_at dksX4_drawn_8 4 rfl rfl)
theorem dX4_drawn_188 : decode cX4_drawn 188 = .ok (.istore 6, 2) := dk_54 6 (dk_at dksX4_drawn_8 5 rfl rfl)
theorem dX4_drawn_190 : decode cX4_drawn 190 = .ok (.iinc 7 1, 3) := dk_132 7 1 (dk_at dksX4_drawn_8 7 rfl rfl)
theorem dX4_drawn_193 : decode cX4_drawn 193 = .ok (.goto (-114), 3) := dk_167 255 142 (dk_at dksX4_drawn_8 10 rfl rfl)
theorem dX4_drawn_196 : decode cX4_drawn 196 = .ok (.iload 6, 2) := dk_21 6 (dk_at dksX4_drawn_8 13 rfl rfl)
theorem dX4_drawn_198 : decode cX4_drawn 198 = .ok (.ireturn, 1) := dk_172 (dk_at dksX4_drawn_8 15 rfl rfl)
abbrev cX4_image : ByteArray := prog_34_method_66_code
def yX4_image : MethodName := ⟨RX4, "image", "()I"⟩
def dkwX4_image_1 : List UInt8 := [180, 0, 71, 27, 42, 180, 0, 28, 27, 46, 79, 132, 1, 1, 167, 255, 235, 42, 180, 0, 99, 172]
abbrev dktX4_image_1 : List UInt8 := dkwX4_image_1 ++ []
def dkwX4_image_0 : List UInt8 := [42, 4, 181, 1, 33, 42, 42, 180, 0, 99, 181, 1, 37, 3, 60, 27, 16, 48, 162, 0, 21, 42]
abbrev dktX4_image_0 : List UInt8 := dkwX4_image_0 ++ dktX4_image_1
theorem dksX4_image_0 : cX4_image.data.toList.drop 0 = dktX4_image_0 := by decide +kernel
theorem dksX4_image_1 : cX4_image.data.toList.drop 22 = dktX4_image_1 := dk_seg dksX4_image_0 22 rfl rfl
theorem dX4_image_0 : decode cX4_image 0 = .ok (.aload_n 0, 1) := dk_42 (dk_at dksX4_image_0 0 rfl rfl)
theorem dX4_image_1 : decode cX4_image 1 = .ok (.iconst 1, 1) := dk_4 (dk_at dksX4_image_0 1 rfl rfl)
theorem dX4_image_2 : decode cX4_image 2 = .ok (.putfield 289, 3) := dk_181 1 33 (dk_at dksX4_image_0 2 rfl rfl)
theorem dX4_image_5 : decode cX4_image 5 = .ok (.aload_n 0, 1) := dk_42 (dk_at dksX4_image_0 5 rfl rfl)
theorem dX4_image_6 : decode cX4_image 6 = .ok (.aload_n 0, 1) := dk_42 (dk_at dksX4_image_0 6 rfl rfl)
theorem dX4_image_7 : decode cX4_image 7 = .ok (.getfield 99, 3) := dk_180 0 99 (dk_at dksX4_image_0 7 rfl rfl)
theorem dX4_image_10 : decode cX4_image 10 = .ok (.putfield 293, 3) := dk_181 1 37 (dk_at dksX4_image_0 10 rfl rfl)
theorem dX4_image_13 : decode cX4_image 13 = .ok (.iconst 0, 1) := dk_3 (dk_at dksX4_image_0 13 rfl rfl)
theorem dX4_image_14 : decode cX4_image 14 = .ok (.istore_n 1, 1) := dk_60 (dk_at dksX4_image_0 14 rfl rfl)
theorem dX4_image_15 : decode cX4_image 15 = .ok (.iload_n 1, 1) := dk_27 (dk_at dksX4_image_0 15 rfl rfl)
theorem dX4_image_16 : decode cX4_image 16 = .ok (.bipush 48, 2) := dk_16 48 (dk_at dksX4_image_0 16 rfl rfl)
theorem dX4_image_18 : decode cX4_image 18 = .ok (.if_icmp .ge 21, 3) := dk_162 0 21 (dk_at dksX4_image_0 18 rfl rfl)
theorem dX4_image_21 : decode cX4_image 21 = .ok (.aload_n 0, 1) := dk_42 (dk_at dksX4_image_0 21 rfl rfl)
theorem dX4_image_22 : decode cX4_image 22 = .ok (.getfield 71, 3) := dk_180 0 71 (dk_at dksX4_image_1 0 rfl rfl)
theorem dX4_image_25 : decode cX4_image 25 = .ok (.iload_n 1, 1) := dk_27 (dk_at dksX4_image_1 3 rfl rfl)
theorem dX4_image_26 : decode cX4_image 26 = .ok (.aload_n 0, 1) := dk_42 (dk_at dksX4_image_1 4 rfl rfl)
theorem dX4_image_27 : decode cX4_image 27 = .ok (.getfield 28, 3) := dk_180 0 28 (dk_at dksX4_image_1 5 rfl rfl)
theorem dX4_image_30 : decode cX4_image 30 = .ok (.iload_n 1, 1) := dk_27 (dk_at dksX4_image_1 8 rfl rfl)
theorem dX4_image_31 : decode cX4_image 31 = .ok (.iaload, 1) := dk_46 (dk_at dksX4_image_1 9 rfl rfl)
theorem dX4_image_32 : decode cX4_image 32 = .ok (.iastore, 1) := dk_79 (dk_at dksX4_image_1 10 rfl rfl)
theorem dX4_image_33 : decode cX4_image 33 = .ok (.iinc 1 1, 3) := dk_132 1 1 (dk_at dksX4_image_1 11 rfl rfl)
theorem dX4_image_36 : decode cX4_image 36 = .ok (.goto (-21), 3) := dk_167 255 235 (dk_at dksX4_image_1 14 rfl rfl)
theorem dX4_image_39 : decode cX4_image 39 = .ok (.aload_n 0, 1) := dk_42 (dk_at dksX4_image_1 17 rfl rfl)
theorem dX4_image_40 : decode cX4_image 40 = .ok (.getfield 99, 3) := dk_180 0 99 (dk_at dksX4_image_1 18 rfl rfl)
theorem dX4_image_43 : decode cX4_image 43 = .ok (.ireturn, 1) := dk_172 (dk_at dksX4_image_1 21 rfl rfl)
abbrev cX4_back : ByteArray := prog_34_method_67_code
def yX4_back : MethodName := ⟨RX4, "back", "()I"⟩
def dkwX4_back_2 : List UInt8 := [167, 255, 220, 42, 180, 0, 99, 172]
abbrev dktX4_back_2 : List UInt8 := dkwX4_back_2 ++ []
def dkwX4_back_1 : List UInt8 := [16, 6, 42, 180, 1, 37, 104, 162, 0, 12, 42, 180, 0, 71, 27, 46, 167, 0, 4, 3, 79, 132, 1, 1]
abbrev dktX4_back_1 : List UInt8 := dkwX4_back_1 ++ dktX4_back_2
def dkwX4_back_0 : List UInt8 := [42, 180, 1, 33, 154, 0, 6, 16, 251, 172, 3, 60, 27, 16, 48, 162, 0, 36, 42, 180, 0, 28, 27, 27]
abbrev dktX4_back_0 : List UInt8 := dkwX4_back_0 ++ dktX4_back_1
theorem dksX4_back_0 : cX4_back.data.toList.drop 0 = dktX4_back_0 := by decide +kernel
theorem dksX4_back_1 : cX4_back.data.toList.drop 24 = dktX4_back_1 := dk_seg dksX4_back_0 24 rfl rfl
theorem dksX4_back_2 : cX4_back.data.toList.drop 48 = dktX4_back_2 := dk_seg dksX4_back_1 24 rfl rfl
theorem dX4_back_0 : decode cX4_back 0 = .ok (.aload_n 0, 1) := dk_42 (dk_at dksX4_back_0 0 rfl rfl)
theorem dX4_back_1 : decode cX4_back 1 = .ok (.getfield 289, 3) := dk_180 1 33 (dk_at dksX4_back_0 1 rfl rfl)
theorem dX4_back_4 : decode cX4_back 4 = .ok (.ifCond .ne 6, 3) := dk_154 0 6 (dk_at dksX4_back_0 4 rfl rfl)
theorem dX4_back_7 : decode cX4_back 7 = .ok (.bipush (-5), 2) := dk_16 251 (dk_at dksX4_back_0 7 rfl rfl)
theorem dX4_back_9 : decode cX4_back 9 = .ok (.ireturn, 1) := dk_172 (dk_at dksX4_back_0 9 rfl rfl)
theorem dX4_back_10 : decode cX4_back 10 = .ok (.iconst 0, 1) := dk_3 (dk_at dksX4_back_0 10 rfl rfl)
theorem dX4_back_11 : decode cX4_back 11 = .ok (.istore_n 1, 1) := dk_60 (dk_at dksX4_back_0 11 rfl rfl)
theorem dX4_back_12 : decode cX4_back 12 = .ok (.iload_n 1, 1) := dk_27 (dk_at dksX4_back_0 12 rfl rfl)
theorem dX4_back_13 : decode cX4_back 13 = .ok (.bipush 48, 2) := dk_16 48 (dk_at dksX4_back_0 13 rfl rfl)
theorem dX4_back_15 : decode cX4_back 15 = .ok (.if_icmp .ge 36, 3) := dk_162 0 36 (dk_at dksX4_back_0 15 rfl rfl)
theorem dX4_back_18 : decode cX4_back 18 = .ok (.aload_n 0, 1) := dk_42 (dk_at dksX4_back_0 18 rfl rfl)
theorem dX4_back_19 : decode cX4_back 19 = .ok (.getfield 28, 3) := dk_180 0 28 (dk_at dksX4_back_0 19 rfl rfl)
theorem dX4_back_22 : decode cX4_back 22 = .ok (.iload_n 1, 1) := dk_27 (dk_at dksX4_back_0 22 rfl rfl)
theorem dX4_back_23 : decode cX4_back 23 = .ok (.iload_n 1, 1) := dk_27 (dk_at dksX4_back_0 23 rfl rfl)
theorem dX4_back_24 : decode cX4_back 24 = .ok (.bipush 6, 2) := dk_16 6 (dk_at dksX4_back_1 0 rfl rfl)
theorem dX4_back_26 : decode cX4_back 26 = .ok (.aload_n 0, 1) := dk_42 (dk_at dksX4_back_1 2 rfl rfl)
theorem dX4_back_27 : decode cX4_back 27 = .ok (.getfield 293, 3) := dk_180 1 37 (dk_at dksX4_back_1 3 rfl rfl)
theorem dX4_back_30 : decode cX4_back 30 = .ok (.imul, 1) := dk_104 (dk_at dksX4_back_1 6 rfl rfl)
theorem dX4_back_31 : decode cX4_back 31 = .ok (.if_icmp .ge 12, 3) := dk_162 0 12 (dk_at dksX4_back_1 7 rfl rfl)
theorem dX4_back_34 : decode cX4_back 34 = .ok (.aload_n 0, 1) := dk_42 (dk_at dksX4_back_1 10 rfl rfl)
theorem dX4_back_35 : decode cX4_back 35 = .ok (.getfield 71, 3) := dk_180 0 71 (dk_at dksX4_back_1 11 rfl rfl)
theorem dX4_back_38 : decode cX4_back 38 = .ok (.iload_n 1, 1) := dk_27 (dk_at dksX4_back_1 14 rfl rfl)
theorem dX4_back_39 : decode cX4_back 39 = .ok (.iaload, 1) := dk_46 (dk_at dksX4_back_1 15 rfl rfl)
theorem dX4_back_40 : decode cX4_back 40 = .ok (.goto 4, 3) := dk_167 0 4 (dk_at dksX4_back_1 16 rfl rfl)
theorem dX4_back_43 : decode cX4_back 43 = .ok (.iconst 0, 1) := dk_3 (dk_at dksX4_back_1 19 rfl rfl)
theorem dX4_back_44 : decode cX4_back 44 = .ok (.iastore, 1) := dk_79 (dk_at dksX4_back_1 20 rfl rfl)
theorem dX4_back_45 : decode cX4_back 45 = .ok (.iinc 1 1, 3) := dk_132 1 1 (dk_at dksX4_back_1 21 rfl rfl)
theorem dX4_back_48 : decode cX4_back 48 = .ok (.goto (-36), 3) := dk_167 255 220 (dk_at dksX4_back_2 0 rfl rfl)
theorem dX4_back_51 : decode cX4_back 51 = .ok (.aload_n 0, 1) := dk_42 (dk_at dksX4_back_2 3 rfl rfl)
theorem dX4_back_52 : decode cX4_back 52 = .ok (.getfield 99, 3) := dk_180 0 99 (dk_at dksX4_back_2 4 rfl rfl)
theorem dX4_back_55 : decode cX4_back 55 = .ok (.ireturn, 1) := dk_172 (dk_at dksX4_back_2 7 rfl rfl)
abbrev cX4_body : ByteArray := prog_34_method_71_code
def yX4_body : MethodName := ⟨RX4, "body", "(I)I"⟩
def dkwX4_body_2 : List UInt8 := [180, 1, 40, 4, 100, 172]
abbrev dktX4_body_2 : List UInt8 := dkwX4_body_2 ++ []
def dkwX4_body_1 : List UInt8 := [16, 253, 172, 42, 180, 0, 74, 42, 180, 1, 40, 27, 79, 42, 89, 180, 1, 40, 4, 96, 181, 1, 40, 42]
abbrev dktX4_body_1 : List UInt8 := dkwX4_body_1 ++ dktX4_body_2
def dkwX4_body_0 : List UInt8 := [27, 133, 9, 20, 1, 43, 184, 0, 102, 154, 0, 5, 2, 172, 42, 180, 1, 40, 16, 50, 160, 0, 6]
abbrev dktX4_body_0 : List UInt8 := dkwX4_body_0 ++ dktX4_body_1
theorem dksX4_body_0 : cX4_body.data.toList.drop 0 = dktX4_body_0 := by decide +kernel
theorem dksX4_body_1 : cX4_body.data.toList.drop 23 = dktX4_body_1 := dk_seg dksX4_body_0 23 rfl rfl
theorem dksX4_body_2 : cX4_body.data.toList.drop 47 = dktX4_body_2 := dk_seg dksX4_body_1 24 rfl rfl
theorem dX4_body_0 : decode cX4_body 0 = .ok (.iload_n 1, 1) := dk_27 (dk_at dksX4_body_0 0 rfl rfl)
theorem dX4_body_1 : decode cX4_body 1 = .ok (.i2l, 1) := dk_133 (dk_at dksX4_body_0 1 rfl rfl)
theorem dX4_body_2 : decode cX4_body 2 = .ok (.lconst 0, 1) := dk_9 (dk_at dksX4_body_0 2 rfl rfl)
theorem dX4_body_3 : decode cX4_body 3 = .ok (.ldc2_w 299, 3) := dk_20 1 43 (dk_at dksX4_body_0 3 rfl rfl)
theorem dX4_body_6 : decode cX4_body 6 = .ok (.invokestatic 102, 3) := dk_184 0 102 (dk_at dksX4_body_0 6 rfl rfl)
theorem dX4_body_9 : decode cX4_body 9 = .ok (.ifCond .ne 5, 3) := dk_154 0 5 (dk_at dksX4_body_0 9 rfl rfl)
theorem dX4_body_12 : decode cX4_body 12 = .ok (.iconst (-1), 1) := dk_2 (dk_at dksX4_body_0 12 rfl rfl)
theorem dX4_body_13 : decode cX4_body 13 = .ok (.ireturn, 1) := dk_172 (dk_at dksX4_body_0 13 rfl rfl)
theorem dX4_body_14 : decode cX4_body 14 = .ok (.aload_n 0, 1) := dk_42 (dk_at dksX4_body_0 14 rfl rfl)
theorem dX4_body_15 : decode cX4_body 15 = .ok (.getfield 296, 3) := dk_180 1 40 (dk_at dksX4_body_0 15 rfl rfl)
theorem dX4_body_18 : decode cX4_body 18 = .ok (.bipush 50, 2) := dk_16 50 (dk_at dksX4_body_0 18 rfl rfl)
theorem dX4_body_20 : decode cX4_body 20 = .ok (.if_icmp .ne 6, 3) := dk_160 0 6 (dk_at dksX4_body_0 20 rfl rfl)
theorem dX4_body_23 : decode cX4_body 23 = .ok (.bipush (-3), 2) := dk_16 253 (dk_at dksX4_body_1 0 rfl rfl)
theorem dX4_body_25 : decode cX4_body 25 = .ok (.ireturn, 1) := dk_172 (dk_at dksX4_body_1 2 rfl rfl)
theorem dX4_body_26 : decode cX4_body 26 = .ok (.aload_n 0, 1) := dk_42 (dk_at dksX4_body_1 3 rfl rfl)
theorem dX4_body_27 : decode cX4_body 27 = .ok (.getfield 74, 3) := dk_180 0 74 (dk_at dksX4_body_1 4 rfl rfl)
theorem dX4_body_30 : decode cX4_body 30 = .ok (.aload_n 0, 1) := dk_42 (dk_at dksX4_body_1 7 rfl rfl)
theorem dX4_body_31 : decode cX4_body 31 = .ok (.getfield 296, 3) := dk_180 1 40 (dk_at dksX4_body_1 8 rfl rfl)
theorem dX4_body_34 : decode cX4_body 34 = .ok (.iload_n 1, 1) := dk_27 (dk_at dksX4_body_1 11 rfl rfl)
theorem dX4_body_35 : decode cX4_body 35 = .ok (.iastore, 1) := dk_79 (dk_at dksX4_body_1 12 rfl rfl)
theorem dX4_body_36 : decode cX4_body 36 = .ok (.aload_n 0, 1) := dk_42 (dk_at dksX4_body_1 13 rfl rfl)
theorem dX4_body_37 : decode cX4_body 37 = .ok (.dup, 1) := dk_89 (dk_at dksX4_body_1 14 rfl rfl)
theorem dX4_body_38 : decode cX4_body 38 = .ok (.getfield 296, 3) := dk_180 1 40 (dk_at dksX4_body_1 15 rfl rfl)
theorem dX4_body_41 : decode cX4_body 41 = .ok (.iconst 1, 1) := dk_4 (dk_at dksX4_body_1 18 rfl rfl)
theorem dX4_body_42 : decode cX4_body 42 = .ok (.iadd, 1) := dk_96 (dk_at dksX4_body_1 19 rfl rfl)
theorem dX4_body_43 : decode cX4_body 43 = .ok (.putfield 296, 3) := dk_181 1 40 (dk_at dksX4_body_1 20 rfl rfl)
theorem dX4_body_46 : decode cX4_body 46 = .ok (.aload_n 0, 1) := dk_42 (dk_at dksX4_body_1 23 rfl rfl)
theorem dX4_body_47 : decode cX4_body 47 = .ok (.getfield 296, 3) := dk_180 1 40 (dk_at dksX4_body_2 0 rfl rfl)
theorem dX4_body_50 : decode cX4_body 50 = .ok (.iconst 1, 1) := dk_4 (dk_at dksX4_body_2 3 rfl rfl)
theorem dX4_body_51 : decode cX4_body 51 = .ok (.isub, 1) := dk_100 (dk_at dksX4_body_2 4 rfl rfl)
theorem dX4_body_52 : decode cX4_body 52 = .ok (.ireturn, 1) := dk_172 (dk_at dksX4_body_2 5 rfl rfl)
abbrev cX4_act : ByteArray := prog_34_method_78_code
def yX4_act : MethodName := ⟨RX4, "act", "(III)I"⟩
def dkwX4_act_4 : List UInt8 := [180, 1, 60, 29, 182, 1, 63, 172, 42, 42, 180, 1, 60, 29, 182, 1, 66, 172, 3, 172]
abbrev dktX4_act_4 : List UInt8 := dkwX4_act_4 ++ []
def dkwX4_act_3 : List UInt8 := [42, 42, 180, 1, 60, 29, 182, 1, 51, 172, 42, 42, 180, 1, 60, 29, 182, 1, 57, 172, 42, 42]
abbrev dktX4_act_3 : List UInt8 := dkwX4_act_3 ++ dktX4_act_4
def dkwX4_act_2 : List UInt8 := [170, 0, 0, 0, 69, 0, 0, 0, 0, 0, 0, 0, 3, 0, 0, 0, 29, 0, 0, 0, 39, 0, 0, 0, 49, 0, 0, 0, 59]
abbrev dktX4_act_2 : List UInt8 := dkwX4_act_2 ++ dktX4_act_3
def dkwX4_act_1 : List UInt8 := [181, 1, 60, 42, 27, 181, 1, 54, 28]
abbrev dktX4_act_1 : List UInt8 := dkwX4_act_1 ++ dktX4_act_2
def dkwX4_act_0 : List UInt8 := [42, 3, 181, 1, 45, 42, 27, 182, 1, 69, 154, 0, 5, 3, 172, 42, 42, 180, 0, 74, 27, 46]
abbrev dktX4_act_0 : List UInt8 := dkwX4_act_0 ++ dktX4_act_1
theorem dksX4_act_0 : cX4_act.data.toList.drop 0 = dktX4_act_0 := by decide +kernel
theorem dksX4_act_1 : cX4_act.data.toList.drop 22 = dktX4_act_1 := dk_seg dksX4_act_0 22 rfl rfl
theorem dksX4_act_2 : cX4_act.data.toList.drop 31 = dktX4_act_2 := dk_seg dksX4_act_1 9 rfl rfl
theorem dksX4_act_3 : cX4_act.data.toList.drop 60 = dktX4_act_3 := dk_seg dksX4_act_2 29 rfl rfl
theorem dksX4_act_4 : cX4_act.data.toList.drop 82 = dktX4_act_4 := dk_seg dksX4_act_3 22 rfl rfl
theorem dX4_act_0 : decode cX4_act 0 = .ok (.aload_n 0, 1) := dk_42 (dk_at dksX4_act_0 0 rfl rfl)
theorem dX4_act_1 : decode cX4_act 1 = .ok (.iconst 0, 1) := dk_3 (dk_at dksX4_act_0 1 rfl rfl)
theorem dX4_act_2 : decode cX4_act 2 = .ok (.putfield 301, 3) := dk_181 1 45 (dk_at dksX4_act_0 2 rfl rfl)
theorem dX4_act_5 : decode cX4_act 5 = .ok (.aload_n 0, 1) := dk_42 (dk_at dksX4_act_0 5 rfl rfl)
theorem dX4_act_6 : decode cX4_act 6 = .ok (.iload_n 1, 1) := dk_27 (dk_at dksX4_act_0 6 rfl rfl)
theorem dX4_act_7 : decode cX4_act 7 = .ok (.invokevirtual 325, 3) := dk_182 1 69 (dk_at dksX4_act_0 7 rfl rfl)
theorem dX4_act_10 : decode cX4_act 10 = .ok (.ifCond .ne 5, 3) := dk_154 0 5 (dk_at dksX4_act_0 10 rfl rfl)
theorem dX4_act_13 : decode cX4_act 13 = .ok (.iconst 0, 1) := dk_3 (dk_at dksX4_act_0 13 rfl rfl)
theorem dX4_act_14 : decode cX4_act 14 = .ok (.ireturn, 1) := dk_172 (dk_at dksX4_act_0 14 rfl rfl)
theorem dX4_act_15 : decode cX4_act 15 = .ok (.aload_n 0, 1) := dk_42 (dk_at dksX4_act_0 15 rfl rfl)
theorem dX4_act_16 : decode cX4_act 16 = .ok (.aload_n 0, 1) := dk_42 (dk_at dksX4_act_0 16 rfl rfl)
theorem dX4_act_17 : decode cX4_act 17 = .ok (.getfield 74, 3) := dk_180 0 74 (dk_at dksX4_act_0 17 rfl rfl)
theorem dX4_act_20 : decode cX4_act 20 = .ok (.iload_n 1, 1) := dk_27 (dk_at dksX4_act_0 20 rfl rfl)
theorem dX4_act_21 : decode cX4_act 21 = .ok (.iaload, 1) := dk_46 (dk_at dksX4_act_0 21 rfl rfl)
theorem dX4_act_22 : decode cX4_act 22 = .ok (.putfield 316, 3) := dk_181 1 60 (dk_at dksX4_act_1 0 rfl rfl)
theorem dX4_act_25 : decode cX4_act 25 = .ok (.aload_n 0, 1) := dk_42 (dk_at dksX4_act_1 3 rfl rfl)
theorem dX4_act_26 : decode cX4_act 26 = .ok (.iload_n 1, 1) := dk_27 (dk_at dksX4_act_1 4 rfl rfl)
theorem dX4_act_27 : decode cX4_act 27 = .ok (.putfield 310, 3) := dk_181 1 54 (dk_at dksX4_act_1 5 rfl rfl)
theorem dX4_act_30 : decode cX4_act 30 = .ok (.iload_n 2, 1) := dk_28 (dk_at dksX4_act_1 8 rfl rfl)
theorem dX4_act_31 : decode cX4_act 31 = .ok (.tableswitch 69 0 3 #[29, 39, 49, 59], 29) := by decide +kernel
theorem dX4_act_60 : decode cX4_act 60 = .ok (.aload_n 0, 1) := dk_42 (dk_at dksX4_act_3 0 rfl rfl)
theorem dX4_act_61 : decode cX4_act 61 = .ok (.aload_n 0, 1) := dk_42 (dk_at dksX4_act_3 1 rfl rfl)
theorem dX4_act_62 : decode cX4_act 62 = .ok (.getfield 316, 3) := dk_180 1 60 (dk_at dksX4_act_3 2 rfl rfl)
theorem dX4_act_65 : decode cX4_act 65 = .ok (.iload_n 3, 1) := dk_29 (dk_at dksX4_act_3 5 rfl rfl)
theorem dX4_act_66 : decode cX4_act 66 = .ok (.invokevirtual 307, 3) := dk_182 1 51 (dk_at dksX4_act_3 6 rfl rfl)
theorem dX4_act_69 : decode cX4_act 69 = .ok (.ireturn, 1) := dk_172 (dk_at dksX4_act_3 9 rfl rfl)
theorem dX4_act_70 : decode cX4_act 70 = .ok (.aload_n 0, 1) := dk_42 (dk_at dksX4_act_3 10 rfl rfl)
theorem dX4_act_71 : decode cX4_act 71 = .ok (.aload_n 0, 1) := dk_42 (dk_at dksX4_act_3 11 rfl rfl)
theorem dX4_act_72 : decode cX4_act 72 = .ok (.getfield 316, 3) := dk_180 1 60 (dk_at dksX4_act_3 12 rfl rfl)
theorem dX4_act_75 : decode cX4_act 75 = .ok (.iload_n 3, 1) := dk_29 (dk_at dksX4_act_3 15 rfl rfl)
theorem dX4_act_76 : decode cX4_act 76 = .ok (.invokevirtual 313, 3) := dk_182 1 57 (dk_at dksX4_act_3 16 rfl rfl)
theorem dX4_act_79 : decode cX4_act 79 = .ok (.ireturn, 1) := dk_172 (dk_at dksX4_act_3 19 rfl rfl)
theorem dX4_act_80 : decode cX4_act 80 = .ok (.aload_n 0, 1) := dk_42 (dk_at dksX4_act_3 20 rfl rfl)
theorem dX4_act_81 : decode cX4_act 81 = .ok (.aload_n 0, 1) := dk_42 (dk_at dksX4_act_3 21 rfl rfl)
theorem dX4_act_82 : decode cX4_act 82 = .ok (.getfield 316, 3) := dk_180 1 60 (dk_at dksX4_act_4 0 rfl rfl)
theorem dX4_act_85 : decode cX4_act 85 = .ok (.iload_n 3, 1) := dk_29 (dk_at dksX4_act_4 3 rfl rfl)
theorem dX4_act_86 : decode cX4_act 86 = .ok (.invokevirtual 319, 3) := dk_182 1 63 (dk_at dksX4_act_4 4 rfl rfl)
theorem dX4_act_89 : decode cX4_act 89 = .ok (.ireturn, 1) := dk_172 (dk_at dksX4_act_4 7 rfl rfl)
theorem dX4_act_90 : decode cX4_act 90 = .ok (.aload_n 0, 1) := dk_42 (dk_at dksX4_act_4 8 rfl rfl)
theorem dX4_act_91 : decode cX4_act 91 = .ok (.aload_n 0, 1) := dk_42 (dk_at dksX4_act_4 9 rfl rfl)
theorem dX4_act_92 : decode cX4_act 92 = .ok (.getfield 316, 3) := dk_180 1 60 (dk_at dksX4_act_4 10 rfl rfl)
theorem dX4_act_95 : decode cX4_act 95 = .ok (.iload_n 3, 1) := dk_29 (dk_at dksX4_act_4 13 rfl rfl)
theorem dX4_act_96 : decode cX4_act 96 = .ok (.invokevirtual 322, 3) := dk_182 1 66 (dk_at dksX4_act_4 14 rfl rfl)
theorem dX4_act_99 : decode cX4_act 99 = .ok (.ireturn, 1) := dk_172 (dk_at dksX4_act_4 17 rfl rfl)
theorem dX4_act_100 : decode cX4_act 100 = .ok (.iconst 0, 1) := dk_3 (dk_at dksX4_act_4 18 rfl rfl)
theorem dX4_act_101 : decode cX4_act 101 = .ok (.ireturn, 1) := dk_172 (dk_at dksX4_act_4 19 rfl rfl)
abbrev cX4_isBody : ByteArray := prog_34_method_69_code
def yX4_isBody : MethodName := ⟨RX4, "isBody", "(I)Z"⟩
def dkwX4_isBody_0 : List UInt8 := [27, 133, 9, 42, 180, 1, 40, 4, 100, 133, 184, 0, 102, 172]
abbrev dktX4_isBody_0 : List UInt8 := dkwX4_isBody_0 ++ []
theorem dksX4_isBody_0 : cX4_isBody.data.toList.drop 0 = dktX4_isBody_0 := by decide +kernel
theorem dX4_isBody_0 : decode cX4_isBody 0 = .ok (.iload_n 1, 1) := dk_27 (dk_at dksX4_isBody_0 0 rfl rfl)
theorem dX4_isBody_1 : decode cX4_isBody 1 = .ok (.i2l, 1) := dk_133 (dk_at dksX4_isBody_0 1 rfl rfl)
theorem dX4_isBody_2 : decode cX4_isBody 2 = .ok (.lconst 0, 1) := dk_9 (dk_at dksX4_isBody_0 2 rfl rfl)
theorem dX4_isBody_3 : decode cX4_isBody 3 = .ok (.aload_n 0, 1) := dk_42 (dk_at dksX4_isBody_0 3 rfl rfl)
theorem dX4_isBody_4 : decode cX4_isBody 4 = .ok (.getfield 296, 3) := dk_180 1 40 (dk_at dksX4_isBody_0 4 rfl rfl)
theorem dX4_isBody_7 : decode cX4_isBody 7 = .ok (.iconst 1, 1) := dk_4 (dk_at dksX4_isBody_0 7 rfl rfl)
theorem dX4_isBody_8 : decode cX4_isBody 8 = .ok (.isub, 1) := dk_100 (dk_at dksX4_isBody_0 8 rfl rfl)
theorem dX4_isBody_9 : decode cX4_isBody 9 = .ok (.i2l, 1) := dk_133 (dk_at dksX4_isBody_0 9 rfl rfl)
theorem dX4_isBody_10 : decode cX4_isBody 10 = .ok (.invokestatic 102, 3) := dk_184 0 102 (dk_at dksX4_isBody_0 10 rfl rfl)
theorem dX4_isBody_13 : decode cX4_isBody 13 = .ok (.ireturn, 1) := dk_172 (dk_at dksX4_isBody_0 13 rfl rfl)
abbrev cX4_agesAs : ByteArray := prog_34_method_74_code
def yX4_agesAs : MethodName := ⟨RX4, "agesAs", "(II)I"⟩
def dkwX4_agesAs_2 : List UInt8 := [182, 1, 51, 5, 104, 172, 42, 4, 182, 1, 48, 28, 42, 180, 1, 54, 96, 172]
abbrev dktX4_agesAs_2 : List UInt8 := dkwX4_agesAs_2 ++ []
def dkwX4_agesAs_1 : List UInt8 := [28, 182, 1, 51, 6, 96, 172, 27, 16, 6, 160, 0, 18, 42, 16, 70, 182, 1, 48, 42, 3, 28]
abbrev dktX4_agesAs_1 : List UInt8 := dkwX4_agesAs_1 ++ dktX4_agesAs_2
def dkwX4_agesAs_0 : List UInt8 := [27, 4, 159, 0, 14, 27, 7, 159, 0, 9, 27, 16, 7, 160, 0, 18, 42, 16, 20, 182, 1, 48, 42, 3]
abbrev dktX4_agesAs_0 : List UInt8 := dkwX4_agesAs_0 ++ dktX4_agesAs_1
theorem dksX4_agesAs_0 : cX4_agesAs.data.toList.drop 0 = dktX4_agesAs_0 := by decide +kernel
theorem dksX4_agesAs_1 : cX4_agesAs.data.toList.drop 24 = dktX4_agesAs_1 := dk_seg dksX4_agesAs_0 24 rfl rfl
theorem dksX4_agesAs_2 : cX4_agesAs.data.toList.drop 46 = dktX4_agesAs_2 := dk_seg dksX4_agesAs_1 22 rfl rfl
theorem dX4_agesAs_0 : decode cX4_agesAs 0 = .ok (.iload_n 1, 1) := dk_27 (dk_at dksX4_agesAs_0 0 rfl rfl)
theorem dX4_agesAs_1 : decode cX4_agesAs 1 = .ok (.iconst 1, 1) := dk_4 (dk_at dksX4_agesAs_0 1 rfl rfl)
theorem dX4_agesAs_2 : decode cX4_agesAs 2 = .ok (.if_icmp .eq 14, 3) := dk_159 0 14 (dk_at dksX4_agesAs_0 2 rfl rfl)
theorem dX4_agesAs_5 : decode cX4_agesAs 5 = .ok (.iload_n 1, 1) := dk_27 (dk_at dksX4_agesAs_0 5 rfl rfl)
theorem dX4_agesAs_6 : decode cX4_agesAs 6 = .ok (.iconst 4, 1) := dk_7 (dk_at dksX4_agesAs_0 6 rfl rfl)
theorem dX4_agesAs_7 : decode cX4_agesAs 7 = .ok (.if_icmp .eq 9, 3) := dk_159 0 9 (dk_at dksX4_agesAs_0 7 rfl rfl)
theorem dX4_agesAs_10 : decode cX4_agesAs 10 = .ok (.iload_n 1, 1) := dk_27 (dk_at dksX4_agesAs_0 10 rfl rfl)
theorem dX4_agesAs_11 : decode cX4_agesAs 11 = .ok (.bipush 7, 2) := dk_16 7 (dk_at dksX4_agesAs_0 11 rfl rfl)
theorem dX4_agesAs_13 : decode cX4_agesAs 13 = .ok (.if_icmp .ne 18, 3) := dk_160 0 18 (dk_at dksX4_agesAs_0 13 rfl rfl)
theorem dX4_agesAs_16 : decode cX4_agesAs 16 = .ok (.aload_n 0, 1) := dk_42 (dk_at dksX4_agesAs_0 16 rfl rfl)
theorem dX4_agesAs_17 : decode cX4_agesAs 17 = .ok (.bipush 20, 2) := dk_16 20 (dk_at dksX4_agesAs_0 17 rfl rfl)
theorem dX4_agesAs_19 : decode cX4_agesAs 19 = .ok (.invokevirtual 304, 3) := dk_182 1 48 (dk_at dksX4_agesAs_0 19 rfl rfl)
theorem dX4_agesAs_22 : decode cX4_agesAs 22 = .ok (.aload_n 0, 1) := dk_42 (dk_at dksX4_agesAs_0 22 rfl rfl)
theorem dX4_agesAs_23 : decode cX4_agesAs 23 = .ok (.iconst 0, 1) := dk_3 (dk_at dksX4_agesAs_0 23 rfl rfl)
theorem dX4_agesAs_24 : decode cX4_agesAs 24 = .ok (.iload_n 2, 1) := dk_28 (dk_at dksX4_agesAs_1 0 rfl rfl)
theorem dX4_agesAs_25 : decode cX4_agesAs 25 = .ok (.invokevirtual 307, 3) := dk_182 1 51 (dk_at dksX4_agesAs_1 1 rfl rfl)
theorem dX4_agesAs_28 : decode cX4_agesAs 28 = .ok (.iconst 3, 1) := dk_6 (dk_at dksX4_agesAs_1 4 rfl rfl)
theorem dX4_agesAs_29 : decode cX4_agesAs 29 = .ok (.iadd, 1) := dk_96 (dk_at dksX4_agesAs_1 5 rfl rfl)
theorem dX4_agesAs_30 : decode cX4_agesAs 30 = .ok (.ireturn, 1) := dk_172 (dk_at dksX4_agesAs_1 6 rfl rfl)
theorem dX4_agesAs_31 : decode cX4_agesAs 31 = .ok (.iload_n 1, 1) := dk_27 (dk_at dksX4_agesAs_1 7 rfl rfl)
theorem dX4_agesAs_32 : decode cX4_agesAs 32 = .ok (.bipush 6, 2) := dk_16 6 (dk_at dksX4_agesAs_1 8 rfl rfl)
theorem dX4_agesAs_34 : decode cX4_agesAs 34 = .ok (.if_icmp .ne 18, 3) := dk_160 0 18 (dk_at dksX4_agesAs_1 10 rfl rfl)
theorem dX4_agesAs_37 : decode cX4_agesAs 37 = .ok (.aload_n 0, 1) := dk_42 (dk_at dksX4_agesAs_1 13 rfl rfl)
theorem dX4_agesAs_38 : decode cX4_agesAs 38 = .ok (.bipush 70, 2) := dk_16 70 (dk_at dksX4_agesAs_1 14 rfl rfl)
theorem dX4_agesAs_40 : decode cX4_agesAs 40 = .ok (.invokevirtual 304, 3) := dk_182 1 48 (dk_at dksX4_agesAs_1 16 rfl rfl)
theorem dX4_agesAs_43 : decode cX4_agesAs 43 = .ok (.aload_n 0, 1) := dk_42 (dk_at dksX4_agesAs_1 19 rfl rfl)
theorem dX4_agesAs_44 : decode cX4_agesAs 44 = .ok (.iconst 0, 1) := dk_3 (dk_at dksX4_agesAs_1 20 rfl rfl)
theorem dX4_agesAs_45 : decode cX4_agesAs 45 = .ok (.iload_n 2, 1) := dk_28 (dk_at dksX4_agesAs_1 21 rfl rfl)
theorem dX4_agesAs_46 : decode cX4_agesAs 46 = .ok (.invokevirtual 307, 3) := dk_182 1 51 (dk_at dksX4_agesAs_2 0 rfl rfl)
theorem dX4_agesAs_49 : decode cX4_agesAs 49 = .ok (.iconst 2, 1) := dk_5 (dk_at dksX4_agesAs_2 3 rfl rfl)
theorem dX4_agesAs_50 : decode cX4_agesAs 50 = .ok (.imul, 1) := dk_104 (dk_at dksX4_agesAs_2 4 rfl rfl)
theorem dX4_agesAs_51 : decode cX4_agesAs 51 = .ok (.ireturn, 1) := dk_172 (dk_at dksX4_agesAs_2 5 rfl rfl)
theorem dX4_agesAs_52 : decode cX4_agesAs 52 = .ok (.aload_n 0, 1) := dk_42 (dk_at dksX4_agesAs_2 6 rfl rfl)
theorem dX4_agesAs_53 : decode cX4_agesAs 53 = .ok (.iconst 1, 1) := dk_4 (dk_at dksX4_agesAs_2 7 rfl rfl)
theorem dX4_agesAs_54 : decode cX4_agesAs 54 = .ok (.invokevirtual 304, 3) := dk_182 1 48 (dk_at dksX4_agesAs_2 8 rfl rfl)
theorem dX4_agesAs_57 : decode cX4_agesAs 57 = .ok (.iload_n 2, 1) := dk_28 (dk_at dksX4_agesAs_2 11 rfl rfl)
theorem dX4_agesAs_58 : decode cX4_agesAs 58 = .ok (.aload_n 0, 1) := dk_42 (dk_at dksX4_agesAs_2 12 rfl rfl)
theorem dX4_agesAs_59 : decode cX4_agesAs 59 = .ok (.getfield 310, 3) := dk_180 1 54 (dk_at dksX4_agesAs_2 13 rfl rfl)
theorem dX4_agesAs_62 : decode cX4_agesAs 62 = .ok (.iadd, 1) := dk_96 (dk_at dksX4_agesAs_2 16 rfl rfl)
theorem dX4_agesAs_63 : decode cX4_agesAs 63 = .ok (.ireturn, 1) := dk_172 (dk_at dksX4_agesAs_2 17 rfl rfl)
abbrev cX4_begins : ByteArray := prog_34_method_73_code
def yX4_begins : MethodName := ⟨RX4, "begins", "(I)V"⟩
def dkwX4_begins_1 : List UInt8 := [4, 96, 181, 1, 45, 177]
abbrev dktX4_begins_1 : List UInt8 := dkwX4_begins_1 ++ []
def dkwX4_begins_0 : List UInt8 := [42, 180, 1, 45, 16, 24, 162, 0, 13, 42, 180, 0, 77, 42, 180, 1, 45, 27, 79, 42, 89, 180, 1, 45]
abbrev dktX4_begins_0 : List UInt8 := dkwX4_begins_0 ++ dktX4_begins_1
theorem dksX4_begins_0 : cX4_begins.data.toList.drop 0 = dktX4_begins_0 := by decide +kernel
theorem dksX4_begins_1 : cX4_begins.data.toList.drop 24 = dktX4_begins_1 := dk_seg dksX4_begins_0 24 rfl rfl
theorem dX4_begins_0 : decode cX4_begins 0 = .ok (.aload_n 0, 1) := dk_42 (dk_at dksX4_begins_0 0 rfl rfl)
theorem dX4_begins_1 : decode cX4_begins 1 = .ok (.getfield 301, 3) := dk_180 1 45 (dk_at dksX4_begins_0 1 rfl rfl)
theorem dX4_begins_4 : decode cX4_begins 4 = .ok (.bipush 24, 2) := dk_16 24 (dk_at dksX4_begins_0 4 rfl rfl)
theorem dX4_begins_6 : decode cX4_begins 6 = .ok (.if_icmp .ge 13, 3) := dk_162 0 13 (dk_at dksX4_begins_0 6 rfl rfl)
theorem dX4_begins_9 : decode cX4_begins 9 = .ok (.aload_n 0, 1) := dk_42 (dk_at dksX4_begins_0 9 rfl rfl)
theorem dX4_begins_10 : decode cX4_begins 10 = .ok (.getfield 77, 3) := dk_180 0 77 (dk_at dksX4_begins_0 10 rfl rfl)
theorem dX4_begins_13 : decode cX4_begins 13 = .ok (.aload_n 0, 1) := dk_42 (dk_at dksX4_begins_0 13 rfl rfl)
theorem dX4_begins_14 : decode cX4_begins 14 = .ok (.getfield 301, 3) := dk_180 1 45 (dk_at dksX4_begins_0 14 rfl rfl)
theorem dX4_begins_17 : decode cX4_begins 17 = .ok (.iload_n 1, 1) := dk_27 (dk_at dksX4_begins_0 17 rfl rfl)
theorem dX4_begins_18 : decode cX4_begins 18 = .ok (.iastore, 1) := dk_79 (dk_at dksX4_begins_0 18 rfl rfl)
theorem dX4_begins_19 : decode cX4_begins 19 = .ok (.aload_n 0, 1) := dk_42 (dk_at dksX4_begins_0 19 rfl rfl)
theorem dX4_begins_20 : decode cX4_begins 20 = .ok (.dup, 1) := dk_89 (dk_at dksX4_begins_0 20 rfl rfl)
theorem dX4_begins_21 : decode cX4_begins 21 = .ok (.getfield 301, 3) := dk_180 1 45 (dk_at dksX4_begins_0 21 rfl rfl)
theorem dX4_begins_24 : decode cX4_begins 24 = .ok (.iconst 1, 1) := dk_4 (dk_at dksX4_begins_1 0 rfl rfl)
theorem dX4_begins_25 : decode cX4_begins 25 = .ok (.iadd, 1) := dk_96 (dk_at dksX4_begins_1 1 rfl rfl)
theorem dX4_begins_26 : decode cX4_begins 26 = .ok (.putfield 301, 3) := dk_181 1 45 (dk_at dksX4_begins_1 2 rfl rfl)
theorem dX4_begins_29 : decode cX4_begins 29 = .ok (.return_, 1) := dk_177 (dk_at dksX4_begins_1 5 rfl rfl)
abbrev cX4_joinsAs : ByteArray := prog_34_method_75_code
def yX4_joinsAs : MethodName := ⟨RX4, "joinsAs", "(II)I"⟩
def dkwX4_joinsAs_3 : List UInt8 := [182, 1, 63, 96, 172, 42, 16, 10, 182, 1, 48, 42, 42, 180, 1, 60, 28, 182, 1, 51, 5, 104, 172]
abbrev dktX4_joinsAs_3 : List UInt8 := dkwX4_joinsAs_3 ++ []
def dkwX4_joinsAs_2 : List UInt8 := [160, 0, 28, 42, 16, 80, 182, 1, 48, 42, 7, 28, 182, 1, 57, 62, 29, 42, 42, 180, 1, 60, 5]
abbrev dktX4_joinsAs_2 : List UInt8 := dkwX4_joinsAs_2 ++ dktX4_joinsAs_3
def dkwX4_joinsAs_1 : List UInt8 := [172, 27, 5, 160, 0, 17, 42, 16, 30, 182, 1, 48, 42, 3, 28, 182, 1, 57, 116, 172, 27, 16, 7]
abbrev dktX4_joinsAs_1 : List UInt8 := dkwX4_joinsAs_1 ++ dktX4_joinsAs_2
def dkwX4_joinsAs_0 : List UInt8 := [27, 6, 159, 0, 8, 27, 8, 160, 0, 18, 42, 16, 41, 182, 1, 48, 42, 5, 28, 4, 96, 182, 1, 57]
abbrev dktX4_joinsAs_0 : List UInt8 := dkwX4_joinsAs_0 ++ dktX4_joinsAs_1
theorem dksX4_joinsAs_0 : cX4_joinsAs.data.toList.drop 0 = dktX4_joinsAs_0 := by decide +kernel
theorem dksX4_joinsAs_1 : cX4_joinsAs.data.toList.drop 24 = dktX4_joinsAs_1 := dk_seg dksX4_joinsAs_0 24 rfl rfl
theorem dksX4_joinsAs_2 : cX4_joinsAs.data.toList.drop 47 = dktX4_joinsAs_2 := dk_seg dksX4_joinsAs_1 23 rfl rfl
theorem dksX4_joinsAs_3 : cX4_joinsAs.data.toList.drop 70 = dktX4_joinsAs_3 := dk_seg dksX4_joinsAs_2 23 rfl rfl
theorem dX4_joinsAs_0 : decode cX4_joinsAs 0 = .ok (.iload_n 1, 1) := dk_27 (dk_at dksX4_joinsAs_0 0 rfl rfl)
theorem dX4_joinsAs_1 : decode cX4_joinsAs 1 = .ok (.iconst 3, 1) := dk_6 (dk_at dksX4_joinsAs_0 1 rfl rfl)
theorem dX4_joinsAs_2 : decode cX4_joinsAs 2 = .ok (.if_icmp .eq 8, 3) := dk_159 0 8 (dk_at dksX4_joinsAs_0 2 rfl rfl)
theorem dX4_joinsAs_5 : decode cX4_joinsAs 5 = .ok (.iload_n 1, 1) := dk_27 (dk_at dksX4_joinsAs_0 5 rfl rfl)
theorem dX4_joinsAs_6 : decode cX4_joinsAs 6 = .ok (.iconst 5, 1) := dk_8 (dk_at dksX4_joinsAs_0 6 rfl rfl)
theorem dX4_joinsAs_7 : decode cX4_joinsAs 7 = .ok (.if_icmp .ne 18, 3) := dk_160 0 18 (dk_at dksX4_joinsAs_0 7 rfl rfl)
theorem dX4_joinsAs_10 : decode cX4_joinsAs 10 = .ok (.aload_n 0, 1) := dk_42 (dk_at dksX4_joinsAs_0 10 rfl rfl)
theorem dX4_joinsAs_11 : decode cX4_joinsAs 11 = .ok (.bipush 41, 2) := dk_16 41 (dk_at dksX4_joinsAs_0 11 rfl rfl)
theorem dX4_joinsAs_13 : decode cX4_joinsAs 13 = .ok (.invokevirtual 304, 3) := dk_182 1 48 (dk_at dksX4_joinsAs_0 13 rfl rfl)
theorem dX4_joinsAs_16 : decode cX4_joinsAs 16 = .ok (.aload_n 0, 1) := dk_42 (dk_at dksX4_joinsAs_0 16 rfl rfl)
theorem dX4_joinsAs_17 : decode cX4_joinsAs 17 = .ok (.iconst 2, 1) := dk_5 (dk_at dksX4_joinsAs_0 17 rfl rfl)
theorem dX4_joinsAs_18 : decode cX4_joinsAs 18 = .ok (.iload_n 2, 1) := dk_28 (dk_at dksX4_joinsAs_0 18 rfl rfl)
theorem dX4_joinsAs_19 : decode cX4_joinsAs 19 = .ok (.iconst 1, 1) := dk_4 (dk_at dksX4_joinsAs_0 19 rfl rfl)
theorem dX4_joinsAs_20 : decode cX4_joinsAs 20 = .ok (.iadd, 1) := dk_96 (dk_at dksX4_joinsAs_0 20 rfl rfl)
theorem dX4_joinsAs_21 : decode cX4_joinsAs 21 = .ok (.invokevirtual 313, 3) := dk_182 1 57 (dk_at dksX4_joinsAs_0 21 rfl rfl)
theorem dX4_joinsAs_24 : decode cX4_joinsAs 24 = .ok (.ireturn, 1) := dk_172 (dk_at dksX4_joinsAs_1 0 rfl rfl)
theorem dX4_joinsAs_25 : decode cX4_joinsAs 25 = .ok (.iload_n 1, 1) := dk_27 (dk_at dksX4_joinsAs_1 1 rfl rfl)
theorem dX4_joinsAs_26 : decode cX4_joinsAs 26 = .ok (.iconst 2, 1) := dk_5 (dk_at dksX4_joinsAs_1 2 rfl rfl)
theorem dX4_joinsAs_27 : decode cX4_joinsAs 27 = .ok (.if_icmp .ne 17, 3) := dk_160 0 17 (dk_at dksX4_joinsAs_1 3 rfl rfl)
theorem dX4_joinsAs_30 : decode cX4_joinsAs 30 = .ok (.aload_n 0, 1) := dk_42 (dk_at dksX4_joinsAs_1 6 rfl rfl)
theorem dX4_joinsAs_31 : decode cX4_joinsAs 31 = .ok (.bipush 30, 2) := dk_16 30 (dk_at dksX4_joinsAs_1 7 rfl rfl)
theorem dX4_joinsAs_33 : decode cX4_joinsAs 33 = .ok (.invokevirtual 304, 3) := dk_182 1 48 (dk_at dksX4_joinsAs_1 9 rfl rfl)
theorem dX4_joinsAs_36 : decode cX4_joinsAs 36 = .ok (.aload_n 0, 1) := dk_42 (dk_at dksX4_joinsAs_1 12 rfl rfl)
theorem dX4_joinsAs_37 : decode cX4_joinsAs 37 = .ok (.iconst 0, 1) := dk_3 (dk_at dksX4_joinsAs_1 13 rfl rfl)
theorem dX4_joinsAs_38 : decode cX4_joinsAs 38 = .ok (.iload_n 2, 1) := dk_28 (dk_at dksX4_joinsAs_1 14 rfl rfl)
theorem dX4_joinsAs_39 : decode cX4_joinsAs 39 = .ok (.invokevirtual 313, 3) := dk_182 1 57 (dk_at dksX4_joinsAs_1 15 rfl rfl)
theorem dX4_joinsAs_42 : decode cX4_joinsAs 42 = .ok (.ineg, 1) := dk_116 (dk_at dksX4_joinsAs_1 18 rfl rfl)
theorem dX4_joinsAs_43 : decode cX4_joinsAs 43 = .ok (.ireturn, 1) := dk_172 (dk_at dksX4_joinsAs_1 19 rfl rfl)
theorem dX4_joinsAs_44 : decode cX4_joinsAs 44 = .ok (.iload_n 1, 1) := dk_27 (dk_at dksX4_joinsAs_1 20 rfl rfl)
theorem dX4_joinsAs_45 : decode cX4_joinsAs 45 = .ok (.bipush 7, 2) := dk_16 7 (dk_at dksX4_joinsAs_1 21 rfl rfl)
theorem dX4_joinsAs_47 : decode cX4_joinsAs 47 = .ok (.if_icmp .ne 28, 3) := dk_160 0 28 (dk_at dksX4_joinsAs_2 0 rfl rfl)
theorem dX4_joinsAs_50 : decode cX4_joinsAs 50 = .ok (.aload_n 0, 1) := dk_42 (dk_at dksX4_joinsAs_2 3 rfl rfl)
theorem dX4_joinsAs_51 : decode cX4_joinsAs 51 = .ok (.bipush 80, 2) := dk_16 80 (dk_at dksX4_joinsAs_2 4 rfl rfl)
theorem dX4_joinsAs_53 : decode cX4_joinsAs 53 = .ok (.invokevirtual 304, 3) := dk_182 1 48 (dk_at dksX4_joinsAs_2 6 rfl rfl)
theorem dX4_joinsAs_56 : decode cX4_joinsAs 56 = .ok (.aload_n 0, 1) := dk_42 (dk_at dksX4_joinsAs_2 9 rfl rfl)
theorem dX4_joinsAs_57 : decode cX4_joinsAs 57 = .ok (.iconst 4, 1) := dk_7 (dk_at dksX4_joinsAs_2 10 rfl rfl)
theorem dX4_joinsAs_58 : decode cX4_joinsAs 58 = .ok (.iload_n 2, 1) := dk_28 (dk_at dksX4_joinsAs_2 11 rfl rfl)
theorem dX4_joinsAs_59 : decode cX4_joinsAs 59 = .ok (.invokevirtual 313, 3) := dk_182 1 57 (dk_at dksX4_joinsAs_2 12 rfl rfl)
theorem dX4_joinsAs_62 : decode cX4_joinsAs 62 = .ok (.istore_n 3, 1) := dk_62 (dk_at dksX4_joinsAs_2 15 rfl rfl)
theorem dX4_joinsAs_63 : decode cX4_joinsAs 63 = .ok (.iload_n 3, 1) := dk_29 (dk_at dksX4_joinsAs_2 16 rfl rfl)
theorem dX4_joinsAs_64 : decode cX4_joinsAs 64 = .ok (.aload_n 0, 1) := dk_42 (dk_at dksX4_joinsAs_2 17 rfl rfl)
theorem dX4_joinsAs_65 : decode cX4_joinsAs 65 = .ok (.aload_n 0, 1) := dk_42 (dk_at dksX4_joinsAs_2 18 rfl rfl)
theorem dX4_joinsAs_66 : decode cX4_joinsAs 66 = .ok (.getfield 316, 3) := dk_180 1 60 (dk_at dksX4_joinsAs_2 19 rfl rfl)
theorem dX4_joinsAs_69 : decode cX4_joinsAs 69 = .ok (.iconst 2, 1) := dk_5 (dk_at dksX4_joinsAs_2 22 rfl rfl)
theorem dX4_joinsAs_70 : decode cX4_joinsAs 70 = .ok (.invokevirtual 319, 3) := dk_182 1 63 (dk_at dksX4_joinsAs_3 0 rfl rfl)
theorem dX4_joinsAs_73 : decode cX4_joinsAs 73 = .ok (.iadd, 1) := dk_96 (dk_at dksX4_joinsAs_3 3 rfl rfl)
theorem dX4_joinsAs_74 : decode cX4_joinsAs 74 = .ok (.ireturn, 1) := dk_172 (dk_at dksX4_joinsAs_3 4 rfl rfl)
theorem dX4_joinsAs_75 : decode cX4_joinsAs 75 = .ok (.aload_n 0, 1) := dk_42 (dk_at dksX4_joinsAs_3 5 rfl rfl)
theorem dX4_joinsAs_76 : decode cX4_joinsAs 76 = .ok (.bipush 10, 2) := dk_16 10 (dk_at dksX4_joinsAs_3 6 rfl rfl)
theorem dX4_joinsAs_78 : decode cX4_joinsAs 78 = .ok (.invokevirtual 304, 3) := dk_182 1 48 (dk_at dksX4_joinsAs_3 8 rfl rfl)
theorem dX4_joinsAs_81 : decode cX4_joinsAs 81 = .ok (.aload_n 0, 1) := dk_42 (dk_at dksX4_joinsAs_3 11 rfl rfl)
theorem dX4_joinsAs_82 : decode cX4_joinsAs 82 = .ok (.aload_n 0, 1) := dk_42 (dk_at dksX4_joinsAs_3 12 rfl rfl)
theorem dX4_joinsAs_83 : decode cX4_joinsAs 83 = .ok (.getfield 316, 3) := dk_180 1 60 (dk_at dksX4_joinsAs_3 13 rfl rfl)
theorem dX4_joinsAs_86 : decode cX4_joinsAs 86 = .ok (.iload_n 2, 1) := dk_28 (dk_at dksX4_joinsAs_3 16 rfl rfl)
theorem dX4_joinsAs_87 : decode cX4_joinsAs 87 = .ok (.invokevirtual 307, 3) := dk_182 1 51 (dk_at dksX4_joinsAs_3 17 rfl rfl)
theorem dX4_joinsAs_90 : decode cX4_joinsAs 90 = .ok (.iconst 2, 1) := dk_5 (dk_at dksX4_joinsAs_3 20 rfl rfl)
theorem dX4_joinsAs_91 : decode cX4_joinsAs 91 = .ok (.imul, 1) := dk_104 (dk_at dksX4_joinsAs_3 21 rfl rfl)
theorem dX4_joinsAs_92 : decode cX4_joinsAs 92 = .ok (.ireturn, 1) := dk_172 (dk_at dksX4_joinsAs_3 22 rfl rfl)
abbrev cX4_showsAs : ByteArray := prog_34_method_76_code
def yX4_showsAs : MethodName := ⟨RX4, "showsAs", "(II)I"⟩
def dkwX4_showsAs_3 : List UInt8 := [130, 172]
abbrev dktX4_showsAs_3 : List UInt8 := dkwX4_showsAs_3 ++ []
def dkwX4_showsAs_2 : List UInt8 := [62, 29, 42, 42, 180, 1, 60, 5, 182, 1, 51, 100, 172, 42, 16, 11, 182, 1, 48, 28, 42, 180, 1, 54]
abbrev dktX4_showsAs_2 : List UInt8 := dkwX4_showsAs_2 ++ dktX4_showsAs_3
def dkwX4_showsAs_1 : List UInt8 := [172, 27, 7, 159, 0, 9, 27, 16, 7, 160, 0, 28, 42, 16, 50, 182, 1, 48, 42, 4, 28, 182, 1, 63]
abbrev dktX4_showsAs_1 : List UInt8 := dkwX4_showsAs_1 ++ dktX4_showsAs_2
def dkwX4_showsAs_0 : List UInt8 := [27, 6, 159, 0, 8, 27, 8, 160, 0, 18, 42, 16, 40, 182, 1, 48, 42, 5, 28, 182, 1, 63, 6, 104]
abbrev dktX4_showsAs_0 : List UInt8 := dkwX4_showsAs_0 ++ dktX4_showsAs_1
theorem dksX4_showsAs_0 : cX4_showsAs.data.toList.drop 0 = dktX4_showsAs_0 := by decide +kernel
theorem dksX4_showsAs_1 : cX4_showsAs.data.toList.drop 24 = dktX4_showsAs_1 := dk_seg dksX4_showsAs_0 24 rfl rfl
theorem dksX4_showsAs_2 : cX4_showsAs.data.toList.drop 48 = dktX4_showsAs_2 := dk_seg dksX4_showsAs_1 24 rfl rfl
theorem dksX4_showsAs_3 : cX4_showsAs.data.toList.drop 72 = dktX4_showsAs_3 := dk_seg dksX4_showsAs_2 24 rfl rfl
theorem dX4_showsAs_0 : decode cX4_showsAs 0 = .ok (.iload_n 1, 1) := dk_27 (dk_at dksX4_showsAs_0 0 rfl rfl)
theorem dX4_showsAs_1 : decode cX4_showsAs 1 = .ok (.iconst 3, 1) := dk_6 (dk_at dksX4_showsAs_0 1 rfl rfl)
theorem dX4_showsAs_2 : decode cX4_showsAs 2 = .ok (.if_icmp .eq 8, 3) := dk_159 0 8 (dk_at dksX4_showsAs_0 2 rfl rfl)
theorem dX4_showsAs_5 : decode cX4_showsAs 5 = .ok (.iload_n 1, 1) := dk_27 (dk_at dksX4_showsAs_0 5 rfl rfl)
theorem dX4_showsAs_6 : decode cX4_showsAs 6 = .ok (.iconst 5, 1) := dk_8 (dk_at dksX4_showsAs_0 6 rfl rfl)
theorem dX4_showsAs_7 : decode cX4_showsAs 7 = .ok (.if_icmp .ne 18, 3) := dk_160 0 18 (dk_at dksX4_showsAs_0 7 rfl rfl)
theorem dX4_showsAs_10 : decode cX4_showsAs 10 = .ok (.aload_n 0, 1) := dk_42 (dk_at dksX4_showsAs_0 10 rfl rfl)
theorem dX4_showsAs_11 : decode cX4_showsAs 11 = .ok (.bipush 40, 2) := dk_16 40 (dk_at dksX4_showsAs_0 11 rfl rfl)
theorem dX4_showsAs_13 : decode cX4_showsAs 13 = .ok (.invokevirtual 304, 3) := dk_182 1 48 (dk_at dksX4_showsAs_0 13 rfl rfl)
theorem dX4_showsAs_16 : decode cX4_showsAs 16 = .ok (.aload_n 0, 1) := dk_42 (dk_at dksX4_showsAs_0 16 rfl rfl)
theorem dX4_showsAs_17 : decode cX4_showsAs 17 = .ok (.iconst 2, 1) := dk_5 (dk_at dksX4_showsAs_0 17 rfl rfl)
theorem dX4_showsAs_18 : decode cX4_showsAs 18 = .ok (.iload_n 2, 1) := dk_28 (dk_at dksX4_showsAs_0 18 rfl rfl)
theorem dX4_showsAs_19 : decode cX4_showsAs 19 = .ok (.invokevirtual 319, 3) := dk_182 1 63 (dk_at dksX4_showsAs_0 19 rfl rfl)
theorem dX4_showsAs_22 : decode cX4_showsAs 22 = .ok (.iconst 3, 1) := dk_6 (dk_at dksX4_showsAs_0 22 rfl rfl)
theorem dX4_showsAs_23 : decode cX4_showsAs 23 = .ok (.imul, 1) := dk_104 (dk_at dksX4_showsAs_0 23 rfl rfl)
theorem dX4_showsAs_24 : decode cX4_showsAs 24 = .ok (.ireturn, 1) := dk_172 (dk_at dksX4_showsAs_1 0 rfl rfl)
theorem dX4_showsAs_25 : decode cX4_showsAs 25 = .ok (.iload_n 1, 1) := dk_27 (dk_at dksX4_showsAs_1 1 rfl rfl)
theorem dX4_showsAs_26 : decode cX4_showsAs 26 = .ok (.iconst 4, 1) := dk_7 (dk_at dksX4_showsAs_1 2 rfl rfl)
theorem dX4_showsAs_27 : decode cX4_showsAs 27 = .ok (.if_icmp .eq 9, 3) := dk_159 0 9 (dk_at dksX4_showsAs_1 3 rfl rfl)
theorem dX4_showsAs_30 : decode cX4_showsAs 30 = .ok (.iload_n 1, 1) := dk_27 (dk_at dksX4_showsAs_1 6 rfl rfl)
theorem dX4_showsAs_31 : decode cX4_showsAs 31 = .ok (.bipush 7, 2) := dk_16 7 (dk_at dksX4_showsAs_1 7 rfl rfl)
theorem dX4_showsAs_33 : decode cX4_showsAs 33 = .ok (.if_icmp .ne 28, 3) := dk_160 0 28 (dk_at dksX4_showsAs_1 9 rfl rfl)
theorem dX4_showsAs_36 : decode cX4_showsAs 36 = .ok (.aload_n 0, 1) := dk_42 (dk_at dksX4_showsAs_1 12 rfl rfl)
theorem dX4_showsAs_37 : decode cX4_showsAs 37 = .ok (.bipush 50, 2) := dk_16 50 (dk_at dksX4_showsAs_1 13 rfl rfl)
theorem dX4_showsAs_39 : decode cX4_showsAs 39 = .ok (.invokevirtual 304, 3) := dk_182 1 48 (dk_at dksX4_showsAs_1 15 rfl rfl)
theorem dX4_showsAs_42 : decode cX4_showsAs 42 = .ok (.aload_n 0, 1) := dk_42 (dk_at dksX4_showsAs_1 18 rfl rfl)
theorem dX4_showsAs_43 : decode cX4_showsAs 43 = .ok (.iconst 1, 1) := dk_4 (dk_at dksX4_showsAs_1 19 rfl rfl)
theorem dX4_showsAs_44 : decode cX4_showsAs 44 = .ok (.iload_n 2, 1) := dk_28 (dk_at dksX4_showsAs_1 20 rfl rfl)
theorem dX4_showsAs_45 : decode cX4_showsAs 45 = .ok (.invokevirtual 319, 3) := dk_182 1 63 (dk_at dksX4_showsAs_1 21 rfl rfl)
theorem dX4_showsAs_48 : decode cX4_showsAs 48 = .ok (.istore_n 3, 1) := dk_62 (dk_at dksX4_showsAs_2 0 rfl rfl)
theorem dX4_showsAs_49 : decode cX4_showsAs 49 = .ok (.iload_n 3, 1) := dk_29 (dk_at dksX4_showsAs_2 1 rfl rfl)
theorem dX4_showsAs_50 : decode cX4_showsAs 50 = .ok (.aload_n 0, 1) := dk_42 (dk_at dksX4_showsAs_2 2 rfl rfl)
theorem dX4_showsAs_51 : decode cX4_showsAs 51 = .ok (.aload_n 0, 1) := dk_42 (dk_at dksX4_showsAs_2 3 rfl rfl)
theorem dX4_showsAs_52 : decode cX4_showsAs 52 = .ok (.getfield 316, 3) := dk_180 1 60 (dk_at dksX4_showsAs_2 4 rfl rfl)
theorem dX4_showsAs_55 : decode cX4_showsAs 55 = .ok (.iconst 2, 1) := dk_5 (dk_at dksX4_showsAs_2 7 rfl rfl)
theorem dX4_showsAs_56 : decode cX4_showsAs 56 = .ok (.invokevirtual 307, 3) := dk_182 1 51 (dk_at dksX4_showsAs_2 8 rfl rfl)
theorem dX4_showsAs_59 : decode cX4_showsAs 59 = .ok (.isub, 1) := dk_100 (dk_at dksX4_showsAs_2 11 rfl rfl)
theorem dX4_showsAs_60 : decode cX4_showsAs 60 = .ok (.ireturn, 1) := dk_172 (dk_at dksX4_showsAs_2 12 rfl rfl)
theorem dX4_showsAs_61 : decode cX4_showsAs 61 = .ok (.aload_n 0, 1) := dk_42 (dk_at dksX4_showsAs_2 13 rfl rfl)
theorem dX4_showsAs_62 : decode cX4_showsAs 62 = .ok (.bipush 11, 2) := dk_16 11 (dk_at dksX4_showsAs_2 14 rfl rfl)
theorem dX4_showsAs_64 : decode cX4_showsAs 64 = .ok (.invokevirtual 304, 3) := dk_182 1 48 (dk_at dksX4_showsAs_2 16 rfl rfl)
theorem dX4_showsAs_67 : decode cX4_showsAs 67 = .ok (.iload_n 2, 1) := dk_28 (dk_at dksX4_showsAs_2 19 rfl rfl)
theorem dX4_showsAs_68 : decode cX4_showsAs 68 = .ok (.aload_n 0, 1) := dk_42 (dk_at dksX4_showsAs_2 20 rfl rfl)
theorem dX4_showsAs_69 : decode cX4_showsAs 69 = .ok (.getfield 310, 3) := dk_180 1 54 (dk_at dksX4_showsAs_2 21 rfl rfl)
theorem dX4_showsAs_72 : decode cX4_showsAs 72 = .ok (.ixor, 1) := dk_130 (dk_at dksX4_showsAs_3 0 rfl rfl)
theorem dX4_showsAs_73 : decode cX4_showsAs 73 = .ok (.ireturn, 1) := dk_172 (dk_at dksX4_showsAs_3 1 rfl rfl)
abbrev cX4_tellsAs : ByteArray := prog_34_method_77_code
def yX4_tellsAs : MethodName := ⟨RX4, "tellsAs", "(II)I"⟩
def dkwX4_tellsAs_2 : List UInt8 := [42, 180, 1, 60, 28, 182, 1, 57, 62, 29, 42, 42, 180, 1, 60, 4, 182, 1, 63, 100, 172]
abbrev dktX4_tellsAs_2 : List UInt8 := dkwX4_tellsAs_2 ++ []
def dkwX4_tellsAs_1 : List UInt8 := [160, 0, 18, 42, 16, 81, 182, 1, 48, 42, 7, 28, 182, 1, 66, 4, 100, 172, 42, 5, 182, 1, 48, 42]
abbrev dktX4_tellsAs_1 : List UInt8 := dkwX4_tellsAs_1 ++ dktX4_tellsAs_2
def dkwX4_tellsAs_0 : List UInt8 := [27, 8, 160, 0, 18, 42, 16, 60, 182, 1, 48, 42, 6, 28, 182, 1, 66, 8, 130, 172, 27, 16, 7]
abbrev dktX4_tellsAs_0 : List UInt8 := dkwX4_tellsAs_0 ++ dktX4_tellsAs_1
theorem dksX4_tellsAs_0 : cX4_tellsAs.data.toList.drop 0 = dktX4_tellsAs_0 := by decide +kernel
theorem dksX4_tellsAs_1 : cX4_tellsAs.data.toList.drop 23 = dktX4_tellsAs_1 := dk_seg dksX4_tellsAs_0 23 rfl rfl
theorem dksX4_tellsAs_2 : cX4_tellsAs.data.toList.drop 47 = dktX4_tellsAs_2 := dk_seg dksX4_tellsAs_1 24 rfl rfl
theorem dX4_tellsAs_0 : decode cX4_tellsAs 0 = .ok (.iload_n 1, 1) := dk_27 (dk_at dksX4_tellsAs_0 0 rfl rfl)
theorem dX4_tellsAs_1 : decode cX4_tellsAs 1 = .ok (.iconst 5, 1) := dk_8 (dk_at dksX4_tellsAs_0 1 rfl rfl)
theorem dX4_tellsAs_2 : decode cX4_tellsAs 2 = .ok (.if_icmp .ne 18, 3) := dk_160 0 18 (dk_at dksX4_tellsAs_0 2 rfl rfl)
theorem dX4_tellsAs_5 : decode cX4_tellsAs 5 = .ok (.aload_n 0, 1) := dk_42 (dk_at dksX4_tellsAs_0 5 rfl rfl)
theorem dX4_tellsAs_6 : decode cX4_tellsAs 6 = .ok (.bipush 60, 2) := dk_16 60 (dk_at dksX4_tellsAs_0 6 rfl rfl)
theorem dX4_tellsAs_8 : decode cX4_tellsAs 8 = .ok (.invokevirtual 304, 3) := dk_182 1 48 (dk_at dksX4_tellsAs_0 8 rfl rfl)
theorem dX4_tellsAs_11 : decode cX4_tellsAs 11 = .ok (.aload_n 0, 1) := dk_42 (dk_at dksX4_tellsAs_0 11 rfl rfl)
theorem dX4_tellsAs_12 : decode cX4_tellsAs 12 = .ok (.iconst 3, 1) := dk_6 (dk_at dksX4_tellsAs_0 12 rfl rfl)
theorem dX4_tellsAs_13 : decode cX4_tellsAs 13 = .ok (.iload_n 2, 1) := dk_28 (dk_at dksX4_tellsAs_0 13 rfl rfl)
theorem dX4_tellsAs_14 : decode cX4_tellsAs 14 = .ok (.invokevirtual 322, 3) := dk_182 1 66 (dk_at dksX4_tellsAs_0 14 rfl rfl)
theorem dX4_tellsAs_17 : decode cX4_tellsAs 17 = .ok (.iconst 5, 1) := dk_8 (dk_at dksX4_tellsAs_0 17 rfl rfl)
theorem dX4_tellsAs_18 : decode cX4_tellsAs 18 = .ok (.ixor, 1) := dk_130 (dk_at dksX4_tellsAs_0 18 rfl rfl)
theorem dX4_tellsAs_19 : decode cX4_tellsAs 19 = .ok (.ireturn, 1) := dk_172 (dk_at dksX4_tellsAs_0 19 rfl rfl)
theorem dX4_tellsAs_20 : decode cX4_tellsAs 20 = .ok (.iload_n 1, 1) := dk_27 (dk_at dksX4_tellsAs_0 20 rfl rfl)
theorem dX4_tellsAs_21 : decode cX4_tellsAs 21 = .ok (.bipush 7, 2) := dk_16 7 (dk_at dksX4_tellsAs_0 21 rfl rfl)
theorem dX4_tellsAs_23 : decode cX4_tellsAs 23 = .ok (.if_icmp .ne 18, 3) := dk_160 0 18 (dk_at dksX4_tellsAs_1 0 rfl rfl)
theorem dX4_tellsAs_26 : decode cX4_tellsAs 26 = .ok (.aload_n 0, 1) := dk_42 (dk_at dksX4_tellsAs_1 3 rfl rfl)
theorem dX4_tellsAs_27 : decode cX4_tellsAs 27 = .ok (.bipush 81, 2) := dk_16 81 (dk_at dksX4_tellsAs_1 4 rfl rfl)
theorem dX4_tellsAs_29 : decode cX4_tellsAs 29 = .ok (.invokevirtual 304, 3) := dk_182 1 48 (dk_at dksX4_tellsAs_1 6 rfl rfl)
theorem dX4_tellsAs_32 : decode cX4_tellsAs 32 = .ok (.aload_n 0, 1) := dk_42 (dk_at dksX4_tellsAs_1 9 rfl rfl)
theorem dX4_tellsAs_33 : decode cX4_tellsAs 33 = .ok (.iconst 4, 1) := dk_7 (dk_at dksX4_tellsAs_1 10 rfl rfl)
theorem dX4_tellsAs_34 : decode cX4_tellsAs 34 = .ok (.iload_n 2, 1) := dk_28 (dk_at dksX4_tellsAs_1 11 rfl rfl)
theorem dX4_tellsAs_35 : decode cX4_tellsAs 35 = .ok (.invokevirtual 322, 3) := dk_182 1 66 (dk_at dksX4_tellsAs_1 12 rfl rfl)
theorem dX4_tellsAs_38 : decode cX4_tellsAs 38 = .ok (.iconst 1, 1) := dk_4 (dk_at dksX4_tellsAs_1 15 rfl rfl)
theorem dX4_tellsAs_39 : decode cX4_tellsAs 39 = .ok (.isub, 1) := dk_100 (dk_at dksX4_tellsAs_1 16 rfl rfl)
theorem dX4_tellsAs_40 : decode cX4_tellsAs 40 = .ok (.ireturn, 1) := dk_172 (dk_at dksX4_tellsAs_1 17 rfl rfl)
theorem dX4_tellsAs_41 : decode cX4_tellsAs 41 = .ok (.aload_n 0, 1) := dk_42 (dk_at dksX4_tellsAs_1 18 rfl rfl)
theorem dX4_tellsAs_42 : decode cX4_tellsAs 42 = .ok (.iconst 2, 1) := dk_5 (dk_at dksX4_tellsAs_1 19 rfl rfl)
theorem dX4_tellsAs_43 : decode cX4_tellsAs 43 = .ok (.invokevirtual 304, 3) := dk_182 1 48 (dk_at dksX4_tellsAs_1 20 rfl rfl)
theorem dX4_tellsAs_46 : decode cX4_tellsAs 46 = .ok (.aload_n 0, 1) := dk_42 (dk_at dksX4_tellsAs_1 23 rfl rfl)
theorem dX4_tellsAs_47 : decode cX4_tellsAs 47 = .ok (.aload_n 0, 1) := dk_42 (dk_at dksX4_tellsAs_2 0 rfl rfl)
theorem dX4_tellsAs_48 : decode cX4_tellsAs 48 = .ok (.getfield 316, 3) := dk_180 1 60 (dk_at dksX4_tellsAs_2 1 rfl rfl)
theorem dX4_tellsAs_51 : decode cX4_tellsAs 51 = .ok (.iload_n 2, 1) := dk_28 (dk_at dksX4_tellsAs_2 4 rfl rfl)
theorem dX4_tellsAs_52 : decode cX4_tellsAs 52 = .ok (.invokevirtual 313, 3) := dk_182 1 57 (dk_at dksX4_tellsAs_2 5 rfl rfl)
theorem dX4_tellsAs_55 : decode cX4_tellsAs 55 = .ok (.istore_n 3, 1) := dk_62 (dk_at dksX4_tellsAs_2 8 rfl rfl)
theorem dX4_tellsAs_56 : decode cX4_tellsAs 56 = .ok (.iload_n 3, 1) := dk_29 (dk_at dksX4_tellsAs_2 9 rfl rfl)
theorem dX4_tellsAs_57 : decode cX4_tellsAs 57 = .ok (.aload_n 0, 1) := dk_42 (dk_at dksX4_tellsAs_2 10 rfl rfl)
theorem dX4_tellsAs_58 : decode cX4_tellsAs 58 = .ok (.aload_n 0, 1) := dk_42 (dk_at dksX4_tellsAs_2 11 rfl rfl)
theorem dX4_tellsAs_59 : decode cX4_tellsAs 59 = .ok (.getfield 316, 3) := dk_180 1 60 (dk_at dksX4_tellsAs_2 12 rfl rfl)
theorem dX4_tellsAs_62 : decode cX4_tellsAs 62 = .ok (.iconst 1, 1) := dk_4 (dk_at dksX4_tellsAs_2 15 rfl rfl)
theorem dX4_tellsAs_63 : decode cX4_tellsAs 63 = .ok (.invokevirtual 319, 3) := dk_182 1 63 (dk_at dksX4_tellsAs_2 16 rfl rfl)
theorem dX4_tellsAs_66 : decode cX4_tellsAs 66 = .ok (.isub, 1) := dk_100 (dk_at dksX4_tellsAs_2 19 rfl rfl)
theorem dX4_tellsAs_67 : decode cX4_tellsAs 67 = .ok (.ireturn, 1) := dk_172 (dk_at dksX4_tellsAs_2 20 rfl rfl)
abbrev cX4_trace : ByteArray := prog_34_method_79_code
def yX4_trace : MethodName := ⟨RX4, "trace", "(I)I"⟩
def dkwX4_trace_1 : List UInt8 := [167, 0, 4, 2, 172]
abbrev dktX4_trace_1 : List UInt8 := dkwX4_trace_1 ++ []
def dkwX4_trace_0 : List UInt8 := [27, 155, 0, 26, 27, 42, 180, 1, 45, 162, 0, 18, 27, 16, 24, 162, 0, 12, 42, 180, 0, 77, 27, 46]
abbrev dktX4_trace_0 : List UInt8 := dkwX4_trace_0 ++ dktX4_trace_1
theorem dksX4_trace_0 : cX4_trace.data.toList.drop 0 = dktX4_trace_0 := by decide +kernel
theorem dksX4_trace_1 : cX4_trace.data.toList.drop 24 = dktX4_trace_1 := dk_seg dksX4_trace_0 24 rfl rfl
theorem dX4_trace_0 : decode cX4_trace 0 = .ok (.iload_n 1, 1) := dk_27 (dk_at dksX4_trace_0 0 rfl rfl)
theorem dX4_trace_1 : decode cX4_trace 1 = .ok (.ifCond .lt 26, 3) := dk_155 0 26 (dk_at dksX4_trace_0 1 rfl rfl)
theorem dX4_trace_4 : decode cX4_trace 4 = .ok (.iload_n 1, 1) := dk_27 (dk_at dksX4_trace_0 4 rfl rfl)
theorem dX4_trace_5 : decode cX4_trace 5 = .ok (.aload_n 0, 1) := dk_42 (dk_at dksX4_trace_0 5 rfl rfl)
theorem dX4_trace_6 : decode cX4_trace 6 = .ok (.getfield 301, 3) := dk_180 1 45 (dk_at dksX4_trace_0 6 rfl rfl)
theorem dX4_trace_9 : decode cX4_trace 9 = .ok (.if_icmp .ge 18, 3) := dk_162 0 18 (dk_at dksX4_trace_0 9 rfl rfl)
theorem dX4_trace_12 : decode cX4_trace 12 = .ok (.iload_n 1, 1) := dk_27 (dk_at dksX4_trace_0 12 rfl rfl)
theorem dX4_trace_13 : decode cX4_trace 13 = .ok (.bipush 24, 2) := dk_16 24 (dk_at dksX4_trace_0 13 rfl rfl)
theorem dX4_trace_15 : decode cX4_trace 15 = .ok (.if_icmp .ge 12, 3) := dk_162 0 12 (dk_at dksX4_trace_0 15 rfl rfl)
theorem dX4_trace_18 : decode cX4_trace 18 = .ok (.aload_n 0, 1) := dk_42 (dk_at dksX4_trace_0 18 rfl rfl)
theorem dX4_trace_19 : decode cX4_trace 19 = .ok (.getfield 77, 3) := dk_180 0 77 (dk_at dksX4_trace_0 19 rfl rfl)
theorem dX4_trace_22 : decode cX4_trace 22 = .ok (.iload_n 1, 1) := dk_27 (dk_at dksX4_trace_0 22 rfl rfl)
theorem dX4_trace_23 : decode cX4_trace 23 = .ok (.iaload, 1) := dk_46 (dk_at dksX4_trace_0 23 rfl rfl)
theorem dX4_trace_24 : decode cX4_trace 24 = .ok (.goto 4, 3) := dk_167 0 4 (dk_at dksX4_trace_1 0 rfl rfl)
theorem dX4_trace_27 : decode cX4_trace 27 = .ok (.iconst (-1), 1) := dk_2 (dk_at dksX4_trace_1 3 rfl rfl)
theorem dX4_trace_28 : decode cX4_trace 28 = .ok (.ireturn, 1) := dk_172 (dk_at dksX4_trace_1 4 rfl rfl)
abbrev cX4_keep : ByteArray := prog_34_method_81_code
def yX4_keep : MethodName := ⟨RX4, "keep", "(II)I"⟩
def dkwX4_keep_1 : List UInt8 := [180, 0, 80, 27, 28, 79, 42, 180, 0, 83, 27, 3, 79, 4, 172]
abbrev dktX4_keep_1 : List UInt8 := dkwX4_keep_1 ++ []
def dkwX4_keep_0 : List UInt8 := [27, 184, 0, 114, 153, 0, 16, 28, 2, 159, 0, 13, 42, 28, 182, 1, 69, 154, 0, 5, 2, 172, 42]
abbrev dktX4_keep_0 : List UInt8 := dkwX4_keep_0 ++ dktX4_keep_1
theorem dksX4_keep_0 : cX4_keep.data.toList.drop 0 = dktX4_keep_0 := by decide +kernel
theorem dksX4_keep_1 : cX4_keep.data.toList.drop 23 = dktX4_keep_1 := dk_seg dksX4_keep_0 23 rfl rfl
theorem dX4_keep_0 : decode cX4_keep 0 = .ok (.iload_n 1, 1) := dk_27 (dk_at dksX4_keep_0 0 rfl rfl)
theorem dX4_keep_1 : decode cX4_keep 1 = .ok (.invokestatic 114, 3) := dk_184 0 114 (dk_at dksX4_keep_0 1 rfl rfl)
theorem dX4_keep_4 : decode cX4_keep 4 = .ok (.ifCond .eq 16, 3) := dk_153 0 16 (dk_at dksX4_keep_0 4 rfl rfl)
theorem dX4_keep_7 : decode cX4_keep 7 = .ok (.iload_n 2, 1) := dk_28 (dk_at dksX4_keep_0 7 rfl rfl)
theorem dX4_keep_8 : decode cX4_keep 8 = .ok (.iconst (-1), 1) := dk_2 (dk_at dksX4_keep_0 8 rfl rfl)
theorem dX4_keep_9 : decode cX4_keep 9 = .ok (.if_icmp .eq 13, 3) := dk_159 0 13 (dk_at dksX4_keep_0 9 rfl rfl)
theorem dX4_keep_12 : decode cX4_keep 12 = .ok (.aload_n 0, 1) := dk_42 (dk_at dksX4_keep_0 12 rfl rfl)
theorem dX4_keep_13 : decode cX4_keep 13 = .ok (.iload_n 2, 1) := dk_28 (dk_at dksX4_keep_0 13 rfl rfl)
theorem dX4_keep_14 : decode cX4_keep 14 = .ok (.invokevirtual 325, 3) := dk_182 1 69 (dk_at dksX4_keep_0 14 rfl rfl)
theorem dX4_keep_17 : decode cX4_keep 17 = .ok (.ifCond .ne 5, 3) := dk_154 0 5 (dk_at dksX4_keep_0 17 rfl rfl)
theorem dX4_keep_20 : decode cX4_keep 20 = .ok (.iconst (-1), 1) := dk_2 (dk_at dksX4_keep_0 20 rfl rfl)
theorem dX4_keep_21 : decode cX4_keep 21 = .ok (.ireturn, 1) := dk_172 (dk_at dksX4_keep_0 21 rfl rfl)
theorem dX4_keep_22 : decode cX4_keep 22 = .ok (.aload_n 0, 1) := dk_42 (dk_at dksX4_keep_0 22 rfl rfl)
theorem dX4_keep_23 : decode cX4_keep 23 = .ok (.getfield 80, 3) := dk_180 0 80 (dk_at dksX4_keep_1 0 rfl rfl)
theorem dX4_keep_26 : decode cX4_keep 26 = .ok (.iload_n 1, 1) := dk_27 (dk_at dksX4_keep_1 3 rfl rfl)
theorem dX4_keep_27 : decode cX4_keep 27 = .ok (.iload_n 2, 1) := dk_28 (dk_at dksX4_keep_1 4 rfl rfl)
theorem dX4_keep_28 : decode cX4_keep 28 = .ok (.iastore, 1) := dk_79 (dk_at dksX4_keep_1 5 rfl rfl)
theorem dX4_keep_29 : decode cX4_keep 29 = .ok (.aload_n 0, 1) := dk_42 (dk_at dksX4_keep_1 6 rfl rfl)
theorem dX4_keep_30 : decode cX4_keep 30 = .ok (.getfield 83, 3) := dk_180 0 83 (dk_at dksX4_keep_1 7 rfl rfl)
theorem dX4_keep_33 : decode cX4_keep 33 = .ok (.iload_n 1, 1) := dk_27 (dk_at dksX4_keep_1 10 rfl rfl)
theorem dX4_keep_34 : decode cX4_keep 34 = .ok (.iconst 0, 1) := dk_3 (dk_at dksX4_keep_1 11 rfl rfl)
theorem dX4_keep_35 : decode cX4_keep 35 = .ok (.iastore, 1) := dk_79 (dk_at dksX4_keep_1 12 rfl rfl)
theorem dX4_keep_36 : decode cX4_keep 36 = .ok (.iconst 1, 1) := dk_4 (dk_at dksX4_keep_1 13 rfl rfl)
theorem dX4_keep_37 : decode cX4_keep 37 = .ok (.ireturn, 1) := dk_172 (dk_at dksX4_keep_1 14 rfl rfl)
abbrev cX4_row : ByteArray := prog_34_method_82_code
def yX4_row : MethodName := ⟨RX4, "row", "(III)I"⟩
def dkwX4_row_3 : List UInt8 := [42, 180, 0, 86, 21, 4, 9, 80, 132, 4, 1, 167, 255, 233, 4, 172]
abbrev dktX4_row_3 : List UInt8 := dkwX4_row_3 ++ []
def dkwX4_row_2 : List UInt8 := [180, 0, 83, 27, 29, 79, 16, 60, 27, 104, 54, 4, 21, 4, 16, 60, 27, 104, 16, 60, 96, 162, 0, 17]
abbrev dktX4_row_2 : List UInt8 := dkwX4_row_2 ++ dktX4_row_3
def dkwX4_row_1 : List UInt8 := [164, 0, 5, 2, 172, 29, 156, 0, 6, 16, 242, 172, 42, 180, 0, 80, 27, 16, 50, 28, 96, 79, 42]
abbrev dktX4_row_1 : List UInt8 := dkwX4_row_1 ++ dktX4_row_2
def dkwX4_row_0 : List UInt8 := [27, 184, 0, 114, 153, 0, 21, 28, 133, 9, 20, 1, 72, 184, 0, 102, 153, 0, 9, 29, 16, 60]
abbrev dktX4_row_0 : List UInt8 := dkwX4_row_0 ++ dktX4_row_1
theorem dksX4_row_0 : cX4_row.data.toList.drop 0 = dktX4_row_0 := by decide +kernel
theorem dksX4_row_1 : cX4_row.data.toList.drop 22 = dktX4_row_1 := dk_seg dksX4_row_0 22 rfl rfl
theorem dksX4_row_2 : cX4_row.data.toList.drop 45 = dktX4_row_2 := dk_seg dksX4_row_1 23 rfl rfl
theorem dksX4_row_3 : cX4_row.data.toList.drop 69 = dktX4_row_3 := dk_seg dksX4_row_2 24 rfl rfl
theorem dX4_row_0 : decode cX4_row 0 = .ok (.iload_n 1, 1) := dk_27 (dk_at dksX4_row_0 0 rfl rfl)
theorem dX4_row_1 : decode cX4_row 1 = .ok (.invokestatic 114, 3) := dk_184 0 114 (dk_at dksX4_row_0 1 rfl rfl)
theorem dX4_row_4 : decode cX4_row 4 = .ok (.ifCond .eq 21, 3) := dk_153 0 21 (dk_at dksX4_row_0 4 rfl rfl)
theorem dX4_row_7 : decode cX4_row 7 = .ok (.iload_n 2, 1) := dk_28 (dk_at dksX4_row_0 7 rfl rfl)
theorem dX4_row_8 : decode cX4_row 8 = .ok (.i2l, 1) := dk_133 (dk_at dksX4_row_0 8 rfl rfl)
theorem dX4_row_9 : decode cX4_row 9 = .ok (.lconst 0, 1) := dk_9 (dk_at dksX4_row_0 9 rfl rfl)
theorem dX4_row_10 : decode cX4_row 10 = .ok (.ldc2_w 328, 3) := dk_20 1 72 (dk_at dksX4_row_0 10 rfl rfl)
theorem dX4_row_13 : decode cX4_row 13 = .ok (.invokestatic 102, 3) := dk_184 0 102 (dk_at dksX4_row_0 13 rfl rfl)
theorem dX4_row_16 : decode cX4_row 16 = .ok (.ifCond .eq 9, 3) := dk_153 0 9 (dk_at dksX4_row_0 16 rfl rfl)
theorem dX4_row_19 : decode cX4_row 19 = .ok (.iload_n 3, 1) := dk_29 (dk_at dksX4_row_0 19 rfl rfl)
theorem dX4_row_20 : decode cX4_row 20 = .ok (.bipush 60, 2) := dk_16 60 (dk_at dksX4_row_0 20 rfl rfl)
theorem dX4_row_22 : decode cX4_row 22 = .ok (.if_icmp .le 5, 3) := dk_164 0 5 (dk_at dksX4_row_1 0 rfl rfl)
theorem dX4_row_25 : decode cX4_row 25 = .ok (.iconst (-1), 1) := dk_2 (dk_at dksX4_row_1 3 rfl rfl)
theorem dX4_row_26 : decode cX4_row 26 = .ok (.ireturn, 1) := dk_172 (dk_at dksX4_row_1 4 rfl rfl)
theorem dX4_row_27 : decode cX4_row 27 = .ok (.iload_n 3, 1) := dk_29 (dk_at dksX4_row_1 5 rfl rfl)
theorem dX4_row_28 : decode cX4_row 28 = .ok (.ifCond .ge 6, 3) := dk_156 0 6 (dk_at dksX4_row_1 6 rfl rfl)
theorem dX4_row_31 : decode cX4_row 31 = .ok (.bipush (-14), 2) := dk_16 242 (dk_at dksX4_row_1 9 rfl rfl)
theorem dX4_row_33 : decode cX4_row 33 = .ok (.ireturn, 1) := dk_172 (dk_at dksX4_row_1 11 rfl rfl)
theorem dX4_row_34 : decode cX4_row 34 = .ok (.aload_n 0, 1) := dk_42 (dk_at dksX4_row_1 12 rfl rfl)
theorem dX4_row_35 : decode cX4_row 35 = .ok (.getfield 80, 3) := dk_180 0 80 (dk_at dksX4_row_1 13 rfl rfl)
theorem dX4_row_38 : decode cX4_row 38 = .ok (.iload_n 1, 1) := dk_27 (dk_at dksX4_row_1 16 rfl rfl)
theorem dX4_row_39 : decode cX4_row 39 = .ok (.bipush 50, 2) := dk_16 50 (dk_at dksX4_row_1 17 rfl rfl)
theorem dX4_row_41 : decode cX4_row 41 = .ok (.iload_n 2, 1) := dk_28 (dk_at dksX4_row_1 19 rfl rfl)
theorem dX4_row_42 : decode cX4_row 42 = .ok (.iadd, 1) := dk_96 (dk_at dksX4_row_1 20 rfl rfl)
theorem dX4_row_43 : decode cX4_row 43 = .ok (.iastore, 1) := dk_79 (dk_at dksX4_row_1 21 rfl rfl)
theorem dX4_row_44 : decode cX4_row 44 = .ok (.aload_n 0, 1) := dk_42 (dk_at dksX4_row_1 22 rfl rfl)
theorem dX4_row_45 : decode cX4_row 45 = .ok (.getfield 83, 3) := dk_180 0 83 (dk_at dksX4_row_2 0 rfl rfl)
theorem dX4_row_48 : decode cX4_row 48 = .ok (.iload_n 1, 1) := dk_27 (dk_at dksX4_row_2 3 rfl rfl)
theorem dX4_row_49 : decode cX4_row 49 = .ok (.iload_n 3, 1) := dk_29 (dk_at dksX4_row_2 4 rfl rfl)
theorem dX4_row_50 : decode cX4_row 50 = .ok (.iastore, 1) := dk_79 (dk_at dksX4_row_2 5 rfl rfl)
theorem dX4_row_51 : decode cX4_row 51 = .ok (.bipush 60, 2) := dk_16 60 (dk_at dksX4_row_2 6 rfl rfl)
theorem dX4_row_53 : decode cX4_row 53 = .ok (.iload_n 1, 1) := dk_27 (dk_at dksX4_row_2 8 rfl rfl)
theorem dX4_row_54 : decode cX4_row 54 = .ok (.imul, 1) := dk_104 (dk_at dksX4_row_2 9 rfl rfl)
theorem dX4_row_55 : decode cX4_row 55 = .ok (.istore 4, 2) := dk_54 4 (dk_at dksX4_row_2 10 rfl rfl)
theorem dX4_row_57 : decode cX4_row 57 = .ok (.iload 4, 2) := dk_21 4 (dk_at dksX4_row_2 12 rfl rfl)
theorem dX4_row_59 : decode cX4_row 59 = .ok (.bipush 60, 2) := dk_16 60 (dk_at dksX4_row_2 14 rfl rfl)
theorem dX4_row_61 : decode cX4_row 61 = .ok (.iload_n 1, 1) := dk_27 (dk_at dksX4_row_2 16 rfl rfl)
theorem dX4_row_62 : decode cX4_row 62 = .ok (.imul, 1) := dk_104 (dk_at dksX4_row_2 17 rfl rfl)
theorem dX4_row_63 : decode cX4_row 63 = .ok (.bipush 60, 2) := dk_16 60 (dk_at dksX4_row_2 18 rfl rfl)
theorem dX4_row_65 : decode cX4_row 65 = .ok (.iadd, 1) := dk_96 (dk_at dksX4_row_2 20 rfl rfl)
theorem dX4_row_66 : decode cX4_row 66 = .ok (.if_icmp .ge 17, 3) := dk_162 0 17 (dk_at dksX4_row_2 21 rfl rfl)
theorem dX4_row_69 : decode cX4_row 69 = .ok (.aload_n 0, 1) := dk_42 (dk_at dksX4_row_3 0 rfl rfl)
theorem dX4_row_70 : decode cX4_row 70 = .ok (.getfield 86, 3) := dk_180 0 86 (dk_at dksX4_row_3 1 rfl rfl)
theorem dX4_row_73 : decode cX4_row 73 = .ok (.iload 4, 2) := dk_21 4 (dk_at dksX4_row_3 4 rfl rfl)
theorem dX4_row_75 : decode cX4_row 75 = .ok (.lconst 0, 1) := dk_9 (dk_at dksX4_row_3 6 rfl rfl)
theorem dX4_row_76 : decode cX4_row 76 = .ok (.lastore, 1) := dk_80 (dk_at dksX4_row_3 7 rfl rfl)
theorem dX4_row_77 : decode cX4_row 77 = .ok (.iinc 4 1, 3) := dk_132 4 1 (dk_at dksX4_row_3 8 rfl rfl)
theorem dX4_row_80 : decode cX4_row 80 = .ok (.goto (-23), 3) := dk_167 255 233 (dk_at dksX4_row_3 11 rfl rfl)
theorem dX4_row_83 : decode cX4_row 83 = .ok (.iconst 1, 1) := dk_4 (dk_at dksX4_row_3 14 rfl rfl)
theorem dX4_row_84 : decode cX4_row 84 = .ok (.ireturn, 1) := dk_172 (dk_at dksX4_row_3 15 rfl rfl)
abbrev cX4_put : ByteArray := prog_34_method_85_code
def yX4_put : MethodName := ⟨RX4, "put", "(IIJ)I"⟩
def dkwX4_put_2 : List UInt8 := [172]
abbrev dktX4_put_2 : List UInt8 := dkwX4_put_2 ++ []
def dkwX4_put_1 : List UInt8 := [180, 0, 80, 27, 46, 16, 50, 100, 33, 184, 1, 77, 80, 21, 5, 154, 0, 7, 4, 167, 0, 5, 21, 5]
abbrev dktX4_put_1 : List UInt8 := dkwX4_put_1 ++ dktX4_put_2
def dkwX4_put_0 : List UInt8 := [42, 27, 28, 182, 1, 74, 54, 5, 21, 5, 154, 0, 27, 42, 180, 0, 86, 16, 60, 27, 104, 28, 96, 42]
abbrev dktX4_put_0 : List UInt8 := dkwX4_put_0 ++ dktX4_put_1
theorem dksX4_put_0 : cX4_put.data.toList.drop 0 = dktX4_put_0 := by decide +kernel
theorem dksX4_put_1 : cX4_put.data.toList.drop 24 = dktX4_put_1 := dk_seg dksX4_put_0 24 rfl rfl
theorem dksX4_put_2 : cX4_put.data.toList.drop 48 = dktX4_put_2 := dk_seg dksX4_put_1 24 rfl rfl
theorem dX4_put_0 : decode cX4_put 0 = .ok (.aload_n 0, 1) := dk_42 (dk_at dksX4_put_0 0 rfl rfl)
theorem dX4_put_1 : decode cX4_put 1 = .ok (.iload_n 1, 1) := dk_27 (dk_at dksX4_put_0 1 rfl rfl)
theorem dX4_put_2 : decode cX4_put 2 = .ok (.iload_n 2, 1) := dk_28 (dk_at dksX4_put_0 2 rfl rfl)
theorem dX4_put_3 : decode cX4_put 3 = .ok (.invokevirtual 330, 3) := dk_182 1 74 (dk_at dksX4_put_0 3 rfl rfl)
theorem dX4_put_6 : decode cX4_put 6 = .ok (.istore 5, 2) := dk_54 5 (dk_at dksX4_put_0 6 rfl rfl)
theorem dX4_put_8 : decode cX4_put 8 = .ok (.iload 5, 2) := dk_21 5 (dk_at dksX4_put_0 8 rfl rfl)
theorem dX4_put_10 : decode cX4_put 10 = .ok (.ifCond .ne 27, 3) := dk_154 0 27 (dk_at dksX4_put_0 10 rfl rfl)
theorem dX4_put_13 : decode cX4_put 13 = .ok (.aload_n 0, 1) := dk_42 (dk_at dksX4_put_0 13 rfl rfl)
theorem dX4_put_14 : decode cX4_put 14 = .ok (.getfield 86, 3) := dk_180 0 86 (dk_at dksX4_put_0 14 rfl rfl)
theorem dX4_put_17 : decode cX4_put 17 = .ok (.bipush 60, 2) := dk_16 60 (dk_at dksX4_put_0 17 rfl rfl)
theorem dX4_put_19 : decode cX4_put 19 = .ok (.iload_n 1, 1) := dk_27 (dk_at dksX4_put_0 19 rfl rfl)
theorem dX4_put_20 : decode cX4_put 20 = .ok (.imul, 1) := dk_104 (dk_at dksX4_put_0 20 rfl rfl)
theorem dX4_put_21 : decode cX4_put 21 = .ok (.iload_n 2, 1) := dk_28 (dk_at dksX4_put_0 21 rfl rfl)
theorem dX4_put_22 : decode cX4_put 22 = .ok (.iadd, 1) := dk_96 (dk_at dksX4_put_0 22 rfl rfl)
theorem dX4_put_23 : decode cX4_put 23 = .ok (.aload_n 0, 1) := dk_42 (dk_at dksX4_put_0 23 rfl rfl)
theorem dX4_put_24 : decode cX4_put 24 = .ok (.getfield 80, 3) := dk_180 0 80 (dk_at dksX4_put_1 0 rfl rfl)
theorem dX4_put_27 : decode cX4_put 27 = .ok (.iload_n 1, 1) := dk_27 (dk_at dksX4_put_1 3 rfl rfl)
theorem dX4_put_28 : decode cX4_put 28 = .ok (.iaload, 1) := dk_46 (dk_at dksX4_put_1 4 rfl rfl)
theorem dX4_put_29 : decode cX4_put 29 = .ok (.bipush 50, 2) := dk_16 50 (dk_at dksX4_put_1 5 rfl rfl)
theorem dX4_put_31 : decode cX4_put 31 = .ok (.isub, 1) := dk_100 (dk_at dksX4_put_1 7 rfl rfl)
theorem dX4_put_32 : decode cX4_put 32 = .ok (.lload_n 3, 1) := dk_33 (dk_at dksX4_put_1 8 rfl rfl)
theorem dX4_put_33 : decode cX4_put 33 = .ok (.invokestatic 333, 3) := dk_184 1 77 (dk_at dksX4_put_1 9 rfl rfl)
theorem dX4_put_36 : decode cX4_put 36 = .ok (.lastore, 1) := dk_80 (dk_at dksX4_put_1 12 rfl rfl)
theorem dX4_put_37 : decode cX4_put 37 = .ok (.iload 5, 2) := dk_21 5 (dk_at dksX4_put_1 13 rfl rfl)
theorem dX4_put_39 : decode cX4_put 39 = .ok (.ifCond .ne 7, 3) := dk_154 0 7 (dk_at dksX4_put_1 15 rfl rfl)
theorem dX4_put_42 : decode cX4_put 42 = .ok (.iconst 1, 1) := dk_4 (dk_at dksX4_put_1 18 rfl rfl)
theorem dX4_put_43 : decode cX4_put 43 = .ok (.goto 5, 3) := dk_167 0 5 (dk_at dksX4_put_1 19 rfl rfl)
theorem dX4_put_46 : decode cX4_put 46 = .ok (.iload 5, 2) := dk_21 5 (dk_at dksX4_put_1 22 rfl rfl)
theorem dX4_put_48 : decode cX4_put 48 = .ok (.ireturn, 1) := dk_172 (dk_at dksX4_put_2 0 rfl rfl)
abbrev cX4_refusal : ByteArray := prog_34_method_83_code
def yX4_refusal : MethodName := ⟨RX4, "refusal", "(II)I"⟩
def dkwX4_refusal_2 : List UInt8 := [162, 0, 7, 3, 167, 0, 5, 16, 243, 172]
abbrev dktX4_refusal_2 : List UInt8 := dkwX4_refusal_2 ++ []
def dkwX4_refusal_1 : List UInt8 := [180, 0, 80, 27, 46, 16, 50, 162, 0, 6, 16, 244, 172, 28, 155, 0, 17, 28, 42, 180, 0, 83, 27, 46]
abbrev dktX4_refusal_1 : List UInt8 := dkwX4_refusal_1 ++ dktX4_refusal_2
def dkwX4_refusal_0 : List UInt8 := [27, 184, 0, 114, 154, 0, 5, 2, 172, 42, 180, 0, 80, 27, 46, 156, 0, 6, 16, 245, 172, 42]
abbrev dktX4_refusal_0 : List UInt8 := dkwX4_refusal_0 ++ dktX4_refusal_1
theorem dksX4_refusal_0 : cX4_refusal.data.toList.drop 0 = dktX4_refusal_0 := by decide +kernel
theorem dksX4_refusal_1 : cX4_refusal.data.toList.drop 22 = dktX4_refusal_1 := dk_seg dksX4_refusal_0 22 rfl rfl
theorem dksX4_refusal_2 : cX4_refusal.data.toList.drop 46 = dktX4_refusal_2 := dk_seg dksX4_refusal_1 24 rfl rfl
theorem dX4_refusal_0 : decode cX4_refusal 0 = .ok (.iload_n 1, 1) := dk_27 (dk_at dksX4_refusal_0 0 rfl rfl)
theorem dX4_refusal_1 : decode cX4_refusal 1 = .ok (.invokestatic 114, 3) := dk_184 0 114 (dk_at dksX4_refusal_0 1 rfl rfl)
theorem dX4_refusal_4 : decode cX4_refusal 4 = .ok (.ifCond .ne 5, 3) := dk_154 0 5 (dk_at dksX4_refusal_0 4 rfl rfl)
theorem dX4_refusal_7 : decode cX4_refusal 7 = .ok (.iconst (-1), 1) := dk_2 (dk_at dksX4_refusal_0 7 rfl rfl)
theorem dX4_refusal_8 : decode cX4_refusal 8 = .ok (.ireturn, 1) := dk_172 (dk_at dksX4_refusal_0 8 rfl rfl)
theorem dX4_refusal_9 : decode cX4_refusal 9 = .ok (.aload_n 0, 1) := dk_42 (dk_at dksX4_refusal_0 9 rfl rfl)
theorem dX4_refusal_10 : decode cX4_refusal 10 = .ok (.getfield 80, 3) := dk_180 0 80 (dk_at dksX4_refusal_0 10 rfl rfl)
theorem dX4_refusal_13 : decode cX4_refusal 13 = .ok (.iload_n 1, 1) := dk_27 (dk_at dksX4_refusal_0 13 rfl rfl)
theorem dX4_refusal_14 : decode cX4_refusal 14 = .ok (.iaload, 1) := dk_46 (dk_at dksX4_refusal_0 14 rfl rfl)
theorem dX4_refusal_15 : decode cX4_refusal 15 = .ok (.ifCond .ge 6, 3) := dk_156 0 6 (dk_at dksX4_refusal_0 15 rfl rfl)
theorem dX4_refusal_18 : decode cX4_refusal 18 = .ok (.bipush (-11), 2) := dk_16 245 (dk_at dksX4_refusal_0 18 rfl rfl)
theorem dX4_refusal_20 : decode cX4_refusal 20 = .ok (.ireturn, 1) := dk_172 (dk_at dksX4_refusal_0 20 rfl rfl)
theorem dX4_refusal_21 : decode cX4_refusal 21 = .ok (.aload_n 0, 1) := dk_42 (dk_at dksX4_refusal_0 21 rfl rfl)
theorem dX4_refusal_22 : decode cX4_refusal 22 = .ok (.getfield 80, 3) := dk_180 0 80 (dk_at dksX4_refusal_1 0 rfl rfl)
theorem dX4_refusal_25 : decode cX4_refusal 25 = .ok (.iload_n 1, 1) := dk_27 (dk_at dksX4_refusal_1 3 rfl rfl)
theorem dX4_refusal_26 : decode cX4_refusal 26 = .ok (.iaload, 1) := dk_46 (dk_at dksX4_refusal_1 4 rfl rfl)
theorem dX4_refusal_27 : decode cX4_refusal 27 = .ok (.bipush 50, 2) := dk_16 50 (dk_at dksX4_refusal_1 5 rfl rfl)
theorem dX4_refusal_29 : decode cX4_refusal 29 = .ok (.if_icmp .ge 6, 3) := dk_162 0 6 (dk_at dksX4_refusal_1 7 rfl rfl)
theorem dX4_refusal_32 : decode cX4_refusal 32 = .ok (.bipush (-12), 2) := dk_16 244 (dk_at dksX4_refusal_1 10 rfl rfl)
theorem dX4_refusal_34 : decode cX4_refusal 34 = .ok (.ireturn, 1) := dk_172 (dk_at dksX4_refusal_1 12 rfl rfl)
theorem dX4_refusal_35 : decode cX4_refusal 35 = .ok (.iload_n 2, 1) := dk_28 (dk_at dksX4_refusal_1 13 rfl rfl)
theorem dX4_refusal_36 : decode cX4_refusal 36 = .ok (.ifCond .lt 17, 3) := dk_155 0 17 (dk_at dksX4_refusal_1 14 rfl rfl)
theorem dX4_refusal_39 : decode cX4_refusal 39 = .ok (.iload_n 2, 1) := dk_28 (dk_at dksX4_refusal_1 17 rfl rfl)
theorem dX4_refusal_40 : decode cX4_refusal 40 = .ok (.aload_n 0, 1) := dk_42 (dk_at dksX4_refusal_1 18 rfl rfl)
theorem dX4_refusal_41 : decode cX4_refusal 41 = .ok (.getfield 83, 3) := dk_180 0 83 (dk_at dksX4_refusal_1 19 rfl rfl)
theorem dX4_refusal_44 : decode cX4_refusal 44 = .ok (.iload_n 1, 1) := dk_27 (dk_at dksX4_refusal_1 22 rfl rfl)
theorem dX4_refusal_45 : decode cX4_refusal 45 = .ok (.iaload, 1) := dk_46 (dk_at dksX4_refusal_1 23 rfl rfl)
theorem dX4_refusal_46 : decode cX4_refusal 46 = .ok (.if_icmp .ge 7, 3) := dk_162 0 7 (dk_at dksX4_refusal_2 0 rfl rfl)
theorem dX4_refusal_49 : decode cX4_refusal 49 = .ok (.iconst 0, 1) := dk_3 (dk_at dksX4_refusal_2 3 rfl rfl)
theorem dX4_refusal_50 : decode cX4_refusal 50 = .ok (.goto 5, 3) := dk_167 0 5 (dk_at dksX4_refusal_2 4 rfl rfl)
theorem dX4_refusal_53 : decode cX4_refusal 53 = .ok (.bipush (-13), 2) := dk_16 243 (dk_at dksX4_refusal_2 7 rfl rfl)
theorem dX4_refusal_55 : decode cX4_refusal 55 = .ok (.ireturn, 1) := dk_172 (dk_at dksX4_refusal_2 9 rfl rfl)
abbrev cX4_asSort : ByteArray := prog_34_method_84_code
def yX4_asSort : MethodName := ⟨RX4, "asSort", "(IJ)J"⟩
def dkwX4_asSort_2 : List UInt8 := [167, 0, 8, 9, 167, 0, 4, 31, 173]
abbrev dktX4_asSort_2 : List UInt8 := dkwX4_asSort_2 ++ []
def dkwX4_asSort_1 : List UInt8 := [5, 160, 0, 9, 31, 136, 133, 167, 0, 23, 26, 7, 160, 0, 17, 31, 9, 148, 153, 0, 7, 10]
abbrev dktX4_asSort_1 : List UInt8 := dkwX4_asSort_1 ++ dktX4_asSort_2
def dkwX4_asSort_0 : List UInt8 := [26, 154, 0, 10, 31, 136, 145, 133, 167, 0, 46, 26, 4, 160, 0, 10, 31, 136, 147, 133, 167, 0, 34, 26]
abbrev dktX4_asSort_0 : List UInt8 := dkwX4_asSort_0 ++ dktX4_asSort_1
theorem dksX4_asSort_0 : cX4_asSort.data.toList.drop 0 = dktX4_asSort_0 := by decide +kernel
theorem dksX4_asSort_1 : cX4_asSort.data.toList.drop 24 = dktX4_asSort_1 := dk_seg dksX4_asSort_0 24 rfl rfl
theorem dksX4_asSort_2 : cX4_asSort.data.toList.drop 46 = dktX4_asSort_2 := dk_seg dksX4_asSort_1 22 rfl rfl
theorem dX4_asSort_0 : decode cX4_asSort 0 = .ok (.iload_n 0, 1) := dk_26 (dk_at dksX4_asSort_0 0 rfl rfl)
theorem dX4_asSort_1 : decode cX4_asSort 1 = .ok (.ifCond .ne 10, 3) := dk_154 0 10 (dk_at dksX4_asSort_0 1 rfl rfl)
theorem dX4_asSort_4 : decode cX4_asSort 4 = .ok (.lload_n 1, 1) := dk_31 (dk_at dksX4_asSort_0 4 rfl rfl)
theorem dX4_asSort_5 : decode cX4_asSort 5 = .ok (.l2i, 1) := dk_136 (dk_at dksX4_asSort_0 5 rfl rfl)
theorem dX4_asSort_6 : decode cX4_asSort 6 = .ok (.i2b, 1) := dk_145 (dk_at dksX4_asSort_0 6 rfl rfl)
theorem dX4_asSort_7 : decode cX4_asSort 7 = .ok (.i2l, 1) := dk_133 (dk_at dksX4_asSort_0 7 rfl rfl)
theorem dX4_asSort_8 : decode cX4_asSort 8 = .ok (.goto 46, 3) := dk_167 0 46 (dk_at dksX4_asSort_0 8 rfl rfl)
theorem dX4_asSort_11 : decode cX4_asSort 11 = .ok (.iload_n 0, 1) := dk_26 (dk_at dksX4_asSort_0 11 rfl rfl)
theorem dX4_asSort_12 : decode cX4_asSort 12 = .ok (.iconst 1, 1) := dk_4 (dk_at dksX4_asSort_0 12 rfl rfl)
theorem dX4_asSort_13 : decode cX4_asSort 13 = .ok (.if_icmp .ne 10, 3) := dk_160 0 10 (dk_at dksX4_asSort_0 13 rfl rfl)
theorem dX4_asSort_16 : decode cX4_asSort 16 = .ok (.lload_n 1, 1) := dk_31 (dk_at dksX4_asSort_0 16 rfl rfl)
theorem dX4_asSort_17 : decode cX4_asSort 17 = .ok (.l2i, 1) := dk_136 (dk_at dksX4_asSort_0 17 rfl rfl)
theorem dX4_asSort_18 : decode cX4_asSort 18 = .ok (.i2s, 1) := dk_147 (dk_at dksX4_asSort_0 18 rfl rfl)
theorem dX4_asSort_19 : decode cX4_asSort 19 = .ok (.i2l, 1) := dk_133 (dk_at dksX4_asSort_0 19 rfl rfl)
theorem dX4_asSort_20 : decode cX4_asSort 20 = .ok (.goto 34, 3) := dk_167 0 34 (dk_at dksX4_asSort_0 20 rfl rfl)
theorem dX4_asSort_23 : decode cX4_asSort 23 = .ok (.iload_n 0, 1) := dk_26 (dk_at dksX4_asSort_0 23 rfl rfl)
theorem dX4_asSort_24 : decode cX4_asSort 24 = .ok (.iconst 2, 1) := dk_5 (dk_at dksX4_asSort_1 0 rfl rfl)
theorem dX4_asSort_25 : decode cX4_asSort 25 = .ok (.if_icmp .ne 9, 3) := dk_160 0 9 (dk_at dksX4_asSort_1 1 rfl rfl)
theorem dX4_asSort_28 : decode cX4_asSort 28 = .ok (.lload_n 1, 1) := dk_31 (dk_at dksX4_asSort_1 4 rfl rfl)
theorem dX4_asSort_29 : decode cX4_asSort 29 = .ok (.l2i, 1) := dk_136 (dk_at dksX4_asSort_1 5 rfl rfl)
theorem dX4_asSort_30 : decode cX4_asSort 30 = .ok (.i2l, 1) := dk_133 (dk_at dksX4_asSort_1 6 rfl rfl)
theorem dX4_asSort_31 : decode cX4_asSort 31 = .ok (.goto 23, 3) := dk_167 0 23 (dk_at dksX4_asSort_1 7 rfl rfl)
theorem dX4_asSort_34 : decode cX4_asSort 34 = .ok (.iload_n 0, 1) := dk_26 (dk_at dksX4_asSort_1 10 rfl rfl)
theorem dX4_asSort_35 : decode cX4_asSort 35 = .ok (.iconst 4, 1) := dk_7 (dk_at dksX4_asSort_1 11 rfl rfl)
theorem dX4_asSort_36 : decode cX4_asSort 36 = .ok (.if_icmp .ne 17, 3) := dk_160 0 17 (dk_at dksX4_asSort_1 12 rfl rfl)
theorem dX4_asSort_39 : decode cX4_asSort 39 = .ok (.lload_n 1, 1) := dk_31 (dk_at dksX4_asSort_1 15 rfl rfl)
theorem dX4_asSort_40 : decode cX4_asSort 40 = .ok (.lconst 0, 1) := dk_9 (dk_at dksX4_asSort_1 16 rfl rfl)
theorem dX4_asSort_41 : decode cX4_asSort 41 = .ok (.lcmp, 1) := dk_148 (dk_at dksX4_asSort_1 17 rfl rfl)
theorem dX4_asSort_42 : decode cX4_asSort 42 = .ok (.ifCond .eq 7, 3) := dk_153 0 7 (dk_at dksX4_asSort_1 18 rfl rfl)
theorem dX4_asSort_45 : decode cX4_asSort 45 = .ok (.lconst 1, 1) := dk_10 (dk_at dksX4_asSort_1 21 rfl rfl)
theorem dX4_asSort_46 : decode cX4_asSort 46 = .ok (.goto 8, 3) := dk_167 0 8 (dk_at dksX4_asSort_2 0 rfl rfl)
theorem dX4_asSort_49 : decode cX4_asSort 49 = .ok (.lconst 0, 1) := dk_9 (dk_at dksX4_asSort_2 3 rfl rfl)
theorem dX4_asSort_50 : decode cX4_asSort 50 = .ok (.goto 4, 3) := dk_167 0 4 (dk_at dksX4_asSort_2 4 rfl rfl)
theorem dX4_asSort_53 : decode cX4_asSort 53 = .ok (.lload_n 1, 1) := dk_31 (dk_at dksX4_asSort_2 7 rfl rfl)
theorem dX4_asSort_54 : decode cX4_asSort 54 = .ok (.lreturn, 1) := dk_173 (dk_at dksX4_asSort_2 8 rfl rfl)
abbrev cX4_element : ByteArray := prog_34_method_86_code
def yX4_element : MethodName := ⟨RX4, "element", "(II)J"⟩
def dkwX4_element_1 : List UInt8 := [96, 47, 173]
abbrev dktX4_element_1 : List UInt8 := dkwX4_element_1 ++ []
def dkwX4_element_0 : List UInt8 := [42, 27, 28, 182, 1, 74, 153, 0, 9, 20, 0, 229, 167, 0, 14, 42, 180, 0, 86, 16, 60, 27, 104, 28]
abbrev dktX4_element_0 : List UInt8 := dkwX4_element_0 ++ dktX4_element_1
theorem dksX4_element_0 : cX4_element.data.toList.drop 0 = dktX4_element_0 := by decide +kernel
theorem dksX4_element_1 : cX4_element.data.toList.drop 24 = dktX4_element_1 := dk_seg dksX4_element_0 24 rfl rfl
theorem dX4_element_0 : decode cX4_element 0 = .ok (.aload_n 0, 1) := dk_42 (dk_at dksX4_element_0 0 rfl rfl)
theorem dX4_element_1 : decode cX4_element 1 = .ok (.iload_n 1, 1) := dk_27 (dk_at dksX4_element_0 1 rfl rfl)
theorem dX4_element_2 : decode cX4_element 2 = .ok (.iload_n 2, 1) := dk_28 (dk_at dksX4_element_0 2 rfl rfl)
theorem dX4_element_3 : decode cX4_element 3 = .ok (.invokevirtual 330, 3) := dk_182 1 74 (dk_at dksX4_element_0 3 rfl rfl)
theorem dX4_element_6 : decode cX4_element 6 = .ok (.ifCond .eq 9, 3) := dk_153 0 9 (dk_at dksX4_element_0 6 rfl rfl)
theorem dX4_element_9 : decode cX4_element 9 = .ok (.ldc2_w 229, 3) := dk_20 0 229 (dk_at dksX4_element_0 9 rfl rfl)
theorem dX4_element_12 : decode cX4_element 12 = .ok (.goto 14, 3) := dk_167 0 14 (dk_at dksX4_element_0 12 rfl rfl)
theorem dX4_element_15 : decode cX4_element 15 = .ok (.aload_n 0, 1) := dk_42 (dk_at dksX4_element_0 15 rfl rfl)
theorem dX4_element_16 : decode cX4_element 16 = .ok (.getfield 86, 3) := dk_180 0 86 (dk_at dksX4_element_0 16 rfl rfl)
theorem dX4_element_19 : decode cX4_element 19 = .ok (.bipush 60, 2) := dk_16 60 (dk_at dksX4_element_0 19 rfl rfl)
theorem dX4_element_21 : decode cX4_element 21 = .ok (.iload_n 1, 1) := dk_27 (dk_at dksX4_element_0 21 rfl rfl)
theorem dX4_element_22 : decode cX4_element 22 = .ok (.imul, 1) := dk_104 (dk_at dksX4_element_0 22 rfl rfl)
theorem dX4_element_23 : decode cX4_element 23 = .ok (.iload_n 2, 1) := dk_28 (dk_at dksX4_element_0 23 rfl rfl)
theorem dX4_element_24 : decode cX4_element 24 = .ok (.iadd, 1) := dk_96 (dk_at dksX4_element_1 0 rfl rfl)
theorem dX4_element_25 : decode cX4_element 25 = .ok (.laload, 1) := dk_47 (dk_at dksX4_element_1 1 rfl rfl)
theorem dX4_element_26 : decode cX4_element 26 = .ok (.lreturn, 1) := dk_173 (dk_at dksX4_element_1 2 rfl rfl)
abbrev cX4_shift : ByteArray := prog_34_method_87_code
def yX4_shift : MethodName := ⟨RX4, "shift", "(IIIII)I"⟩
def dkwX4_shift_8 : List UInt8 := [167, 255, 224, 21, 5, 172]
abbrev dktX4_shift_8 : List UInt8 := dkwX4_shift_8 ++ []
def dkwX4_shift_7 : List UInt8 := [180, 0, 86, 16, 60, 29, 104, 21, 4, 96, 21, 6, 96, 42, 180, 0, 89, 21, 6, 47, 80, 132, 6, 1]
abbrev dktX4_shift_7 : List UInt8 := dkwX4_shift_7 ++ dktX4_shift_8
def dkwX4_shift_6 : List UInt8 := [21, 6, 96, 47, 80, 132, 6, 1, 167, 255, 225, 3, 54, 6, 21, 6, 21, 5, 162, 0, 31, 42]
abbrev dktX4_shift_6 : List UInt8 := dkwX4_shift_6 ++ dktX4_shift_7
def dkwX4_shift_5 : List UInt8 := [21, 6, 21, 5, 162, 0, 30, 42, 180, 0, 89, 21, 6, 42, 180, 0, 86, 16, 60, 27, 104, 28, 96]
abbrev dktX4_shift_5 : List UInt8 := dkwX4_shift_5 ++ dktX4_shift_6
def dkwX4_shift_4 : List UInt8 := [163, 0, 17, 21, 4, 42, 180, 0, 83, 29, 46, 21, 5, 100, 164, 0, 6, 16, 243, 172, 3, 54, 6]
abbrev dktX4_shift_4 : List UInt8 := dkwX4_shift_4 ++ dktX4_shift_5
def dkwX4_shift_3 : List UInt8 := [155, 0, 39, 28, 155, 0, 35, 21, 4, 155, 0, 30, 28, 42, 180, 0, 83, 27, 46, 21, 5, 100]
abbrev dktX4_shift_3 : List UInt8 := dkwX4_shift_3 ++ dktX4_shift_4
def dkwX4_shift_2 : List UInt8 := [161, 0, 18, 42, 180, 0, 80, 27, 46, 42, 180, 0, 80, 29, 46, 159, 0, 6, 16, 244, 172, 21, 5]
abbrev dktX4_shift_2 : List UInt8 := dkwX4_shift_2 ++ dktX4_shift_3
def dkwX4_shift_1 : List UInt8 := [155, 0, 12, 42, 180, 0, 80, 29, 46, 156, 0, 6, 16, 245, 172, 42, 180, 0, 80, 27, 46, 16, 50]
abbrev dktX4_shift_1 : List UInt8 := dkwX4_shift_1 ++ dktX4_shift_2
def dkwX4_shift_0 : List UInt8 := [27, 184, 0, 114, 153, 0, 10, 29, 184, 0, 114, 154, 0, 5, 2, 172, 42, 180, 0, 80, 27, 46]
abbrev dktX4_shift_0 : List UInt8 := dkwX4_shift_0 ++ dktX4_shift_1
theorem dksX4_shift_0 : cX4_shift.data.toList.drop 0 = dktX4_shift_0 := by decide +kernel
theorem dksX4_shift_1 : cX4_shift.data.toList.drop 22 = dktX4_shift_1 := dk_seg dksX4_shift_0 22 rfl rfl
theorem dksX4_shift_2 : cX4_shift.data.toList.drop 45 = dktX4_shift_2 := dk_seg dksX4_shift_1 23 rfl rfl
theorem dksX4_shift_3 : cX4_shift.data.toList.drop 68 = dktX4_shift_3 := dk_seg dksX4_shift_2 23 rfl rfl
theorem dksX4_shift_4 : cX4_shift.data.toList.drop 90 = dktX4_shift_4 := dk_seg dksX4_shift_3 22 rfl rfl
theorem dksX4_shift_5 : cX4_shift.data.toList.drop 113 = dktX4_shift_5 := dk_seg dksX4_shift_4 23 rfl rfl
theorem dksX4_shift_6 : cX4_shift.data.toList.drop 136 = dktX4_shift_6 := dk_seg dksX4_shift_5 23 rfl rfl
theorem dksX4_shift_7 : cX4_shift.data.toList.drop 158 = dktX4_shift_7 := dk_seg dksX4_shift_6 22 rfl rfl
theorem dksX4_shift_8 : cX4_shift.data.toList.drop 182 = dktX4_shift_8 := dk_seg dksX4_shift_7 24 rfl rfl
theorem dX4_shift_0 : decode cX4_shift 0 = .ok (.iload_n 1, 1) := dk_27 (dk_at dksX4_shift_0 0 rfl rfl)
theorem dX4_shift_1 : decode cX4_shift 1 = .ok (.invokestatic 114, 3) := dk_184 0 114 (dk_at dksX4_shift_0 1 rfl rfl)
theorem dX4_shift_4 : decode cX4_shift 4 = .ok (.ifCond .eq 10, 3) := dk_153 0 10 (dk_at dksX4_shift_0 4 rfl rfl)
theorem dX4_shift_7 : decode cX4_shift 7 = .ok (.iload_n 3, 1) := dk_29 (dk_at dksX4_shift_0 7 rfl rfl)
theorem dX4_shift_8 : decode cX4_shift 8 = .ok (.invokestatic 114, 3) := dk_184 0 114 (dk_at dksX4_shift_0 8 rfl rfl)
theorem dX4_shift_11 : decode cX4_shift 11 = .ok (.ifCond .ne 5, 3) := dk_154 0 5 (dk_at dksX4_shift_0 11 rfl rfl)
theorem dX4_shift_14 : decode cX4_shift 14 = .ok (.iconst (-1), 1) := dk_2 (dk_at dksX4_shift_0 14 rfl rfl)
theorem dX4_shift_15 : decode cX4_shift 15 = .ok (.ireturn, 1) := dk_172 (dk_at dksX4_shift_0 15 rfl rfl)
theorem dX4_shift_16 : decode cX4_shift 16 = .ok (.aload_n 0, 1) := dk_42 (dk_at dksX4_shift_0 16 rfl rfl)
theorem dX4_shift_17 : decode cX4_shift 17 = .ok (.getfield 80, 3) := dk_180 0 80 (dk_at dksX4_shift_0 17 rfl rfl)
theorem dX4_shift_20 : decode cX4_shift 20 = .ok (.iload_n 1, 1) := dk_27 (dk_at dksX4_shift_0 20 rfl rfl)
theorem dX4_shift_21 : decode cX4_shift 21 = .ok (.iaload, 1) := dk_46 (dk_at dksX4_shift_0 21 rfl rfl)
theorem dX4_shift_22 : decode cX4_shift 22 = .ok (.ifCond .lt 12, 3) := dk_155 0 12 (dk_at dksX4_shift_1 0 rfl rfl)
theorem dX4_shift_25 : decode cX4_shift 25 = .ok (.aload_n 0, 1) := dk_42 (dk_at dksX4_shift_1 3 rfl rfl)
theorem dX4_shift_26 : decode cX4_shift 26 = .ok (.getfield 80, 3) := dk_180 0 80 (dk_at dksX4_shift_1 4 rfl rfl)
theorem dX4_shift_29 : decode cX4_shift 29 = .ok (.iload_n 3, 1) := dk_29 (dk_at dksX4_shift_1 7 rfl rfl)
theorem dX4_shift_30 : decode cX4_shift 30 = .ok (.iaload, 1) := dk_46 (dk_at dksX4_shift_1 8 rfl rfl)
theorem dX4_shift_31 : decode cX4_shift 31 = .ok (.ifCond .ge 6, 3) := dk_156 0 6 (dk_at dksX4_shift_1 9 rfl rfl)
theorem dX4_shift_34 : decode cX4_shift 34 = .ok (.bipush (-11), 2) := dk_16 245 (dk_at dksX4_shift_1 12 rfl rfl)
theorem dX4_shift_36 : decode cX4_shift 36 = .ok (.ireturn, 1) := dk_172 (dk_at dksX4_shift_1 14 rfl rfl)
theorem dX4_shift_37 : decode cX4_shift 37 = .ok (.aload_n 0, 1) := dk_42 (dk_at dksX4_shift_1 15 rfl rfl)
theorem dX4_shift_38 : decode cX4_shift 38 = .ok (.getfield 80, 3) := dk_180 0 80 (dk_at dksX4_shift_1 16 rfl rfl)
theorem dX4_shift_41 : decode cX4_shift 41 = .ok (.iload_n 1, 1) := dk_27 (dk_at dksX4_shift_1 19 rfl rfl)
theorem dX4_shift_42 : decode cX4_shift 42 = .ok (.iaload, 1) := dk_46 (dk_at dksX4_shift_1 20 rfl rfl)
theorem dX4_shift_43 : decode cX4_shift 43 = .ok (.bipush 50, 2) := dk_16 50 (dk_at dksX4_shift_1 21 rfl rfl)
theorem dX4_shift_45 : decode cX4_shift 45 = .ok (.if_icmp .lt 18, 3) := dk_161 0 18 (dk_at dksX4_shift_2 0 rfl rfl)
theorem dX4_shift_48 : decode cX4_shift 48 = .ok (.aload_n 0, 1) := dk_42 (dk_at dksX4_shift_2 3 rfl rfl)
theorem dX4_shift_49 : decode cX4_shift 49 = .ok (.getfield 80, 3) := dk_180 0 80 (dk_at dksX4_shift_2 4 rfl rfl)
theorem dX4_shift_52 : decode cX4_shift 52 = .ok (.iload_n 1, 1) := dk_27 (dk_at dksX4_shift_2 7 rfl rfl)
theorem dX4_shift_53 : decode cX4_shift 53 = .ok (.iaload, 1) := dk_46 (dk_at dksX4_shift_2 8 rfl rfl)
theorem dX4_shift_54 : decode cX4_shift 54 = .ok (.aload_n 0, 1) := dk_42 (dk_at dksX4_shift_2 9 rfl rfl)
theorem dX4_shift_55 : decode cX4_shift 55 = .ok (.getfield 80, 3) := dk_180 0 80 (dk_at dksX4_shift_2 10 rfl rfl)
theorem dX4_shift_58 : decode cX4_shift 58 = .ok (.iload_n 3, 1) := dk_29 (dk_at dksX4_shift_2 13 rfl rfl)
theorem dX4_shift_59 : decode cX4_shift 59 = .ok (.iaload, 1) := dk_46 (dk_at dksX4_shift_2 14 rfl rfl)
theorem dX4_shift_60 : decode cX4_shift 60 = .ok (.if_icmp .eq 6, 3) := dk_159 0 6 (dk_at dksX4_shift_2 15 rfl rfl)
theorem dX4_shift_63 : decode cX4_shift 63 = .ok (.bipush (-12), 2) := dk_16 244 (dk_at dksX4_shift_2 18 rfl rfl)
theorem dX4_shift_65 : decode cX4_shift 65 = .ok (.ireturn, 1) := dk_172 (dk_at dksX4_shift_2 20 rfl rfl)
theorem dX4_shift_66 : decode cX4_shift 66 = .ok (.iload 5, 2) := dk_21 5 (dk_at dksX4_shift_2 21 rfl rfl)
theorem dX4_shift_68 : decode cX4_shift 68 = .ok (.ifCond .lt 39, 3) := dk_155 0 39 (dk_at dksX4_shift_3 0 rfl rfl)
theorem dX4_shift_71 : decode cX4_shift 71 = .ok (.iload_n 2, 1) := dk_28 (dk_at dksX4_shift_3 3 rfl rfl)
theorem dX4_shift_72 : decode cX4_shift 72 = .ok (.ifCond .lt 35, 3) := dk_155 0 35 (dk_at dksX4_shift_3 4 rfl rfl)
theorem dX4_shift_75 : decode cX4_shift 75 = .ok (.iload 4, 2) := dk_21 4 (dk_at dksX4_shift_3 7 rfl rfl)
theorem dX4_shift_77 : decode cX4_shift 77 = .ok (.ifCond .lt 30, 3) := dk_155 0 30 (dk_at dksX4_shift_3 9 rfl rfl)
theorem dX4_shift_80 : decode cX4_shift 80 = .ok (.iload_n 2, 1) := dk_28 (dk_at dksX4_shift_3 12 rfl rfl)
theorem dX4_shift_81 : decode cX4_shift 81 = .ok (.aload_n 0, 1) := dk_42 (dk_at dksX4_shift_3 13 rfl rfl)
theorem dX4_shift_82 : decode cX4_shift 82 = .ok (.getfield 83, 3) := dk_180 0 83 (dk_at dksX4_shift_3 14 rfl rfl)
theorem dX4_shift_85 : decode cX4_shift 85 = .ok (.iload_n 1, 1) := dk_27 (dk_at dksX4_shift_3 17 rfl rfl)
theorem dX4_shift_86 : decode cX4_shift 86 = .ok (.iaload, 1) := dk_46 (dk_at dksX4_shift_3 18 rfl rfl)
theorem dX4_shift_87 : decode cX4_shift 87 = .ok (.iload 5, 2) := dk_21 5 (dk_at dksX4_shift_3 19 rfl rfl)
theorem dX4_shift_89 : decode cX4_shift 89 = .ok (.isub, 1) := dk_100 (dk_at dksX4_shift_3 21 rfl rfl)
theorem dX4_shift_90 : decode cX4_shift 90 = .ok (.if_icmp .gt 17, 3) := dk_163 0 17 (dk_at dksX4_shift_4 0 rfl rfl)
theorem dX4_shift_93 : decode cX4_shift 93 = .ok (.iload 4, 2) := dk_21 4 (dk_at dksX4_shift_4 3 rfl rfl)
theorem dX4_shift_95 : decode cX4_shift 95 = .ok (.aload_n 0, 1) := dk_42 (dk_at dksX4_shift_4 5 rfl rfl)
theorem dX4_shift_96 : decode cX4_shift 96 = .ok (.getfield 83, 3) := dk_180 0 83 (dk_at dksX4_shift_4 6 rfl rfl)
theorem dX4_shift_99 : decode cX4_shift 99 = .ok (.iload_n 3, 1) := dk_29 (dk_at dksX4_shift_4 9 rfl rfl)
theorem dX4_shift_100 : decode cX4_shift 100 = .ok (.iaload, 1) := dk_46 (dk_at dksX4_shift_4 10 rfl rfl)
theorem dX4_shift_101 : decode cX4_shift 101 = .ok (.iload 5, 2) := dk_21 5 (dk_at dksX4_shift_4 11 rfl rfl)
theorem dX4_shift_103 : decode cX4_shift 103 = .ok (.isub, 1) := dk_100 (dk_at dksX4_shift_4 13 rfl rfl)
theorem dX4_shift_104 : decode cX4_shift 104 = .ok (.if_icmp .le 6, 3) := dk_164 0 6 (dk_at dksX4_shift_4 14 rfl rfl)
theorem dX4_shift_107 : decode cX4_shift 107 = .ok (.bipush (-13), 2) := dk_16 243 (dk_at dksX4_shift_4 17 rfl rfl)
theorem dX4_shift_109 : decode cX4_shift 109 = .ok (.ireturn, 1) := dk_172 (dk_at dksX4_shift_4 19 rfl rfl)
theorem dX4_shift_110 : decode cX4_shift 110 = .ok (.iconst 0, 1) := dk_3 (dk_at dksX4_shift_4 20 rfl rfl)
theorem dX4_shift_111 : decode cX4_shift 111 = .ok (.istore 6, 2) := dk_54 6 (dk_at dksX4_shift_4 21 rfl rfl)
theorem dX4_shift_113 : decode cX4_shift 113 = .ok (.iload 6, 2) := dk_21 6 (dk_at dksX4_shift_5 0 rfl rfl)
theorem dX4_shift_115 : decode cX4_shift 115 = .ok (.iload 5, 2) := dk_21 5 (dk_at dksX4_shift_5 2 rfl rfl)
theorem dX4_shift_117 : decode cX4_shift 117 = .ok (.if_icmp .ge 30, 3) := dk_162 0 30 (dk_at dksX4_shift_5 4 rfl rfl)
theorem dX4_shift_120 : decode cX4_shift 120 = .ok (.aload_n 0, 1) := dk_42 (dk_at dksX4_shift_5 7 rfl rfl)
theorem dX4_shift_121 : decode cX4_shift 121 = .ok (.getfield 89, 3) := dk_180 0 89 (dk_at dksX4_shift_5 8 rfl rfl)
theorem dX4_shift_124 : decode cX4_shift 124 = .ok (.iload 6, 2) := dk_21 6 (dk_at dksX4_shift_5 11 rfl rfl)
theorem dX4_shift_126 : decode cX4_shift 126 = .ok (.aload_n 0, 1) := dk_42 (dk_at dksX4_shift_5 13 rfl rfl)
theorem dX4_shift_127 : decode cX4_shift 127 = .ok (.getfield 86, 3) := dk_180 0 86 (dk_at dksX4_shift_5 14 rfl rfl)
theorem dX4_shift_130 : decode cX4_shift 130 = .ok (.bipush 60, 2) := dk_16 60 (dk_at dksX4_shift_5 17 rfl rfl)
theorem dX4_shift_132 : decode cX4_shift 132 = .ok (.iload_n 1, 1) := dk_27 (dk_at dksX4_shift_5 19 rfl rfl)
theorem dX4_shift_133 : decode cX4_shift 133 = .ok (.imul, 1) := dk_104 (dk_at dksX4_shift_5 20 rfl rfl)
theorem dX4_shift_134 : decode cX4_shift 134 = .ok (.iload_n 2, 1) := dk_28 (dk_at dksX4_shift_5 21 rfl rfl)
theorem dX4_shift_135 : decode cX4_shift 135 = .ok (.iadd, 1) := dk_96 (dk_at dksX4_shift_5 22 rfl rfl)
theorem dX4_shift_136 : decode cX4_shift 136 = .ok (.iload 6, 2) := dk_21 6 (dk_at dksX4_shift_6 0 rfl rfl)
theorem dX4_shift_138 : decode cX4_shift 138 = .ok (.iadd, 1) := dk_96 (dk_at dksX4_shift_6 2 rfl rfl)
theorem dX4_shift_139 : decode cX4_shift 139 = .ok (.laload, 1) := dk_47 (dk_at dksX4_shift_6 3 rfl rfl)
theorem dX4_shift_140 : decode cX4_shift 140 = .ok (.lastore, 1) := dk_80 (dk_at dksX4_shift_6 4 rfl rfl)
theorem dX4_shift_141 : decode cX4_shift 141 = .ok (.iinc 6 1, 3) := dk_132 6 1 (dk_at dksX4_shift_6 5 rfl rfl)
theorem dX4_shift_144 : decode cX4_shift 144 = .ok (.goto (-31), 3) := dk_167 255 225 (dk_at dksX4_shift_6 8 rfl rfl)
theorem dX4_shift_147 : decode cX4_shift 147 = .ok (.iconst 0, 1) := dk_3 (dk_at dksX4_shift_6 11 rfl rfl)
theorem dX4_shift_148 : decode cX4_shift 148 = .ok (.istore 6, 2) := dk_54 6 (dk_at dksX4_shift_6 12 rfl rfl)
theorem dX4_shift_150 : decode cX4_shift 150 = .ok (.iload 6, 2) := dk_21 6 (dk_at dksX4_shift_6 14 rfl rfl)
theorem dX4_shift_152 : decode cX4_shift 152 = .ok (.iload 5, 2) := dk_21 5 (dk_at dksX4_shift_6 16 rfl rfl)
theorem dX4_shift_154 : decode cX4_shift 154 = .ok (.if_icmp .ge 31, 3) := dk_162 0 31 (dk_at dksX4_shift_6 18 rfl rfl)
theorem dX4_shift_157 : decode cX4_shift 157 = .ok (.aload_n 0, 1) := dk_42 (dk_at dksX4_shift_6 21 rfl rfl)
theorem dX4_shift_158 : decode cX4_shift 158 = .ok (.getfield 86, 3) := dk_180 0 86 (dk_at dksX4_shift_7 0 rfl rfl)
theorem dX4_shift_161 : decode cX4_shift 161 = .ok (.bipush 60, 2) := dk_16 60 (dk_at dksX4_shift_7 3 rfl rfl)
theorem dX4_shift_163 : decode cX4_shift 163 = .ok (.iload_n 3, 1) := dk_29 (dk_at dksX4_shift_7 5 rfl rfl)
theorem dX4_shift_164 : decode cX4_shift 164 = .ok (.imul, 1) := dk_104 (dk_at dksX4_shift_7 6 rfl rfl)
theorem dX4_shift_165 : decode cX4_shift 165 = .ok (.iload 4, 2) := dk_21 4 (dk_at dksX4_shift_7 7 rfl rfl)
theorem dX4_shift_167 : decode cX4_shift 167 = .ok (.iadd, 1) := dk_96 (dk_at dksX4_shift_7 9 rfl rfl)
theorem dX4_shift_168 : decode cX4_shift 168 = .ok (.iload 6, 2) := dk_21 6 (dk_at dksX4_shift_7 10 rfl rfl)
theorem dX4_shift_170 : decode cX4_shift 170 = .ok (.iadd, 1) := dk_96 (dk_at dksX4_shift_7 12 rfl rfl)
theorem dX4_shift_171 : decode cX4_shift 171 = .ok (.aload_n 0, 1) := dk_42 (dk_at dksX4_shift_7 13 rfl rfl)
theorem dX4_shift_172 : decode cX4_shift 172 = .ok (.getfield 89, 3) := dk_180 0 89 (dk_at dksX4_shift_7 14 rfl rfl)
theorem dX4_shift_175 : decode cX4_shift 175 = .ok (.iload 6, 2) := dk_21 6 (dk_at dksX4_shift_7 17 rfl rfl)
theorem dX4_shift_177 : decode cX4_shift 177 = .ok (.laload, 1) := dk_47 (dk_at dksX4_shift_7 19 rfl rfl)
theorem dX4_shift_178 : decode cX4_shift 178 = .ok (.lastore, 1) := dk_80 (dk_at dksX4_shift_7 20 rfl rfl)
theorem dX4_shift_179 : decode cX4_shift 179 = .ok (.iinc 6 1, 3) := dk_132 6 1 (dk_at dksX4_shift_7 21 rfl rfl)
theorem dX4_shift_182 : decode cX4_shift 182 = .ok (.goto (-32), 3) := dk_167 255 224 (dk_at dksX4_shift_8 0 rfl rfl)
theorem dX4_shift_185 : decode cX4_shift 185 = .ok (.iload 5, 2) := dk_21 5 (dk_at dksX4_shift_8 3 rfl rfl)
theorem dX4_shift_187 : decode cX4_shift 187 = .ok (.ireturn, 1) := dk_172 (dk_at dksX4_shift_8 5 rfl rfl)
abbrev cX4_taken : ByteArray := prog_34_method_88_code
def yX4_taken : MethodName := ⟨RX4, "taken", "(II)I"⟩
def dkwX4_taken_4 : List UInt8 := [167, 0, 5, 16, 244, 172]
abbrev dktX4_taken_4 : List UInt8 := dkwX4_taken_4 ++ []
def dkwX4_taken_3 : List UInt8 := [184, 1, 84, 62, 167, 255, 242, 29, 28, 160, 0, 16, 42, 42, 180, 0, 80, 27, 46, 182, 1, 81]
abbrev dktX4_taken_3 : List UInt8 := dkwX4_taken_3 ++ dktX4_taken_4
def dkwX4_taken_2 : List UInt8 := [172, 42, 42, 180, 0, 80, 27, 46, 182, 1, 81, 62, 29, 28, 159, 0, 15, 29, 158, 0, 11, 29]
abbrev dktX4_taken_2 : List UInt8 := dkwX4_taken_2 ++ dktX4_taken_3
def dkwX4_taken_1 : List UInt8 := [180, 0, 80, 27, 46, 156, 0, 6, 16, 245, 172, 42, 180, 0, 80, 27, 46, 16, 50, 161, 0, 6, 16, 244]
abbrev dktX4_taken_1 : List UInt8 := dkwX4_taken_1 ++ dktX4_taken_2
def dkwX4_taken_0 : List UInt8 := [27, 184, 0, 114, 153, 0, 15, 28, 133, 9, 20, 1, 43, 184, 0, 102, 154, 0, 5, 2, 172, 42]
abbrev dktX4_taken_0 : List UInt8 := dkwX4_taken_0 ++ dktX4_taken_1
theorem dksX4_taken_0 : cX4_taken.data.toList.drop 0 = dktX4_taken_0 := by decide +kernel
theorem dksX4_taken_1 : cX4_taken.data.toList.drop 22 = dktX4_taken_1 := dk_seg dksX4_taken_0 22 rfl rfl
theorem dksX4_taken_2 : cX4_taken.data.toList.drop 46 = dktX4_taken_2 := dk_seg dksX4_taken_1 24 rfl rfl
theorem dksX4_taken_3 : cX4_taken.data.toList.drop 68 = dktX4_taken_3 := dk_seg dksX4_taken_2 22 rfl rfl
theorem dksX4_taken_4 : cX4_taken.data.toList.drop 90 = dktX4_taken_4 := dk_seg dksX4_taken_3 22 rfl rfl
theorem dX4_taken_0 : decode cX4_taken 0 = .ok (.iload_n 1, 1) := dk_27 (dk_at dksX4_taken_0 0 rfl rfl)
theorem dX4_taken_1 : decode cX4_taken 1 = .ok (.invokestatic 114, 3) := dk_184 0 114 (dk_at dksX4_taken_0 1 rfl rfl)
theorem dX4_taken_4 : decode cX4_taken 4 = .ok (.ifCond .eq 15, 3) := dk_153 0 15 (dk_at dksX4_taken_0 4 rfl rfl)
theorem dX4_taken_7 : decode cX4_taken 7 = .ok (.iload_n 2, 1) := dk_28 (dk_at dksX4_taken_0 7 rfl rfl)
theorem dX4_taken_8 : decode cX4_taken 8 = .ok (.i2l, 1) := dk_133 (dk_at dksX4_taken_0 8 rfl rfl)
theorem dX4_taken_9 : decode cX4_taken 9 = .ok (.lconst 0, 1) := dk_9 (dk_at dksX4_taken_0 9 rfl rfl)
theorem dX4_taken_10 : decode cX4_taken 10 = .ok (.ldc2_w 299, 3) := dk_20 1 43 (dk_at dksX4_taken_0 10 rfl rfl)
theorem dX4_taken_13 : decode cX4_taken 13 = .ok (.invokestatic 102, 3) := dk_184 0 102 (dk_at dksX4_taken_0 13 rfl rfl)
theorem dX4_taken_16 : decode cX4_taken 16 = .ok (.ifCond .ne 5, 3) := dk_154 0 5 (dk_at dksX4_taken_0 16 rfl rfl)
theorem dX4_taken_19 : decode cX4_taken 19 = .ok (.iconst (-1), 1) := dk_2 (dk_at dksX4_taken_0 19 rfl rfl)
theorem dX4_taken_20 : decode cX4_taken 20 = .ok (.ireturn, 1) := dk_172 (dk_at dksX4_taken_0 20 rfl rfl)
theorem dX4_taken_21 : decode cX4_taken 21 = .ok (.aload_n 0, 1) := dk_42 (dk_at dksX4_taken_0 21 rfl rfl)
theorem dX4_taken_22 : decode cX4_taken 22 = .ok (.getfield 80, 3) := dk_180 0 80 (dk_at dksX4_taken_1 0 rfl rfl)
theorem dX4_taken_25 : decode cX4_taken 25 = .ok (.iload_n 1, 1) := dk_27 (dk_at dksX4_taken_1 3 rfl rfl)
theorem dX4_taken_26 : decode cX4_taken 26 = .ok (.iaload, 1) := dk_46 (dk_at dksX4_taken_1 4 rfl rfl)
theorem dX4_taken_27 : decode cX4_taken 27 = .ok (.ifCond .ge 6, 3) := dk_156 0 6 (dk_at dksX4_taken_1 5 rfl rfl)
theorem dX4_taken_30 : decode cX4_taken 30 = .ok (.bipush (-11), 2) := dk_16 245 (dk_at dksX4_taken_1 8 rfl rfl)
theorem dX4_taken_32 : decode cX4_taken 32 = .ok (.ireturn, 1) := dk_172 (dk_at dksX4_taken_1 10 rfl rfl)
theorem dX4_taken_33 : decode cX4_taken 33 = .ok (.aload_n 0, 1) := dk_42 (dk_at dksX4_taken_1 11 rfl rfl)
theorem dX4_taken_34 : decode cX4_taken 34 = .ok (.getfield 80, 3) := dk_180 0 80 (dk_at dksX4_taken_1 12 rfl rfl)
theorem dX4_taken_37 : decode cX4_taken 37 = .ok (.iload_n 1, 1) := dk_27 (dk_at dksX4_taken_1 15 rfl rfl)
theorem dX4_taken_38 : decode cX4_taken 38 = .ok (.iaload, 1) := dk_46 (dk_at dksX4_taken_1 16 rfl rfl)
theorem dX4_taken_39 : decode cX4_taken 39 = .ok (.bipush 50, 2) := dk_16 50 (dk_at dksX4_taken_1 17 rfl rfl)
theorem dX4_taken_41 : decode cX4_taken 41 = .ok (.if_icmp .lt 6, 3) := dk_161 0 6 (dk_at dksX4_taken_1 19 rfl rfl)
theorem dX4_taken_44 : decode cX4_taken 44 = .ok (.bipush (-12), 2) := dk_16 244 (dk_at dksX4_taken_1 22 rfl rfl)
theorem dX4_taken_46 : decode cX4_taken 46 = .ok (.ireturn, 1) := dk_172 (dk_at dksX4_taken_2 0 rfl rfl)
theorem dX4_taken_47 : decode cX4_taken 47 = .ok (.aload_n 0, 1) := dk_42 (dk_at dksX4_taken_2 1 rfl rfl)
theorem dX4_taken_48 : decode cX4_taken 48 = .ok (.aload_n 0, 1) := dk_42 (dk_at dksX4_taken_2 2 rfl rfl)
theorem dX4_taken_49 : decode cX4_taken 49 = .ok (.getfield 80, 3) := dk_180 0 80 (dk_at dksX4_taken_2 3 rfl rfl)
theorem dX4_taken_52 : decode cX4_taken 52 = .ok (.iload_n 1, 1) := dk_27 (dk_at dksX4_taken_2 6 rfl rfl)
theorem dX4_taken_53 : decode cX4_taken 53 = .ok (.iaload, 1) := dk_46 (dk_at dksX4_taken_2 7 rfl rfl)
theorem dX4_taken_54 : decode cX4_taken 54 = .ok (.invokevirtual 337, 3) := dk_182 1 81 (dk_at dksX4_taken_2 8 rfl rfl)
theorem dX4_taken_57 : decode cX4_taken 57 = .ok (.istore_n 3, 1) := dk_62 (dk_at dksX4_taken_2 11 rfl rfl)
theorem dX4_taken_58 : decode cX4_taken 58 = .ok (.iload_n 3, 1) := dk_29 (dk_at dksX4_taken_2 12 rfl rfl)
theorem dX4_taken_59 : decode cX4_taken 59 = .ok (.iload_n 2, 1) := dk_28 (dk_at dksX4_taken_2 13 rfl rfl)
theorem dX4_taken_60 : decode cX4_taken 60 = .ok (.if_icmp .eq 15, 3) := dk_159 0 15 (dk_at dksX4_taken_2 14 rfl rfl)
theorem dX4_taken_63 : decode cX4_taken 63 = .ok (.iload_n 3, 1) := dk_29 (dk_at dksX4_taken_2 17 rfl rfl)
theorem dX4_taken_64 : decode cX4_taken 64 = .ok (.ifCond .le 11, 3) := dk_158 0 11 (dk_at dksX4_taken_2 18 rfl rfl)
theorem dX4_taken_67 : decode cX4_taken 67 = .ok (.iload_n 3, 1) := dk_29 (dk_at dksX4_taken_2 21 rfl rfl)
theorem dX4_taken_68 : decode cX4_taken 68 = .ok (.invokestatic 340, 3) := dk_184 1 84 (dk_at dksX4_taken_3 0 rfl rfl)
theorem dX4_taken_71 : decode cX4_taken 71 = .ok (.istore_n 3, 1) := dk_62 (dk_at dksX4_taken_3 3 rfl rfl)
theorem dX4_taken_72 : decode cX4_taken 72 = .ok (.goto (-14), 3) := dk_167 255 242 (dk_at dksX4_taken_3 4 rfl rfl)
theorem dX4_taken_75 : decode cX4_taken 75 = .ok (.iload_n 3, 1) := dk_29 (dk_at dksX4_taken_3 7 rfl rfl)
theorem dX4_taken_76 : decode cX4_taken 76 = .ok (.iload_n 2, 1) := dk_28 (dk_at dksX4_taken_3 8 rfl rfl)
theorem dX4_taken_77 : decode cX4_taken 77 = .ok (.if_icmp .ne 16, 3) := dk_160 0 16 (dk_at dksX4_taken_3 9 rfl rfl)
theorem dX4_taken_80 : decode cX4_taken 80 = .ok (.aload_n 0, 1) := dk_42 (dk_at dksX4_taken_3 12 rfl rfl)
theorem dX4_taken_81 : decode cX4_taken 81 = .ok (.aload_n 0, 1) := dk_42 (dk_at dksX4_taken_3 13 rfl rfl)
theorem dX4_taken_82 : decode cX4_taken 82 = .ok (.getfield 80, 3) := dk_180 0 80 (dk_at dksX4_taken_3 14 rfl rfl)
theorem dX4_taken_85 : decode cX4_taken 85 = .ok (.iload_n 1, 1) := dk_27 (dk_at dksX4_taken_3 17 rfl rfl)
theorem dX4_taken_86 : decode cX4_taken 86 = .ok (.iaload, 1) := dk_46 (dk_at dksX4_taken_3 18 rfl rfl)
theorem dX4_taken_87 : decode cX4_taken 87 = .ok (.invokevirtual 337, 3) := dk_182 1 81 (dk_at dksX4_taken_3 19 rfl rfl)
theorem dX4_taken_90 : decode cX4_taken 90 = .ok (.goto 5, 3) := dk_167 0 5 (dk_at dksX4_taken_4 0 rfl rfl)
theorem dX4_taken_93 : decode cX4_taken 93 = .ok (.bipush (-12), 2) := dk_16 244 (dk_at dksX4_taken_4 3 rfl rfl)
theorem dX4_taken_95 : decode cX4_taken 95 = .ok (.ireturn, 1) := dk_172 (dk_at dksX4_taken_4 5 rfl rfl)
abbrev cX4_kindOf : ByteArray := prog_34_method_70_code
def yX4_kindOf : MethodName := ⟨RX4, "kindOf", "(I)I"⟩
def dkwX4_kindOf_0 : List UInt8 := [42, 180, 0, 74, 27, 46, 172]
abbrev dktX4_kindOf_0 : List UInt8 := dkwX4_kindOf_0 ++ []
theorem dksX4_kindOf_0 : cX4_kindOf.data.toList.drop 0 = dktX4_kindOf_0 := by decide +kernel
theorem dX4_kindOf_0 : decode cX4_kindOf 0 = .ok (.aload_n 0, 1) := dk_42 (dk_at dksX4_kindOf_0 0 rfl rfl)
theorem dX4_kindOf_1 : decode cX4_kindOf 1 = .ok (.getfield 74, 3) := dk_180 0 74 (dk_at dksX4_kindOf_0 1 rfl rfl)
theorem dX4_kindOf_4 : decode cX4_kindOf 4 = .ok (.iload_n 1, 1) := dk_27 (dk_at dksX4_kindOf_0 4 rfl rfl)
theorem dX4_kindOf_5 : decode cX4_kindOf 5 = .ok (.iaload, 1) := dk_46 (dk_at dksX4_kindOf_0 5 rfl rfl)
theorem dX4_kindOf_6 : decode cX4_kindOf 6 = .ok (.ireturn, 1) := dk_172 (dk_at dksX4_kindOf_0 6 rfl rfl)
abbrev cX4_above : ByteArray := prog_34_method_72_code
def yX4_above : MethodName := ⟨RX4, "above", "(I)I"⟩
def dkwX4_above_1 : List UInt8 := [167, 0, 14, 26, 16, 7, 160, 0, 7, 7, 167, 0, 4, 3, 172]
abbrev dktX4_above_1 : List UInt8 := dkwX4_above_1 ++ []
def dkwX4_above_0 : List UInt8 := [26, 6, 160, 0, 7, 5, 167, 0, 32, 26, 7, 160, 0, 7, 4, 167, 0, 23, 26, 8, 160, 0, 7, 6]
abbrev dktX4_above_0 : List UInt8 := dkwX4_above_0 ++ dktX4_above_1
theorem dksX4_above_0 : cX4_above.data.toList.drop 0 = dktX4_above_0 := by decide +kernel
theorem dksX4_above_1 : cX4_above.data.toList.drop 24 = dktX4_above_1 := dk_seg dksX4_above_0 24 rfl rfl
theorem dX4_above_0 : decode cX4_above 0 = .ok (.iload_n 0, 1) := dk_26 (dk_at dksX4_above_0 0 rfl rfl)
theorem dX4_above_1 : decode cX4_above 1 = .ok (.iconst 3, 1) := dk_6 (dk_at dksX4_above_0 1 rfl rfl)
theorem dX4_above_2 : decode cX4_above 2 = .ok (.if_icmp .ne 7, 3) := dk_160 0 7 (dk_at dksX4_above_0 2 rfl rfl)
theorem dX4_above_5 : decode cX4_above 5 = .ok (.iconst 2, 1) := dk_5 (dk_at dksX4_above_0 5 rfl rfl)
theorem dX4_above_6 : decode cX4_above 6 = .ok (.goto 32, 3) := dk_167 0 32 (dk_at dksX4_above_0 6 rfl rfl)
theorem dX4_above_9 : decode cX4_above 9 = .ok (.iload_n 0, 1) := dk_26 (dk_at dksX4_above_0 9 rfl rfl)
theorem dX4_above_10 : decode cX4_above 10 = .ok (.iconst 4, 1) := dk_7 (dk_at dksX4_above_0 10 rfl rfl)
theorem dX4_above_11 : decode cX4_above 11 = .ok (.if_icmp .ne 7, 3) := dk_160 0 7 (dk_at dksX4_above_0 11 rfl rfl)
theorem dX4_above_14 : decode cX4_above 14 = .ok (.iconst 1, 1) := dk_4 (dk_at dksX4_above_0 14 rfl rfl)
theorem dX4_above_15 : decode cX4_above 15 = .ok (.goto 23, 3) := dk_167 0 23 (dk_at dksX4_above_0 15 rfl rfl)
theorem dX4_above_18 : decode cX4_above 18 = .ok (.iload_n 0, 1) := dk_26 (dk_at dksX4_above_0 18 rfl rfl)
theorem dX4_above_19 : decode cX4_above 19 = .ok (.iconst 5, 1) := dk_8 (dk_at dksX4_above_0 19 rfl rfl)
theorem dX4_above_20 : decode cX4_above 20 = .ok (.if_icmp .ne 7, 3) := dk_160 0 7 (dk_at dksX4_above_0 20 rfl rfl)
theorem dX4_above_23 : decode cX4_above 23 = .ok (.iconst 3, 1) := dk_6 (dk_at dksX4_above_0 23 rfl rfl)
theorem dX4_above_24 : decode cX4_above 24 = .ok (.goto 14, 3) := dk_167 0 14 (dk_at dksX4_above_1 0 rfl rfl)
theorem dX4_above_27 : decode cX4_above 27 = .ok (.iload_n 0, 1) := dk_26 (dk_at dksX4_above_1 3 rfl rfl)
theorem dX4_above_28 : decode cX4_above 28 = .ok (.bipush 7, 2) := dk_16 7 (dk_at dksX4_above_1 4 rfl rfl)
theorem dX4_above_30 : decode cX4_above 30 = .ok (.if_icmp .ne 7, 3) := dk_160 0 7 (dk_at dksX4_above_1 6 rfl rfl)
theorem dX4_above_33 : decode cX4_above 33 = .ok (.iconst 4, 1) := dk_7 (dk_at dksX4_above_1 9 rfl rfl)
theorem dX4_above_34 : decode cX4_above 34 = .ok (.goto 4, 3) := dk_167 0 4 (dk_at dksX4_above_1 10 rfl rfl)
theorem dX4_above_37 : decode cX4_above 37 = .ok (.iconst 0, 1) := dk_3 (dk_at dksX4_above_1 13 rfl rfl)
theorem dX4_above_38 : decode cX4_above 38 = .ok (.ireturn, 1) := dk_172 (dk_at dksX4_above_1 14 rfl rfl)
abbrev cX4_count : ByteArray := prog_34_method_89_code
def yX4_count : MethodName := ⟨RX4, "count", "(I)I"⟩
def dkwX4_count_3 : List UInt8 := [172, 42, 180, 1, 40, 172, 42, 180, 1, 45, 172, 2, 172]
abbrev dktX4_count_3 : List UInt8 := dkwX4_count_3 ++ []
def dkwX4_count_2 : List UInt8 := [42, 180, 0, 99, 172, 42, 180, 1, 18, 172, 42, 182, 1, 87, 172, 42, 180, 0, 154, 172, 42, 180, 0, 92]
abbrev dktX4_count_2 : List UInt8 := dkwX4_count_2 ++ dktX4_count_3
def dkwX4_count_1 : List UInt8 := [170, 0, 0, 0, 0, 0, 78, 0, 0, 0, 0, 0, 0, 0, 6, 0, 0, 0, 43, 0, 0, 0, 48, 0, 0, 0, 53, 0, 0, 0, 58, 0, 0, 0, 63, 0, 0, 0, 68, 0, 0, 0, 73]
abbrev dktX4_count_1 : List UInt8 := dkwX4_count_1 ++ dktX4_count_2
def dkwX4_count_0 : List UInt8 := [27]
abbrev dktX4_count_0 : List UInt8 := dkwX4_count_0 ++ dktX4_count_1
theorem dksX4_count_0 : cX4_count.data.toList.drop 0 = dktX4_count_0 := by decide +kernel
theorem dksX4_count_1 : cX4_count.data.toList.drop 1 = dktX4_count_1 := dk_seg dksX4_count_0 1 rfl rfl
theorem dksX4_count_2 : cX4_count.data.toList.drop 44 = dktX4_count_2 := dk_seg dksX4_count_1 43 rfl rfl
theorem dksX4_count_3 : cX4_count.data.toList.drop 68 = dktX4_count_3 := dk_seg dksX4_count_2 24 rfl rfl
theorem dX4_count_0 : decode cX4_count 0 = .ok (.iload_n 1, 1) := dk_27 (dk_at dksX4_count_0 0 rfl rfl)
theorem dX4_count_1 : decode cX4_count 1 = .ok (.tableswitch 78 0 6 #[43, 48, 53, 58, 63, 68, 73], 43) := by decide +kernel
theorem dX4_count_44 : decode cX4_count 44 = .ok (.aload_n 0, 1) := dk_42 (dk_at dksX4_count_2 0 rfl rfl)
theorem dX4_count_45 : decode cX4_count 45 = .ok (.getfield 99, 3) := dk_180 0 99 (dk_at dksX4_count_2 1 rfl rfl)
theorem dX4_count_48 : decode cX4_count 48 = .ok (.ireturn, 1) := dk_172 (dk_at dksX4_count_2 4 rfl rfl)
theorem dX4_count_49 : decode cX4_count 49 = .ok (.aload_n 0, 1) := dk_42 (dk_at dksX4_count_2 5 rfl rfl)
theorem dX4_count_50 : decode cX4_count 50 = .ok (.getfield 274, 3) := dk_180 1 18 (dk_at dksX4_count_2 6 rfl rfl)
theorem dX4_count_53 : decode cX4_count 53 = .ok (.ireturn, 1) := dk_172 (dk_at dksX4_count_2 9 rfl rfl)
theorem dX4_count_54 : decode cX4_count 54 = .ok (.aload_n 0, 1) := dk_42 (dk_at dksX4_count_2 10 rfl rfl)
theorem dX4_count_55 : decode cX4_count 55 = .ok (.invokevirtual 343, 3) := dk_182 1 87 (dk_at dksX4_count_2 11 rfl rfl)
theorem dX4_count_58 : decode cX4_count 58 = .ok (.ireturn, 1) := dk_172 (dk_at dksX4_count_2 14 rfl rfl)
theorem dX4_count_59 : decode cX4_count 59 = .ok (.aload_n 0, 1) := dk_42 (dk_at dksX4_count_2 15 rfl rfl)
theorem dX4_count_60 : decode cX4_count 60 = .ok (.getfield 154, 3) := dk_180 0 154 (dk_at dksX4_count_2 16 rfl rfl)
theorem dX4_count_63 : decode cX4_count 63 = .ok (.ireturn, 1) := dk_172 (dk_at dksX4_count_2 19 rfl rfl)
theorem dX4_count_64 : decode cX4_count 64 = .ok (.aload_n 0, 1) := dk_42 (dk_at dksX4_count_2 20 rfl rfl)
theorem dX4_count_65 : decode cX4_count 65 = .ok (.getfield 92, 3) := dk_180 0 92 (dk_at dksX4_count_2 21 rfl rfl)
theorem dX4_count_68 : decode cX4_count 68 = .ok (.ireturn, 1) := dk_172 (dk_at dksX4_count_3 0 rfl rfl)
theorem dX4_count_69 : decode cX4_count 69 = .ok (.aload_n 0, 1) := dk_42 (dk_at dksX4_count_3 1 rfl rfl)
theorem dX4_count_70 : decode cX4_count 70 = .ok (.getfield 296, 3) := dk_180 1 40 (dk_at dksX4_count_3 2 rfl rfl)
theorem dX4_count_73 : decode cX4_count 73 = .ok (.ireturn, 1) := dk_172 (dk_at dksX4_count_3 5 rfl rfl)
theorem dX4_count_74 : decode cX4_count 74 = .ok (.aload_n 0, 1) := dk_42 (dk_at dksX4_count_3 6 rfl rfl)
theorem dX4_count_75 : decode cX4_count 75 = .ok (.getfield 301, 3) := dk_180 1 45 (dk_at dksX4_count_3 7 rfl rfl)
theorem dX4_count_78 : decode cX4_count 78 = .ok (.ireturn, 1) := dk_172 (dk_at dksX4_count_3 10 rfl rfl)
theorem dX4_count_79 : decode cX4_count 79 = .ok (.iconst (-1), 1) := dk_2 (dk_at dksX4_count_3 11 rfl rfl)
theorem dX4_count_80 : decode cX4_count 80 = .ok (.ireturn, 1) := dk_172 (dk_at dksX4_count_3 12 rfl rfl)
abbrev cX4_lookedFor : ByteArray := prog_34_method_68_code
def yX4_lookedFor : MethodName := ⟨RX4, "lookedFor", "()I"⟩
def dkwX4_lookedFor_1 : List UInt8 := [158, 0, 7, 4, 167, 0, 4, 3, 96, 60, 132, 2, 1, 167, 255, 225, 27, 172]
abbrev dktX4_lookedFor_1 : List UInt8 := dkwX4_lookedFor_1 ++ []
def dkwX4_lookedFor_0 : List UInt8 := [3, 60, 3, 61, 28, 16, 6, 42, 180, 0, 99, 104, 162, 0, 26, 27, 42, 180, 0, 28, 28, 46]
abbrev dktX4_lookedFor_0 : List UInt8 := dkwX4_lookedFor_0 ++ dktX4_lookedFor_1
theorem dksX4_lookedFor_0 : cX4_lookedFor.data.toList.drop 0 = dktX4_lookedFor_0 := by decide +kernel
theorem dksX4_lookedFor_1 : cX4_lookedFor.data.toList.drop 22 = dktX4_lookedFor_1 := dk_seg dksX4_lookedFor_0 22 rfl rfl
theorem dX4_lookedFor_0 : decode cX4_lookedFor 0 = .ok (.iconst 0, 1) := dk_3 (dk_at dksX4_lookedFor_0 0 rfl rfl)
theorem dX4_lookedFor_1 : decode cX4_lookedFor 1 = .ok (.istore_n 1, 1) := dk_60 (dk_at dksX4_lookedFor_0 1 rfl rfl)
theorem dX4_lookedFor_2 : decode cX4_lookedFor 2 = .ok (.iconst 0, 1) := dk_3 (dk_at dksX4_lookedFor_0 2 rfl rfl)
theorem dX4_lookedFor_3 : decode cX4_lookedFor 3 = .ok (.istore_n 2, 1) := dk_61 (dk_at dksX4_lookedFor_0 3 rfl rfl)
theorem dX4_lookedFor_4 : decode cX4_lookedFor 4 = .ok (.iload_n 2, 1) := dk_28 (dk_at dksX4_lookedFor_0 4 rfl rfl)
theorem dX4_lookedFor_5 : decode cX4_lookedFor 5 = .ok (.bipush 6, 2) := dk_16 6 (dk_at dksX4_lookedFor_0 5 rfl rfl)
theorem dX4_lookedFor_7 : decode cX4_lookedFor 7 = .ok (.aload_n 0, 1) := dk_42 (dk_at dksX4_lookedFor_0 7 rfl rfl)
theorem dX4_lookedFor_8 : decode cX4_lookedFor 8 = .ok (.getfield 99, 3) := dk_180 0 99 (dk_at dksX4_lookedFor_0 8 rfl rfl)
theorem dX4_lookedFor_11 : decode cX4_lookedFor 11 = .ok (.imul, 1) := dk_104 (dk_at dksX4_lookedFor_0 11 rfl rfl)
theorem dX4_lookedFor_12 : decode cX4_lookedFor 12 = .ok (.if_icmp .ge 26, 3) := dk_162 0 26 (dk_at dksX4_lookedFor_0 12 rfl rfl)
theorem dX4_lookedFor_15 : decode cX4_lookedFor 15 = .ok (.iload_n 1, 1) := dk_27 (dk_at dksX4_lookedFor_0 15 rfl rfl)
theorem dX4_lookedFor_16 : decode cX4_lookedFor 16 = .ok (.aload_n 0, 1) := dk_42 (dk_at dksX4_lookedFor_0 16 rfl rfl)
theorem dX4_lookedFor_17 : decode cX4_lookedFor 17 = .ok (.getfield 28, 3) := dk_180 0 28 (dk_at dksX4_lookedFor_0 17 rfl rfl)
theorem dX4_lookedFor_20 : decode cX4_lookedFor 20 = .ok (.iload_n 2, 1) := dk_28 (dk_at dksX4_lookedFor_0 20 rfl rfl)
theorem dX4_lookedFor_21 : decode cX4_lookedFor 21 = .ok (.iaload, 1) := dk_46 (dk_at dksX4_lookedFor_0 21 rfl rfl)
theorem dX4_lookedFor_22 : decode cX4_lookedFor 22 = .ok (.ifCond .le 7, 3) := dk_158 0 7 (dk_at dksX4_lookedFor_1 0 rfl rfl)
theorem dX4_lookedFor_25 : decode cX4_lookedFor 25 = .ok (.iconst 1, 1) := dk_4 (dk_at dksX4_lookedFor_1 3 rfl rfl)
theorem dX4_lookedFor_26 : decode cX4_lookedFor 26 = .ok (.goto 4, 3) := dk_167 0 4 (dk_at dksX4_lookedFor_1 4 rfl rfl)
theorem dX4_lookedFor_29 : decode cX4_lookedFor 29 = .ok (.iconst 0, 1) := dk_3 (dk_at dksX4_lookedFor_1 7 rfl rfl)
theorem dX4_lookedFor_30 : decode cX4_lookedFor 30 = .ok (.iadd, 1) := dk_96 (dk_at dksX4_lookedFor_1 8 rfl rfl)
theorem dX4_lookedFor_31 : decode cX4_lookedFor 31 = .ok (.istore_n 1, 1) := dk_60 (dk_at dksX4_lookedFor_1 9 rfl rfl)
theorem dX4_lookedFor_32 : decode cX4_lookedFor 32 = .ok (.iinc 2 1, 3) := dk_132 2 1 (dk_at dksX4_lookedFor_1 10 rfl rfl)
theorem dX4_lookedFor_35 : decode cX4_lookedFor 35 = .ok (.goto (-31), 3) := dk_167 255 225 (dk_at dksX4_lookedFor_1 13 rfl rfl)
theorem dX4_lookedFor_38 : decode cX4_lookedFor 38 = .ok (.iload_n 1, 1) := dk_27 (dk_at dksX4_lookedFor_1 16 rfl rfl)
theorem dX4_lookedFor_39 : decode cX4_lookedFor 39 = .ok (.ireturn, 1) := dk_172 (dk_at dksX4_lookedFor_1 17 rfl rfl)
theorem q89 : (Jvm.Cond.initialized "ChairOldModel") ∈ lw_all := lw_g (lw_at lw_m1 5 rfl) rfl
theorem q1500 : (Jvm.Cond.instantiable "ChairOldModel" (44 : Nat)) ∈ lw_all := lw_g (lw_at lw_m6 216 rfl) rfl
theorem q1502 : (Jvm.Cond.instanceMethod ({ cls := "ChairOldModel", name := "<init>", desc := "()V" } : Jvm.MethodName)) ∈ lw_all := lw_g (lw_at lw_m6 218 rfl) rfl
theorem q1503 : (Jvm.Cond.code ({ cls := "ChairOldModel", name := "<init>", desc := "()V" } : Jvm.MethodName) prog_34_method_2_code (2 : Nat) (Option.none : Option Jvm.ClassFile.FieldType)) ∈ lw_all := lw_g (lw_at lw_m6 219 rfl) rfl
theorem q1504 : (Jvm.Cond.methodLink "ChairOldModel" (3 : Nat) ({ cls := "java/lang/Object", name := "<init>", desc := "()V" } : Jvm.MethodName)) ∈ lw_all := lw_g (lw_at lw_m6 220 rfl) rfl
theorem q1505 : (Jvm.Cond.fieldLink "ChairOldModel" (9 : Nat) "ChairOldModel" "may" "[I") ∈ lw_all := lw_g (lw_at lw_m6 221 rfl) rfl
theorem q1506 : (Jvm.Cond.fieldLink "ChairOldModel" (13 : Nat) "ChairOldModel" "changeAt" "[I") ∈ lw_all := lw_g (lw_at lw_m6 222 rfl) rfl
theorem q1507 : (Jvm.Cond.fieldLink "ChairOldModel" (16 : Nat) "ChairOldModel" "changeWas" "[I") ∈ lw_all := lw_g (lw_at lw_m6 223 rfl) rfl
theorem q1508 : (Jvm.Cond.fieldLink "ChairOldModel" (19 : Nat) "ChairOldModel" "changeIs" "[I") ∈ lw_all := lw_g (lw_at lw_m6 224 rfl) rfl
theorem q1509 : (Jvm.Cond.fieldLink "ChairOldModel" (96 : Nat) "ChairOldModel" "keptMany" "I") ∈ lw_all := lw_g (lw_at lw_m6 225 rfl) rfl
theorem q1510 : (Jvm.Cond.fieldLink "ChairOldModel" (92 : Nat) "ChairOldModel" "done" "I") ∈ lw_all := lw_g (lw_at lw_m6 226 rfl) rfl
theorem q1511 : (Jvm.Cond.fieldLink "ChairOldModel" (99 : Nat) "ChairOldModel" "parts" "I") ∈ lw_all := lw_g (lw_at lw_m6 227 rfl) rfl
theorem q1512 : (Jvm.Cond.fieldLink "ChairOldModel" (22 : Nat) "ChairOldModel" "wood" "[I") ∈ lw_all := lw_g (lw_at lw_m6 228 rfl) rfl
theorem q1513 : (Jvm.Cond.fieldLink "ChairOldModel" (25 : Nat) "ChairOldModel" "place" "[I") ∈ lw_all := lw_g (lw_at lw_m6 229 rfl) rfl
theorem q1514 : (Jvm.Cond.fieldLink "ChairOldModel" (28 : Nat) "ChairOldModel" "found" "[I") ∈ lw_all := lw_g (lw_at lw_m6 230 rfl) rfl
theorem q1515 : (Jvm.Cond.fieldLink "ChairOldModel" (31 : Nat) "ChairOldModel" "tape" "[I") ∈ lw_all := lw_g (lw_at lw_m6 231 rfl) rfl
theorem q1516 : (Jvm.Cond.fieldLink "ChairOldModel" (154 : Nat) "ChairOldModel" "tapeMany" "I") ∈ lw_all := lw_g (lw_at lw_m6 232 rfl) rfl
theorem q1517 : (Jvm.Cond.fieldLink "ChairOldModel" (34 : Nat) "ChairOldModel" "text" "[I") ∈ lw_all := lw_g (lw_at lw_m6 233 rfl) rfl
theorem q1518 : (Jvm.Cond.fieldLink "ChairOldModel" (37 : Nat) "ChairOldModel" "textMany" "[I") ∈ lw_all := lw_g (lw_at lw_m6 234 rfl) rfl
theorem q1519 : (Jvm.Cond.fieldLink "ChairOldModel" (163 : Nat) "ChairOldModel" "base" "I") ∈ lw_all := lw_g (lw_at lw_m6 235 rfl) rfl
theorem q1520 : (Jvm.Cond.fieldLink "ChairOldModel" (157 : Nat) "ChairOldModel" "at" "I") ∈ lw_all := lw_g (lw_at lw_m6 236 rfl) rfl
theorem q1521 : (Jvm.Cond.fieldLink "ChairOldModel" (160 : Nat) "ChairOldModel" "ends" "I") ∈ lw_all := lw_g (lw_at lw_m6 237 rfl) rfl
theorem q1522 : (Jvm.Cond.fieldLink "ChairOldModel" (166 : Nat) "ChairOldModel" "fault" "I") ∈ lw_all := lw_g (lw_at lw_m6 238 rfl) rfl
theorem q1523 : (Jvm.Cond.fieldLink "ChairOldModel" (191 : Nat) "ChairOldModel" "opened" "I") ∈ lw_all := lw_g (lw_at lw_m6 239 rfl) rfl
theorem q1524 : (Jvm.Cond.fieldLink "ChairOldModel" (40 : Nat) "ChairOldModel" "names" "[I") ∈ lw_all := lw_g (lw_at lw_m7 0 rfl) rfl
theorem q1525 : (Jvm.Cond.fieldLink "ChairOldModel" (43 : Nat) "ChairOldModel" "numbers" "[I") ∈ lw_all := lw_g (lw_at lw_m7 1 rfl) rfl
theorem q1526 : (Jvm.Cond.fieldLink "ChairOldModel" (46 : Nat) "ChairOldModel" "way" "[I") ∈ lw_all := lw_g (lw_at lw_m7 2 rfl) rfl
theorem q1527 : (Jvm.Cond.fieldLink "ChairOldModel" (49 : Nat) "ChairOldModel" "weight" "[J") ∈ lw_all := lw_g (lw_at lw_m7 3 rfl) rfl
theorem q1528 : (Jvm.Cond.fieldLink "ChairOldModel" (53 : Nat) "ChairOldModel" "kindSum" "[J") ∈ lw_all := lw_g (lw_at lw_m7 4 rfl) rfl
theorem q1529 : (Jvm.Cond.fieldLink "ChairOldModel" (211 : Nat) "ChairOldModel" "allSum" "J") ∈ lw_all := lw_g (lw_at lw_m7 5 rfl) rfl
theorem q1530 : (Jvm.Cond.fieldLink "ChairOldModel" (56 : Nat) "ChairOldModel" "trueWhen" "[I") ∈ lw_all := lw_g (lw_at lw_m7 6 rfl) rfl
theorem q1531 : (Jvm.Cond.fieldLink "ChairOldModel" (59 : Nat) "ChairOldModel" "sorted" "[I") ∈ lw_all := lw_g (lw_at lw_m7 7 rfl) rfl
theorem q1532 : (Jvm.Cond.fieldLink "ChairOldModel" (274 : Nat) "ChairOldModel" "papers" "I") ∈ lw_all := lw_g (lw_at lw_m7 8 rfl) rfl
theorem q1533 : (Jvm.Cond.fieldLink "ChairOldModel" (62 : Nat) "ChairOldModel" "paperFrom" "[I") ∈ lw_all := lw_g (lw_at lw_m7 9 rfl) rfl
theorem q1534 : (Jvm.Cond.fieldLink "ChairOldModel" (65 : Nat) "ChairOldModel" "paperTo" "[I") ∈ lw_all := lw_g (lw_at lw_m7 10 rfl) rfl
theorem q1535 : (Jvm.Cond.fieldLink "ChairOldModel" (68 : Nat) "ChairOldModel" "paperHouse" "[I") ∈ lw_all := lw_g (lw_at lw_m7 11 rfl) rfl
theorem q1536 : (Jvm.Cond.fieldLink "ChairOldModel" (71 : Nat) "ChairOldModel" "image" "[I") ∈ lw_all := lw_g (lw_at lw_m7 12 rfl) rfl
theorem q1537 : (Jvm.Cond.fieldLink "ChairOldModel" (293 : Nat) "ChairOldModel" "imageParts" "I") ∈ lw_all := lw_g (lw_at lw_m7 13 rfl) rfl
theorem q1538 : (Jvm.Cond.fieldLink "ChairOldModel" (289 : Nat) "ChairOldModel" "isKept" "Z") ∈ lw_all := lw_g (lw_at lw_m7 14 rfl) rfl
theorem q1539 : (Jvm.Cond.fieldLink "ChairOldModel" (296 : Nat) "ChairOldModel" "bodies" "I") ∈ lw_all := lw_g (lw_at lw_m7 15 rfl) rfl
theorem q1540 : (Jvm.Cond.fieldLink "ChairOldModel" (74 : Nat) "ChairOldModel" "bodyKind" "[I") ∈ lw_all := lw_g (lw_at lw_m7 16 rfl) rfl
theorem q1541 : (Jvm.Cond.fieldLink "ChairOldModel" (77 : Nat) "ChairOldModel" "trace" "[I") ∈ lw_all := lw_g (lw_at lw_m7 17 rfl) rfl
theorem q1542 : (Jvm.Cond.fieldLink "ChairOldModel" (301 : Nat) "ChairOldModel" "ran" "I") ∈ lw_all := lw_g (lw_at lw_m7 18 rfl) rfl
theorem q1543 : (Jvm.Cond.fieldLink "ChairOldModel" (316 : Nat) "ChairOldModel" "ownKind" "I") ∈ lw_all := lw_g (lw_at lw_m7 19 rfl) rfl
theorem q1544 : (Jvm.Cond.fieldLink "ChairOldModel" (310 : Nat) "ChairOldModel" "ownNumber" "I") ∈ lw_all := lw_g (lw_at lw_m7 20 rfl) rfl
theorem q1545 : (Jvm.Cond.fieldLink "ChairOldModel" (80 : Nat) "ChairOldModel" "shelf" "[I") ∈ lw_all := lw_g (lw_at lw_m7 21 rfl) rfl
theorem q1546 : (Jvm.Cond.fieldLink "ChairOldModel" (83 : Nat) "ChairOldModel" "many" "[I") ∈ lw_all := lw_g (lw_at lw_m7 22 rfl) rfl
theorem q1547 : (Jvm.Cond.fieldLink "ChairOldModel" (86 : Nat) "ChairOldModel" "items" "[J") ∈ lw_all := lw_g (lw_at lw_m7 23 rfl) rfl
theorem q1548 : (Jvm.Cond.fieldLink "ChairOldModel" (89 : Nat) "ChairOldModel" "carried" "[J") ∈ lw_all := lw_g (lw_at lw_m7 24 rfl) rfl
theorem q1549 : (Jvm.Cond.laysFinal "ChairOldModel" "ChairOldModel" "may" "[I") ∈ lw_all := lw_g (lw_at lw_m7 25 rfl) rfl
theorem q1550 : (Jvm.Cond.soleField "ChairOldModel" "may") ∈ lw_all := lw_g (lw_at lw_m7 26 rfl) rfl
theorem q1551 : (Jvm.Cond.laysFinal "ChairOldModel" "ChairOldModel" "changeAt" "[I") ∈ lw_all := lw_g (lw_at lw_m7 27 rfl) rfl
theorem q1552 : (Jvm.Cond.soleField "ChairOldModel" "changeAt") ∈ lw_all := lw_g (lw_at lw_m7 28 rfl) rfl
theorem q1553 : (Jvm.Cond.laysFinal "ChairOldModel" "ChairOldModel" "changeWas" "[I") ∈ lw_all := lw_g (lw_at lw_m7 29 rfl) rfl
theorem q1554 : (Jvm.Cond.soleField "ChairOldModel" "changeWas") ∈ lw_all := lw_g (lw_at lw_m7 30 rfl) rfl
theorem q1555 : (Jvm.Cond.laysFinal "ChairOldModel" "ChairOldModel" "changeIs" "[I") ∈ lw_all := lw_g (lw_at lw_m7 31 rfl) rfl
theorem q1556 : (Jvm.Cond.soleField "ChairOldModel" "changeIs") ∈ lw_all := lw_g (lw_at lw_m7 32 rfl) rfl
theorem q1557 : (Jvm.Cond.lays "ChairOldModel" "ChairOldModel" "keptMany" "I") ∈ lw_all := lw_g (lw_at lw_m7 33 rfl) rfl
theorem q1558 : (Jvm.Cond.soleField "ChairOldModel" "keptMany") ∈ lw_all := lw_g (lw_at lw_m7 34 rfl) rfl
theorem q1559 : (Jvm.Cond.lays "ChairOldModel" "ChairOldModel" "done" "I") ∈ lw_all := lw_g (lw_at lw_m7 35 rfl) rfl
theorem q1560 : (Jvm.Cond.soleField "ChairOldModel" "done") ∈ lw_all := lw_g (lw_at lw_m7 36 rfl) rfl
theorem q1561 : (Jvm.Cond.lays "ChairOldModel" "ChairOldModel" "parts" "I") ∈ lw_all := lw_g (lw_at lw_m7 37 rfl) rfl
theorem q1562 : (Jvm.Cond.soleField "ChairOldModel" "parts") ∈ lw_all := lw_g (lw_at lw_m7 38 rfl) rfl
theorem q1563 : (Jvm.Cond.laysFinal "ChairOldModel" "ChairOldModel" "wood" "[I") ∈ lw_all := lw_g (lw_at lw_m7 39 rfl) rfl
theorem q1564 : (Jvm.Cond.soleField "ChairOldModel" "wood") ∈ lw_all := lw_g (lw_at lw_m7 40 rfl) rfl
theorem q1565 : (Jvm.Cond.laysFinal "ChairOldModel" "ChairOldModel" "place" "[I") ∈ lw_all := lw_g (lw_at lw_m7 41 rfl) rfl
theorem q1566 : (Jvm.Cond.soleField "ChairOldModel" "place") ∈ lw_all := lw_g (lw_at lw_m7 42 rfl) rfl
theorem q1567 : (Jvm.Cond.laysFinal "ChairOldModel" "ChairOldModel" "found" "[I") ∈ lw_all := lw_g (lw_at lw_m7 43 rfl) rfl
theorem q1568 : (Jvm.Cond.soleField "ChairOldModel" "found") ∈ lw_all := lw_g (lw_at lw_m7 44 rfl) rfl
theorem q1569 : (Jvm.Cond.laysFinal "ChairOldModel" "ChairOldModel" "tape" "[I") ∈ lw_all := lw_g (lw_at lw_m7 45 rfl) rfl
theorem q1570 : (Jvm.Cond.soleField "ChairOldModel" "tape") ∈ lw_all := lw_g (lw_at lw_m7 46 rfl) rfl
theorem q1571 : (Jvm.Cond.lays "ChairOldModel" "ChairOldModel" "tapeMany" "I") ∈ lw_all := lw_g (lw_at lw_m7 47 rfl) rfl
theorem q1572 : (Jvm.Cond.soleField "ChairOldModel" "tapeMany") ∈ lw_all := lw_g (lw_at lw_m7 48 rfl) rfl
theorem q1573 : (Jvm.Cond.laysFinal "ChairOldModel" "ChairOldModel" "text" "[I") ∈ lw_all := lw_g (lw_at lw_m7 49 rfl) rfl
theorem q1574 : (Jvm.Cond.soleField "ChairOldModel" "text") ∈ lw_all := lw_g (lw_at lw_m7 50 rfl) rfl
theorem q1575 : (Jvm.Cond.laysFinal "ChairOldModel" "ChairOldModel" "textMany" "[I") ∈ lw_all := lw_g (lw_at lw_m7 51 rfl) rfl
theorem q1576 : (Jvm.Cond.soleField "ChairOldModel" "textMany") ∈ lw_all := lw_g (lw_at lw_m7 52 rfl) rfl
theorem q1577 : (Jvm.Cond.lays "ChairOldModel" "ChairOldModel" "base" "I") ∈ lw_all := lw_g (lw_at lw_m7 53 rfl) rfl
theorem q1578 : (Jvm.Cond.soleField "ChairOldModel" "base") ∈ lw_all := lw_g (lw_at lw_m7 54 rfl) rfl
theorem q1579 : (Jvm.Cond.lays "ChairOldModel" "ChairOldModel" "at" "I") ∈ lw_all := lw_g (lw_at lw_m7 55 rfl) rfl
theorem q1580 : (Jvm.Cond.soleField "ChairOldModel" "at") ∈ lw_all := lw_g (lw_at lw_m7 56 rfl) rfl
theorem q1581 : (Jvm.Cond.lays "ChairOldModel" "ChairOldModel" "ends" "I") ∈ lw_all := lw_g (lw_at lw_m7 57 rfl) rfl
theorem q1582 : (Jvm.Cond.soleField "ChairOldModel" "ends") ∈ lw_all := lw_g (lw_at lw_m7 58 rfl) rfl
theorem q1583 : (Jvm.Cond.lays "ChairOldModel" "ChairOldModel" "fault" "I") ∈ lw_all := lw_g (lw_at lw_m7 59 rfl) rfl
theorem q1584 : (Jvm.Cond.soleField "ChairOldModel" "fault") ∈ lw_all := lw_g (lw_at lw_m7 60 rfl) rfl
theorem q1585 : (Jvm.Cond.lays "ChairOldModel" "ChairOldModel" "opened" "I") ∈ lw_all := lw_g (lw_at lw_m7 61 rfl) rfl
theorem q1586 : (Jvm.Cond.soleField "ChairOldModel" "opened") ∈ lw_all := lw_g (lw_at lw_m7 62 rfl) rfl
theorem q1587 : (Jvm.Cond.laysFinal "ChairOldModel" "ChairOldModel" "names" "[I") ∈ lw_all := lw_g (lw_at lw_m7 63 rfl) rfl
theorem q1588 : (Jvm.Cond.soleField "ChairOldModel" "names") ∈ lw_all := lw_g (lw_at lw_m7 64 rfl) rfl
theorem q1589 : (Jvm.Cond.laysFinal "ChairOldModel" "ChairOldModel" "numbers" "[I") ∈ lw_all := lw_g (lw_at lw_m7 65 rfl) rfl
theorem q1590 : (Jvm.Cond.soleField "ChairOldModel" "numbers") ∈ lw_all := lw_g (lw_at lw_m7 66 rfl) rfl
theorem q1591 : (Jvm.Cond.laysFinal "ChairOldModel" "ChairOldModel" "way" "[I") ∈ lw_all := lw_g (lw_at lw_m7 67 rfl) rfl
theorem q1592 : (Jvm.Cond.soleField "ChairOldModel" "way") ∈ lw_all := lw_g (lw_at lw_m7 68 rfl) rfl
theorem q1593 : (Jvm.Cond.laysFinal "ChairOldModel" "ChairOldModel" "weight" "[J") ∈ lw_all := lw_g (lw_at lw_m7 69 rfl) rfl
theorem q1594 : (Jvm.Cond.soleField "ChairOldModel" "weight") ∈ lw_all := lw_g (lw_at lw_m7 70 rfl) rfl
theorem q1595 : (Jvm.Cond.laysFinal "ChairOldModel" "ChairOldModel" "kindSum" "[J") ∈ lw_all := lw_g (lw_at lw_m7 71 rfl) rfl
theorem q1596 : (Jvm.Cond.soleField "ChairOldModel" "kindSum") ∈ lw_all := lw_g (lw_at lw_m7 72 rfl) rfl
theorem q1597 : (Jvm.Cond.lays "ChairOldModel" "ChairOldModel" "allSum" "J") ∈ lw_all := lw_g (lw_at lw_m7 73 rfl) rfl
theorem q1598 : (Jvm.Cond.soleField "ChairOldModel" "allSum") ∈ lw_all := lw_g (lw_at lw_m7 74 rfl) rfl
theorem q1599 : (Jvm.Cond.laysFinal "ChairOldModel" "ChairOldModel" "trueWhen" "[I") ∈ lw_all := lw_g (lw_at lw_m7 75 rfl) rfl
theorem q1600 : (Jvm.Cond.soleField "ChairOldModel" "trueWhen") ∈ lw_all := lw_g (lw_at lw_m7 76 rfl) rfl
theorem q1601 : (Jvm.Cond.laysFinal "ChairOldModel" "ChairOldModel" "sorted" "[I") ∈ lw_all := lw_g (lw_at lw_m7 77 rfl) rfl
theorem q1602 : (Jvm.Cond.soleField "ChairOldModel" "sorted") ∈ lw_all := lw_g (lw_at lw_m7 78 rfl) rfl
theorem q1603 : (Jvm.Cond.lays "ChairOldModel" "ChairOldModel" "papers" "I") ∈ lw_all := lw_g (lw_at lw_m7 79 rfl) rfl
theorem q1604 : (Jvm.Cond.soleField "ChairOldModel" "papers") ∈ lw_all := lw_g (lw_at lw_m7 80 rfl) rfl
theorem q1605 : (Jvm.Cond.laysFinal "ChairOldModel" "ChairOldModel" "paperFrom" "[I") ∈ lw_all := lw_g (lw_at lw_m7 81 rfl) rfl
theorem q1606 : (Jvm.Cond.soleField "ChairOldModel" "paperFrom") ∈ lw_all := lw_g (lw_at lw_m7 82 rfl) rfl
theorem q1607 : (Jvm.Cond.laysFinal "ChairOldModel" "ChairOldModel" "paperTo" "[I") ∈ lw_all := lw_g (lw_at lw_m7 83 rfl) rfl
theorem q1608 : (Jvm.Cond.soleField "ChairOldModel" "paperTo") ∈ lw_all := lw_g (lw_at lw_m7 84 rfl) rfl
theorem q1609 : (Jvm.Cond.laysFinal "ChairOldModel" "ChairOldModel" "paperHouse" "[I") ∈ lw_all := lw_g (lw_at lw_m7 85 rfl) rfl
theorem q1610 : (Jvm.Cond.soleField "ChairOldModel" "paperHouse") ∈ lw_all := lw_g (lw_at lw_m7 86 rfl) rfl
theorem q1611 : (Jvm.Cond.laysFinal "ChairOldModel" "ChairOldModel" "image" "[I") ∈ lw_all := lw_g (lw_at lw_m7 87 rfl) rfl
theorem q1612 : (Jvm.Cond.soleField "ChairOldModel" "image") ∈ lw_all := lw_g (lw_at lw_m7 88 rfl) rfl
theorem q1613 : (Jvm.Cond.lays "ChairOldModel" "ChairOldModel" "imageParts" "I") ∈ lw_all := lw_g (lw_at lw_m7 89 rfl) rfl
theorem q1614 : (Jvm.Cond.soleField "ChairOldModel" "imageParts") ∈ lw_all := lw_g (lw_at lw_m7 90 rfl) rfl
theorem q1615 : (Jvm.Cond.lays "ChairOldModel" "ChairOldModel" "isKept" "Z") ∈ lw_all := lw_g (lw_at lw_m7 91 rfl) rfl
theorem q1616 : (Jvm.Cond.soleField "ChairOldModel" "isKept") ∈ lw_all := lw_g (lw_at lw_m7 92 rfl) rfl
theorem q1617 : (Jvm.Cond.lays "ChairOldModel" "ChairOldModel" "bodies" "I") ∈ lw_all := lw_g (lw_at lw_m7 93 rfl) rfl
theorem q1618 : (Jvm.Cond.soleField "ChairOldModel" "bodies") ∈ lw_all := lw_g (lw_at lw_m7 94 rfl) rfl
theorem q1619 : (Jvm.Cond.laysFinal "ChairOldModel" "ChairOldModel" "bodyKind" "[I") ∈ lw_all := lw_g (lw_at lw_m7 95 rfl) rfl
theorem q1620 : (Jvm.Cond.soleField "ChairOldModel" "bodyKind") ∈ lw_all := lw_g (lw_at lw_m7 96 rfl) rfl
theorem q1621 : (Jvm.Cond.laysFinal "ChairOldModel" "ChairOldModel" "trace" "[I") ∈ lw_all := lw_g (lw_at lw_m7 97 rfl) rfl
theorem q1622 : (Jvm.Cond.soleField "ChairOldModel" "trace") ∈ lw_all := lw_g (lw_at lw_m7 98 rfl) rfl
theorem q1623 : (Jvm.Cond.lays "ChairOldModel" "ChairOldModel" "ran" "I") ∈ lw_all := lw_g (lw_at lw_m7 99 rfl) rfl
theorem q1624 : (Jvm.Cond.soleField "ChairOldModel" "ran") ∈ lw_all := lw_g (lw_at lw_m7 100 rfl) rfl
theorem q1625 : (Jvm.Cond.lays "ChairOldModel" "ChairOldModel" "ownKind" "I") ∈ lw_all := lw_g (lw_at lw_m7 101 rfl) rfl
theorem q1626 : (Jvm.Cond.soleField "ChairOldModel" "ownKind") ∈ lw_all := lw_g (lw_at lw_m7 102 rfl) rfl
theorem q1627 : (Jvm.Cond.lays "ChairOldModel" "ChairOldModel" "ownNumber" "I") ∈ lw_all := lw_g (lw_at lw_m7 103 rfl) rfl
theorem q1628 : (Jvm.Cond.soleField "ChairOldModel" "ownNumber") ∈ lw_all := lw_g (lw_at lw_m7 104 rfl) rfl
theorem q1629 : (Jvm.Cond.laysFinal "ChairOldModel" "ChairOldModel" "shelf" "[I") ∈ lw_all := lw_g (lw_at lw_m7 105 rfl) rfl
theorem q1630 : (Jvm.Cond.soleField "ChairOldModel" "shelf") ∈ lw_all := lw_g (lw_at lw_m7 106 rfl) rfl
theorem q1631 : (Jvm.Cond.laysFinal "ChairOldModel" "ChairOldModel" "many" "[I") ∈ lw_all := lw_g (lw_at lw_m7 107 rfl) rfl
theorem q1632 : (Jvm.Cond.soleField "ChairOldModel" "many") ∈ lw_all := lw_g (lw_at lw_m7 108 rfl) rfl
theorem q1633 : (Jvm.Cond.laysFinal "ChairOldModel" "ChairOldModel" "items" "[J") ∈ lw_all := lw_g (lw_at lw_m7 109 rfl) rfl
theorem q1634 : (Jvm.Cond.soleField "ChairOldModel" "items") ∈ lw_all := lw_g (lw_at lw_m7 110 rfl) rfl
theorem q1635 : (Jvm.Cond.laysFinal "ChairOldModel" "ChairOldModel" "carried" "[J") ∈ lw_all := lw_g (lw_at lw_m7 111 rfl) rfl
theorem q1636 : (Jvm.Cond.soleField "ChairOldModel" "carried") ∈ lw_all := lw_g (lw_at lw_m7 112 rfl) rfl
theorem q1637 : (Jvm.Cond.superclass "ChairOldModel" "java/lang/Object") ∈ lw_all := lw_g (lw_at lw_m7 113 rfl) rfl
theorem q1639 : (Jvm.Cond.instanceMethod ({ cls := "ChairOldModel", name := "undo", desc := "()I" } : Jvm.MethodName)) ∈ lw_all := lw_g (lw_at lw_m7 115 rfl) rfl
theorem q1640 : (Jvm.Cond.selects "ChairOldModel" ({ cls := "ChairOldModel", name := "undo", desc := "()I" } : Jvm.MethodName) ({ cls := "ChairOldModel", name := "undo", desc := "()I" } : Jvm.MethodName)) ∈ lw_all := lw_g (lw_at lw_m7 116 rfl) rfl
theorem q1641 : (Jvm.Cond.code ({ cls := "ChairOldModel", name := "undo", desc := "()I" } : Jvm.MethodName) prog_34_method_4_code (1 : Nat) (Option.some Jvm.ClassFile.FieldType.int)) ∈ lw_all := lw_g (lw_at lw_m7 117 rfl) rfl
theorem q1643 : (Jvm.Cond.instanceMethod ({ cls := "ChairOldModel", name := "redo", desc := "()I" } : Jvm.MethodName)) ∈ lw_all := lw_g (lw_at lw_m7 119 rfl) rfl
theorem q1644 : (Jvm.Cond.selects "ChairOldModel" ({ cls := "ChairOldModel", name := "redo", desc := "()I" } : Jvm.MethodName) ({ cls := "ChairOldModel", name := "redo", desc := "()I" } : Jvm.MethodName)) ∈ lw_all := lw_g (lw_at lw_m7 120 rfl) rfl
theorem q1645 : (Jvm.Cond.code ({ cls := "ChairOldModel", name := "redo", desc := "()I" } : Jvm.MethodName) prog_34_method_5_code (1 : Nat) (Option.some Jvm.ClassFile.FieldType.int)) ∈ lw_all := lw_g (lw_at lw_m7 121 rfl) rfl
theorem q1647 : (Jvm.Cond.instanceMethod ({ cls := "ChairOldModel", name := "part", desc := "(I)I" } : Jvm.MethodName)) ∈ lw_all := lw_g (lw_at lw_m7 123 rfl) rfl
theorem q1648 : (Jvm.Cond.selects "ChairOldModel" ({ cls := "ChairOldModel", name := "part", desc := "(I)I" } : Jvm.MethodName) ({ cls := "ChairOldModel", name := "part", desc := "(I)I" } : Jvm.MethodName)) ∈ lw_all := lw_g (lw_at lw_m7 124 rfl) rfl
theorem q1649 : (Jvm.Cond.code ({ cls := "ChairOldModel", name := "part", desc := "(I)I" } : Jvm.MethodName) prog_34_method_10_code (2 : Nat) (Option.some Jvm.ClassFile.FieldType.int)) ∈ lw_all := lw_g (lw_at lw_m7 125 rfl) rfl
theorem q1650 : (Jvm.Cond.constantLong "ChairOldModel" (108 : Nat) (99 : Int64)) ∈ lw_all := lw_g (lw_at lw_m7 126 rfl) rfl
theorem q1651 : (Jvm.Cond.methodLink "ChairOldModel" (102 : Nat) ({ cls := "ChairOldModel", name := "within", desc := "(JJJ)Z" } : Jvm.MethodName)) ∈ lw_all := lw_g (lw_at lw_m7 127 rfl) rfl
theorem q1652 : (Jvm.Cond.static ({ cls := "ChairOldModel", name := "within", desc := "(JJJ)Z" } : Jvm.MethodName)) ∈ lw_all := lw_g (lw_at lw_m7 128 rfl) rfl
theorem q1653 : (Jvm.Cond.code ({ cls := "ChairOldModel", name := "within", desc := "(JJJ)Z" } : Jvm.MethodName) prog_34_method_1_code (6 : Nat) (Option.some Jvm.ClassFile.FieldType.boolean)) ∈ lw_all := lw_g (lw_at lw_m7 129 rfl) rfl
theorem q1654 : (Jvm.Cond.methodLink "ChairOldModel" (110 : Nat) ({ cls := "ChairOldModel", name := "adds", desc := "(II)V" } : Jvm.MethodName)) ∈ lw_all := lw_g (lw_at lw_m7 130 rfl) rfl
theorem q1655 : (Jvm.Cond.privateMethod ({ cls := "ChairOldModel", name := "adds", desc := "(II)V" } : Jvm.MethodName)) ∈ lw_tbl := lw_at lw_m7 131 rfl
theorem q1656 : (Jvm.Cond.instanceMethod ({ cls := "ChairOldModel", name := "adds", desc := "(II)V" } : Jvm.MethodName)) ∈ lw_all := lw_g (lw_at lw_m7 132 rfl) rfl
theorem q1657 : (Jvm.Cond.code ({ cls := "ChairOldModel", name := "adds", desc := "(II)V" } : Jvm.MethodName) prog_34_method_9_code (4 : Nat) (Option.none : Option Jvm.ClassFile.FieldType)) ∈ lw_all := lw_g (lw_at lw_m7 133 rfl) rfl
theorem q1659 : (Jvm.Cond.instanceMethod ({ cls := "ChairOldModel", name := "parts", desc := "(III)I" } : Jvm.MethodName)) ∈ lw_all := lw_g (lw_at lw_m7 135 rfl) rfl
theorem q1660 : (Jvm.Cond.selects "ChairOldModel" ({ cls := "ChairOldModel", name := "parts", desc := "(III)I" } : Jvm.MethodName) ({ cls := "ChairOldModel", name := "parts", desc := "(III)I" } : Jvm.MethodName)) ∈ lw_all := lw_g (lw_at lw_m7 136 rfl) rfl
theorem q1661 : (Jvm.Cond.code ({ cls := "ChairOldModel", name := "parts", desc := "(III)I" } : Jvm.MethodName) prog_34_method_11_code (7 : Nat) (Option.some Jvm.ClassFile.FieldType.int)) ∈ lw_all := lw_g (lw_at lw_m7 137 rfl) rfl
theorem q1662 : (Jvm.Cond.methodLink "ChairOldModel" (114 : Nat) ({ cls := "ChairOldModel", name := "isShelf", desc := "(I)Z" } : Jvm.MethodName)) ∈ lw_all := lw_g (lw_at lw_m7 138 rfl) rfl
theorem q1663 : (Jvm.Cond.static ({ cls := "ChairOldModel", name := "isShelf", desc := "(I)Z" } : Jvm.MethodName)) ∈ lw_all := lw_g (lw_at lw_m7 139 rfl) rfl
theorem q1664 : (Jvm.Cond.code ({ cls := "ChairOldModel", name := "isShelf", desc := "(I)Z" } : Jvm.MethodName) prog_34_method_80_code (1 : Nat) (Option.some Jvm.ClassFile.FieldType.boolean)) ∈ lw_all := lw_g (lw_at lw_m7 140 rfl) rfl
theorem q1665 : (Jvm.Cond.constantLong "ChairOldModel" (106 : Nat) (5 : Int64)) ∈ lw_all := lw_g (lw_at lw_m7 141 rfl) rfl
theorem q1666 : (Jvm.Cond.constantLong "ChairOldModel" (118 : Nat) (8 : Int64)) ∈ lw_all := lw_g (lw_at lw_m7 142 rfl) rfl
theorem q1667 : (Jvm.Cond.constantLong "ChairOldModel" (120 : Nat) (9 : Int64)) ∈ lw_all := lw_g (lw_at lw_m7 143 rfl) rfl
theorem q1669 : (Jvm.Cond.instanceMethod ({ cls := "ChairOldModel", name := "mend", desc := "(III)I" } : Jvm.MethodName)) ∈ lw_all := lw_g (lw_at lw_m7 145 rfl) rfl
theorem q1670 : (Jvm.Cond.selects "ChairOldModel" ({ cls := "ChairOldModel", name := "mend", desc := "(III)I" } : Jvm.MethodName) ({ cls := "ChairOldModel", name := "mend", desc := "(III)I" } : Jvm.MethodName)) ∈ lw_all := lw_g (lw_at lw_m7 146 rfl) rfl
theorem q1671 : (Jvm.Cond.code ({ cls := "ChairOldModel", name := "mend", desc := "(III)I" } : Jvm.MethodName) prog_34_method_12_code (4 : Nat) (Option.some Jvm.ClassFile.FieldType.int)) ∈ lw_all := lw_g (lw_at lw_m7 147 rfl) rfl
theorem q1672 : (Jvm.Cond.methodLink "ChairOldModel" (122 : Nat) ({ cls := "ChairOldModel", name := "isKind", desc := "(I)Z" } : Jvm.MethodName)) ∈ lw_all := lw_g (lw_at lw_m7 148 rfl) rfl
theorem q1673 : (Jvm.Cond.static ({ cls := "ChairOldModel", name := "isKind", desc := "(I)Z" } : Jvm.MethodName)) ∈ lw_all := lw_g (lw_at lw_m7 149 rfl) rfl
theorem q1674 : (Jvm.Cond.code ({ cls := "ChairOldModel", name := "isKind", desc := "(I)Z" } : Jvm.MethodName) prog_34_method_7_code (1 : Nat) (Option.some Jvm.ClassFile.FieldType.boolean)) ∈ lw_all := lw_g (lw_at lw_m7 150 rfl) rfl
theorem q1675 : (Jvm.Cond.methodLink "ChairOldModel" (125 : Nat) ({ cls := "ChairOldModel", name := "becomes", desc := "(II)I" } : Jvm.MethodName)) ∈ lw_all := lw_g (lw_at lw_m7 151 rfl) rfl
theorem q1676 : (Jvm.Cond.privateMethod ({ cls := "ChairOldModel", name := "becomes", desc := "(II)I" } : Jvm.MethodName)) ∈ lw_tbl := lw_at lw_m7 152 rfl
theorem q1677 : (Jvm.Cond.instanceMethod ({ cls := "ChairOldModel", name := "becomes", desc := "(II)I" } : Jvm.MethodName)) ∈ lw_all := lw_g (lw_at lw_m7 153 rfl) rfl
theorem q1678 : (Jvm.Cond.code ({ cls := "ChairOldModel", name := "becomes", desc := "(II)I" } : Jvm.MethodName) prog_34_method_3_code (5 : Nat) (Option.some Jvm.ClassFile.FieldType.int)) ∈ lw_all := lw_g (lw_at lw_m7 154 rfl) rfl
theorem q1679 : (Jvm.Cond.methodLink "ChairOldModel" (129 : Nat) ({ cls := "ChairOldModel", name := "isMark", desc := "(I)Z" } : Jvm.MethodName)) ∈ lw_all := lw_g (lw_at lw_m7 155 rfl) rfl
theorem q1680 : (Jvm.Cond.static ({ cls := "ChairOldModel", name := "isMark", desc := "(I)Z" } : Jvm.MethodName)) ∈ lw_all := lw_g (lw_at lw_m7 156 rfl) rfl
theorem q1681 : (Jvm.Cond.code ({ cls := "ChairOldModel", name := "isMark", desc := "(I)Z" } : Jvm.MethodName) prog_34_method_8_code (1 : Nat) (Option.some Jvm.ClassFile.FieldType.boolean)) ∈ lw_all := lw_g (lw_at lw_m7 157 rfl) rfl
theorem q1683 : (Jvm.Cond.instanceMethod ({ cls := "ChairOldModel", name := "find", desc := "(II)I" } : Jvm.MethodName)) ∈ lw_all := lw_g (lw_at lw_m7 159 rfl) rfl
theorem q1684 : (Jvm.Cond.selects "ChairOldModel" ({ cls := "ChairOldModel", name := "find", desc := "(II)I" } : Jvm.MethodName) ({ cls := "ChairOldModel", name := "find", desc := "(II)I" } : Jvm.MethodName)) ∈ lw_all := lw_g (lw_at lw_m7 160 rfl) rfl
theorem q1685 : (Jvm.Cond.code ({ cls := "ChairOldModel", name := "find", desc := "(II)I" } : Jvm.MethodName) prog_34_method_14_code (5 : Nat) (Option.some Jvm.ClassFile.FieldType.int)) ∈ lw_all := lw_g (lw_at lw_m7 161 rfl) rfl
theorem q1686 : (Jvm.Cond.methodLink "ChairOldModel" (135 : Nat) ({ cls := "ChairOldModel", name := "isPm", desc := "(I)Z" } : Jvm.MethodName)) ∈ lw_all := lw_g (lw_at lw_m7 162 rfl) rfl
theorem q1687 : (Jvm.Cond.privateMethod ({ cls := "ChairOldModel", name := "isPm", desc := "(I)Z" } : Jvm.MethodName)) ∈ lw_tbl := lw_at lw_m7 163 rfl
theorem q1688 : (Jvm.Cond.instanceMethod ({ cls := "ChairOldModel", name := "isPm", desc := "(I)Z" } : Jvm.MethodName)) ∈ lw_all := lw_g (lw_at lw_m7 164 rfl) rfl
theorem q1689 : (Jvm.Cond.code ({ cls := "ChairOldModel", name := "isPm", desc := "(I)Z" } : Jvm.MethodName) prog_34_method_13_code (2 : Nat) (Option.some Jvm.ClassFile.FieldType.boolean)) ∈ lw_all := lw_g (lw_at lw_m7 165 rfl) rfl
theorem q1690 : (Jvm.Cond.methodLink "ChairOldModel" (132 : Nat) ({ cls := "ChairOldModel", name := "isPart", desc := "(I)Z" } : Jvm.MethodName)) ∈ lw_all := lw_g (lw_at lw_m7 166 rfl) rfl
theorem q1691 : (Jvm.Cond.privateMethod ({ cls := "ChairOldModel", name := "isPart", desc := "(I)Z" } : Jvm.MethodName)) ∈ lw_tbl := lw_at lw_m7 167 rfl
theorem q1692 : (Jvm.Cond.instanceMethod ({ cls := "ChairOldModel", name := "isPart", desc := "(I)Z" } : Jvm.MethodName)) ∈ lw_all := lw_g (lw_at lw_m7 168 rfl) rfl
theorem q1693 : (Jvm.Cond.code ({ cls := "ChairOldModel", name := "isPart", desc := "(I)Z" } : Jvm.MethodName) prog_34_method_6_code (2 : Nat) (Option.some Jvm.ClassFile.FieldType.boolean)) ∈ lw_all := lw_g (lw_at lw_m7 169 rfl) rfl
theorem q1694 : (Jvm.Cond.constantLong "ChairOldModel" (138 : Nat) (2 : Int64)) ∈ lw_all := lw_g (lw_at lw_m7 170 rfl) rfl
theorem q1696 : (Jvm.Cond.instanceMethod ({ cls := "ChairOldModel", name := "of", desc := "(II)I" } : Jvm.MethodName)) ∈ lw_all := lw_g (lw_at lw_m7 172 rfl) rfl
theorem q1697 : (Jvm.Cond.selects "ChairOldModel" ({ cls := "ChairOldModel", name := "of", desc := "(II)I" } : Jvm.MethodName) ({ cls := "ChairOldModel", name := "of", desc := "(II)I" } : Jvm.MethodName)) ∈ lw_all := lw_g (lw_at lw_m7 173 rfl) rfl
theorem q1698 : (Jvm.Cond.code ({ cls := "ChairOldModel", name := "of", desc := "(II)I" } : Jvm.MethodName) prog_34_method_15_code (3 : Nat) (Option.some Jvm.ClassFile.FieldType.int)) ∈ lw_all := lw_g (lw_at lw_m7 174 rfl) rfl
theorem q1699 : (Jvm.Cond.constantLong "ChairOldModel" (140 : Nat) (10 : Int64)) ∈ lw_all := lw_g (lw_at lw_m7 175 rfl) rfl
theorem q1700 : (Jvm.Cond.constantLong "ChairOldModel" (142 : Nat) (15 : Int64)) ∈ lw_all := lw_g (lw_at lw_m7 176 rfl) rfl
theorem q1701 : (Jvm.Cond.constantLong "ChairOldModel" (144 : Nat) (20 : Int64)) ∈ lw_all := lw_g (lw_at lw_m7 177 rfl) rfl
theorem q1702 : (Jvm.Cond.constantLong "ChairOldModel" (146 : Nat) (21 : Int64)) ∈ lw_all := lw_g (lw_at lw_m7 178 rfl) rfl
theorem q1703 : (Jvm.Cond.constantLong "ChairOldModel" (148 : Nat) (30 : Int64)) ∈ lw_all := lw_g (lw_at lw_m7 179 rfl) rfl
theorem q1704 : (Jvm.Cond.constantLong "ChairOldModel" (150 : Nat) (31 : Int64)) ∈ lw_all := lw_g (lw_at lw_m7 180 rfl) rfl
theorem q1706 : (Jvm.Cond.instanceMethod ({ cls := "ChairOldModel", name := "feed", desc := "(I)I" } : Jvm.MethodName)) ∈ lw_all := lw_g (lw_at lw_m7 182 rfl) rfl
theorem q1707 : (Jvm.Cond.selects "ChairOldModel" ({ cls := "ChairOldModel", name := "feed", desc := "(I)I" } : Jvm.MethodName) ({ cls := "ChairOldModel", name := "feed", desc := "(I)I" } : Jvm.MethodName)) ∈ lw_all := lw_g (lw_at lw_m7 183 rfl) rfl
theorem q1708 : (Jvm.Cond.code ({ cls := "ChairOldModel", name := "feed", desc := "(I)I" } : Jvm.MethodName) prog_34_method_16_code (2 : Nat) (Option.some Jvm.ClassFile.FieldType.int)) ∈ lw_all := lw_g (lw_at lw_m7 184 rfl) rfl
theorem q1709 : (Jvm.Cond.constantLong "ChairOldModel" (152 : Nat) (255 : Int64)) ∈ lw_all := lw_g (lw_at lw_m7 185 rfl) rfl
theorem q1711 : (Jvm.Cond.instanceMethod ({ cls := "ChairOldModel", name := "law", desc := "(I)I" } : Jvm.MethodName)) ∈ lw_all := lw_g (lw_at lw_m7 187 rfl) rfl
theorem q1712 : (Jvm.Cond.selects "ChairOldModel" ({ cls := "ChairOldModel", name := "law", desc := "(I)I" } : Jvm.MethodName) ({ cls := "ChairOldModel", name := "law", desc := "(I)I" } : Jvm.MethodName)) ∈ lw_all := lw_g (lw_at lw_m7 188 rfl) rfl
theorem q1713 : (Jvm.Cond.code ({ cls := "ChairOldModel", name := "law", desc := "(I)I" } : Jvm.MethodName) prog_34_method_28_code (5 : Nat) (Option.some Jvm.ClassFile.FieldType.int)) ∈ lw_all := lw_g (lw_at lw_m7 189 rfl) rfl
theorem q1714 : (Jvm.Cond.methodLink "ChairOldModel" (204 : Nat) ({ cls := "ChairOldModel", name := "workOut", desc := "(II)I" } : Jvm.MethodName)) ∈ lw_all := lw_g (lw_at lw_m7 190 rfl) rfl
theorem q1715 : (Jvm.Cond.privateMethod ({ cls := "ChairOldModel", name := "workOut", desc := "(II)I" } : Jvm.MethodName)) ∈ lw_tbl := lw_at lw_m7 191 rfl
theorem q1716 : (Jvm.Cond.instanceMethod ({ cls := "ChairOldModel", name := "workOut", desc := "(II)I" } : Jvm.MethodName)) ∈ lw_all := lw_g (lw_at lw_m7 192 rfl) rfl
theorem q1717 : (Jvm.Cond.code ({ cls := "ChairOldModel", name := "workOut", desc := "(II)I" } : Jvm.MethodName) prog_34_method_27_code (8 : Nat) (Option.some Jvm.ClassFile.FieldType.int)) ∈ lw_all := lw_g (lw_at lw_m7 193 rfl) rfl
theorem q1718 : (Jvm.Cond.methodLink "ChairOldModel" (197 : Nat) ({ cls := "ChairOldModel", name := "either", desc := "()I" } : Jvm.MethodName)) ∈ lw_all := lw_g (lw_at lw_m7 194 rfl) rfl
theorem q1719 : (Jvm.Cond.privateMethod ({ cls := "ChairOldModel", name := "either", desc := "()I" } : Jvm.MethodName)) ∈ lw_tbl := lw_at lw_m7 195 rfl
theorem q1720 : (Jvm.Cond.instanceMethod ({ cls := "ChairOldModel", name := "either", desc := "()I" } : Jvm.MethodName)) ∈ lw_all := lw_g (lw_at lw_m7 196 rfl) rfl
theorem q1721 : (Jvm.Cond.code ({ cls := "ChairOldModel", name := "either", desc := "()I" } : Jvm.MethodName) prog_34_method_20_code (3 : Nat) (Option.some Jvm.ClassFile.FieldType.int)) ∈ lw_all := lw_g (lw_at lw_m7 197 rfl) rfl
theorem q1722 : (Jvm.Cond.methodLink "ChairOldModel" (173 : Nat) ({ cls := "ChairOldModel", name := "both", desc := "()I" } : Jvm.MethodName)) ∈ lw_all := lw_g (lw_at lw_m7 198 rfl) rfl
theorem q1723 : (Jvm.Cond.privateMethod ({ cls := "ChairOldModel", name := "both", desc := "()I" } : Jvm.MethodName)) ∈ lw_tbl := lw_at lw_m7 199 rfl
theorem q1724 : (Jvm.Cond.instanceMethod ({ cls := "ChairOldModel", name := "both", desc := "()I" } : Jvm.MethodName)) ∈ lw_all := lw_g (lw_at lw_m7 200 rfl) rfl
theorem q1725 : (Jvm.Cond.code ({ cls := "ChairOldModel", name := "both", desc := "()I" } : Jvm.MethodName) prog_34_method_21_code (3 : Nat) (Option.some Jvm.ClassFile.FieldType.int)) ∈ lw_all := lw_g (lw_at lw_m7 201 rfl) rfl
theorem q1726 : (Jvm.Cond.methodLink "ChairOldModel" (179 : Nat) ({ cls := "ChairOldModel", name := "compared", desc := "()I" } : Jvm.MethodName)) ∈ lw_all := lw_g (lw_at lw_m7 202 rfl) rfl
theorem q1727 : (Jvm.Cond.privateMethod ({ cls := "ChairOldModel", name := "compared", desc := "()I" } : Jvm.MethodName)) ∈ lw_tbl := lw_at lw_m7 203 rfl
theorem q1728 : (Jvm.Cond.instanceMethod ({ cls := "ChairOldModel", name := "compared", desc := "()I" } : Jvm.MethodName)) ∈ lw_all := lw_g (lw_at lw_m7 204 rfl) rfl
theorem q1729 : (Jvm.Cond.code ({ cls := "ChairOldModel", name := "compared", desc := "()I" } : Jvm.MethodName) prog_34_method_22_code (4 : Nat) (Option.some Jvm.ClassFile.FieldType.int)) ∈ lw_all := lw_g (lw_at lw_m7 205 rfl) rfl
theorem q1730 : (Jvm.Cond.methodLink "ChairOldModel" (182 : Nat) ({ cls := "ChairOldModel", name := "sums", desc := "()I" } : Jvm.MethodName)) ∈ lw_all := lw_g (lw_at lw_m7 206 rfl) rfl
theorem q1731 : (Jvm.Cond.privateMethod ({ cls := "ChairOldModel", name := "sums", desc := "()I" } : Jvm.MethodName)) ∈ lw_tbl := lw_at lw_m7 207 rfl
theorem q1732 : (Jvm.Cond.instanceMethod ({ cls := "ChairOldModel", name := "sums", desc := "()I" } : Jvm.MethodName)) ∈ lw_all := lw_g (lw_at lw_m7 208 rfl) rfl
theorem q1733 : (Jvm.Cond.code ({ cls := "ChairOldModel", name := "sums", desc := "()I" } : Jvm.MethodName) prog_34_method_23_code (4 : Nat) (Option.some Jvm.ClassFile.FieldType.int)) ∈ lw_all := lw_g (lw_at lw_m7 209 rfl) rfl
theorem q1734 : (Jvm.Cond.methodLink "ChairOldModel" (185 : Nat) ({ cls := "ChairOldModel", name := "product", desc := "()I" } : Jvm.MethodName)) ∈ lw_all := lw_g (lw_at lw_m7 210 rfl) rfl
theorem q1735 : (Jvm.Cond.privateMethod ({ cls := "ChairOldModel", name := "product", desc := "()I" } : Jvm.MethodName)) ∈ lw_tbl := lw_at lw_m7 211 rfl
theorem q1736 : (Jvm.Cond.instanceMethod ({ cls := "ChairOldModel", name := "product", desc := "()I" } : Jvm.MethodName)) ∈ lw_all := lw_g (lw_at lw_m7 212 rfl) rfl
theorem q1737 : (Jvm.Cond.code ({ cls := "ChairOldModel", name := "product", desc := "()I" } : Jvm.MethodName) prog_34_method_24_code (4 : Nat) (Option.some Jvm.ClassFile.FieldType.int)) ∈ lw_all := lw_g (lw_at lw_m7 213 rfl) rfl
theorem q1738 : (Jvm.Cond.methodLink "ChairOldModel" (188 : Nat) ({ cls := "ChairOldModel", name := "one", desc := "()I" } : Jvm.MethodName)) ∈ lw_all := lw_g (lw_at lw_m7 214 rfl) rfl
theorem q1739 : (Jvm.Cond.privateMethod ({ cls := "ChairOldModel", name := "one", desc := "()I" } : Jvm.MethodName)) ∈ lw_tbl := lw_at lw_m7 215 rfl
theorem q1740 : (Jvm.Cond.instanceMethod ({ cls := "ChairOldModel", name := "one", desc := "()I" } : Jvm.MethodName)) ∈ lw_all := lw_g (lw_at lw_m7 216 rfl) rfl
theorem q1741 : (Jvm.Cond.code ({ cls := "ChairOldModel", name := "one", desc := "()I" } : Jvm.MethodName) prog_34_method_26_code (5 : Nat) (Option.some Jvm.ClassFile.FieldType.int)) ∈ lw_all := lw_g (lw_at lw_m7 217 rfl) rfl
theorem q1742 : (Jvm.Cond.methodLink "ChairOldModel" (169 : Nat) ({ cls := "ChairOldModel", name := "byteAt", desc := "()I" } : Jvm.MethodName)) ∈ lw_all := lw_g (lw_at lw_m7 218 rfl) rfl
theorem q1743 : (Jvm.Cond.privateMethod ({ cls := "ChairOldModel", name := "byteAt", desc := "()I" } : Jvm.MethodName)) ∈ lw_tbl := lw_at lw_m7 219 rfl
theorem q1744 : (Jvm.Cond.instanceMethod ({ cls := "ChairOldModel", name := "byteAt", desc := "()I" } : Jvm.MethodName)) ∈ lw_all := lw_g (lw_at lw_m7 220 rfl) rfl
theorem q1745 : (Jvm.Cond.code ({ cls := "ChairOldModel", name := "byteAt", desc := "()I" } : Jvm.MethodName) prog_34_method_17_code (1 : Nat) (Option.some Jvm.ClassFile.FieldType.int)) ∈ lw_all := lw_g (lw_at lw_m7 221 rfl) rfl
theorem q1746 : (Jvm.Cond.methodLink "ChairOldModel" (194 : Nat) ({ cls := "ChairOldModel", name := "wrong", desc := "()I" } : Jvm.MethodName)) ∈ lw_all := lw_g (lw_at lw_m7 222 rfl) rfl
theorem q1747 : (Jvm.Cond.privateMethod ({ cls := "ChairOldModel", name := "wrong", desc := "()I" } : Jvm.MethodName)) ∈ lw_tbl := lw_at lw_m7 223 rfl
theorem q1748 : (Jvm.Cond.instanceMethod ({ cls := "ChairOldModel", name := "wrong", desc := "()I" } : Jvm.MethodName)) ∈ lw_all := lw_g (lw_at lw_m7 224 rfl) rfl
theorem q1749 : (Jvm.Cond.code ({ cls := "ChairOldModel", name := "wrong", desc := "()I" } : Jvm.MethodName) prog_34_method_18_code (1 : Nat) (Option.some Jvm.ClassFile.FieldType.int)) ∈ lw_all := lw_g (lw_at lw_m7 225 rfl) rfl
theorem q1750 : (Jvm.Cond.methodLink "ChairOldModel" (176 : Nat) ({ cls := "ChairOldModel", name := "takes", desc := "(I)Z" } : Jvm.MethodName)) ∈ lw_all := lw_g (lw_at lw_m7 226 rfl) rfl
theorem q1751 : (Jvm.Cond.privateMethod ({ cls := "ChairOldModel", name := "takes", desc := "(I)Z" } : Jvm.MethodName)) ∈ lw_tbl := lw_at lw_m7 227 rfl
theorem q1752 : (Jvm.Cond.instanceMethod ({ cls := "ChairOldModel", name := "takes", desc := "(I)Z" } : Jvm.MethodName)) ∈ lw_all := lw_g (lw_at lw_m7 228 rfl) rfl
theorem q1753 : (Jvm.Cond.code ({ cls := "ChairOldModel", name := "takes", desc := "(I)Z" } : Jvm.MethodName) prog_34_method_19_code (2 : Nat) (Option.some Jvm.ClassFile.FieldType.boolean)) ∈ lw_all := lw_g (lw_at lw_m7 229 rfl) rfl
theorem q1754 : (Jvm.Cond.methodLink "ChairOldModel" (200 : Nat) ({ cls := "ChairOldModel", name := "nameOf", desc := "(I)I" } : Jvm.MethodName)) ∈ lw_all := lw_g (lw_at lw_m7 230 rfl) rfl
theorem q1755 : (Jvm.Cond.static ({ cls := "ChairOldModel", name := "nameOf", desc := "(I)I" } : Jvm.MethodName)) ∈ lw_all := lw_g (lw_at lw_m7 231 rfl) rfl
theorem q1756 : (Jvm.Cond.code ({ cls := "ChairOldModel", name := "nameOf", desc := "(I)I" } : Jvm.MethodName) prog_34_method_25_code (1 : Nat) (Option.some Jvm.ClassFile.FieldType.int)) ∈ lw_all := lw_g (lw_at lw_m7 232 rfl) rfl
theorem q1758 : (Jvm.Cond.instanceMethod ({ cls := "ChairOldModel", name := "number", desc := "(II)I" } : Jvm.MethodName)) ∈ lw_all := lw_g (lw_at lw_m7 234 rfl) rfl
theorem q1759 : (Jvm.Cond.selects "ChairOldModel" ({ cls := "ChairOldModel", name := "number", desc := "(II)I" } : Jvm.MethodName) ({ cls := "ChairOldModel", name := "number", desc := "(II)I" } : Jvm.MethodName)) ∈ lw_all := lw_g (lw_at lw_m7 235 rfl) rfl
theorem q1760 : (Jvm.Cond.code ({ cls := "ChairOldModel", name := "number", desc := "(II)I" } : Jvm.MethodName) prog_34_method_30_code (3 : Nat) (Option.some Jvm.ClassFile.FieldType.int)) ∈ lw_all := lw_g (lw_at lw_m7 236 rfl) rfl
theorem q1761 : (Jvm.Cond.methodLink "ChairOldModel" (207 : Nat) ({ cls := "ChairOldModel", name := "numberOf", desc := "(IIII)I" } : Jvm.MethodName)) ∈ lw_all := lw_g (lw_at lw_m7 237 rfl) rfl
theorem q1762 : (Jvm.Cond.privateMethod ({ cls := "ChairOldModel", name := "numberOf", desc := "(IIII)I" } : Jvm.MethodName)) ∈ lw_tbl := lw_at lw_m7 238 rfl
theorem q1763 : (Jvm.Cond.instanceMethod ({ cls := "ChairOldModel", name := "numberOf", desc := "(IIII)I" } : Jvm.MethodName)) ∈ lw_all := lw_g (lw_at lw_m7 239 rfl) rfl
theorem q1764 : (Jvm.Cond.code ({ cls := "ChairOldModel", name := "numberOf", desc := "(IIII)I" } : Jvm.MethodName) prog_34_method_29_code (6 : Nat) (Option.some Jvm.ClassFile.FieldType.int)) ∈ lw_all := lw_g (lw_at lw_m8 0 rfl) rfl
theorem q1766 : (Jvm.Cond.instanceMethod ({ cls := "ChairOldModel", name := "likely", desc := "(II)J" } : Jvm.MethodName)) ∈ lw_all := lw_g (lw_at lw_m8 2 rfl) rfl
theorem q1767 : (Jvm.Cond.selects "ChairOldModel" ({ cls := "ChairOldModel", name := "likely", desc := "(II)J" } : Jvm.MethodName) ({ cls := "ChairOldModel", name := "likely", desc := "(II)J" } : Jvm.MethodName)) ∈ lw_all := lw_g (lw_at lw_m8 3 rfl) rfl
theorem q1768 : (Jvm.Cond.code ({ cls := "ChairOldModel", name := "likely", desc := "(II)J" } : Jvm.MethodName) prog_34_method_38_code (7 : Nat) (Option.some Jvm.ClassFile.FieldType.long)) ∈ lw_all := lw_g (lw_at lw_m8 4 rfl) rfl
theorem q1769 : (Jvm.Cond.methodLink "ChairOldModel" (224 : Nat) ({ cls := "ChairOldModel", name := "isPk", desc := "(I)Z" } : Jvm.MethodName)) ∈ lw_all := lw_g (lw_at lw_m8 5 rfl) rfl
theorem q1770 : (Jvm.Cond.privateMethod ({ cls := "ChairOldModel", name := "isPk", desc := "(I)Z" } : Jvm.MethodName)) ∈ lw_tbl := lw_at lw_m8 6 rfl
theorem q1771 : (Jvm.Cond.instanceMethod ({ cls := "ChairOldModel", name := "isPk", desc := "(I)Z" } : Jvm.MethodName)) ∈ lw_all := lw_g (lw_at lw_m8 7 rfl) rfl
theorem q1772 : (Jvm.Cond.code ({ cls := "ChairOldModel", name := "isPk", desc := "(I)Z" } : Jvm.MethodName) prog_34_method_36_code (2 : Nat) (Option.some Jvm.ClassFile.FieldType.boolean)) ∈ lw_all := lw_g (lw_at lw_m8 8 rfl) rfl
theorem q1773 : (Jvm.Cond.constantLong "ChairOldModel" (229 : Nat) (-9223372036854775808 : Int64)) ∈ lw_all := lw_g (lw_at lw_m8 9 rfl) rfl
theorem q1774 : (Jvm.Cond.methodLink "ChairOldModel" (231 : Nat) ({ cls := "ChairOldModel", name := "weighsPart", desc := "(I)V" } : Jvm.MethodName)) ∈ lw_all := lw_g (lw_at lw_m8 10 rfl) rfl
theorem q1775 : (Jvm.Cond.privateMethod ({ cls := "ChairOldModel", name := "weighsPart", desc := "(I)V" } : Jvm.MethodName)) ∈ lw_tbl := lw_at lw_m8 11 rfl
theorem q1776 : (Jvm.Cond.instanceMethod ({ cls := "ChairOldModel", name := "weighsPart", desc := "(I)V" } : Jvm.MethodName)) ∈ lw_all := lw_g (lw_at lw_m8 12 rfl) rfl
theorem q1777 : (Jvm.Cond.code ({ cls := "ChairOldModel", name := "weighsPart", desc := "(I)V" } : Jvm.MethodName) prog_34_method_33_code (2 : Nat) (Option.none : Option Jvm.ClassFile.FieldType)) ∈ lw_all := lw_g (lw_at lw_m8 13 rfl) rfl
theorem q1778 : (Jvm.Cond.methodLink "ChairOldModel" (217 : Nat) ({ cls := "ChairOldModel", name := "looksAt", desc := "(I)V" } : Jvm.MethodName)) ∈ lw_all := lw_g (lw_at lw_m8 14 rfl) rfl
theorem q1779 : (Jvm.Cond.privateMethod ({ cls := "ChairOldModel", name := "looksAt", desc := "(I)V" } : Jvm.MethodName)) ∈ lw_tbl := lw_at lw_m8 15 rfl
theorem q1780 : (Jvm.Cond.instanceMethod ({ cls := "ChairOldModel", name := "looksAt", desc := "(I)V" } : Jvm.MethodName)) ∈ lw_all := lw_g (lw_at lw_m8 16 rfl) rfl
theorem q1781 : (Jvm.Cond.code ({ cls := "ChairOldModel", name := "looksAt", desc := "(I)V" } : Jvm.MethodName) prog_34_method_31_code (4 : Nat) (Option.none : Option Jvm.ClassFile.FieldType)) ∈ lw_all := lw_g (lw_at lw_m8 17 rfl) rfl
theorem q1782 : (Jvm.Cond.methodLink "ChairOldModel" (221 : Nat) ({ cls := "ChairOldModel", name := "weighs", desc := "()V" } : Jvm.MethodName)) ∈ lw_all := lw_g (lw_at lw_m8 18 rfl) rfl
theorem q1783 : (Jvm.Cond.privateMethod ({ cls := "ChairOldModel", name := "weighs", desc := "()V" } : Jvm.MethodName)) ∈ lw_tbl := lw_at lw_m8 19 rfl
theorem q1784 : (Jvm.Cond.instanceMethod ({ cls := "ChairOldModel", name := "weighs", desc := "()V" } : Jvm.MethodName)) ∈ lw_all := lw_g (lw_at lw_m8 20 rfl) rfl
theorem q1785 : (Jvm.Cond.code ({ cls := "ChairOldModel", name := "weighs", desc := "()V" } : Jvm.MethodName) prog_34_method_32_code (6 : Nat) (Option.none : Option Jvm.ClassFile.FieldType)) ∈ lw_all := lw_g (lw_at lw_m8 21 rfl) rfl
theorem q1786 : (Jvm.Cond.constantLong "ChairOldModel" (215 : Nat) (100 : Int64)) ∈ lw_all := lw_g (lw_at lw_m8 22 rfl) rfl
theorem q1787 : (Jvm.Cond.methodLink "ChairOldModel" (234 : Nat) ({ cls := "ChairOldModel", name := "common", desc := "(JJ)J" } : Jvm.MethodName)) ∈ lw_all := lw_g (lw_at lw_m8 23 rfl) rfl
theorem q1788 : (Jvm.Cond.static ({ cls := "ChairOldModel", name := "common", desc := "(JJ)J" } : Jvm.MethodName)) ∈ lw_all := lw_g (lw_at lw_m8 24 rfl) rfl
theorem q1789 : (Jvm.Cond.code ({ cls := "ChairOldModel", name := "common", desc := "(JJ)J" } : Jvm.MethodName) prog_34_method_37_code (10 : Nat) (Option.some Jvm.ClassFile.FieldType.long)) ∈ lw_all := lw_g (lw_at lw_m8 25 rfl) rfl
theorem q1791 : (Jvm.Cond.instanceMethod ({ cls := "ChairOldModel", name := "percent", desc := "(I)I" } : Jvm.MethodName)) ∈ lw_all := lw_g (lw_at lw_m8 27 rfl) rfl
theorem q1792 : (Jvm.Cond.selects "ChairOldModel" ({ cls := "ChairOldModel", name := "percent", desc := "(I)I" } : Jvm.MethodName) ({ cls := "ChairOldModel", name := "percent", desc := "(I)I" } : Jvm.MethodName)) ∈ lw_all := lw_g (lw_at lw_m8 28 rfl) rfl
theorem q1793 : (Jvm.Cond.code ({ cls := "ChairOldModel", name := "percent", desc := "(I)I" } : Jvm.MethodName) prog_34_method_39_code (2 : Nat) (Option.some Jvm.ClassFile.FieldType.int)) ∈ lw_all := lw_g (lw_at lw_m8 29 rfl) rfl
theorem q1794 : (Jvm.Cond.methodLink "ChairOldModel" (238 : Nat) ({ cls := "ChairOldModel", name := "percentNow", desc := "(I)I" } : Jvm.MethodName)) ∈ lw_all := lw_g (lw_at lw_m8 30 rfl) rfl
theorem q1795 : (Jvm.Cond.privateMethod ({ cls := "ChairOldModel", name := "percentNow", desc := "(I)I" } : Jvm.MethodName)) ∈ lw_tbl := lw_at lw_m8 31 rfl
theorem q1796 : (Jvm.Cond.instanceMethod ({ cls := "ChairOldModel", name := "percentNow", desc := "(I)I" } : Jvm.MethodName)) ∈ lw_all := lw_g (lw_at lw_m8 32 rfl) rfl
theorem q1797 : (Jvm.Cond.code ({ cls := "ChairOldModel", name := "percentNow", desc := "(I)I" } : Jvm.MethodName) prog_34_method_35_code (2 : Nat) (Option.some Jvm.ClassFile.FieldType.int)) ∈ lw_all := lw_g (lw_at lw_m8 33 rfl) rfl
theorem q1799 : (Jvm.Cond.instanceMethod ({ cls := "ChairOldModel", name := "likeliest", desc := "(I)I" } : Jvm.MethodName)) ∈ lw_all := lw_g (lw_at lw_m8 35 rfl) rfl
theorem q1800 : (Jvm.Cond.selects "ChairOldModel" ({ cls := "ChairOldModel", name := "likeliest", desc := "(I)I" } : Jvm.MethodName) ({ cls := "ChairOldModel", name := "likeliest", desc := "(I)I" } : Jvm.MethodName)) ∈ lw_all := lw_g (lw_at lw_m8 36 rfl) rfl
theorem q1801 : (Jvm.Cond.code ({ cls := "ChairOldModel", name := "likeliest", desc := "(I)I" } : Jvm.MethodName) prog_34_method_40_code (2 : Nat) (Option.some Jvm.ClassFile.FieldType.int)) ∈ lw_all := lw_g (lw_at lw_m8 37 rfl) rfl
theorem q1802 : (Jvm.Cond.methodLink "ChairOldModel" (241 : Nat) ({ cls := "ChairOldModel", name := "mostOf", desc := "()I" } : Jvm.MethodName)) ∈ lw_all := lw_g (lw_at lw_m8 38 rfl) rfl
theorem q1803 : (Jvm.Cond.privateMethod ({ cls := "ChairOldModel", name := "mostOf", desc := "()I" } : Jvm.MethodName)) ∈ lw_tbl := lw_at lw_m8 39 rfl
theorem q1804 : (Jvm.Cond.instanceMethod ({ cls := "ChairOldModel", name := "mostOf", desc := "()I" } : Jvm.MethodName)) ∈ lw_all := lw_g (lw_at lw_m8 40 rfl) rfl
theorem q1805 : (Jvm.Cond.code ({ cls := "ChairOldModel", name := "mostOf", desc := "()I" } : Jvm.MethodName) prog_34_method_34_code (3 : Nat) (Option.some Jvm.ClassFile.FieldType.int)) ∈ lw_all := lw_g (lw_at lw_m8 41 rfl) rfl
theorem q1807 : (Jvm.Cond.instanceMethod ({ cls := "ChairOldModel", name := "when", desc := "(II)I" } : Jvm.MethodName)) ∈ lw_all := lw_g (lw_at lw_m8 43 rfl) rfl
theorem q1808 : (Jvm.Cond.selects "ChairOldModel" ({ cls := "ChairOldModel", name := "when", desc := "(II)I" } : Jvm.MethodName) ({ cls := "ChairOldModel", name := "when", desc := "(II)I" } : Jvm.MethodName)) ∈ lw_all := lw_g (lw_at lw_m8 44 rfl) rfl
theorem q1809 : (Jvm.Cond.code ({ cls := "ChairOldModel", name := "when", desc := "(II)I" } : Jvm.MethodName) prog_34_method_42_code (7 : Nat) (Option.some Jvm.ClassFile.FieldType.int)) ∈ lw_all := lw_g (lw_at lw_m8 45 rfl) rfl
theorem q1810 : (Jvm.Cond.methodLink "ChairOldModel" (244 : Nat) ({ cls := "ChairOldModel", name := "whenNow", desc := "(I)I" } : Jvm.MethodName)) ∈ lw_all := lw_g (lw_at lw_m8 46 rfl) rfl
theorem q1811 : (Jvm.Cond.privateMethod ({ cls := "ChairOldModel", name := "whenNow", desc := "(I)I" } : Jvm.MethodName)) ∈ lw_tbl := lw_at lw_m8 47 rfl
theorem q1812 : (Jvm.Cond.instanceMethod ({ cls := "ChairOldModel", name := "whenNow", desc := "(I)I" } : Jvm.MethodName)) ∈ lw_all := lw_g (lw_at lw_m8 48 rfl) rfl
theorem q1813 : (Jvm.Cond.code ({ cls := "ChairOldModel", name := "whenNow", desc := "(I)I" } : Jvm.MethodName) prog_34_method_41_code (4 : Nat) (Option.some Jvm.ClassFile.FieldType.int)) ∈ lw_all := lw_g (lw_at lw_m8 49 rfl) rfl
theorem q1815 : (Jvm.Cond.instanceMethod ({ cls := "ChairOldModel", name := "whole", desc := "(I)I" } : Jvm.MethodName)) ∈ lw_all := lw_g (lw_at lw_m8 51 rfl) rfl
theorem q1816 : (Jvm.Cond.selects "ChairOldModel" ({ cls := "ChairOldModel", name := "whole", desc := "(I)I" } : Jvm.MethodName) ({ cls := "ChairOldModel", name := "whole", desc := "(I)I" } : Jvm.MethodName)) ∈ lw_all := lw_g (lw_at lw_m8 52 rfl) rfl
theorem q1817 : (Jvm.Cond.code ({ cls := "ChairOldModel", name := "whole", desc := "(I)I" } : Jvm.MethodName) prog_34_method_43_code (11 : Nat) (Option.some Jvm.ClassFile.FieldType.int)) ∈ lw_all := lw_g (lw_at lw_m8 53 rfl) rfl
theorem q1818 : (Jvm.Cond.constantLong "ChairOldModel" (247 : Nat) (10000 : Int64)) ∈ lw_all := lw_g (lw_at lw_m8 54 rfl) rfl
theorem q1820 : (Jvm.Cond.instanceMethod ({ cls := "ChairOldModel", name := "odd", desc := "()I" } : Jvm.MethodName)) ∈ lw_all := lw_g (lw_at lw_m8 56 rfl) rfl
theorem q1821 : (Jvm.Cond.selects "ChairOldModel" ({ cls := "ChairOldModel", name := "odd", desc := "()I" } : Jvm.MethodName) ({ cls := "ChairOldModel", name := "odd", desc := "()I" } : Jvm.MethodName)) ∈ lw_all := lw_g (lw_at lw_m8 57 rfl) rfl
theorem q1822 : (Jvm.Cond.code ({ cls := "ChairOldModel", name := "odd", desc := "()I" } : Jvm.MethodName) prog_34_method_44_code (5 : Nat) (Option.some Jvm.ClassFile.FieldType.int)) ∈ lw_all := lw_g (lw_at lw_m8 58 rfl) rfl
theorem q1824 : (Jvm.Cond.instanceMethod ({ cls := "ChairOldModel", name := "next", desc := "(I)I" } : Jvm.MethodName)) ∈ lw_all := lw_g (lw_at lw_m8 60 rfl) rfl
theorem q1825 : (Jvm.Cond.selects "ChairOldModel" ({ cls := "ChairOldModel", name := "next", desc := "(I)I" } : Jvm.MethodName) ({ cls := "ChairOldModel", name := "next", desc := "(I)I" } : Jvm.MethodName)) ∈ lw_all := lw_g (lw_at lw_m8 61 rfl) rfl
theorem q1826 : (Jvm.Cond.code ({ cls := "ChairOldModel", name := "next", desc := "(I)I" } : Jvm.MethodName) prog_34_method_45_code (12 : Nat) (Option.some Jvm.ClassFile.FieldType.int)) ∈ lw_all := lw_g (lw_at lw_m8 62 rfl) rfl
theorem q1828 : (Jvm.Cond.instanceMethod ({ cls := "ChairOldModel", name := "named", desc := "(II)I" } : Jvm.MethodName)) ∈ lw_all := lw_g (lw_at lw_m8 64 rfl) rfl
theorem q1829 : (Jvm.Cond.selects "ChairOldModel" ({ cls := "ChairOldModel", name := "named", desc := "(II)I" } : Jvm.MethodName) ({ cls := "ChairOldModel", name := "named", desc := "(II)I" } : Jvm.MethodName)) ∈ lw_all := lw_g (lw_at lw_m8 65 rfl) rfl
theorem q1830 : (Jvm.Cond.code ({ cls := "ChairOldModel", name := "named", desc := "(II)I" } : Jvm.MethodName) prog_34_method_49_code (3 : Nat) (Option.some Jvm.ClassFile.FieldType.int)) ∈ lw_all := lw_g (lw_at lw_m8 66 rfl) rfl
theorem q1831 : (Jvm.Cond.constantLong "ChairOldModel" (251 : Nat) (63 : Int64)) ∈ lw_all := lw_g (lw_at lw_m8 67 rfl) rfl
theorem q1832 : (Jvm.Cond.methodLink "ChairOldModel" (253 : Nat) ({ cls := "ChairOldModel", name := "unlooked", desc := "(I)I" } : Jvm.MethodName)) ∈ lw_all := lw_g (lw_at lw_m8 68 rfl) rfl
theorem q1833 : (Jvm.Cond.privateMethod ({ cls := "ChairOldModel", name := "unlooked", desc := "(I)I" } : Jvm.MethodName)) ∈ lw_tbl := lw_at lw_m8 69 rfl
theorem q1834 : (Jvm.Cond.instanceMethod ({ cls := "ChairOldModel", name := "unlooked", desc := "(I)I" } : Jvm.MethodName)) ∈ lw_all := lw_g (lw_at lw_m8 70 rfl) rfl
theorem q1835 : (Jvm.Cond.code ({ cls := "ChairOldModel", name := "unlooked", desc := "(I)I" } : Jvm.MethodName) prog_34_method_47_code (4 : Nat) (Option.some Jvm.ClassFile.FieldType.int)) ∈ lw_all := lw_g (lw_at lw_m8 71 rfl) rfl
theorem q1836 : (Jvm.Cond.methodLink "ChairOldModel" (256 : Nat) ({ cls := "ChairOldModel", name := "namedBy", desc := "(IIJ)I" } : Jvm.MethodName)) ∈ lw_all := lw_g (lw_at lw_m8 72 rfl) rfl
theorem q1837 : (Jvm.Cond.privateMethod ({ cls := "ChairOldModel", name := "namedBy", desc := "(IIJ)I" } : Jvm.MethodName)) ∈ lw_tbl := lw_at lw_m8 73 rfl
theorem q1838 : (Jvm.Cond.instanceMethod ({ cls := "ChairOldModel", name := "namedBy", desc := "(IIJ)I" } : Jvm.MethodName)) ∈ lw_all := lw_g (lw_at lw_m8 74 rfl) rfl
theorem q1839 : (Jvm.Cond.code ({ cls := "ChairOldModel", name := "namedBy", desc := "(IIJ)I" } : Jvm.MethodName) prog_34_method_48_code (12 : Nat) (Option.some Jvm.ClassFile.FieldType.int)) ∈ lw_all := lw_g (lw_at lw_m8 75 rfl) rfl
theorem q1840 : (Jvm.Cond.constantLong "ChairOldModel" (249 : Nat) (1000 : Int64)) ∈ lw_all := lw_g (lw_at lw_m8 76 rfl) rfl
theorem q1842 : (Jvm.Cond.instanceMethod ({ cls := "ChairOldModel", name := "plan", desc := "(II)I" } : Jvm.MethodName)) ∈ lw_all := lw_g (lw_at lw_m8 78 rfl) rfl
theorem q1843 : (Jvm.Cond.selects "ChairOldModel" ({ cls := "ChairOldModel", name := "plan", desc := "(II)I" } : Jvm.MethodName) ({ cls := "ChairOldModel", name := "plan", desc := "(II)I" } : Jvm.MethodName)) ∈ lw_all := lw_g (lw_at lw_m8 79 rfl) rfl
theorem q1844 : (Jvm.Cond.code ({ cls := "ChairOldModel", name := "plan", desc := "(II)I" } : Jvm.MethodName) prog_34_method_51_code (10 : Nat) (Option.some Jvm.ClassFile.FieldType.int)) ∈ lw_all := lw_g (lw_at lw_m8 80 rfl) rfl
theorem q1845 : (Jvm.Cond.constantLong "ChairOldModel" (260 : Nat) (54 : Int64)) ∈ lw_all := lw_g (lw_at lw_m8 81 rfl) rfl
theorem q1846 : (Jvm.Cond.methodLink "ChairOldModel" (262 : Nat) ({ cls := "ChairOldModel", name := "minutesOf", desc := "(I)I" } : Jvm.MethodName)) ∈ lw_all := lw_g (lw_at lw_m8 82 rfl) rfl
theorem q1847 : (Jvm.Cond.privateMethod ({ cls := "ChairOldModel", name := "minutesOf", desc := "(I)I" } : Jvm.MethodName)) ∈ lw_tbl := lw_at lw_m8 83 rfl
theorem q1848 : (Jvm.Cond.instanceMethod ({ cls := "ChairOldModel", name := "minutesOf", desc := "(I)I" } : Jvm.MethodName)) ∈ lw_all := lw_g (lw_at lw_m8 84 rfl) rfl
theorem q1849 : (Jvm.Cond.code ({ cls := "ChairOldModel", name := "minutesOf", desc := "(I)I" } : Jvm.MethodName) prog_34_method_50_code (4 : Nat) (Option.some Jvm.ClassFile.FieldType.int)) ∈ lw_all := lw_g (lw_at lw_m8 85 rfl) rfl
theorem q1851 : (Jvm.Cond.instanceMethod ({ cls := "ChairOldModel", name := "believed", desc := "(II)I" } : Jvm.MethodName)) ∈ lw_all := lw_g (lw_at lw_m8 87 rfl) rfl
theorem q1852 : (Jvm.Cond.selects "ChairOldModel" ({ cls := "ChairOldModel", name := "believed", desc := "(II)I" } : Jvm.MethodName) ({ cls := "ChairOldModel", name := "believed", desc := "(II)I" } : Jvm.MethodName)) ∈ lw_all := lw_g (lw_at lw_m8 88 rfl) rfl
theorem q1853 : (Jvm.Cond.code ({ cls := "ChairOldModel", name := "believed", desc := "(II)I" } : Jvm.MethodName) prog_34_method_53_code (3 : Nat) (Option.some Jvm.ClassFile.FieldType.int)) ∈ lw_all := lw_g (lw_at lw_m8 89 rfl) rfl
theorem q1854 : (Jvm.Cond.methodLink "ChairOldModel" (265 : Nat) ({ cls := "ChairOldModel", name := "believedBy", desc := "(I)I" } : Jvm.MethodName)) ∈ lw_all := lw_g (lw_at lw_m8 90 rfl) rfl
theorem q1855 : (Jvm.Cond.privateMethod ({ cls := "ChairOldModel", name := "believedBy", desc := "(I)I" } : Jvm.MethodName)) ∈ lw_tbl := lw_at lw_m8 91 rfl
theorem q1856 : (Jvm.Cond.instanceMethod ({ cls := "ChairOldModel", name := "believedBy", desc := "(I)I" } : Jvm.MethodName)) ∈ lw_all := lw_g (lw_at lw_m8 92 rfl) rfl
theorem q1857 : (Jvm.Cond.code ({ cls := "ChairOldModel", name := "believedBy", desc := "(I)I" } : Jvm.MethodName) prog_34_method_52_code (3 : Nat) (Option.some Jvm.ClassFile.FieldType.int)) ∈ lw_all := lw_g (lw_at lw_m8 93 rfl) rfl
theorem q1859 : (Jvm.Cond.instanceMethod ({ cls := "ChairOldModel", name := "cheapest", desc := "(III)I" } : Jvm.MethodName)) ∈ lw_all := lw_g (lw_at lw_m8 95 rfl) rfl
theorem q1860 : (Jvm.Cond.selects "ChairOldModel" ({ cls := "ChairOldModel", name := "cheapest", desc := "(III)I" } : Jvm.MethodName) ({ cls := "ChairOldModel", name := "cheapest", desc := "(III)I" } : Jvm.MethodName)) ∈ lw_all := lw_g (lw_at lw_m8 96 rfl) rfl
theorem q1861 : (Jvm.Cond.code ({ cls := "ChairOldModel", name := "cheapest", desc := "(III)I" } : Jvm.MethodName) prog_34_method_55_code (6 : Nat) (Option.some Jvm.ClassFile.FieldType.int)) ∈ lw_all := lw_g (lw_at lw_m8 97 rfl) rfl
theorem q1862 : (Jvm.Cond.methodLink "ChairOldModel" (268 : Nat) ({ cls := "ChairOldModel", name := "costOf", desc := "(I)I" } : Jvm.MethodName)) ∈ lw_all := lw_g (lw_at lw_m8 98 rfl) rfl
theorem q1863 : (Jvm.Cond.privateMethod ({ cls := "ChairOldModel", name := "costOf", desc := "(I)I" } : Jvm.MethodName)) ∈ lw_tbl := lw_at lw_m8 99 rfl
theorem q1864 : (Jvm.Cond.instanceMethod ({ cls := "ChairOldModel", name := "costOf", desc := "(I)I" } : Jvm.MethodName)) ∈ lw_all := lw_g (lw_at lw_m8 100 rfl) rfl
theorem q1865 : (Jvm.Cond.code ({ cls := "ChairOldModel", name := "costOf", desc := "(I)I" } : Jvm.MethodName) prog_34_method_54_code (4 : Nat) (Option.some Jvm.ClassFile.FieldType.int)) ∈ lw_all := lw_g (lw_at lw_m8 101 rfl) rfl
theorem q1867 : (Jvm.Cond.instanceMethod ({ cls := "ChairOldModel", name := "spoils", desc := "(II)I" } : Jvm.MethodName)) ∈ lw_all := lw_g (lw_at lw_m8 103 rfl) rfl
theorem q1868 : (Jvm.Cond.selects "ChairOldModel" ({ cls := "ChairOldModel", name := "spoils", desc := "(II)I" } : Jvm.MethodName) ({ cls := "ChairOldModel", name := "spoils", desc := "(II)I" } : Jvm.MethodName)) ∈ lw_all := lw_g (lw_at lw_m8 104 rfl) rfl
theorem q1869 : (Jvm.Cond.code ({ cls := "ChairOldModel", name := "spoils", desc := "(II)I" } : Jvm.MethodName) prog_34_method_56_code (7 : Nat) (Option.some Jvm.ClassFile.FieldType.int)) ∈ lw_all := lw_g (lw_at lw_m8 105 rfl) rfl
theorem q1871 : (Jvm.Cond.instanceMethod ({ cls := "ChairOldModel", name := "price", desc := "(I)I" } : Jvm.MethodName)) ∈ lw_all := lw_g (lw_at lw_m8 107 rfl) rfl
theorem q1872 : (Jvm.Cond.selects "ChairOldModel" ({ cls := "ChairOldModel", name := "price", desc := "(I)I" } : Jvm.MethodName) ({ cls := "ChairOldModel", name := "price", desc := "(I)I" } : Jvm.MethodName)) ∈ lw_all := lw_g (lw_at lw_m8 108 rfl) rfl
theorem q1873 : (Jvm.Cond.code ({ cls := "ChairOldModel", name := "price", desc := "(I)I" } : Jvm.MethodName) prog_34_method_58_code (4 : Nat) (Option.some Jvm.ClassFile.FieldType.int)) ∈ lw_all := lw_g (lw_at lw_m8 109 rfl) rfl
theorem q1874 : (Jvm.Cond.methodLink "ChairOldModel" (271 : Nat) ({ cls := "ChairOldModel", name := "priceOf", desc := "(I)I" } : Jvm.MethodName)) ∈ lw_all := lw_g (lw_at lw_m8 110 rfl) rfl
theorem q1875 : (Jvm.Cond.privateMethod ({ cls := "ChairOldModel", name := "priceOf", desc := "(I)I" } : Jvm.MethodName)) ∈ lw_tbl := lw_at lw_m8 111 rfl
theorem q1876 : (Jvm.Cond.instanceMethod ({ cls := "ChairOldModel", name := "priceOf", desc := "(I)I" } : Jvm.MethodName)) ∈ lw_all := lw_g (lw_at lw_m8 112 rfl) rfl
theorem q1877 : (Jvm.Cond.code ({ cls := "ChairOldModel", name := "priceOf", desc := "(I)I" } : Jvm.MethodName) prog_34_method_57_code (4 : Nat) (Option.some Jvm.ClassFile.FieldType.int)) ∈ lw_all := lw_g (lw_at lw_m8 113 rfl) rfl
theorem q1879 : (Jvm.Cond.instanceMethod ({ cls := "ChairOldModel", name := "paper", desc := "(II)I" } : Jvm.MethodName)) ∈ lw_all := lw_g (lw_at lw_m8 115 rfl) rfl
theorem q1880 : (Jvm.Cond.selects "ChairOldModel" ({ cls := "ChairOldModel", name := "paper", desc := "(II)I" } : Jvm.MethodName) ({ cls := "ChairOldModel", name := "paper", desc := "(II)I" } : Jvm.MethodName)) ∈ lw_all := lw_g (lw_at lw_m8 116 rfl) rfl
theorem q1881 : (Jvm.Cond.code ({ cls := "ChairOldModel", name := "paper", desc := "(II)I" } : Jvm.MethodName) prog_34_method_59_code (3 : Nat) (Option.some Jvm.ClassFile.FieldType.int)) ∈ lw_all := lw_g (lw_at lw_m8 117 rfl) rfl
theorem q1883 : (Jvm.Cond.instanceMethod ({ cls := "ChairOldModel", name := "papers", desc := "(I)I" } : Jvm.MethodName)) ∈ lw_all := lw_g (lw_at lw_m8 119 rfl) rfl
theorem q1884 : (Jvm.Cond.selects "ChairOldModel" ({ cls := "ChairOldModel", name := "papers", desc := "(I)I" } : Jvm.MethodName) ({ cls := "ChairOldModel", name := "papers", desc := "(I)I" } : Jvm.MethodName)) ∈ lw_all := lw_g (lw_at lw_m8 120 rfl) rfl
theorem q1885 : (Jvm.Cond.code ({ cls := "ChairOldModel", name := "papers", desc := "(I)I" } : Jvm.MethodName) prog_34_method_63_code (2 : Nat) (Option.some Jvm.ClassFile.FieldType.int)) ∈ lw_all := lw_g (lw_at lw_m8 121 rfl) rfl
theorem q1886 : (Jvm.Cond.methodLink "ChairOldModel" (280 : Nat) ({ cls := "ChairOldModel", name := "clash", desc := "()I" } : Jvm.MethodName)) ∈ lw_all := lw_g (lw_at lw_m8 122 rfl) rfl
theorem q1887 : (Jvm.Cond.privateMethod ({ cls := "ChairOldModel", name := "clash", desc := "()I" } : Jvm.MethodName)) ∈ lw_tbl := lw_at lw_m8 123 rfl
theorem q1888 : (Jvm.Cond.instanceMethod ({ cls := "ChairOldModel", name := "clash", desc := "()I" } : Jvm.MethodName)) ∈ lw_all := lw_g (lw_at lw_m8 124 rfl) rfl
theorem q1889 : (Jvm.Cond.code ({ cls := "ChairOldModel", name := "clash", desc := "()I" } : Jvm.MethodName) prog_34_method_60_code (3 : Nat) (Option.some Jvm.ClassFile.FieldType.int)) ∈ lw_all := lw_g (lw_at lw_m8 125 rfl) rfl
theorem q1890 : (Jvm.Cond.methodLink "ChairOldModel" (283 : Nat) ({ cls := "ChairOldModel", name := "gaps", desc := "()I" } : Jvm.MethodName)) ∈ lw_all := lw_g (lw_at lw_m8 126 rfl) rfl
theorem q1891 : (Jvm.Cond.privateMethod ({ cls := "ChairOldModel", name := "gaps", desc := "()I" } : Jvm.MethodName)) ∈ lw_tbl := lw_at lw_m8 127 rfl
theorem q1892 : (Jvm.Cond.instanceMethod ({ cls := "ChairOldModel", name := "gaps", desc := "()I" } : Jvm.MethodName)) ∈ lw_all := lw_g (lw_at lw_m8 128 rfl) rfl
theorem q1893 : (Jvm.Cond.code ({ cls := "ChairOldModel", name := "gaps", desc := "()I" } : Jvm.MethodName) prog_34_method_62_code (5 : Nat) (Option.some Jvm.ClassFile.FieldType.int)) ∈ lw_all := lw_g (lw_at lw_m8 129 rfl) rfl
theorem q1894 : (Jvm.Cond.methodLink "ChairOldModel" (277 : Nat) ({ cls := "ChairOldModel", name := "houseOf", desc := "(I)I" } : Jvm.MethodName)) ∈ lw_all := lw_g (lw_at lw_m8 130 rfl) rfl
theorem q1895 : (Jvm.Cond.privateMethod ({ cls := "ChairOldModel", name := "houseOf", desc := "(I)I" } : Jvm.MethodName)) ∈ lw_tbl := lw_at lw_m8 131 rfl
theorem q1896 : (Jvm.Cond.instanceMethod ({ cls := "ChairOldModel", name := "houseOf", desc := "(I)I" } : Jvm.MethodName)) ∈ lw_all := lw_g (lw_at lw_m8 132 rfl) rfl
theorem q1897 : (Jvm.Cond.code ({ cls := "ChairOldModel", name := "houseOf", desc := "(I)I" } : Jvm.MethodName) prog_34_method_61_code (3 : Nat) (Option.some Jvm.ClassFile.FieldType.int)) ∈ lw_all := lw_g (lw_at lw_m8 133 rfl) rfl
theorem q1899 : (Jvm.Cond.instanceMethod ({ cls := "ChairOldModel", name := "house", desc := "(I)I" } : Jvm.MethodName)) ∈ lw_all := lw_g (lw_at lw_m8 135 rfl) rfl
theorem q1900 : (Jvm.Cond.selects "ChairOldModel" ({ cls := "ChairOldModel", name := "house", desc := "(I)I" } : Jvm.MethodName) ({ cls := "ChairOldModel", name := "house", desc := "(I)I" } : Jvm.MethodName)) ∈ lw_all := lw_g (lw_at lw_m8 136 rfl) rfl
theorem q1901 : (Jvm.Cond.code ({ cls := "ChairOldModel", name := "house", desc := "(I)I" } : Jvm.MethodName) prog_34_method_64_code (2 : Nat) (Option.some Jvm.ClassFile.FieldType.int)) ∈ lw_all := lw_g (lw_at lw_m8 137 rfl) rfl
theorem q1902 : (Jvm.Cond.constantLong "ChairOldModel" (286 : Nat) (29 : Int64)) ∈ lw_all := lw_g (lw_at lw_m8 138 rfl) rfl
theorem q1904 : (Jvm.Cond.instanceMethod ({ cls := "ChairOldModel", name := "drawn", desc := "(III)I" } : Jvm.MethodName)) ∈ lw_all := lw_g (lw_at lw_m8 140 rfl) rfl
theorem q1905 : (Jvm.Cond.selects "ChairOldModel" ({ cls := "ChairOldModel", name := "drawn", desc := "(III)I" } : Jvm.MethodName) ({ cls := "ChairOldModel", name := "drawn", desc := "(III)I" } : Jvm.MethodName)) ∈ lw_all := lw_g (lw_at lw_m8 141 rfl) rfl
theorem q1906 : (Jvm.Cond.code ({ cls := "ChairOldModel", name := "drawn", desc := "(III)I" } : Jvm.MethodName) prog_34_method_65_code (9 : Nat) (Option.some Jvm.ClassFile.FieldType.int)) ∈ lw_all := lw_g (lw_at lw_m8 142 rfl) rfl
theorem q1907 : (Jvm.Cond.constant "ChairOldModel" (288 : Nat) (1103515245 : Int32)) ∈ lw_all := lw_g (lw_at lw_m8 143 rfl) rfl
theorem q1909 : (Jvm.Cond.instanceMethod ({ cls := "ChairOldModel", name := "image", desc := "()I" } : Jvm.MethodName)) ∈ lw_all := lw_g (lw_at lw_m8 145 rfl) rfl
theorem q1910 : (Jvm.Cond.selects "ChairOldModel" ({ cls := "ChairOldModel", name := "image", desc := "()I" } : Jvm.MethodName) ({ cls := "ChairOldModel", name := "image", desc := "()I" } : Jvm.MethodName)) ∈ lw_all := lw_g (lw_at lw_m8 146 rfl) rfl
theorem q1911 : (Jvm.Cond.code ({ cls := "ChairOldModel", name := "image", desc := "()I" } : Jvm.MethodName) prog_34_method_66_code (2 : Nat) (Option.some Jvm.ClassFile.FieldType.int)) ∈ lw_all := lw_g (lw_at lw_m8 147 rfl) rfl
theorem q1913 : (Jvm.Cond.instanceMethod ({ cls := "ChairOldModel", name := "back", desc := "()I" } : Jvm.MethodName)) ∈ lw_all := lw_g (lw_at lw_m8 149 rfl) rfl
theorem q1914 : (Jvm.Cond.selects "ChairOldModel" ({ cls := "ChairOldModel", name := "back", desc := "()I" } : Jvm.MethodName) ({ cls := "ChairOldModel", name := "back", desc := "()I" } : Jvm.MethodName)) ∈ lw_all := lw_g (lw_at lw_m8 150 rfl) rfl
theorem q1915 : (Jvm.Cond.code ({ cls := "ChairOldModel", name := "back", desc := "()I" } : Jvm.MethodName) prog_34_method_67_code (2 : Nat) (Option.some Jvm.ClassFile.FieldType.int)) ∈ lw_all := lw_g (lw_at lw_m8 151 rfl) rfl
theorem q1917 : (Jvm.Cond.instanceMethod ({ cls := "ChairOldModel", name := "body", desc := "(I)I" } : Jvm.MethodName)) ∈ lw_all := lw_g (lw_at lw_m8 153 rfl) rfl
theorem q1918 : (Jvm.Cond.selects "ChairOldModel" ({ cls := "ChairOldModel", name := "body", desc := "(I)I" } : Jvm.MethodName) ({ cls := "ChairOldModel", name := "body", desc := "(I)I" } : Jvm.MethodName)) ∈ lw_all := lw_g (lw_at lw_m8 154 rfl) rfl
theorem q1919 : (Jvm.Cond.code ({ cls := "ChairOldModel", name := "body", desc := "(I)I" } : Jvm.MethodName) prog_34_method_71_code (2 : Nat) (Option.some Jvm.ClassFile.FieldType.int)) ∈ lw_all := lw_g (lw_at lw_m8 155 rfl) rfl
theorem q1920 : (Jvm.Cond.constantLong "ChairOldModel" (299 : Nat) (7 : Int64)) ∈ lw_all := lw_g (lw_at lw_m8 156 rfl) rfl
theorem q1922 : (Jvm.Cond.instanceMethod ({ cls := "ChairOldModel", name := "act", desc := "(III)I" } : Jvm.MethodName)) ∈ lw_all := lw_g (lw_at lw_m8 158 rfl) rfl
theorem q1923 : (Jvm.Cond.selects "ChairOldModel" ({ cls := "ChairOldModel", name := "act", desc := "(III)I" } : Jvm.MethodName) ({ cls := "ChairOldModel", name := "act", desc := "(III)I" } : Jvm.MethodName)) ∈ lw_all := lw_g (lw_at lw_m8 159 rfl) rfl
theorem q1924 : (Jvm.Cond.code ({ cls := "ChairOldModel", name := "act", desc := "(III)I" } : Jvm.MethodName) prog_34_method_78_code (4 : Nat) (Option.some Jvm.ClassFile.FieldType.int)) ∈ lw_all := lw_g (lw_at lw_m8 160 rfl) rfl
theorem q1925 : (Jvm.Cond.methodLink "ChairOldModel" (325 : Nat) ({ cls := "ChairOldModel", name := "isBody", desc := "(I)Z" } : Jvm.MethodName)) ∈ lw_all := lw_g (lw_at lw_m8 161 rfl) rfl
theorem q1926 : (Jvm.Cond.privateMethod ({ cls := "ChairOldModel", name := "isBody", desc := "(I)Z" } : Jvm.MethodName)) ∈ lw_tbl := lw_at lw_m8 162 rfl
theorem q1927 : (Jvm.Cond.instanceMethod ({ cls := "ChairOldModel", name := "isBody", desc := "(I)Z" } : Jvm.MethodName)) ∈ lw_all := lw_g (lw_at lw_m8 163 rfl) rfl
theorem q1928 : (Jvm.Cond.code ({ cls := "ChairOldModel", name := "isBody", desc := "(I)Z" } : Jvm.MethodName) prog_34_method_69_code (2 : Nat) (Option.some Jvm.ClassFile.FieldType.boolean)) ∈ lw_all := lw_g (lw_at lw_m8 164 rfl) rfl
theorem q1929 : (Jvm.Cond.methodLink "ChairOldModel" (307 : Nat) ({ cls := "ChairOldModel", name := "agesAs", desc := "(II)I" } : Jvm.MethodName)) ∈ lw_all := lw_g (lw_at lw_m8 165 rfl) rfl
theorem q1930 : (Jvm.Cond.privateMethod ({ cls := "ChairOldModel", name := "agesAs", desc := "(II)I" } : Jvm.MethodName)) ∈ lw_tbl := lw_at lw_m8 166 rfl
theorem q1931 : (Jvm.Cond.instanceMethod ({ cls := "ChairOldModel", name := "agesAs", desc := "(II)I" } : Jvm.MethodName)) ∈ lw_all := lw_g (lw_at lw_m8 167 rfl) rfl
theorem q1932 : (Jvm.Cond.code ({ cls := "ChairOldModel", name := "agesAs", desc := "(II)I" } : Jvm.MethodName) prog_34_method_74_code (3 : Nat) (Option.some Jvm.ClassFile.FieldType.int)) ∈ lw_all := lw_g (lw_at lw_m8 168 rfl) rfl
theorem q1933 : (Jvm.Cond.methodLink "ChairOldModel" (304 : Nat) ({ cls := "ChairOldModel", name := "begins", desc := "(I)V" } : Jvm.MethodName)) ∈ lw_all := lw_g (lw_at lw_m8 169 rfl) rfl
theorem q1934 : (Jvm.Cond.privateMethod ({ cls := "ChairOldModel", name := "begins", desc := "(I)V" } : Jvm.MethodName)) ∈ lw_tbl := lw_at lw_m8 170 rfl
theorem q1935 : (Jvm.Cond.instanceMethod ({ cls := "ChairOldModel", name := "begins", desc := "(I)V" } : Jvm.MethodName)) ∈ lw_all := lw_g (lw_at lw_m8 171 rfl) rfl
theorem q1936 : (Jvm.Cond.code ({ cls := "ChairOldModel", name := "begins", desc := "(I)V" } : Jvm.MethodName) prog_34_method_73_code (2 : Nat) (Option.none : Option Jvm.ClassFile.FieldType)) ∈ lw_all := lw_g (lw_at lw_m8 172 rfl) rfl
theorem q1937 : (Jvm.Cond.methodLink "ChairOldModel" (313 : Nat) ({ cls := "ChairOldModel", name := "joinsAs", desc := "(II)I" } : Jvm.MethodName)) ∈ lw_all := lw_g (lw_at lw_m8 173 rfl) rfl
theorem q1938 : (Jvm.Cond.privateMethod ({ cls := "ChairOldModel", name := "joinsAs", desc := "(II)I" } : Jvm.MethodName)) ∈ lw_tbl := lw_at lw_m8 174 rfl
theorem q1939 : (Jvm.Cond.instanceMethod ({ cls := "ChairOldModel", name := "joinsAs", desc := "(II)I" } : Jvm.MethodName)) ∈ lw_all := lw_g (lw_at lw_m8 175 rfl) rfl
theorem q1940 : (Jvm.Cond.code ({ cls := "ChairOldModel", name := "joinsAs", desc := "(II)I" } : Jvm.MethodName) prog_34_method_75_code (4 : Nat) (Option.some Jvm.ClassFile.FieldType.int)) ∈ lw_all := lw_g (lw_at lw_m8 176 rfl) rfl
theorem q1941 : (Jvm.Cond.methodLink "ChairOldModel" (319 : Nat) ({ cls := "ChairOldModel", name := "showsAs", desc := "(II)I" } : Jvm.MethodName)) ∈ lw_all := lw_g (lw_at lw_m8 177 rfl) rfl
theorem q1942 : (Jvm.Cond.privateMethod ({ cls := "ChairOldModel", name := "showsAs", desc := "(II)I" } : Jvm.MethodName)) ∈ lw_tbl := lw_at lw_m8 178 rfl
theorem q1943 : (Jvm.Cond.instanceMethod ({ cls := "ChairOldModel", name := "showsAs", desc := "(II)I" } : Jvm.MethodName)) ∈ lw_all := lw_g (lw_at lw_m8 179 rfl) rfl
theorem q1944 : (Jvm.Cond.code ({ cls := "ChairOldModel", name := "showsAs", desc := "(II)I" } : Jvm.MethodName) prog_34_method_76_code (4 : Nat) (Option.some Jvm.ClassFile.FieldType.int)) ∈ lw_all := lw_g (lw_at lw_m8 180 rfl) rfl
theorem q1945 : (Jvm.Cond.methodLink "ChairOldModel" (322 : Nat) ({ cls := "ChairOldModel", name := "tellsAs", desc := "(II)I" } : Jvm.MethodName)) ∈ lw_all := lw_g (lw_at lw_m8 181 rfl) rfl
theorem q1946 : (Jvm.Cond.privateMethod ({ cls := "ChairOldModel", name := "tellsAs", desc := "(II)I" } : Jvm.MethodName)) ∈ lw_tbl := lw_at lw_m8 182 rfl
theorem q1947 : (Jvm.Cond.instanceMethod ({ cls := "ChairOldModel", name := "tellsAs", desc := "(II)I" } : Jvm.MethodName)) ∈ lw_all := lw_g (lw_at lw_m8 183 rfl) rfl
theorem q1948 : (Jvm.Cond.code ({ cls := "ChairOldModel", name := "tellsAs", desc := "(II)I" } : Jvm.MethodName) prog_34_method_77_code (4 : Nat) (Option.some Jvm.ClassFile.FieldType.int)) ∈ lw_all := lw_g (lw_at lw_m8 184 rfl) rfl
theorem q1950 : (Jvm.Cond.instanceMethod ({ cls := "ChairOldModel", name := "trace", desc := "(I)I" } : Jvm.MethodName)) ∈ lw_all := lw_g (lw_at lw_m8 186 rfl) rfl
theorem q1951 : (Jvm.Cond.selects "ChairOldModel" ({ cls := "ChairOldModel", name := "trace", desc := "(I)I" } : Jvm.MethodName) ({ cls := "ChairOldModel", name := "trace", desc := "(I)I" } : Jvm.MethodName)) ∈ lw_all := lw_g (lw_at lw_m8 187 rfl) rfl
theorem q1952 : (Jvm.Cond.code ({ cls := "ChairOldModel", name := "trace", desc := "(I)I" } : Jvm.MethodName) prog_34_method_79_code (2 : Nat) (Option.some Jvm.ClassFile.FieldType.int)) ∈ lw_all := lw_g (lw_at lw_m8 188 rfl) rfl
theorem q1954 : (Jvm.Cond.instanceMethod ({ cls := "ChairOldModel", name := "keep", desc := "(II)I" } : Jvm.MethodName)) ∈ lw_all := lw_g (lw_at lw_m8 190 rfl) rfl
theorem q1955 : (Jvm.Cond.selects "ChairOldModel" ({ cls := "ChairOldModel", name := "keep", desc := "(II)I" } : Jvm.MethodName) ({ cls := "ChairOldModel", name := "keep", desc := "(II)I" } : Jvm.MethodName)) ∈ lw_all := lw_g (lw_at lw_m8 191 rfl) rfl
theorem q1956 : (Jvm.Cond.code ({ cls := "ChairOldModel", name := "keep", desc := "(II)I" } : Jvm.MethodName) prog_34_method_81_code (3 : Nat) (Option.some Jvm.ClassFile.FieldType.int)) ∈ lw_all := lw_g (lw_at lw_m8 192 rfl) rfl
theorem q1958 : (Jvm.Cond.instanceMethod ({ cls := "ChairOldModel", name := "row", desc := "(III)I" } : Jvm.MethodName)) ∈ lw_all := lw_g (lw_at lw_m8 194 rfl) rfl
theorem q1959 : (Jvm.Cond.selects "ChairOldModel" ({ cls := "ChairOldModel", name := "row", desc := "(III)I" } : Jvm.MethodName) ({ cls := "ChairOldModel", name := "row", desc := "(III)I" } : Jvm.MethodName)) ∈ lw_all := lw_g (lw_at lw_m8 195 rfl) rfl
theorem q1960 : (Jvm.Cond.code ({ cls := "ChairOldModel", name := "row", desc := "(III)I" } : Jvm.MethodName) prog_34_method_82_code (5 : Nat) (Option.some Jvm.ClassFile.FieldType.int)) ∈ lw_all := lw_g (lw_at lw_m8 196 rfl) rfl
theorem q1961 : (Jvm.Cond.constantLong "ChairOldModel" (328 : Nat) (4 : Int64)) ∈ lw_all := lw_g (lw_at lw_m8 197 rfl) rfl
theorem q1963 : (Jvm.Cond.instanceMethod ({ cls := "ChairOldModel", name := "put", desc := "(IIJ)I" } : Jvm.MethodName)) ∈ lw_all := lw_g (lw_at lw_m8 199 rfl) rfl
theorem q1964 : (Jvm.Cond.selects "ChairOldModel" ({ cls := "ChairOldModel", name := "put", desc := "(IIJ)I" } : Jvm.MethodName) ({ cls := "ChairOldModel", name := "put", desc := "(IIJ)I" } : Jvm.MethodName)) ∈ lw_all := lw_g (lw_at lw_m8 200 rfl) rfl
theorem q1965 : (Jvm.Cond.code ({ cls := "ChairOldModel", name := "put", desc := "(IIJ)I" } : Jvm.MethodName) prog_34_method_85_code (6 : Nat) (Option.some Jvm.ClassFile.FieldType.int)) ∈ lw_all := lw_g (lw_at lw_m8 201 rfl) rfl
theorem q1966 : (Jvm.Cond.methodLink "ChairOldModel" (330 : Nat) ({ cls := "ChairOldModel", name := "refusal", desc := "(II)I" } : Jvm.MethodName)) ∈ lw_all := lw_g (lw_at lw_m8 202 rfl) rfl
theorem q1967 : (Jvm.Cond.privateMethod ({ cls := "ChairOldModel", name := "refusal", desc := "(II)I" } : Jvm.MethodName)) ∈ lw_tbl := lw_at lw_m8 203 rfl
theorem q1968 : (Jvm.Cond.instanceMethod ({ cls := "ChairOldModel", name := "refusal", desc := "(II)I" } : Jvm.MethodName)) ∈ lw_all := lw_g (lw_at lw_m8 204 rfl) rfl
theorem q1969 : (Jvm.Cond.code ({ cls := "ChairOldModel", name := "refusal", desc := "(II)I" } : Jvm.MethodName) prog_34_method_83_code (3 : Nat) (Option.some Jvm.ClassFile.FieldType.int)) ∈ lw_all := lw_g (lw_at lw_m8 205 rfl) rfl
theorem q1970 : (Jvm.Cond.methodLink "ChairOldModel" (333 : Nat) ({ cls := "ChairOldModel", name := "asSort", desc := "(IJ)J" } : Jvm.MethodName)) ∈ lw_all := lw_g (lw_at lw_m8 206 rfl) rfl
theorem q1971 : (Jvm.Cond.static ({ cls := "ChairOldModel", name := "asSort", desc := "(IJ)J" } : Jvm.MethodName)) ∈ lw_all := lw_g (lw_at lw_m8 207 rfl) rfl
theorem q1972 : (Jvm.Cond.code ({ cls := "ChairOldModel", name := "asSort", desc := "(IJ)J" } : Jvm.MethodName) prog_34_method_84_code (3 : Nat) (Option.some Jvm.ClassFile.FieldType.long)) ∈ lw_all := lw_g (lw_at lw_m8 208 rfl) rfl
theorem q1974 : (Jvm.Cond.instanceMethod ({ cls := "ChairOldModel", name := "element", desc := "(II)J" } : Jvm.MethodName)) ∈ lw_all := lw_g (lw_at lw_m8 210 rfl) rfl
theorem q1975 : (Jvm.Cond.selects "ChairOldModel" ({ cls := "ChairOldModel", name := "element", desc := "(II)J" } : Jvm.MethodName) ({ cls := "ChairOldModel", name := "element", desc := "(II)J" } : Jvm.MethodName)) ∈ lw_all := lw_g (lw_at lw_m8 211 rfl) rfl
theorem q1976 : (Jvm.Cond.code ({ cls := "ChairOldModel", name := "element", desc := "(II)J" } : Jvm.MethodName) prog_34_method_86_code (3 : Nat) (Option.some Jvm.ClassFile.FieldType.long)) ∈ lw_all := lw_g (lw_at lw_m8 212 rfl) rfl
theorem q1978 : (Jvm.Cond.instanceMethod ({ cls := "ChairOldModel", name := "shift", desc := "(IIIII)I" } : Jvm.MethodName)) ∈ lw_all := lw_g (lw_at lw_m8 214 rfl) rfl
theorem q1979 : (Jvm.Cond.selects "ChairOldModel" ({ cls := "ChairOldModel", name := "shift", desc := "(IIIII)I" } : Jvm.MethodName) ({ cls := "ChairOldModel", name := "shift", desc := "(IIIII)I" } : Jvm.MethodName)) ∈ lw_all := lw_g (lw_at lw_m8 215 rfl) rfl
theorem q1980 : (Jvm.Cond.code ({ cls := "ChairOldModel", name := "shift", desc := "(IIIII)I" } : Jvm.MethodName) prog_34_method_87_code (7 : Nat) (Option.some Jvm.ClassFile.FieldType.int)) ∈ lw_all := lw_g (lw_at lw_m8 216 rfl) rfl
theorem q1982 : (Jvm.Cond.instanceMethod ({ cls := "ChairOldModel", name := "taken", desc := "(II)I" } : Jvm.MethodName)) ∈ lw_all := lw_g (lw_at lw_m8 218 rfl) rfl
theorem q1983 : (Jvm.Cond.selects "ChairOldModel" ({ cls := "ChairOldModel", name := "taken", desc := "(II)I" } : Jvm.MethodName) ({ cls := "ChairOldModel", name := "taken", desc := "(II)I" } : Jvm.MethodName)) ∈ lw_all := lw_g (lw_at lw_m8 219 rfl) rfl
theorem q1984 : (Jvm.Cond.code ({ cls := "ChairOldModel", name := "taken", desc := "(II)I" } : Jvm.MethodName) prog_34_method_88_code (4 : Nat) (Option.some Jvm.ClassFile.FieldType.int)) ∈ lw_all := lw_g (lw_at lw_m8 220 rfl) rfl
theorem q1985 : (Jvm.Cond.methodLink "ChairOldModel" (337 : Nat) ({ cls := "ChairOldModel", name := "kindOf", desc := "(I)I" } : Jvm.MethodName)) ∈ lw_all := lw_g (lw_at lw_m8 221 rfl) rfl
theorem q1986 : (Jvm.Cond.privateMethod ({ cls := "ChairOldModel", name := "kindOf", desc := "(I)I" } : Jvm.MethodName)) ∈ lw_tbl := lw_at lw_m8 222 rfl
theorem q1987 : (Jvm.Cond.instanceMethod ({ cls := "ChairOldModel", name := "kindOf", desc := "(I)I" } : Jvm.MethodName)) ∈ lw_all := lw_g (lw_at lw_m8 223 rfl) rfl
theorem q1988 : (Jvm.Cond.code ({ cls := "ChairOldModel", name := "kindOf", desc := "(I)I" } : Jvm.MethodName) prog_34_method_70_code (2 : Nat) (Option.some Jvm.ClassFile.FieldType.int)) ∈ lw_all := lw_g (lw_at lw_m8 224 rfl) rfl
theorem q1989 : (Jvm.Cond.methodLink "ChairOldModel" (340 : Nat) ({ cls := "ChairOldModel", name := "above", desc := "(I)I" } : Jvm.MethodName)) ∈ lw_all := lw_g (lw_at lw_m8 225 rfl) rfl
theorem q1990 : (Jvm.Cond.static ({ cls := "ChairOldModel", name := "above", desc := "(I)I" } : Jvm.MethodName)) ∈ lw_all := lw_g (lw_at lw_m8 226 rfl) rfl
theorem q1991 : (Jvm.Cond.code ({ cls := "ChairOldModel", name := "above", desc := "(I)I" } : Jvm.MethodName) prog_34_method_72_code (1 : Nat) (Option.some Jvm.ClassFile.FieldType.int)) ∈ lw_all := lw_g (lw_at lw_m8 227 rfl) rfl
theorem q1993 : (Jvm.Cond.instanceMethod ({ cls := "ChairOldModel", name := "count", desc := "(I)I" } : Jvm.MethodName)) ∈ lw_all := lw_g (lw_at lw_m8 229 rfl) rfl
theorem q1994 : (Jvm.Cond.selects "ChairOldModel" ({ cls := "ChairOldModel", name := "count", desc := "(I)I" } : Jvm.MethodName) ({ cls := "ChairOldModel", name := "count", desc := "(I)I" } : Jvm.MethodName)) ∈ lw_all := lw_g (lw_at lw_m8 230 rfl) rfl
theorem q1995 : (Jvm.Cond.code ({ cls := "ChairOldModel", name := "count", desc := "(I)I" } : Jvm.MethodName) prog_34_method_89_code (2 : Nat) (Option.some Jvm.ClassFile.FieldType.int)) ∈ lw_all := lw_g (lw_at lw_m8 231 rfl) rfl
theorem q1996 : (Jvm.Cond.methodLink "ChairOldModel" (343 : Nat) ({ cls := "ChairOldModel", name := "lookedFor", desc := "()I" } : Jvm.MethodName)) ∈ lw_all := lw_g (lw_at lw_m8 232 rfl) rfl
theorem q1997 : (Jvm.Cond.privateMethod ({ cls := "ChairOldModel", name := "lookedFor", desc := "()I" } : Jvm.MethodName)) ∈ lw_tbl := lw_at lw_m8 233 rfl
theorem q1998 : (Jvm.Cond.instanceMethod ({ cls := "ChairOldModel", name := "lookedFor", desc := "()I" } : Jvm.MethodName)) ∈ lw_all := lw_g (lw_at lw_m8 234 rfl) rfl
theorem q1999 : (Jvm.Cond.code ({ cls := "ChairOldModel", name := "lookedFor", desc := "()I" } : Jvm.MethodName) prog_34_method_68_code (3 : Nat) (Option.some Jvm.ClassFile.FieldType.int)) ∈ lw_all := lw_g (lw_at lw_m8 235 rfl) rfl
theorem in_X4 : ∀ w ∈ wsX40, w ∈ lw_all := lw_in wsX40 [1549, 1551, 1553, 1555, 1557, 1559, 1561, 1563, 1565, 1567, 1569, 1571, 1573, 1575, 1577, 1579, 1581, 1583, 1585, 1587, 1589, 1591, 1593, 1595, 1597, 1599, 1601, 1603, 1605, 1607, 1609, 1611, 1613, 1615, 1617, 1619, 1621, 1623, 1625, 1627, 1629, 1631, 1633, 1635] (by decide +kernel) (by decide +kernel)
