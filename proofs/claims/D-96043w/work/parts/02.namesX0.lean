/-! DECODE ROWS BY BYTES: one lemma an opcode; a method's code is cut into short pieces once, and a row reads its own piece alone. -/
set_option maxRecDepth 100000
/-- the code has just these bytes from pc on -/
def DkAt (code : ByteArray) (pc : Nat) (bs : List UInt8) : Prop := ∀ (j : Nat) (b : UInt8), bs[j]? = some b → code.data.toList[pc + j]? = some b
/-- the piece W has the bytes bs from its place j on -/
def dkIn (W : List UInt8) (j : Nat) (bs : List UInt8) : Bool := decide ((W.drop j).take bs.length = bs)
theorem dk_seg {l W T : List UInt8} {o o2 : Nat} (h : l.drop o = W ++ T) (n : Nat) (hn : W.length = n) (ho : o + n = o2) : l.drop o2 = T := by
  subst ho
  rw [← List.drop_drop, h, List.drop_left' hn]
theorem dk_at {code : ByteArray} {W T bs : List UInt8} {o pc : Nat} (h : code.data.toList.drop o = W ++ T) (j : Nat) (hp : o + j = pc) (hw : dkIn W j bs = true) : DkAt code pc bs := by
  subst hp
  intro i b e
  have h1 := of_decide_eq_true hw
  have h2 : i < bs.length := (List.getElem?_eq_some_iff.mp e).1
  have h3 : W[j + i]? = some b := by
    rw [← h1, List.getElem?_take, if_pos h2, List.getElem?_drop] at e
    exact e
  have h4 : j + i < W.length := (List.getElem?_eq_some_iff.mp h3).1
  have h5 : (code.data.toList.drop o)[j + i]? = some b := by
    rw [h, List.getElem?_append_left h4]
    exact h3
  rw [List.getElem?_drop, ← Nat.add_assoc] at h5
  exact h5
theorem dk_u1 {A : ByteArray} {p : Nat} {b : UInt8} (h : A.data.toList[p]? = some b) : (Reader.u1 : Reader DecodeError Nat) A p = .ok (b.toNat, p + 1) := by
  obtain ⟨h1, h2⟩ := List.getElem?_eq_some_iff.mp h
  have h3 : p < A.size := by simpa using h1
  have h4 : A[p]'h3 = b := h2
  have e : (Reader.u1 : Reader DecodeError Nat) A p = (if h : p < A.size then .ok (A[p].toNat, p + 1) else .error (HasTruncated.truncated p)) := by
    show (do if h : p < A.size then do set (p + 1); Pure.pure A[p].toNat else MonadExcept.throw (HasTruncated.truncated p) : Reader DecodeError Nat) A p = _
    by_cases hi : p < A.size
    · rw [dif_pos hi, dif_pos hi]; rfl
    · rw [dif_neg hi, dif_neg hi]; rfl
  rw [e, dif_pos h3, h4]
theorem dk_bind {α β : Type} {r : Reader DecodeError α} {f : α → Reader DecodeError β} {A : ByteArray} {p s : Nat} {a : α} (h : r A p = .ok (a, s)) : (r >>= f) A p = f a A s := by
  show (do let (a, s) ← r A p; f a A s : Except DecodeError (β × Nat)) = _
  rw [h]
  rfl
theorem dk_map {α β : Type} {r : Reader DecodeError α} {g : α → β} {A : ByteArray} {p s : Nat} {a : α} (h : r A p = .ok (a, s)) : (g <$> r) A p = .ok (g a, s) := by
  show (do let (a, s) ← r A p; .ok (g a, s) : Except DecodeError (β × Nat)) = _
  rw [h]
  rfl
theorem dk_u2 {A : ByteArray} {p : Nat} {a b : UInt8} (h : A.data.toList[p]? = some a) (h2 : A.data.toList[p + 1]? = some b) : (Reader.u2 : Reader DecodeError Nat) A p = .ok (a.toNat * 256 + b.toNat, p + 2) := by
  show (Reader.u1 >>= fun hi => Reader.u1 >>= fun lo => Pure.pure (hi * 256 + lo) : Reader DecodeError Nat) A p = _
  rw [dk_bind (dk_u1 h), dk_bind (dk_u1 h2)]
  rfl
theorem dk_of {code : ByteArray} {pc n : Nat} {i : Instr} (h : Decoder.instr pc code pc = .ok (i, pc + n)) : decode code pc = .ok (i, n) := by
  have e : decode code pc = (match Decoder.instr pc code pc with | .error x => .error x | .ok (j, s) => .ok (j, s - pc)) := by
    show (do let (j, s) ← Decoder.instr pc code pc; Pure.pure (j, s - pc) : Except DecodeError (Instr × Nat)) = _
    cases Decoder.instr pc code pc <;> rfl
  rw [e, h]
  show Except.ok (i, pc + n - pc) = _
  rw [Nat.add_sub_cancel_left]
theorem dk_1 {code : ByteArray} {pc : Nat} (h : DkAt code pc [1]) : decode code pc = .ok (.aconst_null, 1) := dk_of ((dk_bind (dk_u1 (h 0 _ rfl))).trans rfl)
theorem dk_2 {code : ByteArray} {pc : Nat} (h : DkAt code pc [2]) : decode code pc = .ok (.iconst (-1), 1) := dk_of ((dk_bind (dk_u1 (h 0 _ rfl))).trans rfl)
theorem dk_3 {code : ByteArray} {pc : Nat} (h : DkAt code pc [3]) : decode code pc = .ok (.iconst 0, 1) := dk_of ((dk_bind (dk_u1 (h 0 _ rfl))).trans rfl)
theorem dk_4 {code : ByteArray} {pc : Nat} (h : DkAt code pc [4]) : decode code pc = .ok (.iconst 1, 1) := dk_of ((dk_bind (dk_u1 (h 0 _ rfl))).trans rfl)
theorem dk_5 {code : ByteArray} {pc : Nat} (h : DkAt code pc [5]) : decode code pc = .ok (.iconst 2, 1) := dk_of ((dk_bind (dk_u1 (h 0 _ rfl))).trans rfl)
theorem dk_6 {code : ByteArray} {pc : Nat} (h : DkAt code pc [6]) : decode code pc = .ok (.iconst 3, 1) := dk_of ((dk_bind (dk_u1 (h 0 _ rfl))).trans rfl)
theorem dk_7 {code : ByteArray} {pc : Nat} (h : DkAt code pc [7]) : decode code pc = .ok (.iconst 4, 1) := dk_of ((dk_bind (dk_u1 (h 0 _ rfl))).trans rfl)
theorem dk_8 {code : ByteArray} {pc : Nat} (h : DkAt code pc [8]) : decode code pc = .ok (.iconst 5, 1) := dk_of ((dk_bind (dk_u1 (h 0 _ rfl))).trans rfl)
theorem dk_9 {code : ByteArray} {pc : Nat} (h : DkAt code pc [9]) : decode code pc = .ok (.lconst 0, 1) := dk_of ((dk_bind (dk_u1 (h 0 _ rfl))).trans rfl)
theorem dk_10 {code : ByteArray} {pc : Nat} (h : DkAt code pc [10]) : decode code pc = .ok (.lconst 1, 1) := dk_of ((dk_bind (dk_u1 (h 0 _ rfl))).trans rfl)
theorem dk_16 {code : ByteArray} {pc : Nat} (a : UInt8) (h : DkAt code pc [16, a]) : decode code pc = .ok (.bipush (Reader.signed 8 a.toNat), 2) := dk_of ((dk_bind (dk_u1 (h 0 _ rfl))).trans ((dk_bind (dk_map (dk_u1 (h 1 _ rfl)))).trans rfl))
theorem dk_17 {code : ByteArray} {pc : Nat} (a b : UInt8) (h : DkAt code pc [17, a, b]) : decode code pc = .ok (.sipush (Reader.signed 16 (a.toNat * 256 + b.toNat)), 3) := dk_of ((dk_bind (dk_u1 (h 0 _ rfl))).trans ((dk_bind (dk_map (dk_u2 (h 1 _ rfl) (h 2 _ rfl)))).trans rfl))
theorem dk_18 {code : ByteArray} {pc : Nat} (a : UInt8) (h : DkAt code pc [18, a]) : decode code pc = .ok (.ldc a.toNat, 2) := dk_of ((dk_bind (dk_u1 (h 0 _ rfl))).trans ((dk_bind (dk_u1 (h 1 _ rfl))).trans rfl))
theorem dk_19 {code : ByteArray} {pc : Nat} (a b : UInt8) (h : DkAt code pc [19, a, b]) : decode code pc = .ok (.ldc_w (a.toNat * 256 + b.toNat), 3) := dk_of ((dk_bind (dk_u1 (h 0 _ rfl))).trans ((dk_bind (dk_u2 (h 1 _ rfl) (h 2 _ rfl))).trans rfl))
theorem dk_20 {code : ByteArray} {pc : Nat} (a b : UInt8) (h : DkAt code pc [20, a, b]) : decode code pc = .ok (.ldc2_w (a.toNat * 256 + b.toNat), 3) := dk_of ((dk_bind (dk_u1 (h 0 _ rfl))).trans ((dk_bind (dk_u2 (h 1 _ rfl) (h 2 _ rfl))).trans rfl))
theorem dk_21 {code : ByteArray} {pc : Nat} (a : UInt8) (h : DkAt code pc [21, a]) : decode code pc = .ok (.iload a.toNat, 2) := dk_of ((dk_bind (dk_u1 (h 0 _ rfl))).trans ((dk_bind (dk_u1 (h 1 _ rfl))).trans rfl))
theorem dk_22 {code : ByteArray} {pc : Nat} (a : UInt8) (h : DkAt code pc [22, a]) : decode code pc = .ok (.lload a.toNat, 2) := dk_of ((dk_bind (dk_u1 (h 0 _ rfl))).trans ((dk_bind (dk_u1 (h 1 _ rfl))).trans rfl))
theorem dk_25 {code : ByteArray} {pc : Nat} (a : UInt8) (h : DkAt code pc [25, a]) : decode code pc = .ok (.aload a.toNat, 2) := dk_of ((dk_bind (dk_u1 (h 0 _ rfl))).trans ((dk_bind (dk_u1 (h 1 _ rfl))).trans rfl))
theorem dk_26 {code : ByteArray} {pc : Nat} (h : DkAt code pc [26]) : decode code pc = .ok (.iload_n 0, 1) := dk_of ((dk_bind (dk_u1 (h 0 _ rfl))).trans rfl)
theorem dk_27 {code : ByteArray} {pc : Nat} (h : DkAt code pc [27]) : decode code pc = .ok (.iload_n 1, 1) := dk_of ((dk_bind (dk_u1 (h 0 _ rfl))).trans rfl)
theorem dk_28 {code : ByteArray} {pc : Nat} (h : DkAt code pc [28]) : decode code pc = .ok (.iload_n 2, 1) := dk_of ((dk_bind (dk_u1 (h 0 _ rfl))).trans rfl)
theorem dk_29 {code : ByteArray} {pc : Nat} (h : DkAt code pc [29]) : decode code pc = .ok (.iload_n 3, 1) := dk_of ((dk_bind (dk_u1 (h 0 _ rfl))).trans rfl)
theorem dk_30 {code : ByteArray} {pc : Nat} (h : DkAt code pc [30]) : decode code pc = .ok (.lload_n 0, 1) := dk_of ((dk_bind (dk_u1 (h 0 _ rfl))).trans rfl)
theorem dk_31 {code : ByteArray} {pc : Nat} (h : DkAt code pc [31]) : decode code pc = .ok (.lload_n 1, 1) := dk_of ((dk_bind (dk_u1 (h 0 _ rfl))).trans rfl)
theorem dk_32 {code : ByteArray} {pc : Nat} (h : DkAt code pc [32]) : decode code pc = .ok (.lload_n 2, 1) := dk_of ((dk_bind (dk_u1 (h 0 _ rfl))).trans rfl)
theorem dk_33 {code : ByteArray} {pc : Nat} (h : DkAt code pc [33]) : decode code pc = .ok (.lload_n 3, 1) := dk_of ((dk_bind (dk_u1 (h 0 _ rfl))).trans rfl)
theorem dk_42 {code : ByteArray} {pc : Nat} (h : DkAt code pc [42]) : decode code pc = .ok (.aload_n 0, 1) := dk_of ((dk_bind (dk_u1 (h 0 _ rfl))).trans rfl)
theorem dk_43 {code : ByteArray} {pc : Nat} (h : DkAt code pc [43]) : decode code pc = .ok (.aload_n 1, 1) := dk_of ((dk_bind (dk_u1 (h 0 _ rfl))).trans rfl)
theorem dk_44 {code : ByteArray} {pc : Nat} (h : DkAt code pc [44]) : decode code pc = .ok (.aload_n 2, 1) := dk_of ((dk_bind (dk_u1 (h 0 _ rfl))).trans rfl)
theorem dk_45 {code : ByteArray} {pc : Nat} (h : DkAt code pc [45]) : decode code pc = .ok (.aload_n 3, 1) := dk_of ((dk_bind (dk_u1 (h 0 _ rfl))).trans rfl)
theorem dk_46 {code : ByteArray} {pc : Nat} (h : DkAt code pc [46]) : decode code pc = .ok (.iaload, 1) := dk_of ((dk_bind (dk_u1 (h 0 _ rfl))).trans rfl)
theorem dk_47 {code : ByteArray} {pc : Nat} (h : DkAt code pc [47]) : decode code pc = .ok (.laload, 1) := dk_of ((dk_bind (dk_u1 (h 0 _ rfl))).trans rfl)
theorem dk_50 {code : ByteArray} {pc : Nat} (h : DkAt code pc [50]) : decode code pc = .ok (.aaload, 1) := dk_of ((dk_bind (dk_u1 (h 0 _ rfl))).trans rfl)
theorem dk_51 {code : ByteArray} {pc : Nat} (h : DkAt code pc [51]) : decode code pc = .ok (.baload, 1) := dk_of ((dk_bind (dk_u1 (h 0 _ rfl))).trans rfl)
theorem dk_53 {code : ByteArray} {pc : Nat} (h : DkAt code pc [53]) : decode code pc = .ok (.saload, 1) := dk_of ((dk_bind (dk_u1 (h 0 _ rfl))).trans rfl)
theorem dk_54 {code : ByteArray} {pc : Nat} (a : UInt8) (h : DkAt code pc [54, a]) : decode code pc = .ok (.istore a.toNat, 2) := dk_of ((dk_bind (dk_u1 (h 0 _ rfl))).trans ((dk_bind (dk_u1 (h 1 _ rfl))).trans rfl))
theorem dk_55 {code : ByteArray} {pc : Nat} (a : UInt8) (h : DkAt code pc [55, a]) : decode code pc = .ok (.lstore a.toNat, 2) := dk_of ((dk_bind (dk_u1 (h 0 _ rfl))).trans ((dk_bind (dk_u1 (h 1 _ rfl))).trans rfl))
theorem dk_58 {code : ByteArray} {pc : Nat} (a : UInt8) (h : DkAt code pc [58, a]) : decode code pc = .ok (.astore a.toNat, 2) := dk_of ((dk_bind (dk_u1 (h 0 _ rfl))).trans ((dk_bind (dk_u1 (h 1 _ rfl))).trans rfl))
theorem dk_59 {code : ByteArray} {pc : Nat} (h : DkAt code pc [59]) : decode code pc = .ok (.istore_n 0, 1) := dk_of ((dk_bind (dk_u1 (h 0 _ rfl))).trans rfl)
theorem dk_60 {code : ByteArray} {pc : Nat} (h : DkAt code pc [60]) : decode code pc = .ok (.istore_n 1, 1) := dk_of ((dk_bind (dk_u1 (h 0 _ rfl))).trans rfl)
theorem dk_61 {code : ByteArray} {pc : Nat} (h : DkAt code pc [61]) : decode code pc = .ok (.istore_n 2, 1) := dk_of ((dk_bind (dk_u1 (h 0 _ rfl))).trans rfl)
theorem dk_62 {code : ByteArray} {pc : Nat} (h : DkAt code pc [62]) : decode code pc = .ok (.istore_n 3, 1) := dk_of ((dk_bind (dk_u1 (h 0 _ rfl))).trans rfl)
theorem dk_65 {code : ByteArray} {pc : Nat} (h : DkAt code pc [65]) : decode code pc = .ok (.lstore_n 2, 1) := dk_of ((dk_bind (dk_u1 (h 0 _ rfl))).trans rfl)
theorem dk_66 {code : ByteArray} {pc : Nat} (h : DkAt code pc [66]) : decode code pc = .ok (.lstore_n 3, 1) := dk_of ((dk_bind (dk_u1 (h 0 _ rfl))).trans rfl)
theorem dk_76 {code : ByteArray} {pc : Nat} (h : DkAt code pc [76]) : decode code pc = .ok (.astore_n 1, 1) := dk_of ((dk_bind (dk_u1 (h 0 _ rfl))).trans rfl)
theorem dk_77 {code : ByteArray} {pc : Nat} (h : DkAt code pc [77]) : decode code pc = .ok (.astore_n 2, 1) := dk_of ((dk_bind (dk_u1 (h 0 _ rfl))).trans rfl)
theorem dk_78 {code : ByteArray} {pc : Nat} (h : DkAt code pc [78]) : decode code pc = .ok (.astore_n 3, 1) := dk_of ((dk_bind (dk_u1 (h 0 _ rfl))).trans rfl)
theorem dk_79 {code : ByteArray} {pc : Nat} (h : DkAt code pc [79]) : decode code pc = .ok (.iastore, 1) := dk_of ((dk_bind (dk_u1 (h 0 _ rfl))).trans rfl)
theorem dk_80 {code : ByteArray} {pc : Nat} (h : DkAt code pc [80]) : decode code pc = .ok (.lastore, 1) := dk_of ((dk_bind (dk_u1 (h 0 _ rfl))).trans rfl)
theorem dk_83 {code : ByteArray} {pc : Nat} (h : DkAt code pc [83]) : decode code pc = .ok (.aastore, 1) := dk_of ((dk_bind (dk_u1 (h 0 _ rfl))).trans rfl)
theorem dk_84 {code : ByteArray} {pc : Nat} (h : DkAt code pc [84]) : decode code pc = .ok (.bastore, 1) := dk_of ((dk_bind (dk_u1 (h 0 _ rfl))).trans rfl)
theorem dk_86 {code : ByteArray} {pc : Nat} (h : DkAt code pc [86]) : decode code pc = .ok (.sastore, 1) := dk_of ((dk_bind (dk_u1 (h 0 _ rfl))).trans rfl)
theorem dk_87 {code : ByteArray} {pc : Nat} (h : DkAt code pc [87]) : decode code pc = .ok (.pop, 1) := dk_of ((dk_bind (dk_u1 (h 0 _ rfl))).trans rfl)
theorem dk_89 {code : ByteArray} {pc : Nat} (h : DkAt code pc [89]) : decode code pc = .ok (.dup, 1) := dk_of ((dk_bind (dk_u1 (h 0 _ rfl))).trans rfl)
theorem dk_92 {code : ByteArray} {pc : Nat} (h : DkAt code pc [92]) : decode code pc = .ok (.dup2, 1) := dk_of ((dk_bind (dk_u1 (h 0 _ rfl))).trans rfl)
theorem dk_96 {code : ByteArray} {pc : Nat} (h : DkAt code pc [96]) : decode code pc = .ok (.iadd, 1) := dk_of ((dk_bind (dk_u1 (h 0 _ rfl))).trans rfl)
theorem dk_97 {code : ByteArray} {pc : Nat} (h : DkAt code pc [97]) : decode code pc = .ok (.ladd, 1) := dk_of ((dk_bind (dk_u1 (h 0 _ rfl))).trans rfl)
theorem dk_100 {code : ByteArray} {pc : Nat} (h : DkAt code pc [100]) : decode code pc = .ok (.isub, 1) := dk_of ((dk_bind (dk_u1 (h 0 _ rfl))).trans rfl)
theorem dk_101 {code : ByteArray} {pc : Nat} (h : DkAt code pc [101]) : decode code pc = .ok (.lsub, 1) := dk_of ((dk_bind (dk_u1 (h 0 _ rfl))).trans rfl)
theorem dk_104 {code : ByteArray} {pc : Nat} (h : DkAt code pc [104]) : decode code pc = .ok (.imul, 1) := dk_of ((dk_bind (dk_u1 (h 0 _ rfl))).trans rfl)
theorem dk_105 {code : ByteArray} {pc : Nat} (h : DkAt code pc [105]) : decode code pc = .ok (.lmul, 1) := dk_of ((dk_bind (dk_u1 (h 0 _ rfl))).trans rfl)
theorem dk_108 {code : ByteArray} {pc : Nat} (h : DkAt code pc [108]) : decode code pc = .ok (.idiv, 1) := dk_of ((dk_bind (dk_u1 (h 0 _ rfl))).trans rfl)
theorem dk_109 {code : ByteArray} {pc : Nat} (h : DkAt code pc [109]) : decode code pc = .ok (.ldiv, 1) := dk_of ((dk_bind (dk_u1 (h 0 _ rfl))).trans rfl)
theorem dk_112 {code : ByteArray} {pc : Nat} (h : DkAt code pc [112]) : decode code pc = .ok (.irem, 1) := dk_of ((dk_bind (dk_u1 (h 0 _ rfl))).trans rfl)
theorem dk_113 {code : ByteArray} {pc : Nat} (h : DkAt code pc [113]) : decode code pc = .ok (.lrem, 1) := dk_of ((dk_bind (dk_u1 (h 0 _ rfl))).trans rfl)
theorem dk_116 {code : ByteArray} {pc : Nat} (h : DkAt code pc [116]) : decode code pc = .ok (.ineg, 1) := dk_of ((dk_bind (dk_u1 (h 0 _ rfl))).trans rfl)
theorem dk_117 {code : ByteArray} {pc : Nat} (h : DkAt code pc [117]) : decode code pc = .ok (.lneg, 1) := dk_of ((dk_bind (dk_u1 (h 0 _ rfl))).trans rfl)
theorem dk_120 {code : ByteArray} {pc : Nat} (h : DkAt code pc [120]) : decode code pc = .ok (.ishl, 1) := dk_of ((dk_bind (dk_u1 (h 0 _ rfl))).trans rfl)
theorem dk_121 {code : ByteArray} {pc : Nat} (h : DkAt code pc [121]) : decode code pc = .ok (.lshl, 1) := dk_of ((dk_bind (dk_u1 (h 0 _ rfl))).trans rfl)
theorem dk_122 {code : ByteArray} {pc : Nat} (h : DkAt code pc [122]) : decode code pc = .ok (.ishr, 1) := dk_of ((dk_bind (dk_u1 (h 0 _ rfl))).trans rfl)
theorem dk_124 {code : ByteArray} {pc : Nat} (h : DkAt code pc [124]) : decode code pc = .ok (.iushr, 1) := dk_of ((dk_bind (dk_u1 (h 0 _ rfl))).trans rfl)
theorem dk_126 {code : ByteArray} {pc : Nat} (h : DkAt code pc [126]) : decode code pc = .ok (.iand, 1) := dk_of ((dk_bind (dk_u1 (h 0 _ rfl))).trans rfl)
theorem dk_127 {code : ByteArray} {pc : Nat} (h : DkAt code pc [127]) : decode code pc = .ok (.land, 1) := dk_of ((dk_bind (dk_u1 (h 0 _ rfl))).trans rfl)
theorem dk_128 {code : ByteArray} {pc : Nat} (h : DkAt code pc [128]) : decode code pc = .ok (.ior, 1) := dk_of ((dk_bind (dk_u1 (h 0 _ rfl))).trans rfl)
theorem dk_129 {code : ByteArray} {pc : Nat} (h : DkAt code pc [129]) : decode code pc = .ok (.lor, 1) := dk_of ((dk_bind (dk_u1 (h 0 _ rfl))).trans rfl)
theorem dk_130 {code : ByteArray} {pc : Nat} (h : DkAt code pc [130]) : decode code pc = .ok (.ixor, 1) := dk_of ((dk_bind (dk_u1 (h 0 _ rfl))).trans rfl)
theorem dk_132 {code : ByteArray} {pc : Nat} (a b : UInt8) (h : DkAt code pc [132, a, b]) : decode code pc = .ok (.iinc a.toNat (Reader.signed 8 b.toNat), 3) := dk_of ((dk_bind (dk_u1 (h 0 _ rfl))).trans ((dk_bind (dk_u1 (h 1 _ rfl))).trans ((dk_bind (dk_map (dk_u1 (h 2 _ rfl)))).trans rfl)))
theorem dk_133 {code : ByteArray} {pc : Nat} (h : DkAt code pc [133]) : decode code pc = .ok (.i2l, 1) := dk_of ((dk_bind (dk_u1 (h 0 _ rfl))).trans rfl)
theorem dk_136 {code : ByteArray} {pc : Nat} (h : DkAt code pc [136]) : decode code pc = .ok (.l2i, 1) := dk_of ((dk_bind (dk_u1 (h 0 _ rfl))).trans rfl)
theorem dk_145 {code : ByteArray} {pc : Nat} (h : DkAt code pc [145]) : decode code pc = .ok (.i2b, 1) := dk_of ((dk_bind (dk_u1 (h 0 _ rfl))).trans rfl)
theorem dk_146 {code : ByteArray} {pc : Nat} (h : DkAt code pc [146]) : decode code pc = .ok (.i2c, 1) := dk_of ((dk_bind (dk_u1 (h 0 _ rfl))).trans rfl)
theorem dk_147 {code : ByteArray} {pc : Nat} (h : DkAt code pc [147]) : decode code pc = .ok (.i2s, 1) := dk_of ((dk_bind (dk_u1 (h 0 _ rfl))).trans rfl)
theorem dk_148 {code : ByteArray} {pc : Nat} (h : DkAt code pc [148]) : decode code pc = .ok (.lcmp, 1) := dk_of ((dk_bind (dk_u1 (h 0 _ rfl))).trans rfl)
theorem dk_153 {code : ByteArray} {pc : Nat} (a b : UInt8) (h : DkAt code pc [153, a, b]) : decode code pc = .ok (.ifCond .eq (Reader.signed 16 (a.toNat * 256 + b.toNat)), 3) := dk_of ((dk_bind (dk_u1 (h 0 _ rfl))).trans ((dk_bind (dk_map (dk_u2 (h 1 _ rfl) (h 2 _ rfl)))).trans rfl))
theorem dk_154 {code : ByteArray} {pc : Nat} (a b : UInt8) (h : DkAt code pc [154, a, b]) : decode code pc = .ok (.ifCond .ne (Reader.signed 16 (a.toNat * 256 + b.toNat)), 3) := dk_of ((dk_bind (dk_u1 (h 0 _ rfl))).trans ((dk_bind (dk_map (dk_u2 (h 1 _ rfl) (h 2 _ rfl)))).trans rfl))
theorem dk_155 {code : ByteArray} {pc : Nat} (a b : UInt8) (h : DkAt code pc [155, a, b]) : decode code pc = .ok (.ifCond .lt (Reader.signed 16 (a.toNat * 256 + b.toNat)), 3) := dk_of ((dk_bind (dk_u1 (h 0 _ rfl))).trans ((dk_bind (dk_map (dk_u2 (h 1 _ rfl) (h 2 _ rfl)))).trans rfl))
theorem dk_156 {code : ByteArray} {pc : Nat} (a b : UInt8) (h : DkAt code pc [156, a, b]) : decode code pc = .ok (.ifCond .ge (Reader.signed 16 (a.toNat * 256 + b.toNat)), 3) := dk_of ((dk_bind (dk_u1 (h 0 _ rfl))).trans ((dk_bind (dk_map (dk_u2 (h 1 _ rfl) (h 2 _ rfl)))).trans rfl))
theorem dk_157 {code : ByteArray} {pc : Nat} (a b : UInt8) (h : DkAt code pc [157, a, b]) : decode code pc = .ok (.ifCond .gt (Reader.signed 16 (a.toNat * 256 + b.toNat)), 3) := dk_of ((dk_bind (dk_u1 (h 0 _ rfl))).trans ((dk_bind (dk_map (dk_u2 (h 1 _ rfl) (h 2 _ rfl)))).trans rfl))
theorem dk_158 {code : ByteArray} {pc : Nat} (a b : UInt8) (h : DkAt code pc [158, a, b]) : decode code pc = .ok (.ifCond .le (Reader.signed 16 (a.toNat * 256 + b.toNat)), 3) := dk_of ((dk_bind (dk_u1 (h 0 _ rfl))).trans ((dk_bind (dk_map (dk_u2 (h 1 _ rfl) (h 2 _ rfl)))).trans rfl))
theorem dk_159 {code : ByteArray} {pc : Nat} (a b : UInt8) (h : DkAt code pc [159, a, b]) : decode code pc = .ok (.if_icmp .eq (Reader.signed 16 (a.toNat * 256 + b.toNat)), 3) := dk_of ((dk_bind (dk_u1 (h 0 _ rfl))).trans ((dk_bind (dk_map (dk_u2 (h 1 _ rfl) (h 2 _ rfl)))).trans rfl))
theorem dk_160 {code : ByteArray} {pc : Nat} (a b : UInt8) (h : DkAt code pc [160, a, b]) : decode code pc = .ok (.if_icmp .ne (Reader.signed 16 (a.toNat * 256 + b.toNat)), 3) := dk_of ((dk_bind (dk_u1 (h 0 _ rfl))).trans ((dk_bind (dk_map (dk_u2 (h 1 _ rfl) (h 2 _ rfl)))).trans rfl))
theorem dk_161 {code : ByteArray} {pc : Nat} (a b : UInt8) (h : DkAt code pc [161, a, b]) : decode code pc = .ok (.if_icmp .lt (Reader.signed 16 (a.toNat * 256 + b.toNat)), 3) := dk_of ((dk_bind (dk_u1 (h 0 _ rfl))).trans ((dk_bind (dk_map (dk_u2 (h 1 _ rfl) (h 2 _ rfl)))).trans rfl))
theorem dk_162 {code : ByteArray} {pc : Nat} (a b : UInt8) (h : DkAt code pc [162, a, b]) : decode code pc = .ok (.if_icmp .ge (Reader.signed 16 (a.toNat * 256 + b.toNat)), 3) := dk_of ((dk_bind (dk_u1 (h 0 _ rfl))).trans ((dk_bind (dk_map (dk_u2 (h 1 _ rfl) (h 2 _ rfl)))).trans rfl))
theorem dk_163 {code : ByteArray} {pc : Nat} (a b : UInt8) (h : DkAt code pc [163, a, b]) : decode code pc = .ok (.if_icmp .gt (Reader.signed 16 (a.toNat * 256 + b.toNat)), 3) := dk_of ((dk_bind (dk_u1 (h 0 _ rfl))).trans ((dk_bind (dk_map (dk_u2 (h 1 _ rfl) (h 2 _ rfl)))).trans rfl))
theorem dk_164 {code : ByteArray} {pc : Nat} (a b : UInt8) (h : DkAt code pc [164, a, b]) : decode code pc = .ok (.if_icmp .le (Reader.signed 16 (a.toNat * 256 + b.toNat)), 3) := dk_of ((dk_bind (dk_u1 (h 0 _ rfl))).trans ((dk_bind (dk_map (dk_u2 (h 1 _ rfl) (h 2 _ rfl)))).trans rfl))
theorem dk_167 {code : ByteArray} {pc : Nat} (a b : UInt8) (h : DkAt code pc [167, a, b]) : decode code pc = .ok (.goto (Reader.signed 16 (a.toNat * 256 + b.toNat)), 3) := dk_of ((dk_bind (dk_u1 (h 0 _ rfl))).trans ((dk_bind (dk_map (dk_u2 (h 1 _ rfl) (h 2 _ rfl)))).trans rfl))
theorem dk_172 {code : ByteArray} {pc : Nat} (h : DkAt code pc [172]) : decode code pc = .ok (.ireturn, 1) := dk_of ((dk_bind (dk_u1 (h 0 _ rfl))).trans rfl)
theorem dk_173 {code : ByteArray} {pc : Nat} (h : DkAt code pc [173]) : decode code pc = .ok (.lreturn, 1) := dk_of ((dk_bind (dk_u1 (h 0 _ rfl))).trans rfl)
theorem dk_176 {code : ByteArray} {pc : Nat} (h : DkAt code pc [176]) : decode code pc = .ok (.areturn, 1) := dk_of ((dk_bind (dk_u1 (h 0 _ rfl))).trans rfl)
theorem dk_177 {code : ByteArray} {pc : Nat} (h : DkAt code pc [177]) : decode code pc = .ok (.return_, 1) := dk_of ((dk_bind (dk_u1 (h 0 _ rfl))).trans rfl)
theorem dk_178 {code : ByteArray} {pc : Nat} (a b : UInt8) (h : DkAt code pc [178, a, b]) : decode code pc = .ok (.getstatic (a.toNat * 256 + b.toNat), 3) := dk_of ((dk_bind (dk_u1 (h 0 _ rfl))).trans ((dk_bind (dk_u2 (h 1 _ rfl) (h 2 _ rfl))).trans rfl))
theorem dk_180 {code : ByteArray} {pc : Nat} (a b : UInt8) (h : DkAt code pc [180, a, b]) : decode code pc = .ok (.getfield (a.toNat * 256 + b.toNat), 3) := dk_of ((dk_bind (dk_u1 (h 0 _ rfl))).trans ((dk_bind (dk_u2 (h 1 _ rfl) (h 2 _ rfl))).trans rfl))
theorem dk_181 {code : ByteArray} {pc : Nat} (a b : UInt8) (h : DkAt code pc [181, a, b]) : decode code pc = .ok (.putfield (a.toNat * 256 + b.toNat), 3) := dk_of ((dk_bind (dk_u1 (h 0 _ rfl))).trans ((dk_bind (dk_u2 (h 1 _ rfl) (h 2 _ rfl))).trans rfl))
theorem dk_182 {code : ByteArray} {pc : Nat} (a b : UInt8) (h : DkAt code pc [182, a, b]) : decode code pc = .ok (.invokevirtual (a.toNat * 256 + b.toNat), 3) := dk_of ((dk_bind (dk_u1 (h 0 _ rfl))).trans ((dk_bind (dk_u2 (h 1 _ rfl) (h 2 _ rfl))).trans rfl))
theorem dk_183 {code : ByteArray} {pc : Nat} (a b : UInt8) (h : DkAt code pc [183, a, b]) : decode code pc = .ok (.invokespecial (a.toNat * 256 + b.toNat), 3) := dk_of ((dk_bind (dk_u1 (h 0 _ rfl))).trans ((dk_bind (dk_u2 (h 1 _ rfl) (h 2 _ rfl))).trans rfl))
theorem dk_184 {code : ByteArray} {pc : Nat} (a b : UInt8) (h : DkAt code pc [184, a, b]) : decode code pc = .ok (.invokestatic (a.toNat * 256 + b.toNat), 3) := dk_of ((dk_bind (dk_u1 (h 0 _ rfl))).trans ((dk_bind (dk_u2 (h 1 _ rfl) (h 2 _ rfl))).trans rfl))
theorem dk_187 {code : ByteArray} {pc : Nat} (a b : UInt8) (h : DkAt code pc [187, a, b]) : decode code pc = .ok (.new (a.toNat * 256 + b.toNat), 3) := dk_of ((dk_bind (dk_u1 (h 0 _ rfl))).trans ((dk_bind (dk_u2 (h 1 _ rfl) (h 2 _ rfl))).trans rfl))
theorem dk_188_4 {code : ByteArray} {pc : Nat} (h : DkAt code pc [188, 4]) : decode code pc = .ok (.newarray .boolean, 2) := dk_of ((dk_bind (dk_u1 (h 0 _ rfl))).trans ((dk_bind (dk_u1 (h 1 _ rfl))).trans rfl))
theorem dk_188_8 {code : ByteArray} {pc : Nat} (h : DkAt code pc [188, 8]) : decode code pc = .ok (.newarray .byte, 2) := dk_of ((dk_bind (dk_u1 (h 0 _ rfl))).trans ((dk_bind (dk_u1 (h 1 _ rfl))).trans rfl))
theorem dk_188_9 {code : ByteArray} {pc : Nat} (h : DkAt code pc [188, 9]) : decode code pc = .ok (.newarray .short, 2) := dk_of ((dk_bind (dk_u1 (h 0 _ rfl))).trans ((dk_bind (dk_u1 (h 1 _ rfl))).trans rfl))
theorem dk_188_10 {code : ByteArray} {pc : Nat} (h : DkAt code pc [188, 10]) : decode code pc = .ok (.newarray .int, 2) := dk_of ((dk_bind (dk_u1 (h 0 _ rfl))).trans ((dk_bind (dk_u1 (h 1 _ rfl))).trans rfl))
theorem dk_188_11 {code : ByteArray} {pc : Nat} (h : DkAt code pc [188, 11]) : decode code pc = .ok (.newarray .long, 2) := dk_of ((dk_bind (dk_u1 (h 0 _ rfl))).trans ((dk_bind (dk_u1 (h 1 _ rfl))).trans rfl))
theorem dk_189 {code : ByteArray} {pc : Nat} (a b : UInt8) (h : DkAt code pc [189, a, b]) : decode code pc = .ok (.anewarray (a.toNat * 256 + b.toNat), 3) := dk_of ((dk_bind (dk_u1 (h 0 _ rfl))).trans ((dk_bind (dk_u2 (h 1 _ rfl) (h 2 _ rfl))).trans rfl))
theorem dk_190 {code : ByteArray} {pc : Nat} (h : DkAt code pc [190]) : decode code pc = .ok (.arraylength, 1) := dk_of ((dk_bind (dk_u1 (h 0 _ rfl))).trans rfl)
theorem dk_191 {code : ByteArray} {pc : Nat} (h : DkAt code pc [191]) : decode code pc = .ok (.athrow, 1) := dk_of ((dk_bind (dk_u1 (h 0 _ rfl))).trans rfl)
theorem dk_192 {code : ByteArray} {pc : Nat} (a b : UInt8) (h : DkAt code pc [192, a, b]) : decode code pc = .ok (.checkcast (a.toNat * 256 + b.toNat), 3) := dk_of ((dk_bind (dk_u1 (h 0 _ rfl))).trans ((dk_bind (dk_u2 (h 1 _ rfl) (h 2 _ rfl))).trans rfl))
theorem dk_198 {code : ByteArray} {pc : Nat} (a b : UInt8) (h : DkAt code pc [198, a, b]) : decode code pc = .ok (.ifnull (Reader.signed 16 (a.toNat * 256 + b.toNat)), 3) := dk_of ((dk_bind (dk_u1 (h 0 _ rfl))).trans ((dk_bind (dk_map (dk_u2 (h 1 _ rfl) (h 2 _ rfl)))).trans rfl))
theorem dk_199 {code : ByteArray} {pc : Nat} (a b : UInt8) (h : DkAt code pc [199, a, b]) : decode code pc = .ok (.ifnonnull (Reader.signed 16 (a.toNat * 256 + b.toNat)), 3) := dk_of ((dk_bind (dk_u1 (h 0 _ rfl))).trans ((dk_bind (dk_map (dk_u2 (h 1 _ rfl) (h 2 _ rfl)))).trans rfl))
/-! ThreeSnowballs -/
set_option maxRecDepth 100000
def RX0 : String := "ThreeSnowballs"
def TX0 : u_T := fun k => match k with
  | 0 => ("ThreeSnowballs", "players", "[LThreeSnowballs$Player;", true)
  | 1 => ("ThreeSnowballs", "order", "[I", true)
  | 2 => ("ThreeSnowballs", "prizes", "[I", true)
  | 3 => ("ThreeSnowballs", "playerMany", "I", false)
  | 4 => ("ThreeSnowballs", "bell", "I", false)
  | 5 => ("ThreeSnowballs", "changes", "[LThreeSnowballs$Change;", true)
  | 6 => ("ThreeSnowballs", "doneMany", "I", false)
  | 7 => ("ThreeSnowballs", "undoneMany", "I", false)
  | 8 => ("ThreeSnowballs", "tape", "[B", true)
  | 9 => ("ThreeSnowballs", "taped", "I", false)
  | 10 => ("ThreeSnowballs", "law", "LThreeSnowballs$Line;", false)
  | 11 => ("ThreeSnowballs", "facts", "LThreeSnowballs$Facts;", true)
  | 12 => ("ThreeSnowballs", "values", "[J", true)
  | 13 => ("ThreeSnowballs", "aims", "[B", true)
  | 14 => ("ThreeSnowballs", "twelves", "[J", true)
  | 15 => ("ThreeSnowballs", "likely", "[J", true)
  | 16 => ("ThreeSnowballs", "ending", "[J", true)
  | 17 => ("ThreeSnowballs", "throwsAll", "J", false)
  | 18 => ("ThreeSnowballs", "wasWay", "[I", true)
  | 19 => ("ThreeSnowballs", "toldSet", "I", false)
  | 20 => ("ThreeSnowballs", "toldPlace", "I", false)
  | 21 => ("ThreeSnowballs", "toldMany", "I", false)
  | 22 => ("ThreeSnowballs", "cannot", "I", false)
  | 23 => ("ThreeSnowballs", "against", "I", false)
  | 24 => ("ThreeSnowballs", "toldAbove", "J", false)
  | 25 => ("ThreeSnowballs", "toldBelow", "J", false)
  | 26 => ("ThreeSnowballs", "deedSet", "I", false)
  | 27 => ("ThreeSnowballs", "deedPlace", "I", false)
  | 28 => ("ThreeSnowballs", "deedMany", "I", false)
  | 29 => ("ThreeSnowballs", "keptSet", "I", false)
  | 30 => ("ThreeSnowballs", "keptPlace", "I", false)
  | 31 => ("ThreeSnowballs", "keptMany", "I", false)
  | 32 => ("ThreeSnowballs", "hasImage", "Z", false)
  | 33 => ("ThreeSnowballs", "traces", "I", false)
  | 34 => ("ThreeSnowballs", "traced", "[B", true)
  | 35 => ("ThreeSnowballs", "bodies", "[LThreeSnowballs$Thrower;", true)
  | 36 => ("ThreeSnowballs", "bodyMany", "I", false)
  | _ => ("ThreeSnowballs", "shelves", "[LThreeSnowballs$Held;", true)
def tyX0 : Nat → FieldType := fun k => match k with
  | 0 => .array (.object "ThreeSnowballs$Player")
  | 1 => .array .int
  | 2 => .array .int
  | 3 => .int
  | 4 => .int
  | 5 => .array (.object "ThreeSnowballs$Change")
  | 6 => .int
  | 7 => .int
  | 8 => .array .byte
  | 9 => .int
  | 10 => .object "ThreeSnowballs$Line"
  | 11 => .object "ThreeSnowballs$Facts"
  | 12 => .array .long
  | 13 => .array .byte
  | 14 => .array .long
  | 15 => .array .long
  | 16 => .array .long
  | 17 => .long
  | 18 => .array .int
  | 19 => .int
  | 20 => .int
  | 21 => .int
  | 22 => .int
  | 23 => .int
  | 24 => .long
  | 25 => .long
  | 26 => .int
  | 27 => .int
  | 28 => .int
  | 29 => .int
  | 30 => .int
  | 31 => .int
  | 32 => .boolean
  | 33 => .int
  | 34 => .array .byte
  | 35 => .array (.object "ThreeSnowballs$Thrower")
  | 36 => .int
  | _ => .array (.object "ThreeSnowballs$Held")
abbrev wsX00 : List Cond := u_ws RX0 TX0 38
set_option maxRecDepth 100000 in
theorem nmX0 : ∀ a, a < 38 → ∀ b, b < 38 → a ≠ b → (TX0 a).2.1 ≠ (TX0 b).2.1 := by decide +kernel
set_option maxRecDepth 100000 in
theorem tyX0_ok : ∀ k, k < 38 → parseFieldDescriptor (TX0 k).2.2.1 = some (tyX0 k) := by decide +kernel
abbrev cX0_init : ByteArray := prog_1_method_1_code
def yX0_init : MethodName := ⟨RX0, "<init>", "()V"⟩
def dkwX0_init_9 : List UInt8 := [42, 16, 6, 189, 0, 89, 181, 0, 91, 177]
abbrev dktX0_init_9 : List UInt8 := dkwX0_init_9 ++ []
def dkwX0_init_8 : List UInt8 := [42, 7, 188, 10, 181, 0, 77, 42, 16, 24, 188, 8, 181, 0, 80, 42, 16, 50, 189, 0, 83, 181, 0, 85]
abbrev dktX0_init_8 : List UInt8 := dkwX0_init_8 ++ dktX0_init_9
def dkwX0_init_7 : List UInt8 := [20, 0, 66, 80, 181, 0, 68, 42, 17, 2, 128, 188, 11, 181, 0, 71, 42, 16, 16, 188, 11, 181, 0, 74]
abbrev dktX0_init_7 : List UInt8 := dkwX0_init_7 ++ dktX0_init_8
def dkwX0_init_6 : List UInt8 := [16, 6, 20, 0, 60, 80, 89, 16, 7, 20, 0, 62, 80, 89, 16, 8, 20, 0, 64, 80, 89, 16, 9]
abbrev dktX0_init_6 : List UInt8 := dkwX0_init_6 ++ dktX0_init_7
def dkwX0_init_5 : List UInt8 := [20, 0, 52, 80, 89, 6, 20, 0, 54, 80, 89, 7, 20, 0, 56, 80, 89, 8, 20, 0, 58, 80, 89]
abbrev dktX0_init_5 : List UInt8 := dkwX0_init_5 ++ dktX0_init_6
def dkwX0_init_4 : List UInt8 := [188, 8, 181, 0, 47, 42, 16, 10, 188, 11, 89, 3, 10, 80, 89, 4, 20, 0, 50, 80, 89, 5]
abbrev dktX0_init_4 : List UInt8 := dkwX0_init_4 ++ dktX0_init_5
def dkwX0_init_3 : List UInt8 := [187, 0, 36, 89, 183, 0, 38, 181, 0, 39, 42, 17, 10, 0, 188, 11, 181, 0, 43, 42, 17, 2, 128]
abbrev dktX0_init_3 : List UInt8 := dkwX0_init_3 ++ dktX0_init_4
def dkwX0_init_2 : List UInt8 := [16, 6, 181, 0, 22, 42, 16, 40, 189, 0, 26, 181, 0, 28, 42, 16, 120, 188, 8, 181, 0, 32, 42]
abbrev dktX0_init_2 : List UInt8 := dkwX0_init_2 ++ dktX0_init_3
def dkwX0_init_1 : List UInt8 := [3, 3, 79, 89, 4, 16, 9, 79, 89, 5, 7, 79, 89, 6, 5, 79, 89, 7, 4, 79, 181, 0, 19, 42]
abbrev dktX0_init_1 : List UInt8 := dkwX0_init_1 ++ dktX0_init_2
def dkwX0_init_0 : List UInt8 := [42, 183, 0, 1, 42, 7, 189, 0, 9, 181, 0, 11, 42, 7, 188, 10, 181, 0, 15, 42, 8, 188, 10, 89]
abbrev dktX0_init_0 : List UInt8 := dkwX0_init_0 ++ dktX0_init_1
theorem dksX0_init_0 : cX0_init.data.toList.drop 0 = dktX0_init_0 := by decide +kernel
theorem dksX0_init_1 : cX0_init.data.toList.drop 24 = dktX0_init_1 := dk_seg dksX0_init_0 24 rfl rfl
theorem dksX0_init_2 : cX0_init.data.toList.drop 48 = dktX0_init_2 := dk_seg dksX0_init_1 24 rfl rfl
theorem dksX0_init_3 : cX0_init.data.toList.drop 71 = dktX0_init_3 := dk_seg dksX0_init_2 23 rfl rfl
theorem dksX0_init_4 : cX0_init.data.toList.drop 94 = dktX0_init_4 := dk_seg dksX0_init_3 23 rfl rfl
theorem dksX0_init_5 : cX0_init.data.toList.drop 116 = dktX0_init_5 := dk_seg dksX0_init_4 22 rfl rfl
theorem dksX0_init_6 : cX0_init.data.toList.drop 139 = dktX0_init_6 := dk_seg dksX0_init_5 23 rfl rfl
theorem dksX0_init_7 : cX0_init.data.toList.drop 162 = dktX0_init_7 := dk_seg dksX0_init_6 23 rfl rfl
theorem dksX0_init_8 : cX0_init.data.toList.drop 186 = dktX0_init_8 := dk_seg dksX0_init_7 24 rfl rfl
theorem dksX0_init_9 : cX0_init.data.toList.drop 210 = dktX0_init_9 := dk_seg dksX0_init_8 24 rfl rfl
theorem dX0_init_0 : decode cX0_init 0 = .ok (.aload_n 0, 1) := dk_42 (dk_at dksX0_init_0 0 rfl rfl)
theorem dX0_init_1 : decode cX0_init 1 = .ok (.invokespecial 1, 3) := dk_183 0 1 (dk_at dksX0_init_0 1 rfl rfl)
theorem dX0_init_4 : decode cX0_init 4 = .ok (.aload_n 0, 1) := dk_42 (dk_at dksX0_init_0 4 rfl rfl)
theorem dX0_init_5 : decode cX0_init 5 = .ok (.iconst 4, 1) := dk_7 (dk_at dksX0_init_0 5 rfl rfl)
theorem dX0_init_6 : decode cX0_init 6 = .ok (.anewarray 9, 3) := dk_189 0 9 (dk_at dksX0_init_0 6 rfl rfl)
theorem dX0_init_9 : decode cX0_init 9 = .ok (.putfield 11, 3) := dk_181 0 11 (dk_at dksX0_init_0 9 rfl rfl)
theorem dX0_init_12 : decode cX0_init 12 = .ok (.aload_n 0, 1) := dk_42 (dk_at dksX0_init_0 12 rfl rfl)
theorem dX0_init_13 : decode cX0_init 13 = .ok (.iconst 4, 1) := dk_7 (dk_at dksX0_init_0 13 rfl rfl)
theorem dX0_init_14 : decode cX0_init 14 = .ok (.newarray .int, 2) := dk_188_10 (dk_at dksX0_init_0 14 rfl rfl)
theorem dX0_init_16 : decode cX0_init 16 = .ok (.putfield 15, 3) := dk_181 0 15 (dk_at dksX0_init_0 16 rfl rfl)
theorem dX0_init_19 : decode cX0_init 19 = .ok (.aload_n 0, 1) := dk_42 (dk_at dksX0_init_0 19 rfl rfl)
theorem dX0_init_20 : decode cX0_init 20 = .ok (.iconst 5, 1) := dk_8 (dk_at dksX0_init_0 20 rfl rfl)
theorem dX0_init_21 : decode cX0_init 21 = .ok (.newarray .int, 2) := dk_188_10 (dk_at dksX0_init_0 21 rfl rfl)
theorem dX0_init_23 : decode cX0_init 23 = .ok (.dup, 1) := dk_89 (dk_at dksX0_init_0 23 rfl rfl)
theorem dX0_init_24 : decode cX0_init 24 = .ok (.iconst 0, 1) := dk_3 (dk_at dksX0_init_1 0 rfl rfl)
theorem dX0_init_25 : decode cX0_init 25 = .ok (.iconst 0, 1) := dk_3 (dk_at dksX0_init_1 1 rfl rfl)
theorem dX0_init_26 : decode cX0_init 26 = .ok (.iastore, 1) := dk_79 (dk_at dksX0_init_1 2 rfl rfl)
theorem dX0_init_27 : decode cX0_init 27 = .ok (.dup, 1) := dk_89 (dk_at dksX0_init_1 3 rfl rfl)
theorem dX0_init_28 : decode cX0_init 28 = .ok (.iconst 1, 1) := dk_4 (dk_at dksX0_init_1 4 rfl rfl)
theorem dX0_init_29 : decode cX0_init 29 = .ok (.bipush 9, 2) := dk_16 9 (dk_at dksX0_init_1 5 rfl rfl)
theorem dX0_init_31 : decode cX0_init 31 = .ok (.iastore, 1) := dk_79 (dk_at dksX0_init_1 7 rfl rfl)
theorem dX0_init_32 : decode cX0_init 32 = .ok (.dup, 1) := dk_89 (dk_at dksX0_init_1 8 rfl rfl)
theorem dX0_init_33 : decode cX0_init 33 = .ok (.iconst 2, 1) := dk_5 (dk_at dksX0_init_1 9 rfl rfl)
theorem dX0_init_34 : decode cX0_init 34 = .ok (.iconst 4, 1) := dk_7 (dk_at dksX0_init_1 10 rfl rfl)
theorem dX0_init_35 : decode cX0_init 35 = .ok (.iastore, 1) := dk_79 (dk_at dksX0_init_1 11 rfl rfl)
theorem dX0_init_36 : decode cX0_init 36 = .ok (.dup, 1) := dk_89 (dk_at dksX0_init_1 12 rfl rfl)
theorem dX0_init_37 : decode cX0_init 37 = .ok (.iconst 3, 1) := dk_6 (dk_at dksX0_init_1 13 rfl rfl)
theorem dX0_init_38 : decode cX0_init 38 = .ok (.iconst 2, 1) := dk_5 (dk_at dksX0_init_1 14 rfl rfl)
theorem dX0_init_39 : decode cX0_init 39 = .ok (.iastore, 1) := dk_79 (dk_at dksX0_init_1 15 rfl rfl)
theorem dX0_init_40 : decode cX0_init 40 = .ok (.dup, 1) := dk_89 (dk_at dksX0_init_1 16 rfl rfl)
theorem dX0_init_41 : decode cX0_init 41 = .ok (.iconst 4, 1) := dk_7 (dk_at dksX0_init_1 17 rfl rfl)
theorem dX0_init_42 : decode cX0_init 42 = .ok (.iconst 1, 1) := dk_4 (dk_at dksX0_init_1 18 rfl rfl)
theorem dX0_init_43 : decode cX0_init 43 = .ok (.iastore, 1) := dk_79 (dk_at dksX0_init_1 19 rfl rfl)
theorem dX0_init_44 : decode cX0_init 44 = .ok (.putfield 19, 3) := dk_181 0 19 (dk_at dksX0_init_1 20 rfl rfl)
theorem dX0_init_47 : decode cX0_init 47 = .ok (.aload_n 0, 1) := dk_42 (dk_at dksX0_init_1 23 rfl rfl)
theorem dX0_init_48 : decode cX0_init 48 = .ok (.bipush 6, 2) := dk_16 6 (dk_at dksX0_init_2 0 rfl rfl)
theorem dX0_init_50 : decode cX0_init 50 = .ok (.putfield 22, 3) := dk_181 0 22 (dk_at dksX0_init_2 2 rfl rfl)
theorem dX0_init_53 : decode cX0_init 53 = .ok (.aload_n 0, 1) := dk_42 (dk_at dksX0_init_2 5 rfl rfl)
theorem dX0_init_54 : decode cX0_init 54 = .ok (.bipush 40, 2) := dk_16 40 (dk_at dksX0_init_2 6 rfl rfl)
theorem dX0_init_56 : decode cX0_init 56 = .ok (.anewarray 26, 3) := dk_189 0 26 (dk_at dksX0_init_2 8 rfl rfl)
theorem dX0_init_59 : decode cX0_init 59 = .ok (.putfield 28, 3) := dk_181 0 28 (dk_at dksX0_init_2 11 rfl rfl)
theorem dX0_init_62 : decode cX0_init 62 = .ok (.aload_n 0, 1) := dk_42 (dk_at dksX0_init_2 14 rfl rfl)
theorem dX0_init_63 : decode cX0_init 63 = .ok (.bipush 120, 2) := dk_16 120 (dk_at dksX0_init_2 15 rfl rfl)
theorem dX0_init_65 : decode cX0_init 65 = .ok (.newarray .byte, 2) := dk_188_8 (dk_at dksX0_init_2 17 rfl rfl)
theorem dX0_init_67 : decode cX0_init 67 = .ok (.putfield 32, 3) := dk_181 0 32 (dk_at dksX0_init_2 19 rfl rfl)
theorem dX0_init_70 : decode cX0_init 70 = .ok (.aload_n 0, 1) := dk_42 (dk_at dksX0_init_2 22 rfl rfl)
theorem dX0_init_71 : decode cX0_init 71 = .ok (.new 36, 3) := dk_187 0 36 (dk_at dksX0_init_3 0 rfl rfl)
theorem dX0_init_74 : decode cX0_init 74 = .ok (.dup, 1) := dk_89 (dk_at dksX0_init_3 3 rfl rfl)
theorem dX0_init_75 : decode cX0_init 75 = .ok (.invokespecial 38, 3) := dk_183 0 38 (dk_at dksX0_init_3 4 rfl rfl)
theorem dX0_init_78 : decode cX0_init 78 = .ok (.putfield 39, 3) := dk_181 0 39 (dk_at dksX0_init_3 7 rfl rfl)
theorem dX0_init_81 : decode cX0_init 81 = .ok (.aload_n 0, 1) := dk_42 (dk_at dksX0_init_3 10 rfl rfl)
theorem dX0_init_82 : decode cX0_init 82 = .ok (.sipush 2560, 3) := dk_17 10 0 (dk_at dksX0_init_3 11 rfl rfl)
theorem dX0_init_85 : decode cX0_init 85 = .ok (.newarray .long, 2) := dk_188_11 (dk_at dksX0_init_3 14 rfl rfl)
theorem dX0_init_87 : decode cX0_init 87 = .ok (.putfield 43, 3) := dk_181 0 43 (dk_at dksX0_init_3 16 rfl rfl)
theorem dX0_init_90 : decode cX0_init 90 = .ok (.aload_n 0, 1) := dk_42 (dk_at dksX0_init_3 19 rfl rfl)
theorem dX0_init_91 : decode cX0_init 91 = .ok (.sipush 640, 3) := dk_17 2 128 (dk_at dksX0_init_3 20 rfl rfl)
theorem dX0_init_94 : decode cX0_init 94 = .ok (.newarray .byte, 2) := dk_188_8 (dk_at dksX0_init_4 0 rfl rfl)
theorem dX0_init_96 : decode cX0_init 96 = .ok (.putfield 47, 3) := dk_181 0 47 (dk_at dksX0_init_4 2 rfl rfl)
theorem dX0_init_99 : decode cX0_init 99 = .ok (.aload_n 0, 1) := dk_42 (dk_at dksX0_init_4 5 rfl rfl)
theorem dX0_init_100 : decode cX0_init 100 = .ok (.bipush 10, 2) := dk_16 10 (dk_at dksX0_init_4 6 rfl rfl)
theorem dX0_init_102 : decode cX0_init 102 = .ok (.newarray .long, 2) := dk_188_11 (dk_at dksX0_init_4 8 rfl rfl)
theorem dX0_init_104 : decode cX0_init 104 = .ok (.dup, 1) := dk_89 (dk_at dksX0_init_4 10 rfl rfl)
theorem dX0_init_105 : decode cX0_init 105 = .ok (.iconst 0, 1) := dk_3 (dk_at dksX0_init_4 11 rfl rfl)
theorem dX0_init_106 : decode cX0_init 106 = .ok (.lconst 1, 1) := dk_10 (dk_at dksX0_init_4 12 rfl rfl)
theorem dX0_init_107 : decode cX0_init 107 = .ok (.lastore, 1) := dk_80 (dk_at dksX0_init_4 13 rfl rfl)
theorem dX0_init_108 : decode cX0_init 108 = .ok (.dup, 1) := dk_89 (dk_at dksX0_init_4 14 rfl rfl)
theorem dX0_init_109 : decode cX0_init 109 = .ok (.iconst 1, 1) := dk_4 (dk_at dksX0_init_4 15 rfl rfl)
theorem dX0_init_110 : decode cX0_init 110 = .ok (.ldc2_w 50, 3) := dk_20 0 50 (dk_at dksX0_init_4 16 rfl rfl)
theorem dX0_init_113 : decode cX0_init 113 = .ok (.lastore, 1) := dk_80 (dk_at dksX0_init_4 19 rfl rfl)
theorem dX0_init_114 : decode cX0_init 114 = .ok (.dup, 1) := dk_89 (dk_at dksX0_init_4 20 rfl rfl)
theorem dX0_init_115 : decode cX0_init 115 = .ok (.iconst 2, 1) := dk_5 (dk_at dksX0_init_4 21 rfl rfl)
theorem dX0_init_116 : decode cX0_init 116 = .ok (.ldc2_w 52, 3) := dk_20 0 52 (dk_at dksX0_init_5 0 rfl rfl)
theorem dX0_init_119 : decode cX0_init 119 = .ok (.lastore, 1) := dk_80 (dk_at dksX0_init_5 3 rfl rfl)
theorem dX0_init_120 : decode cX0_init 120 = .ok (.dup, 1) := dk_89 (dk_at dksX0_init_5 4 rfl rfl)
theorem dX0_init_121 : decode cX0_init 121 = .ok (.iconst 3, 1) := dk_6 (dk_at dksX0_init_5 5 rfl rfl)
theorem dX0_init_122 : decode cX0_init 122 = .ok (.ldc2_w 54, 3) := dk_20 0 54 (dk_at dksX0_init_5 6 rfl rfl)
theorem dX0_init_125 : decode cX0_init 125 = .ok (.lastore, 1) := dk_80 (dk_at dksX0_init_5 9 rfl rfl)
theorem dX0_init_126 : decode cX0_init 126 = .ok (.dup, 1) := dk_89 (dk_at dksX0_init_5 10 rfl rfl)
theorem dX0_init_127 : decode cX0_init 127 = .ok (.iconst 4, 1) := dk_7 (dk_at dksX0_init_5 11 rfl rfl)
theorem dX0_init_128 : decode cX0_init 128 = .ok (.ldc2_w 56, 3) := dk_20 0 56 (dk_at dksX0_init_5 12 rfl rfl)
theorem dX0_init_131 : decode cX0_init 131 = .ok (.lastore, 1) := dk_80 (dk_at dksX0_init_5 15 rfl rfl)
theorem dX0_init_132 : decode cX0_init 132 = .ok (.dup, 1) := dk_89 (dk_at dksX0_init_5 16 rfl rfl)
theorem dX0_init_133 : decode cX0_init 133 = .ok (.iconst 5, 1) := dk_8 (dk_at dksX0_init_5 17 rfl rfl)
theorem dX0_init_134 : decode cX0_init 134 = .ok (.ldc2_w 58, 3) := dk_20 0 58 (dk_at dksX0_init_5 18 rfl rfl)
theorem dX0_init_137 : decode cX0_init 137 = .ok (.lastore, 1) := dk_80 (dk_at dksX0_init_5 21 rfl rfl)
theorem dX0_init_138 : decode cX0_init 138 = .ok (.dup, 1) := dk_89 (dk_at dksX0_init_5 22 rfl rfl)
theorem dX0_init_139 : decode cX0_init 139 = .ok (.bipush 6, 2) := dk_16 6 (dk_at dksX0_init_6 0 rfl rfl)
theorem dX0_init_141 : decode cX0_init 141 = .ok (.ldc2_w 60, 3) := dk_20 0 60 (dk_at dksX0_init_6 2 rfl rfl)
theorem dX0_init_144 : decode cX0_init 144 = .ok (.lastore, 1) := dk_80 (dk_at dksX0_init_6 5 rfl rfl)
theorem dX0_init_145 : decode cX0_init 145 = .ok (.dup, 1) := dk_89 (dk_at dksX0_init_6 6 rfl rfl)
theorem dX0_init_146 : decode cX0_init 146 = .ok (.bipush 7, 2) := dk_16 7 (dk_at dksX0_init_6 7 rfl rfl)
theorem dX0_init_148 : decode cX0_init 148 = .ok (.ldc2_w 62, 3) := dk_20 0 62 (dk_at dksX0_init_6 9 rfl rfl)
theorem dX0_init_151 : decode cX0_init 151 = .ok (.lastore, 1) := dk_80 (dk_at dksX0_init_6 12 rfl rfl)
theorem dX0_init_152 : decode cX0_init 152 = .ok (.dup, 1) := dk_89 (dk_at dksX0_init_6 13 rfl rfl)
theorem dX0_init_153 : decode cX0_init 153 = .ok (.bipush 8, 2) := dk_16 8 (dk_at dksX0_init_6 14 rfl rfl)
theorem dX0_init_155 : decode cX0_init 155 = .ok (.ldc2_w 64, 3) := dk_20 0 64 (dk_at dksX0_init_6 16 rfl rfl)
theorem dX0_init_158 : decode cX0_init 158 = .ok (.lastore, 1) := dk_80 (dk_at dksX0_init_6 19 rfl rfl)
theorem dX0_init_159 : decode cX0_init 159 = .ok (.dup, 1) := dk_89 (dk_at dksX0_init_6 20 rfl rfl)
theorem dX0_init_160 : decode cX0_init 160 = .ok (.bipush 9, 2) := dk_16 9 (dk_at dksX0_init_6 21 rfl rfl)
theorem dX0_init_162 : decode cX0_init 162 = .ok (.ldc2_w 66, 3) := dk_20 0 66 (dk_at dksX0_init_7 0 rfl rfl)
theorem dX0_init_165 : decode cX0_init 165 = .ok (.lastore, 1) := dk_80 (dk_at dksX0_init_7 3 rfl rfl)
theorem dX0_init_166 : decode cX0_init 166 = .ok (.putfield 68, 3) := dk_181 0 68 (dk_at dksX0_init_7 4 rfl rfl)
theorem dX0_init_169 : decode cX0_init 169 = .ok (.aload_n 0, 1) := dk_42 (dk_at dksX0_init_7 7 rfl rfl)
theorem dX0_init_170 : decode cX0_init 170 = .ok (.sipush 640, 3) := dk_17 2 128 (dk_at dksX0_init_7 8 rfl rfl)
theorem dX0_init_173 : decode cX0_init 173 = .ok (.newarray .long, 2) := dk_188_11 (dk_at dksX0_init_7 11 rfl rfl)
theorem dX0_init_175 : decode cX0_init 175 = .ok (.putfield 71, 3) := dk_181 0 71 (dk_at dksX0_init_7 13 rfl rfl)
theorem dX0_init_178 : decode cX0_init 178 = .ok (.aload_n 0, 1) := dk_42 (dk_at dksX0_init_7 16 rfl rfl)
theorem dX0_init_179 : decode cX0_init 179 = .ok (.bipush 16, 2) := dk_16 16 (dk_at dksX0_init_7 17 rfl rfl)
theorem dX0_init_181 : decode cX0_init 181 = .ok (.newarray .long, 2) := dk_188_11 (dk_at dksX0_init_7 19 rfl rfl)
theorem dX0_init_183 : decode cX0_init 183 = .ok (.putfield 74, 3) := dk_181 0 74 (dk_at dksX0_init_7 21 rfl rfl)
theorem dX0_init_186 : decode cX0_init 186 = .ok (.aload_n 0, 1) := dk_42 (dk_at dksX0_init_8 0 rfl rfl)
theorem dX0_init_187 : decode cX0_init 187 = .ok (.iconst 4, 1) := dk_7 (dk_at dksX0_init_8 1 rfl rfl)
theorem dX0_init_188 : decode cX0_init 188 = .ok (.newarray .int, 2) := dk_188_10 (dk_at dksX0_init_8 2 rfl rfl)
theorem dX0_init_190 : decode cX0_init 190 = .ok (.putfield 77, 3) := dk_181 0 77 (dk_at dksX0_init_8 4 rfl rfl)
theorem dX0_init_193 : decode cX0_init 193 = .ok (.aload_n 0, 1) := dk_42 (dk_at dksX0_init_8 7 rfl rfl)
theorem dX0_init_194 : decode cX0_init 194 = .ok (.bipush 24, 2) := dk_16 24 (dk_at dksX0_init_8 8 rfl rfl)
theorem dX0_init_196 : decode cX0_init 196 = .ok (.newarray .byte, 2) := dk_188_8 (dk_at dksX0_init_8 10 rfl rfl)
theorem dX0_init_198 : decode cX0_init 198 = .ok (.putfield 80, 3) := dk_181 0 80 (dk_at dksX0_init_8 12 rfl rfl)
theorem dX0_init_201 : decode cX0_init 201 = .ok (.aload_n 0, 1) := dk_42 (dk_at dksX0_init_8 15 rfl rfl)
theorem dX0_init_202 : decode cX0_init 202 = .ok (.bipush 50, 2) := dk_16 50 (dk_at dksX0_init_8 16 rfl rfl)
theorem dX0_init_204 : decode cX0_init 204 = .ok (.anewarray 83, 3) := dk_189 0 83 (dk_at dksX0_init_8 18 rfl rfl)
theorem dX0_init_207 : decode cX0_init 207 = .ok (.putfield 85, 3) := dk_181 0 85 (dk_at dksX0_init_8 21 rfl rfl)
theorem dX0_init_210 : decode cX0_init 210 = .ok (.aload_n 0, 1) := dk_42 (dk_at dksX0_init_9 0 rfl rfl)
theorem dX0_init_211 : decode cX0_init 211 = .ok (.bipush 6, 2) := dk_16 6 (dk_at dksX0_init_9 1 rfl rfl)
theorem dX0_init_213 : decode cX0_init 213 = .ok (.anewarray 89, 3) := dk_189 0 89 (dk_at dksX0_init_9 3 rfl rfl)
theorem dX0_init_216 : decode cX0_init 216 = .ok (.putfield 91, 3) := dk_181 0 91 (dk_at dksX0_init_9 6 rfl rfl)
theorem dX0_init_219 : decode cX0_init 219 = .ok (.return_, 1) := dk_177 (dk_at dksX0_init_9 9 rfl rfl)
abbrev cX0_player : ByteArray := prog_1_method_10_code
def yX0_player : MethodName := ⟨RX0, "player", "(II)I"⟩
def dkwX0_player_1 : List UInt8 := [27, 28, 182, 0, 116, 172]
abbrev dktX0_player_1 : List UInt8 := dkwX0_player_1 ++ []
def dkwX0_player_0 : List UInt8 := [27, 28, 184, 0, 112, 154, 0, 5, 2, 172, 42, 180, 0, 95, 7, 160, 0, 8, 16, 253, 167, 0, 9, 42]
abbrev dktX0_player_0 : List UInt8 := dkwX0_player_0 ++ dktX0_player_1
theorem dksX0_player_0 : cX0_player.data.toList.drop 0 = dktX0_player_0 := by decide +kernel
theorem dksX0_player_1 : cX0_player.data.toList.drop 24 = dktX0_player_1 := dk_seg dksX0_player_0 24 rfl rfl
theorem dX0_player_0 : decode cX0_player 0 = .ok (.iload_n 1, 1) := dk_27 (dk_at dksX0_player_0 0 rfl rfl)
theorem dX0_player_1 : decode cX0_player 1 = .ok (.iload_n 2, 1) := dk_28 (dk_at dksX0_player_0 1 rfl rfl)
theorem dX0_player_2 : decode cX0_player 2 = .ok (.invokestatic 112, 3) := dk_184 0 112 (dk_at dksX0_player_0 2 rfl rfl)
theorem dX0_player_5 : decode cX0_player 5 = .ok (.ifCond .ne 5, 3) := dk_154 0 5 (dk_at dksX0_player_0 5 rfl rfl)
theorem dX0_player_8 : decode cX0_player 8 = .ok (.iconst (-1), 1) := dk_2 (dk_at dksX0_player_0 8 rfl rfl)
theorem dX0_player_9 : decode cX0_player 9 = .ok (.ireturn, 1) := dk_172 (dk_at dksX0_player_0 9 rfl rfl)
theorem dX0_player_10 : decode cX0_player 10 = .ok (.aload_n 0, 1) := dk_42 (dk_at dksX0_player_0 10 rfl rfl)
theorem dX0_player_11 : decode cX0_player 11 = .ok (.getfield 95, 3) := dk_180 0 95 (dk_at dksX0_player_0 11 rfl rfl)
theorem dX0_player_14 : decode cX0_player 14 = .ok (.iconst 4, 1) := dk_7 (dk_at dksX0_player_0 14 rfl rfl)
theorem dX0_player_15 : decode cX0_player 15 = .ok (.if_icmp .ne 8, 3) := dk_160 0 8 (dk_at dksX0_player_0 15 rfl rfl)
theorem dX0_player_18 : decode cX0_player 18 = .ok (.bipush (-3), 2) := dk_16 253 (dk_at dksX0_player_0 18 rfl rfl)
theorem dX0_player_20 : decode cX0_player 20 = .ok (.goto 9, 3) := dk_167 0 9 (dk_at dksX0_player_0 20 rfl rfl)
theorem dX0_player_23 : decode cX0_player 23 = .ok (.aload_n 0, 1) := dk_42 (dk_at dksX0_player_0 23 rfl rfl)
theorem dX0_player_24 : decode cX0_player 24 = .ok (.iload_n 1, 1) := dk_27 (dk_at dksX0_player_1 0 rfl rfl)
theorem dX0_player_25 : decode cX0_player 25 = .ok (.iload_n 2, 1) := dk_28 (dk_at dksX0_player_1 1 rfl rfl)
theorem dX0_player_26 : decode cX0_player 26 = .ok (.invokevirtual 116, 3) := dk_182 0 116 (dk_at dksX0_player_1 2 rfl rfl)
theorem dX0_player_29 : decode cX0_player 29 = .ok (.ireturn, 1) := dk_172 (dk_at dksX0_player_1 5 rfl rfl)
abbrev cX0_isPlayerSo : ByteArray := prog_1_method_8_code
def yX0_isPlayerSo : MethodName := ⟨RX0, "isPlayerSo", "(II)Z"⟩
def dkwX0_isPlayerSo_1 : List UInt8 := [172]
abbrev dktX0_isPlayerSo_1 : List UInt8 := dkwX0_isPlayerSo_1 ++ []
def dkwX0_isPlayerSo_0 : List UInt8 := [26, 3, 16, 12, 184, 0, 98, 153, 0, 16, 27, 3, 8, 184, 0, 98, 153, 0, 7, 4, 167, 0, 4, 3]
abbrev dktX0_isPlayerSo_0 : List UInt8 := dkwX0_isPlayerSo_0 ++ dktX0_isPlayerSo_1
theorem dksX0_isPlayerSo_0 : cX0_isPlayerSo.data.toList.drop 0 = dktX0_isPlayerSo_0 := by decide +kernel
theorem dksX0_isPlayerSo_1 : cX0_isPlayerSo.data.toList.drop 24 = dktX0_isPlayerSo_1 := dk_seg dksX0_isPlayerSo_0 24 rfl rfl
theorem dX0_isPlayerSo_0 : decode cX0_isPlayerSo 0 = .ok (.iload_n 0, 1) := dk_26 (dk_at dksX0_isPlayerSo_0 0 rfl rfl)
theorem dX0_isPlayerSo_1 : decode cX0_isPlayerSo 1 = .ok (.iconst 0, 1) := dk_3 (dk_at dksX0_isPlayerSo_0 1 rfl rfl)
theorem dX0_isPlayerSo_2 : decode cX0_isPlayerSo 2 = .ok (.bipush 12, 2) := dk_16 12 (dk_at dksX0_isPlayerSo_0 2 rfl rfl)
theorem dX0_isPlayerSo_4 : decode cX0_isPlayerSo 4 = .ok (.invokestatic 98, 3) := dk_184 0 98 (dk_at dksX0_isPlayerSo_0 4 rfl rfl)
theorem dX0_isPlayerSo_7 : decode cX0_isPlayerSo 7 = .ok (.ifCond .eq 16, 3) := dk_153 0 16 (dk_at dksX0_isPlayerSo_0 7 rfl rfl)
theorem dX0_isPlayerSo_10 : decode cX0_isPlayerSo 10 = .ok (.iload_n 1, 1) := dk_27 (dk_at dksX0_isPlayerSo_0 10 rfl rfl)
theorem dX0_isPlayerSo_11 : decode cX0_isPlayerSo 11 = .ok (.iconst 0, 1) := dk_3 (dk_at dksX0_isPlayerSo_0 11 rfl rfl)
theorem dX0_isPlayerSo_12 : decode cX0_isPlayerSo 12 = .ok (.iconst 5, 1) := dk_8 (dk_at dksX0_isPlayerSo_0 12 rfl rfl)
theorem dX0_isPlayerSo_13 : decode cX0_isPlayerSo 13 = .ok (.invokestatic 98, 3) := dk_184 0 98 (dk_at dksX0_isPlayerSo_0 13 rfl rfl)
theorem dX0_isPlayerSo_16 : decode cX0_isPlayerSo 16 = .ok (.ifCond .eq 7, 3) := dk_153 0 7 (dk_at dksX0_isPlayerSo_0 16 rfl rfl)
theorem dX0_isPlayerSo_19 : decode cX0_isPlayerSo 19 = .ok (.iconst 1, 1) := dk_4 (dk_at dksX0_isPlayerSo_0 19 rfl rfl)
theorem dX0_isPlayerSo_20 : decode cX0_isPlayerSo 20 = .ok (.goto 4, 3) := dk_167 0 4 (dk_at dksX0_isPlayerSo_0 20 rfl rfl)
theorem dX0_isPlayerSo_23 : decode cX0_isPlayerSo 23 = .ok (.iconst 0, 1) := dk_3 (dk_at dksX0_isPlayerSo_0 23 rfl rfl)
theorem dX0_isPlayerSo_24 : decode cX0_isPlayerSo 24 = .ok (.ireturn, 1) := dk_172 (dk_at dksX0_isPlayerSo_1 0 rfl rfl)
abbrev cX0_in : ByteArray := prog_1_method_2_code
def yX0_in : MethodName := ⟨RX0, "in", "(III)Z"⟩
def dkwX0_in_0 : List UInt8 := [26, 27, 161, 0, 12, 26, 28, 163, 0, 7, 4, 167, 0, 4, 3, 172]
abbrev dktX0_in_0 : List UInt8 := dkwX0_in_0 ++ []
theorem dksX0_in_0 : cX0_in.data.toList.drop 0 = dktX0_in_0 := by decide +kernel
theorem dX0_in_0 : decode cX0_in 0 = .ok (.iload_n 0, 1) := dk_26 (dk_at dksX0_in_0 0 rfl rfl)
theorem dX0_in_1 : decode cX0_in 1 = .ok (.iload_n 1, 1) := dk_27 (dk_at dksX0_in_0 1 rfl rfl)
theorem dX0_in_2 : decode cX0_in 2 = .ok (.if_icmp .lt 12, 3) := dk_161 0 12 (dk_at dksX0_in_0 2 rfl rfl)
theorem dX0_in_5 : decode cX0_in 5 = .ok (.iload_n 0, 1) := dk_26 (dk_at dksX0_in_0 5 rfl rfl)
theorem dX0_in_6 : decode cX0_in 6 = .ok (.iload_n 2, 1) := dk_28 (dk_at dksX0_in_0 6 rfl rfl)
theorem dX0_in_7 : decode cX0_in 7 = .ok (.if_icmp .gt 7, 3) := dk_163 0 7 (dk_at dksX0_in_0 7 rfl rfl)
theorem dX0_in_10 : decode cX0_in 10 = .ok (.iconst 1, 1) := dk_4 (dk_at dksX0_in_0 10 rfl rfl)
theorem dX0_in_11 : decode cX0_in 11 = .ok (.goto 4, 3) := dk_167 0 4 (dk_at dksX0_in_0 11 rfl rfl)
theorem dX0_in_14 : decode cX0_in 14 = .ok (.iconst 0, 1) := dk_3 (dk_at dksX0_in_0 14 rfl rfl)
theorem dX0_in_15 : decode cX0_in 15 = .ok (.ireturn, 1) := dk_172 (dk_at dksX0_in_0 15 rfl rfl)
abbrev cX0_addPlayer : ByteArray := prog_1_method_9_code
def yX0_addPlayer : MethodName := ⟨RX0, "addPlayer", "(II)I"⟩
def dkwX0_addPlayer_2 : List UInt8 := [180, 0, 95, 4, 100, 172]
abbrev dktX0_addPlayer_2 : List UInt8 := dkwX0_addPlayer_2 ++ []
def dkwX0_addPlayer_1 : List UInt8 := [180, 0, 95, 42, 180, 0, 95, 79, 42, 89, 180, 0, 95, 4, 96, 181, 0, 95, 42, 182, 0, 109, 42]
abbrev dktX0_addPlayer_1 : List UInt8 := dkwX0_addPlayer_1 ++ dktX0_addPlayer_2
def dkwX0_addPlayer_0 : List UInt8 := [42, 180, 0, 11, 42, 180, 0, 95, 187, 0, 9, 89, 27, 28, 183, 0, 106, 83, 42, 180, 0, 15, 42]
abbrev dktX0_addPlayer_0 : List UInt8 := dkwX0_addPlayer_0 ++ dktX0_addPlayer_1
theorem dksX0_addPlayer_0 : cX0_addPlayer.data.toList.drop 0 = dktX0_addPlayer_0 := by decide +kernel
theorem dksX0_addPlayer_1 : cX0_addPlayer.data.toList.drop 23 = dktX0_addPlayer_1 := dk_seg dksX0_addPlayer_0 23 rfl rfl
theorem dksX0_addPlayer_2 : cX0_addPlayer.data.toList.drop 46 = dktX0_addPlayer_2 := dk_seg dksX0_addPlayer_1 23 rfl rfl
theorem dX0_addPlayer_0 : decode cX0_addPlayer 0 = .ok (.aload_n 0, 1) := dk_42 (dk_at dksX0_addPlayer_0 0 rfl rfl)
theorem dX0_addPlayer_1 : decode cX0_addPlayer 1 = .ok (.getfield 11, 3) := dk_180 0 11 (dk_at dksX0_addPlayer_0 1 rfl rfl)
theorem dX0_addPlayer_4 : decode cX0_addPlayer 4 = .ok (.aload_n 0, 1) := dk_42 (dk_at dksX0_addPlayer_0 4 rfl rfl)
theorem dX0_addPlayer_5 : decode cX0_addPlayer 5 = .ok (.getfield 95, 3) := dk_180 0 95 (dk_at dksX0_addPlayer_0 5 rfl rfl)
theorem dX0_addPlayer_8 : decode cX0_addPlayer 8 = .ok (.new 9, 3) := dk_187 0 9 (dk_at dksX0_addPlayer_0 8 rfl rfl)
theorem dX0_addPlayer_11 : decode cX0_addPlayer 11 = .ok (.dup, 1) := dk_89 (dk_at dksX0_addPlayer_0 11 rfl rfl)
theorem dX0_addPlayer_12 : decode cX0_addPlayer 12 = .ok (.iload_n 1, 1) := dk_27 (dk_at dksX0_addPlayer_0 12 rfl rfl)
theorem dX0_addPlayer_13 : decode cX0_addPlayer 13 = .ok (.iload_n 2, 1) := dk_28 (dk_at dksX0_addPlayer_0 13 rfl rfl)
theorem dX0_addPlayer_14 : decode cX0_addPlayer 14 = .ok (.invokespecial 106, 3) := dk_183 0 106 (dk_at dksX0_addPlayer_0 14 rfl rfl)
theorem dX0_addPlayer_17 : decode cX0_addPlayer 17 = .ok (.aastore, 1) := dk_83 (dk_at dksX0_addPlayer_0 17 rfl rfl)
theorem dX0_addPlayer_18 : decode cX0_addPlayer 18 = .ok (.aload_n 0, 1) := dk_42 (dk_at dksX0_addPlayer_0 18 rfl rfl)
theorem dX0_addPlayer_19 : decode cX0_addPlayer 19 = .ok (.getfield 15, 3) := dk_180 0 15 (dk_at dksX0_addPlayer_0 19 rfl rfl)
theorem dX0_addPlayer_22 : decode cX0_addPlayer 22 = .ok (.aload_n 0, 1) := dk_42 (dk_at dksX0_addPlayer_0 22 rfl rfl)
theorem dX0_addPlayer_23 : decode cX0_addPlayer 23 = .ok (.getfield 95, 3) := dk_180 0 95 (dk_at dksX0_addPlayer_1 0 rfl rfl)
theorem dX0_addPlayer_26 : decode cX0_addPlayer 26 = .ok (.aload_n 0, 1) := dk_42 (dk_at dksX0_addPlayer_1 3 rfl rfl)
theorem dX0_addPlayer_27 : decode cX0_addPlayer 27 = .ok (.getfield 95, 3) := dk_180 0 95 (dk_at dksX0_addPlayer_1 4 rfl rfl)
theorem dX0_addPlayer_30 : decode cX0_addPlayer 30 = .ok (.iastore, 1) := dk_79 (dk_at dksX0_addPlayer_1 7 rfl rfl)
theorem dX0_addPlayer_31 : decode cX0_addPlayer 31 = .ok (.aload_n 0, 1) := dk_42 (dk_at dksX0_addPlayer_1 8 rfl rfl)
theorem dX0_addPlayer_32 : decode cX0_addPlayer 32 = .ok (.dup, 1) := dk_89 (dk_at dksX0_addPlayer_1 9 rfl rfl)
theorem dX0_addPlayer_33 : decode cX0_addPlayer 33 = .ok (.getfield 95, 3) := dk_180 0 95 (dk_at dksX0_addPlayer_1 10 rfl rfl)
theorem dX0_addPlayer_36 : decode cX0_addPlayer 36 = .ok (.iconst 1, 1) := dk_4 (dk_at dksX0_addPlayer_1 13 rfl rfl)
theorem dX0_addPlayer_37 : decode cX0_addPlayer 37 = .ok (.iadd, 1) := dk_96 (dk_at dksX0_addPlayer_1 14 rfl rfl)
theorem dX0_addPlayer_38 : decode cX0_addPlayer 38 = .ok (.putfield 95, 3) := dk_181 0 95 (dk_at dksX0_addPlayer_1 15 rfl rfl)
theorem dX0_addPlayer_41 : decode cX0_addPlayer 41 = .ok (.aload_n 0, 1) := dk_42 (dk_at dksX0_addPlayer_1 18 rfl rfl)
theorem dX0_addPlayer_42 : decode cX0_addPlayer 42 = .ok (.invokevirtual 109, 3) := dk_182 0 109 (dk_at dksX0_addPlayer_1 19 rfl rfl)
theorem dX0_addPlayer_45 : decode cX0_addPlayer 45 = .ok (.aload_n 0, 1) := dk_42 (dk_at dksX0_addPlayer_1 22 rfl rfl)
theorem dX0_addPlayer_46 : decode cX0_addPlayer 46 = .ok (.getfield 95, 3) := dk_180 0 95 (dk_at dksX0_addPlayer_2 0 rfl rfl)
theorem dX0_addPlayer_49 : decode cX0_addPlayer 49 = .ok (.iconst 1, 1) := dk_4 (dk_at dksX0_addPlayer_2 3 rfl rfl)
theorem dX0_addPlayer_50 : decode cX0_addPlayer 50 = .ok (.isub, 1) := dk_100 (dk_at dksX0_addPlayer_2 4 rfl rfl)
theorem dX0_addPlayer_51 : decode cX0_addPlayer 51 = .ok (.ireturn, 1) := dk_172 (dk_at dksX0_addPlayer_2 5 rfl rfl)
abbrev cX0_beginAnew : ByteArray := prog_1_method_65_code
def yX0_beginAnew : MethodName := ⟨RX0, "beginAnew", "()V"⟩
def dkwX0_beginAnew_0 : List UInt8 := [42, 3, 181, 1, 124, 42, 42, 182, 0, 102, 181, 0, 155, 42, 3, 181, 1, 128, 42, 3, 181, 1, 131, 177]
abbrev dktX0_beginAnew_0 : List UInt8 := dkwX0_beginAnew_0 ++ []
theorem dksX0_beginAnew_0 : cX0_beginAnew.data.toList.drop 0 = dktX0_beginAnew_0 := by decide +kernel
theorem dX0_beginAnew_0 : decode cX0_beginAnew 0 = .ok (.aload_n 0, 1) := dk_42 (dk_at dksX0_beginAnew_0 0 rfl rfl)
theorem dX0_beginAnew_1 : decode cX0_beginAnew 1 = .ok (.iconst 0, 1) := dk_3 (dk_at dksX0_beginAnew_0 1 rfl rfl)
theorem dX0_beginAnew_2 : decode cX0_beginAnew 2 = .ok (.putfield 380, 3) := dk_181 1 124 (dk_at dksX0_beginAnew_0 2 rfl rfl)
theorem dX0_beginAnew_5 : decode cX0_beginAnew 5 = .ok (.aload_n 0, 1) := dk_42 (dk_at dksX0_beginAnew_0 5 rfl rfl)
theorem dX0_beginAnew_6 : decode cX0_beginAnew 6 = .ok (.aload_n 0, 1) := dk_42 (dk_at dksX0_beginAnew_0 6 rfl rfl)
theorem dX0_beginAnew_7 : decode cX0_beginAnew 7 = .ok (.invokevirtual 102, 3) := dk_182 0 102 (dk_at dksX0_beginAnew_0 7 rfl rfl)
theorem dX0_beginAnew_10 : decode cX0_beginAnew 10 = .ok (.putfield 155, 3) := dk_181 0 155 (dk_at dksX0_beginAnew_0 10 rfl rfl)
theorem dX0_beginAnew_13 : decode cX0_beginAnew 13 = .ok (.aload_n 0, 1) := dk_42 (dk_at dksX0_beginAnew_0 13 rfl rfl)
theorem dX0_beginAnew_14 : decode cX0_beginAnew 14 = .ok (.iconst 0, 1) := dk_3 (dk_at dksX0_beginAnew_0 14 rfl rfl)
theorem dX0_beginAnew_15 : decode cX0_beginAnew 15 = .ok (.putfield 384, 3) := dk_181 1 128 (dk_at dksX0_beginAnew_0 15 rfl rfl)
theorem dX0_beginAnew_18 : decode cX0_beginAnew 18 = .ok (.aload_n 0, 1) := dk_42 (dk_at dksX0_beginAnew_0 18 rfl rfl)
theorem dX0_beginAnew_19 : decode cX0_beginAnew 19 = .ok (.iconst 0, 1) := dk_3 (dk_at dksX0_beginAnew_0 19 rfl rfl)
theorem dX0_beginAnew_20 : decode cX0_beginAnew 20 = .ok (.putfield 387, 3) := dk_181 1 131 (dk_at dksX0_beginAnew_0 20 rfl rfl)
theorem dX0_beginAnew_23 : decode cX0_beginAnew 23 = .ok (.return_, 1) := dk_177 (dk_at dksX0_beginAnew_0 23 rfl rfl)
abbrev cX0_everybody : ByteArray := prog_1_method_5_code
def yX0_everybody : MethodName := ⟨RX0, "everybody", "()I"⟩
def dkwX0_everybody_0 : List UInt8 := [4, 42, 180, 0, 95, 120, 4, 100, 172]
abbrev dktX0_everybody_0 : List UInt8 := dkwX0_everybody_0 ++ []
theorem dksX0_everybody_0 : cX0_everybody.data.toList.drop 0 = dktX0_everybody_0 := by decide +kernel
theorem dX0_everybody_0 : decode cX0_everybody 0 = .ok (.iconst 1, 1) := dk_4 (dk_at dksX0_everybody_0 0 rfl rfl)
theorem dX0_everybody_1 : decode cX0_everybody 1 = .ok (.aload_n 0, 1) := dk_42 (dk_at dksX0_everybody_0 1 rfl rfl)
theorem dX0_everybody_2 : decode cX0_everybody 2 = .ok (.getfield 95, 3) := dk_180 0 95 (dk_at dksX0_everybody_0 2 rfl rfl)
theorem dX0_everybody_5 : decode cX0_everybody 5 = .ok (.ishl, 1) := dk_120 (dk_at dksX0_everybody_0 5 rfl rfl)
theorem dX0_everybody_6 : decode cX0_everybody 6 = .ok (.iconst 1, 1) := dk_4 (dk_at dksX0_everybody_0 6 rfl rfl)
theorem dX0_everybody_7 : decode cX0_everybody 7 = .ok (.isub, 1) := dk_100 (dk_at dksX0_everybody_0 7 rfl rfl)
theorem dX0_everybody_8 : decode cX0_everybody 8 = .ok (.ireturn, 1) := dk_172 (dk_at dksX0_everybody_0 8 rfl rfl)
abbrev cX0_players : ByteArray := prog_1_method_11_code
def yX0_players : MethodName := ⟨RX0, "players", "(III)I"⟩
def dkwX0_players_5 : List UInt8 := [172, 58, 5, 21, 4, 172, 58, 5, 21, 4, 172, 21, 4, 172]
abbrev dktX0_players_5 : List UInt8 := dkwX0_players_5 ++ []
def dkwX0_players_4 : List UInt8 := [21, 7, 21, 8, 182, 0, 116, 87, 132, 4, 1, 132, 6, 1, 167, 255, 184, 167, 0, 18, 58, 5, 16, 244]
abbrev dktX0_players_4 : List UInt8 := dkwX0_players_4 ++ dktX0_players_5
def dkwX0_players_3 : List UInt8 := [96, 4, 96, 182, 0, 126, 136, 54, 8, 21, 7, 21, 8, 184, 0, 112, 154, 0, 6, 21, 4, 172, 42]
abbrev dktX0_players_3 : List UInt8 := dkwX0_players_3 ++ dktX0_players_4
def dkwX0_players_2 : List UInt8 := [162, 0, 64, 25, 5, 28, 5, 21, 6, 104, 96, 182, 0, 126, 136, 54, 7, 25, 5, 28, 5, 21, 6, 104]
abbrev dktX0_players_2 : List UInt8 := dkwX0_players_2 ++ dktX0_players_3
def dkwX0_players_1 : List UInt8 := [180, 0, 91, 27, 50, 192, 0, 124, 58, 5, 3, 54, 6, 21, 6, 29, 162, 0, 72, 42, 180, 0, 95, 7]
abbrev dktX0_players_1 : List UInt8 := dkwX0_players_1 ++ dktX0_players_2
def dkwX0_players_0 : List UInt8 := [27, 184, 0, 120, 153, 0, 12, 29, 4, 7, 184, 0, 98, 154, 0, 5, 2, 172, 3, 54, 4, 42]
abbrev dktX0_players_0 : List UInt8 := dkwX0_players_0 ++ dktX0_players_1
theorem dksX0_players_0 : cX0_players.data.toList.drop 0 = dktX0_players_0 := by decide +kernel
theorem dksX0_players_1 : cX0_players.data.toList.drop 22 = dktX0_players_1 := dk_seg dksX0_players_0 22 rfl rfl
theorem dksX0_players_2 : cX0_players.data.toList.drop 46 = dktX0_players_2 := dk_seg dksX0_players_1 24 rfl rfl
theorem dksX0_players_3 : cX0_players.data.toList.drop 70 = dktX0_players_3 := dk_seg dksX0_players_2 24 rfl rfl
theorem dksX0_players_4 : cX0_players.data.toList.drop 93 = dktX0_players_4 := dk_seg dksX0_players_3 23 rfl rfl
theorem dksX0_players_5 : cX0_players.data.toList.drop 117 = dktX0_players_5 := dk_seg dksX0_players_4 24 rfl rfl
theorem dX0_players_0 : decode cX0_players 0 = .ok (.iload_n 1, 1) := dk_27 (dk_at dksX0_players_0 0 rfl rfl)
theorem dX0_players_1 : decode cX0_players 1 = .ok (.invokestatic 120, 3) := dk_184 0 120 (dk_at dksX0_players_0 1 rfl rfl)
theorem dX0_players_4 : decode cX0_players 4 = .ok (.ifCond .eq 12, 3) := dk_153 0 12 (dk_at dksX0_players_0 4 rfl rfl)
theorem dX0_players_7 : decode cX0_players 7 = .ok (.iload_n 3, 1) := dk_29 (dk_at dksX0_players_0 7 rfl rfl)
theorem dX0_players_8 : decode cX0_players 8 = .ok (.iconst 1, 1) := dk_4 (dk_at dksX0_players_0 8 rfl rfl)
theorem dX0_players_9 : decode cX0_players 9 = .ok (.iconst 4, 1) := dk_7 (dk_at dksX0_players_0 9 rfl rfl)
theorem dX0_players_10 : decode cX0_players 10 = .ok (.invokestatic 98, 3) := dk_184 0 98 (dk_at dksX0_players_0 10 rfl rfl)
theorem dX0_players_13 : decode cX0_players 13 = .ok (.ifCond .ne 5, 3) := dk_154 0 5 (dk_at dksX0_players_0 13 rfl rfl)
theorem dX0_players_16 : decode cX0_players 16 = .ok (.iconst (-1), 1) := dk_2 (dk_at dksX0_players_0 16 rfl rfl)
theorem dX0_players_17 : decode cX0_players 17 = .ok (.ireturn, 1) := dk_172 (dk_at dksX0_players_0 17 rfl rfl)
theorem dX0_players_18 : decode cX0_players 18 = .ok (.iconst 0, 1) := dk_3 (dk_at dksX0_players_0 18 rfl rfl)
theorem dX0_players_19 : decode cX0_players 19 = .ok (.istore 4, 2) := dk_54 4 (dk_at dksX0_players_0 19 rfl rfl)
theorem dX0_players_21 : decode cX0_players 21 = .ok (.aload_n 0, 1) := dk_42 (dk_at dksX0_players_0 21 rfl rfl)
theorem dX0_players_22 : decode cX0_players 22 = .ok (.getfield 91, 3) := dk_180 0 91 (dk_at dksX0_players_1 0 rfl rfl)
theorem dX0_players_25 : decode cX0_players 25 = .ok (.iload_n 1, 1) := dk_27 (dk_at dksX0_players_1 3 rfl rfl)
theorem dX0_players_26 : decode cX0_players 26 = .ok (.aaload, 1) := dk_50 (dk_at dksX0_players_1 4 rfl rfl)
theorem dX0_players_27 : decode cX0_players 27 = .ok (.checkcast 124, 3) := dk_192 0 124 (dk_at dksX0_players_1 5 rfl rfl)
theorem dX0_players_30 : decode cX0_players 30 = .ok (.astore 5, 2) := dk_58 5 (dk_at dksX0_players_1 8 rfl rfl)
theorem dX0_players_32 : decode cX0_players 32 = .ok (.iconst 0, 1) := dk_3 (dk_at dksX0_players_1 10 rfl rfl)
theorem dX0_players_33 : decode cX0_players 33 = .ok (.istore 6, 2) := dk_54 6 (dk_at dksX0_players_1 11 rfl rfl)
theorem dX0_players_35 : decode cX0_players 35 = .ok (.iload 6, 2) := dk_21 6 (dk_at dksX0_players_1 13 rfl rfl)
theorem dX0_players_37 : decode cX0_players 37 = .ok (.iload_n 3, 1) := dk_29 (dk_at dksX0_players_1 15 rfl rfl)
theorem dX0_players_38 : decode cX0_players 38 = .ok (.if_icmp .ge 72, 3) := dk_162 0 72 (dk_at dksX0_players_1 16 rfl rfl)
theorem dX0_players_41 : decode cX0_players 41 = .ok (.aload_n 0, 1) := dk_42 (dk_at dksX0_players_1 19 rfl rfl)
theorem dX0_players_42 : decode cX0_players 42 = .ok (.getfield 95, 3) := dk_180 0 95 (dk_at dksX0_players_1 20 rfl rfl)
theorem dX0_players_45 : decode cX0_players 45 = .ok (.iconst 4, 1) := dk_7 (dk_at dksX0_players_1 23 rfl rfl)
theorem dX0_players_46 : decode cX0_players 46 = .ok (.if_icmp .ge 64, 3) := dk_162 0 64 (dk_at dksX0_players_2 0 rfl rfl)
theorem dX0_players_49 : decode cX0_players 49 = .ok (.aload 5, 2) := dk_25 5 (dk_at dksX0_players_2 3 rfl rfl)
theorem dX0_players_51 : decode cX0_players 51 = .ok (.iload_n 2, 1) := dk_28 (dk_at dksX0_players_2 5 rfl rfl)
theorem dX0_players_52 : decode cX0_players 52 = .ok (.iconst 2, 1) := dk_5 (dk_at dksX0_players_2 6 rfl rfl)
theorem dX0_players_53 : decode cX0_players 53 = .ok (.iload 6, 2) := dk_21 6 (dk_at dksX0_players_2 7 rfl rfl)
theorem dX0_players_55 : decode cX0_players 55 = .ok (.imul, 1) := dk_104 (dk_at dksX0_players_2 9 rfl rfl)
theorem dX0_players_56 : decode cX0_players 56 = .ok (.iadd, 1) := dk_96 (dk_at dksX0_players_2 10 rfl rfl)
theorem dX0_players_57 : decode cX0_players 57 = .ok (.invokevirtual 126, 3) := dk_182 0 126 (dk_at dksX0_players_2 11 rfl rfl)
theorem dX0_players_60 : decode cX0_players 60 = .ok (.l2i, 1) := dk_136 (dk_at dksX0_players_2 14 rfl rfl)
theorem dX0_players_61 : decode cX0_players 61 = .ok (.istore 7, 2) := dk_54 7 (dk_at dksX0_players_2 15 rfl rfl)
theorem dX0_players_63 : decode cX0_players 63 = .ok (.aload 5, 2) := dk_25 5 (dk_at dksX0_players_2 17 rfl rfl)
theorem dX0_players_65 : decode cX0_players 65 = .ok (.iload_n 2, 1) := dk_28 (dk_at dksX0_players_2 19 rfl rfl)
theorem dX0_players_66 : decode cX0_players 66 = .ok (.iconst 2, 1) := dk_5 (dk_at dksX0_players_2 20 rfl rfl)
theorem dX0_players_67 : decode cX0_players 67 = .ok (.iload 6, 2) := dk_21 6 (dk_at dksX0_players_2 21 rfl rfl)
theorem dX0_players_69 : decode cX0_players 69 = .ok (.imul, 1) := dk_104 (dk_at dksX0_players_2 23 rfl rfl)
theorem dX0_players_70 : decode cX0_players 70 = .ok (.iadd, 1) := dk_96 (dk_at dksX0_players_3 0 rfl rfl)
theorem dX0_players_71 : decode cX0_players 71 = .ok (.iconst 1, 1) := dk_4 (dk_at dksX0_players_3 1 rfl rfl)
theorem dX0_players_72 : decode cX0_players 72 = .ok (.iadd, 1) := dk_96 (dk_at dksX0_players_3 2 rfl rfl)
theorem dX0_players_73 : decode cX0_players 73 = .ok (.invokevirtual 126, 3) := dk_182 0 126 (dk_at dksX0_players_3 3 rfl rfl)
theorem dX0_players_76 : decode cX0_players 76 = .ok (.l2i, 1) := dk_136 (dk_at dksX0_players_3 6 rfl rfl)
theorem dX0_players_77 : decode cX0_players 77 = .ok (.istore 8, 2) := dk_54 8 (dk_at dksX0_players_3 7 rfl rfl)
theorem dX0_players_79 : decode cX0_players 79 = .ok (.iload 7, 2) := dk_21 7 (dk_at dksX0_players_3 9 rfl rfl)
theorem dX0_players_81 : decode cX0_players 81 = .ok (.iload 8, 2) := dk_21 8 (dk_at dksX0_players_3 11 rfl rfl)
theorem dX0_players_83 : decode cX0_players 83 = .ok (.invokestatic 112, 3) := dk_184 0 112 (dk_at dksX0_players_3 13 rfl rfl)
theorem dX0_players_86 : decode cX0_players 86 = .ok (.ifCond .ne 6, 3) := dk_154 0 6 (dk_at dksX0_players_3 16 rfl rfl)
theorem dX0_players_89 : decode cX0_players 89 = .ok (.iload 4, 2) := dk_21 4 (dk_at dksX0_players_3 19 rfl rfl)
theorem dX0_players_91 : decode cX0_players 91 = .ok (.ireturn, 1) := dk_172 (dk_at dksX0_players_3 21 rfl rfl)
theorem dX0_players_92 : decode cX0_players 92 = .ok (.aload_n 0, 1) := dk_42 (dk_at dksX0_players_3 22 rfl rfl)
theorem dX0_players_93 : decode cX0_players 93 = .ok (.iload 7, 2) := dk_21 7 (dk_at dksX0_players_4 0 rfl rfl)
theorem dX0_players_95 : decode cX0_players 95 = .ok (.iload 8, 2) := dk_21 8 (dk_at dksX0_players_4 2 rfl rfl)
theorem dX0_players_97 : decode cX0_players 97 = .ok (.invokevirtual 116, 3) := dk_182 0 116 (dk_at dksX0_players_4 4 rfl rfl)
theorem dX0_players_100 : decode cX0_players 100 = .ok (.pop, 1) := dk_87 (dk_at dksX0_players_4 7 rfl rfl)
theorem dX0_players_101 : decode cX0_players 101 = .ok (.iinc 4 1, 3) := dk_132 4 1 (dk_at dksX0_players_4 8 rfl rfl)
theorem dX0_players_104 : decode cX0_players 104 = .ok (.iinc 6 1, 3) := dk_132 6 1 (dk_at dksX0_players_4 11 rfl rfl)
theorem dX0_players_107 : decode cX0_players 107 = .ok (.goto (-72), 3) := dk_167 255 184 (dk_at dksX0_players_4 14 rfl rfl)
theorem dX0_players_110 : decode cX0_players 110 = .ok (.goto 18, 3) := dk_167 0 18 (dk_at dksX0_players_4 17 rfl rfl)
theorem dX0_players_113 : decode cX0_players 113 = .ok (.astore 5, 2) := dk_58 5 (dk_at dksX0_players_4 20 rfl rfl)
theorem dX0_players_115 : decode cX0_players 115 = .ok (.bipush (-12), 2) := dk_16 244 (dk_at dksX0_players_4 22 rfl rfl)
theorem dX0_players_117 : decode cX0_players 117 = .ok (.ireturn, 1) := dk_172 (dk_at dksX0_players_5 0 rfl rfl)
theorem dX0_players_118 : decode cX0_players 118 = .ok (.astore 5, 2) := dk_58 5 (dk_at dksX0_players_5 1 rfl rfl)
theorem dX0_players_120 : decode cX0_players 120 = .ok (.iload 4, 2) := dk_21 4 (dk_at dksX0_players_5 3 rfl rfl)
theorem dX0_players_122 : decode cX0_players 122 = .ok (.ireturn, 1) := dk_172 (dk_at dksX0_players_5 5 rfl rfl)
theorem dX0_players_123 : decode cX0_players 123 = .ok (.astore 5, 2) := dk_58 5 (dk_at dksX0_players_5 6 rfl rfl)
theorem dX0_players_125 : decode cX0_players 125 = .ok (.iload 4, 2) := dk_21 4 (dk_at dksX0_players_5 8 rfl rfl)
theorem dX0_players_127 : decode cX0_players 127 = .ok (.ireturn, 1) := dk_172 (dk_at dksX0_players_5 10 rfl rfl)
theorem dX0_players_128 : decode cX0_players 128 = .ok (.iload 4, 2) := dk_21 4 (dk_at dksX0_players_5 11 rfl rfl)
theorem dX0_players_130 : decode cX0_players 130 = .ok (.ireturn, 1) := dk_172 (dk_at dksX0_players_5 13 rfl rfl)
abbrev cX0_isShelf : ByteArray := prog_1_method_74_code
def yX0_isShelf : MethodName := ⟨RX0, "isShelf", "(I)Z"⟩
def dkwX0_isShelf_0 : List UInt8 := [26, 3, 8, 184, 0, 98, 172]
abbrev dktX0_isShelf_0 : List UInt8 := dkwX0_isShelf_0 ++ []
theorem dksX0_isShelf_0 : cX0_isShelf.data.toList.drop 0 = dktX0_isShelf_0 := by decide +kernel
theorem dX0_isShelf_0 : decode cX0_isShelf 0 = .ok (.iload_n 0, 1) := dk_26 (dk_at dksX0_isShelf_0 0 rfl rfl)
theorem dX0_isShelf_1 : decode cX0_isShelf 1 = .ok (.iconst 0, 1) := dk_3 (dk_at dksX0_isShelf_0 1 rfl rfl)
theorem dX0_isShelf_2 : decode cX0_isShelf 2 = .ok (.iconst 5, 1) := dk_8 (dk_at dksX0_isShelf_0 2 rfl rfl)
theorem dX0_isShelf_3 : decode cX0_isShelf 3 = .ok (.invokestatic 98, 3) := dk_184 0 98 (dk_at dksX0_isShelf_0 3 rfl rfl)
theorem dX0_isShelf_6 : decode cX0_isShelf 6 = .ok (.ireturn, 1) := dk_172 (dk_at dksX0_isShelf_0 6 rfl rfl)
abbrev cX0_order : ByteArray := prog_1_method_12_code
def yX0_order : MethodName := ⟨RX0, "order", "(I)I"⟩
def dkwX0_order_5 : List UInt8 := [4, 172]
abbrev dktX0_order_5 : List UInt8 := dkwX0_order_5 ++ []
def dkwX0_order_4 : List UInt8 := [21, 4, 28, 16, 10, 112, 4, 100, 79, 28, 16, 10, 108, 61, 132, 4, 255, 167, 255, 230, 42, 182, 0, 109]
abbrev dktX0_order_4 : List UInt8 := dkwX0_order_4 ++ dktX0_order_5
def dkwX0_order_3 : List UInt8 := [153, 0, 5, 2, 172, 27, 61, 42, 180, 0, 95, 4, 100, 54, 4, 21, 4, 155, 0, 27, 42, 180, 0, 15]
abbrev dktX0_order_3 : List UInt8 := dkwX0_order_3 ++ dktX0_order_4
def dkwX0_order_2 : List UInt8 := [184, 0, 139, 153, 0, 5, 2, 172, 29, 4, 21, 5, 120, 128, 62, 132, 4, 1, 167, 255, 204, 28]
abbrev dktX0_order_2 : List UInt8 := dkwX0_order_2 ++ dktX0_order_3
def dkwX0_order_1 : List UInt8 := [16, 10, 112, 4, 100, 54, 5, 28, 16, 10, 108, 61, 42, 21, 5, 182, 0, 136, 153, 0, 12, 29, 21, 5]
abbrev dktX0_order_1 : List UInt8 := dkwX0_order_1 ++ dktX0_order_2
def dkwX0_order_0 : List UInt8 := [27, 156, 0, 5, 2, 172, 27, 61, 3, 62, 3, 54, 4, 21, 4, 42, 180, 0, 95, 162, 0, 49, 28]
abbrev dktX0_order_0 : List UInt8 := dkwX0_order_0 ++ dktX0_order_1
theorem dksX0_order_0 : cX0_order.data.toList.drop 0 = dktX0_order_0 := by decide +kernel
theorem dksX0_order_1 : cX0_order.data.toList.drop 23 = dktX0_order_1 := dk_seg dksX0_order_0 23 rfl rfl
theorem dksX0_order_2 : cX0_order.data.toList.drop 47 = dktX0_order_2 := dk_seg dksX0_order_1 24 rfl rfl
theorem dksX0_order_3 : cX0_order.data.toList.drop 69 = dktX0_order_3 := dk_seg dksX0_order_2 22 rfl rfl
theorem dksX0_order_4 : cX0_order.data.toList.drop 93 = dktX0_order_4 := dk_seg dksX0_order_3 24 rfl rfl
theorem dksX0_order_5 : cX0_order.data.toList.drop 117 = dktX0_order_5 := dk_seg dksX0_order_4 24 rfl rfl
theorem dX0_order_0 : decode cX0_order 0 = .ok (.iload_n 1, 1) := dk_27 (dk_at dksX0_order_0 0 rfl rfl)
theorem dX0_order_1 : decode cX0_order 1 = .ok (.ifCond .ge 5, 3) := dk_156 0 5 (dk_at dksX0_order_0 1 rfl rfl)
theorem dX0_order_4 : decode cX0_order 4 = .ok (.iconst (-1), 1) := dk_2 (dk_at dksX0_order_0 4 rfl rfl)
theorem dX0_order_5 : decode cX0_order 5 = .ok (.ireturn, 1) := dk_172 (dk_at dksX0_order_0 5 rfl rfl)
theorem dX0_order_6 : decode cX0_order 6 = .ok (.iload_n 1, 1) := dk_27 (dk_at dksX0_order_0 6 rfl rfl)
theorem dX0_order_7 : decode cX0_order 7 = .ok (.istore_n 2, 1) := dk_61 (dk_at dksX0_order_0 7 rfl rfl)
theorem dX0_order_8 : decode cX0_order 8 = .ok (.iconst 0, 1) := dk_3 (dk_at dksX0_order_0 8 rfl rfl)
theorem dX0_order_9 : decode cX0_order 9 = .ok (.istore_n 3, 1) := dk_62 (dk_at dksX0_order_0 9 rfl rfl)
theorem dX0_order_10 : decode cX0_order 10 = .ok (.iconst 0, 1) := dk_3 (dk_at dksX0_order_0 10 rfl rfl)
theorem dX0_order_11 : decode cX0_order 11 = .ok (.istore 4, 2) := dk_54 4 (dk_at dksX0_order_0 11 rfl rfl)
theorem dX0_order_13 : decode cX0_order 13 = .ok (.iload 4, 2) := dk_21 4 (dk_at dksX0_order_0 13 rfl rfl)
theorem dX0_order_15 : decode cX0_order 15 = .ok (.aload_n 0, 1) := dk_42 (dk_at dksX0_order_0 15 rfl rfl)
theorem dX0_order_16 : decode cX0_order 16 = .ok (.getfield 95, 3) := dk_180 0 95 (dk_at dksX0_order_0 16 rfl rfl)
theorem dX0_order_19 : decode cX0_order 19 = .ok (.if_icmp .ge 49, 3) := dk_162 0 49 (dk_at dksX0_order_0 19 rfl rfl)
theorem dX0_order_22 : decode cX0_order 22 = .ok (.iload_n 2, 1) := dk_28 (dk_at dksX0_order_0 22 rfl rfl)
theorem dX0_order_23 : decode cX0_order 23 = .ok (.bipush 10, 2) := dk_16 10 (dk_at dksX0_order_1 0 rfl rfl)
theorem dX0_order_25 : decode cX0_order 25 = .ok (.irem, 1) := dk_112 (dk_at dksX0_order_1 2 rfl rfl)
theorem dX0_order_26 : decode cX0_order 26 = .ok (.iconst 1, 1) := dk_4 (dk_at dksX0_order_1 3 rfl rfl)
theorem dX0_order_27 : decode cX0_order 27 = .ok (.isub, 1) := dk_100 (dk_at dksX0_order_1 4 rfl rfl)
theorem dX0_order_28 : decode cX0_order 28 = .ok (.istore 5, 2) := dk_54 5 (dk_at dksX0_order_1 5 rfl rfl)
theorem dX0_order_30 : decode cX0_order 30 = .ok (.iload_n 2, 1) := dk_28 (dk_at dksX0_order_1 7 rfl rfl)
theorem dX0_order_31 : decode cX0_order 31 = .ok (.bipush 10, 2) := dk_16 10 (dk_at dksX0_order_1 8 rfl rfl)
theorem dX0_order_33 : decode cX0_order 33 = .ok (.idiv, 1) := dk_108 (dk_at dksX0_order_1 10 rfl rfl)
theorem dX0_order_34 : decode cX0_order 34 = .ok (.istore_n 2, 1) := dk_61 (dk_at dksX0_order_1 11 rfl rfl)
theorem dX0_order_35 : decode cX0_order 35 = .ok (.aload_n 0, 1) := dk_42 (dk_at dksX0_order_1 12 rfl rfl)
theorem dX0_order_36 : decode cX0_order 36 = .ok (.iload 5, 2) := dk_21 5 (dk_at dksX0_order_1 13 rfl rfl)
theorem dX0_order_38 : decode cX0_order 38 = .ok (.invokevirtual 136, 3) := dk_182 0 136 (dk_at dksX0_order_1 15 rfl rfl)
theorem dX0_order_41 : decode cX0_order 41 = .ok (.ifCond .eq 12, 3) := dk_153 0 12 (dk_at dksX0_order_1 18 rfl rfl)
theorem dX0_order_44 : decode cX0_order 44 = .ok (.iload_n 3, 1) := dk_29 (dk_at dksX0_order_1 21 rfl rfl)
theorem dX0_order_45 : decode cX0_order 45 = .ok (.iload 5, 2) := dk_21 5 (dk_at dksX0_order_1 22 rfl rfl)
theorem dX0_order_47 : decode cX0_order 47 = .ok (.invokestatic 139, 3) := dk_184 0 139 (dk_at dksX0_order_2 0 rfl rfl)
theorem dX0_order_50 : decode cX0_order 50 = .ok (.ifCond .eq 5, 3) := dk_153 0 5 (dk_at dksX0_order_2 3 rfl rfl)
theorem dX0_order_53 : decode cX0_order 53 = .ok (.iconst (-1), 1) := dk_2 (dk_at dksX0_order_2 6 rfl rfl)
theorem dX0_order_54 : decode cX0_order 54 = .ok (.ireturn, 1) := dk_172 (dk_at dksX0_order_2 7 rfl rfl)
theorem dX0_order_55 : decode cX0_order 55 = .ok (.iload_n 3, 1) := dk_29 (dk_at dksX0_order_2 8 rfl rfl)
theorem dX0_order_56 : decode cX0_order 56 = .ok (.iconst 1, 1) := dk_4 (dk_at dksX0_order_2 9 rfl rfl)
theorem dX0_order_57 : decode cX0_order 57 = .ok (.iload 5, 2) := dk_21 5 (dk_at dksX0_order_2 10 rfl rfl)
theorem dX0_order_59 : decode cX0_order 59 = .ok (.ishl, 1) := dk_120 (dk_at dksX0_order_2 12 rfl rfl)
theorem dX0_order_60 : decode cX0_order 60 = .ok (.ior, 1) := dk_128 (dk_at dksX0_order_2 13 rfl rfl)
theorem dX0_order_61 : decode cX0_order 61 = .ok (.istore_n 3, 1) := dk_62 (dk_at dksX0_order_2 14 rfl rfl)
theorem dX0_order_62 : decode cX0_order 62 = .ok (.iinc 4 1, 3) := dk_132 4 1 (dk_at dksX0_order_2 15 rfl rfl)
theorem dX0_order_65 : decode cX0_order 65 = .ok (.goto (-52), 3) := dk_167 255 204 (dk_at dksX0_order_2 18 rfl rfl)
theorem dX0_order_68 : decode cX0_order 68 = .ok (.iload_n 2, 1) := dk_28 (dk_at dksX0_order_2 21 rfl rfl)
theorem dX0_order_69 : decode cX0_order 69 = .ok (.ifCond .eq 5, 3) := dk_153 0 5 (dk_at dksX0_order_3 0 rfl rfl)
theorem dX0_order_72 : decode cX0_order 72 = .ok (.iconst (-1), 1) := dk_2 (dk_at dksX0_order_3 3 rfl rfl)
theorem dX0_order_73 : decode cX0_order 73 = .ok (.ireturn, 1) := dk_172 (dk_at dksX0_order_3 4 rfl rfl)
theorem dX0_order_74 : decode cX0_order 74 = .ok (.iload_n 1, 1) := dk_27 (dk_at dksX0_order_3 5 rfl rfl)
theorem dX0_order_75 : decode cX0_order 75 = .ok (.istore_n 2, 1) := dk_61 (dk_at dksX0_order_3 6 rfl rfl)
theorem dX0_order_76 : decode cX0_order 76 = .ok (.aload_n 0, 1) := dk_42 (dk_at dksX0_order_3 7 rfl rfl)
theorem dX0_order_77 : decode cX0_order 77 = .ok (.getfield 95, 3) := dk_180 0 95 (dk_at dksX0_order_3 8 rfl rfl)
theorem dX0_order_80 : decode cX0_order 80 = .ok (.iconst 1, 1) := dk_4 (dk_at dksX0_order_3 11 rfl rfl)
theorem dX0_order_81 : decode cX0_order 81 = .ok (.isub, 1) := dk_100 (dk_at dksX0_order_3 12 rfl rfl)
theorem dX0_order_82 : decode cX0_order 82 = .ok (.istore 4, 2) := dk_54 4 (dk_at dksX0_order_3 13 rfl rfl)
theorem dX0_order_84 : decode cX0_order 84 = .ok (.iload 4, 2) := dk_21 4 (dk_at dksX0_order_3 15 rfl rfl)
theorem dX0_order_86 : decode cX0_order 86 = .ok (.ifCond .lt 27, 3) := dk_155 0 27 (dk_at dksX0_order_3 17 rfl rfl)
theorem dX0_order_89 : decode cX0_order 89 = .ok (.aload_n 0, 1) := dk_42 (dk_at dksX0_order_3 20 rfl rfl)
theorem dX0_order_90 : decode cX0_order 90 = .ok (.getfield 15, 3) := dk_180 0 15 (dk_at dksX0_order_3 21 rfl rfl)
theorem dX0_order_93 : decode cX0_order 93 = .ok (.iload 4, 2) := dk_21 4 (dk_at dksX0_order_4 0 rfl rfl)
theorem dX0_order_95 : decode cX0_order 95 = .ok (.iload_n 2, 1) := dk_28 (dk_at dksX0_order_4 2 rfl rfl)
theorem dX0_order_96 : decode cX0_order 96 = .ok (.bipush 10, 2) := dk_16 10 (dk_at dksX0_order_4 3 rfl rfl)
theorem dX0_order_98 : decode cX0_order 98 = .ok (.irem, 1) := dk_112 (dk_at dksX0_order_4 5 rfl rfl)
theorem dX0_order_99 : decode cX0_order 99 = .ok (.iconst 1, 1) := dk_4 (dk_at dksX0_order_4 6 rfl rfl)
theorem dX0_order_100 : decode cX0_order 100 = .ok (.isub, 1) := dk_100 (dk_at dksX0_order_4 7 rfl rfl)
theorem dX0_order_101 : decode cX0_order 101 = .ok (.iastore, 1) := dk_79 (dk_at dksX0_order_4 8 rfl rfl)
theorem dX0_order_102 : decode cX0_order 102 = .ok (.iload_n 2, 1) := dk_28 (dk_at dksX0_order_4 9 rfl rfl)
theorem dX0_order_103 : decode cX0_order 103 = .ok (.bipush 10, 2) := dk_16 10 (dk_at dksX0_order_4 10 rfl rfl)
theorem dX0_order_105 : decode cX0_order 105 = .ok (.idiv, 1) := dk_108 (dk_at dksX0_order_4 12 rfl rfl)
theorem dX0_order_106 : decode cX0_order 106 = .ok (.istore_n 2, 1) := dk_61 (dk_at dksX0_order_4 13 rfl rfl)
theorem dX0_order_107 : decode cX0_order 107 = .ok (.iinc 4 (-1), 3) := dk_132 4 255 (dk_at dksX0_order_4 14 rfl rfl)
theorem dX0_order_110 : decode cX0_order 110 = .ok (.goto (-26), 3) := dk_167 255 230 (dk_at dksX0_order_4 17 rfl rfl)
theorem dX0_order_113 : decode cX0_order 113 = .ok (.aload_n 0, 1) := dk_42 (dk_at dksX0_order_4 20 rfl rfl)
theorem dX0_order_114 : decode cX0_order 114 = .ok (.invokevirtual 109, 3) := dk_182 0 109 (dk_at dksX0_order_4 21 rfl rfl)
theorem dX0_order_117 : decode cX0_order 117 = .ok (.iconst 1, 1) := dk_4 (dk_at dksX0_order_5 0 rfl rfl)
theorem dX0_order_118 : decode cX0_order 118 = .ok (.ireturn, 1) := dk_172 (dk_at dksX0_order_5 1 rfl rfl)
abbrev cX0_isPlayer : ByteArray := prog_1_method_4_code
def yX0_isPlayer : MethodName := ⟨RX0, "isPlayer", "(I)Z"⟩
def dkwX0_isPlayer_0 : List UInt8 := [27, 3, 42, 180, 0, 95, 4, 100, 184, 0, 98, 172]
abbrev dktX0_isPlayer_0 : List UInt8 := dkwX0_isPlayer_0 ++ []
theorem dksX0_isPlayer_0 : cX0_isPlayer.data.toList.drop 0 = dktX0_isPlayer_0 := by decide +kernel
theorem dX0_isPlayer_0 : decode cX0_isPlayer 0 = .ok (.iload_n 1, 1) := dk_27 (dk_at dksX0_isPlayer_0 0 rfl rfl)
theorem dX0_isPlayer_1 : decode cX0_isPlayer 1 = .ok (.iconst 0, 1) := dk_3 (dk_at dksX0_isPlayer_0 1 rfl rfl)
theorem dX0_isPlayer_2 : decode cX0_isPlayer 2 = .ok (.aload_n 0, 1) := dk_42 (dk_at dksX0_isPlayer_0 2 rfl rfl)
theorem dX0_isPlayer_3 : decode cX0_isPlayer 3 = .ok (.getfield 95, 3) := dk_180 0 95 (dk_at dksX0_isPlayer_0 3 rfl rfl)
theorem dX0_isPlayer_6 : decode cX0_isPlayer 6 = .ok (.iconst 1, 1) := dk_4 (dk_at dksX0_isPlayer_0 6 rfl rfl)
theorem dX0_isPlayer_7 : decode cX0_isPlayer 7 = .ok (.isub, 1) := dk_100 (dk_at dksX0_isPlayer_0 7 rfl rfl)
theorem dX0_isPlayer_8 : decode cX0_isPlayer 8 = .ok (.invokestatic 98, 3) := dk_184 0 98 (dk_at dksX0_isPlayer_0 8 rfl rfl)
theorem dX0_isPlayer_11 : decode cX0_isPlayer 11 = .ok (.ireturn, 1) := dk_172 (dk_at dksX0_isPlayer_0 11 rfl rfl)
abbrev cX0_has : ByteArray := prog_1_method_3_code
def yX0_has : MethodName := ⟨RX0, "has", "(II)Z"⟩
def dkwX0_has_0 : List UInt8 := [26, 27, 122, 4, 126, 4, 160, 0, 7, 4, 167, 0, 4, 3, 172]
abbrev dktX0_has_0 : List UInt8 := dkwX0_has_0 ++ []
theorem dksX0_has_0 : cX0_has.data.toList.drop 0 = dktX0_has_0 := by decide +kernel
theorem dX0_has_0 : decode cX0_has 0 = .ok (.iload_n 0, 1) := dk_26 (dk_at dksX0_has_0 0 rfl rfl)
theorem dX0_has_1 : decode cX0_has 1 = .ok (.iload_n 1, 1) := dk_27 (dk_at dksX0_has_0 1 rfl rfl)
theorem dX0_has_2 : decode cX0_has 2 = .ok (.ishr, 1) := dk_122 (dk_at dksX0_has_0 2 rfl rfl)
theorem dX0_has_3 : decode cX0_has 3 = .ok (.iconst 1, 1) := dk_4 (dk_at dksX0_has_0 3 rfl rfl)
theorem dX0_has_4 : decode cX0_has 4 = .ok (.iand, 1) := dk_126 (dk_at dksX0_has_0 4 rfl rfl)
theorem dX0_has_5 : decode cX0_has 5 = .ok (.iconst 1, 1) := dk_4 (dk_at dksX0_has_0 5 rfl rfl)
theorem dX0_has_6 : decode cX0_has 6 = .ok (.if_icmp .ne 7, 3) := dk_160 0 7 (dk_at dksX0_has_0 6 rfl rfl)
theorem dX0_has_9 : decode cX0_has 9 = .ok (.iconst 1, 1) := dk_4 (dk_at dksX0_has_0 9 rfl rfl)
theorem dX0_has_10 : decode cX0_has 10 = .ok (.goto 4, 3) := dk_167 0 4 (dk_at dksX0_has_0 10 rfl rfl)
theorem dX0_has_13 : decode cX0_has 13 = .ok (.iconst 0, 1) := dk_3 (dk_at dksX0_has_0 13 rfl rfl)
theorem dX0_has_14 : decode cX0_has 14 = .ok (.ireturn, 1) := dk_172 (dk_at dksX0_has_0 14 rfl rfl)
abbrev cX0_bell : ByteArray := prog_1_method_13_code
def yX0_bell : MethodName := ⟨RX0, "bell", "(I)I"⟩
def dkwX0_bell_1 : List UInt8 := [182, 0, 109, 28, 172]
abbrev dktX0_bell_1 : List UInt8 := dkwX0_bell_1 ++ []
def dkwX0_bell_0 : List UInt8 := [27, 3, 16, 9, 184, 0, 98, 154, 0, 5, 2, 172, 42, 180, 0, 22, 61, 42, 27, 181, 0, 22, 42]
abbrev dktX0_bell_0 : List UInt8 := dkwX0_bell_0 ++ dktX0_bell_1
theorem dksX0_bell_0 : cX0_bell.data.toList.drop 0 = dktX0_bell_0 := by decide +kernel
theorem dksX0_bell_1 : cX0_bell.data.toList.drop 23 = dktX0_bell_1 := dk_seg dksX0_bell_0 23 rfl rfl
theorem dX0_bell_0 : decode cX0_bell 0 = .ok (.iload_n 1, 1) := dk_27 (dk_at dksX0_bell_0 0 rfl rfl)
theorem dX0_bell_1 : decode cX0_bell 1 = .ok (.iconst 0, 1) := dk_3 (dk_at dksX0_bell_0 1 rfl rfl)
theorem dX0_bell_2 : decode cX0_bell 2 = .ok (.bipush 9, 2) := dk_16 9 (dk_at dksX0_bell_0 2 rfl rfl)
theorem dX0_bell_4 : decode cX0_bell 4 = .ok (.invokestatic 98, 3) := dk_184 0 98 (dk_at dksX0_bell_0 4 rfl rfl)
theorem dX0_bell_7 : decode cX0_bell 7 = .ok (.ifCond .ne 5, 3) := dk_154 0 5 (dk_at dksX0_bell_0 7 rfl rfl)
theorem dX0_bell_10 : decode cX0_bell 10 = .ok (.iconst (-1), 1) := dk_2 (dk_at dksX0_bell_0 10 rfl rfl)
theorem dX0_bell_11 : decode cX0_bell 11 = .ok (.ireturn, 1) := dk_172 (dk_at dksX0_bell_0 11 rfl rfl)
theorem dX0_bell_12 : decode cX0_bell 12 = .ok (.aload_n 0, 1) := dk_42 (dk_at dksX0_bell_0 12 rfl rfl)
theorem dX0_bell_13 : decode cX0_bell 13 = .ok (.getfield 22, 3) := dk_180 0 22 (dk_at dksX0_bell_0 13 rfl rfl)
theorem dX0_bell_16 : decode cX0_bell 16 = .ok (.istore_n 2, 1) := dk_61 (dk_at dksX0_bell_0 16 rfl rfl)
theorem dX0_bell_17 : decode cX0_bell 17 = .ok (.aload_n 0, 1) := dk_42 (dk_at dksX0_bell_0 17 rfl rfl)
theorem dX0_bell_18 : decode cX0_bell 18 = .ok (.iload_n 1, 1) := dk_27 (dk_at dksX0_bell_0 18 rfl rfl)
theorem dX0_bell_19 : decode cX0_bell 19 = .ok (.putfield 22, 3) := dk_181 0 22 (dk_at dksX0_bell_0 19 rfl rfl)
theorem dX0_bell_22 : decode cX0_bell 22 = .ok (.aload_n 0, 1) := dk_42 (dk_at dksX0_bell_0 22 rfl rfl)
theorem dX0_bell_23 : decode cX0_bell 23 = .ok (.invokevirtual 109, 3) := dk_182 0 109 (dk_at dksX0_bell_1 0 rfl rfl)
theorem dX0_bell_26 : decode cX0_bell 26 = .ok (.iload_n 2, 1) := dk_28 (dk_at dksX0_bell_1 3 rfl rfl)
theorem dX0_bell_27 : decode cX0_bell 27 = .ok (.ireturn, 1) := dk_172 (dk_at dksX0_bell_1 4 rfl rfl)
abbrev cX0_prize : ByteArray := prog_1_method_14_code
def yX0_prize : MethodName := ⟨RX0, "prize", "(II)I"⟩
def dkwX0_prize_1 : List UInt8 := [180, 0, 19, 27, 46, 62, 42, 180, 0, 19, 27, 28, 79, 29, 172]
abbrev dktX0_prize_1 : List UInt8 := dkwX0_prize_1 ++ []
def dkwX0_prize_0 : List UInt8 := [27, 4, 7, 184, 0, 98, 153, 0, 13, 28, 3, 16, 9, 184, 0, 98, 154, 0, 5, 2, 172, 42]
abbrev dktX0_prize_0 : List UInt8 := dkwX0_prize_0 ++ dktX0_prize_1
theorem dksX0_prize_0 : cX0_prize.data.toList.drop 0 = dktX0_prize_0 := by decide +kernel
theorem dksX0_prize_1 : cX0_prize.data.toList.drop 22 = dktX0_prize_1 := dk_seg dksX0_prize_0 22 rfl rfl
theorem dX0_prize_0 : decode cX0_prize 0 = .ok (.iload_n 1, 1) := dk_27 (dk_at dksX0_prize_0 0 rfl rfl)
theorem dX0_prize_1 : decode cX0_prize 1 = .ok (.iconst 1, 1) := dk_4 (dk_at dksX0_prize_0 1 rfl rfl)
theorem dX0_prize_2 : decode cX0_prize 2 = .ok (.iconst 4, 1) := dk_7 (dk_at dksX0_prize_0 2 rfl rfl)
theorem dX0_prize_3 : decode cX0_prize 3 = .ok (.invokestatic 98, 3) := dk_184 0 98 (dk_at dksX0_prize_0 3 rfl rfl)
theorem dX0_prize_6 : decode cX0_prize 6 = .ok (.ifCond .eq 13, 3) := dk_153 0 13 (dk_at dksX0_prize_0 6 rfl rfl)
theorem dX0_prize_9 : decode cX0_prize 9 = .ok (.iload_n 2, 1) := dk_28 (dk_at dksX0_prize_0 9 rfl rfl)
theorem dX0_prize_10 : decode cX0_prize 10 = .ok (.iconst 0, 1) := dk_3 (dk_at dksX0_prize_0 10 rfl rfl)
theorem dX0_prize_11 : decode cX0_prize 11 = .ok (.bipush 9, 2) := dk_16 9 (dk_at dksX0_prize_0 11 rfl rfl)
theorem dX0_prize_13 : decode cX0_prize 13 = .ok (.invokestatic 98, 3) := dk_184 0 98 (dk_at dksX0_prize_0 13 rfl rfl)
theorem dX0_prize_16 : decode cX0_prize 16 = .ok (.ifCond .ne 5, 3) := dk_154 0 5 (dk_at dksX0_prize_0 16 rfl rfl)
theorem dX0_prize_19 : decode cX0_prize 19 = .ok (.iconst (-1), 1) := dk_2 (dk_at dksX0_prize_0 19 rfl rfl)
theorem dX0_prize_20 : decode cX0_prize 20 = .ok (.ireturn, 1) := dk_172 (dk_at dksX0_prize_0 20 rfl rfl)
theorem dX0_prize_21 : decode cX0_prize 21 = .ok (.aload_n 0, 1) := dk_42 (dk_at dksX0_prize_0 21 rfl rfl)
theorem dX0_prize_22 : decode cX0_prize 22 = .ok (.getfield 19, 3) := dk_180 0 19 (dk_at dksX0_prize_1 0 rfl rfl)
theorem dX0_prize_25 : decode cX0_prize 25 = .ok (.iload_n 1, 1) := dk_27 (dk_at dksX0_prize_1 3 rfl rfl)
theorem dX0_prize_26 : decode cX0_prize 26 = .ok (.iaload, 1) := dk_46 (dk_at dksX0_prize_1 4 rfl rfl)
theorem dX0_prize_27 : decode cX0_prize 27 = .ok (.istore_n 3, 1) := dk_62 (dk_at dksX0_prize_1 5 rfl rfl)
theorem dX0_prize_28 : decode cX0_prize 28 = .ok (.aload_n 0, 1) := dk_42 (dk_at dksX0_prize_1 6 rfl rfl)
theorem dX0_prize_29 : decode cX0_prize 29 = .ok (.getfield 19, 3) := dk_180 0 19 (dk_at dksX0_prize_1 7 rfl rfl)
theorem dX0_prize_32 : decode cX0_prize 32 = .ok (.iload_n 1, 1) := dk_27 (dk_at dksX0_prize_1 10 rfl rfl)
theorem dX0_prize_33 : decode cX0_prize 33 = .ok (.iload_n 2, 1) := dk_28 (dk_at dksX0_prize_1 11 rfl rfl)
theorem dX0_prize_34 : decode cX0_prize 34 = .ok (.iastore, 1) := dk_79 (dk_at dksX0_prize_1 12 rfl rfl)
theorem dX0_prize_35 : decode cX0_prize 35 = .ok (.iload_n 3, 1) := dk_29 (dk_at dksX0_prize_1 13 rfl rfl)
theorem dX0_prize_36 : decode cX0_prize 36 = .ok (.ireturn, 1) := dk_172 (dk_at dksX0_prize_1 14 rfl rfl)
abbrev cX0_of : ByteArray := prog_1_method_15_code
def yX0_of : MethodName := ⟨RX0, "of", "(II)I"⟩
def dkwX0_of_3 : List UInt8 := [182, 0, 151, 167, 0, 11, 42, 180, 0, 155, 27, 122, 4, 126, 172]
abbrev dktX0_of_3 : List UInt8 := dkwX0_of_3 ++ []
def dkwX0_of_2 : List UInt8 := [167, 0, 36, 28, 5, 160, 0, 10, 45, 180, 0, 148, 167, 0, 24, 28, 6, 160, 0, 11, 42, 27]
abbrev dktX0_of_2 : List UInt8 := dkwX0_of_2 ++ dktX0_of_3
def dkwX0_of_1 : List UInt8 := [50, 78, 28, 154, 0, 10, 45, 180, 0, 142, 167, 0, 48, 28, 4, 160, 0, 10, 45, 180, 0, 145]
abbrev dktX0_of_1 : List UInt8 := dkwX0_of_1 ++ dktX0_of_2
def dkwX0_of_0 : List UInt8 := [42, 27, 182, 0, 136, 153, 0, 12, 28, 3, 7, 184, 0, 98, 154, 0, 5, 2, 172, 42, 180, 0, 11, 27]
abbrev dktX0_of_0 : List UInt8 := dkwX0_of_0 ++ dktX0_of_1
theorem dksX0_of_0 : cX0_of.data.toList.drop 0 = dktX0_of_0 := by decide +kernel
theorem dksX0_of_1 : cX0_of.data.toList.drop 24 = dktX0_of_1 := dk_seg dksX0_of_0 24 rfl rfl
theorem dksX0_of_2 : cX0_of.data.toList.drop 46 = dktX0_of_2 := dk_seg dksX0_of_1 22 rfl rfl
theorem dksX0_of_3 : cX0_of.data.toList.drop 68 = dktX0_of_3 := dk_seg dksX0_of_2 22 rfl rfl
theorem dX0_of_0 : decode cX0_of 0 = .ok (.aload_n 0, 1) := dk_42 (dk_at dksX0_of_0 0 rfl rfl)
theorem dX0_of_1 : decode cX0_of 1 = .ok (.iload_n 1, 1) := dk_27 (dk_at dksX0_of_0 1 rfl rfl)
theorem dX0_of_2 : decode cX0_of 2 = .ok (.invokevirtual 136, 3) := dk_182 0 136 (dk_at dksX0_of_0 2 rfl rfl)
theorem dX0_of_5 : decode cX0_of 5 = .ok (.ifCond .eq 12, 3) := dk_153 0 12 (dk_at dksX0_of_0 5 rfl rfl)
theorem dX0_of_8 : decode cX0_of 8 = .ok (.iload_n 2, 1) := dk_28 (dk_at dksX0_of_0 8 rfl rfl)
theorem dX0_of_9 : decode cX0_of 9 = .ok (.iconst 0, 1) := dk_3 (dk_at dksX0_of_0 9 rfl rfl)
theorem dX0_of_10 : decode cX0_of 10 = .ok (.iconst 4, 1) := dk_7 (dk_at dksX0_of_0 10 rfl rfl)
theorem dX0_of_11 : decode cX0_of 11 = .ok (.invokestatic 98, 3) := dk_184 0 98 (dk_at dksX0_of_0 11 rfl rfl)
theorem dX0_of_14 : decode cX0_of 14 = .ok (.ifCond .ne 5, 3) := dk_154 0 5 (dk_at dksX0_of_0 14 rfl rfl)
theorem dX0_of_17 : decode cX0_of 17 = .ok (.iconst (-1), 1) := dk_2 (dk_at dksX0_of_0 17 rfl rfl)
theorem dX0_of_18 : decode cX0_of 18 = .ok (.ireturn, 1) := dk_172 (dk_at dksX0_of_0 18 rfl rfl)
theorem dX0_of_19 : decode cX0_of 19 = .ok (.aload_n 0, 1) := dk_42 (dk_at dksX0_of_0 19 rfl rfl)
theorem dX0_of_20 : decode cX0_of 20 = .ok (.getfield 11, 3) := dk_180 0 11 (dk_at dksX0_of_0 20 rfl rfl)
theorem dX0_of_23 : decode cX0_of 23 = .ok (.iload_n 1, 1) := dk_27 (dk_at dksX0_of_0 23 rfl rfl)
theorem dX0_of_24 : decode cX0_of 24 = .ok (.aaload, 1) := dk_50 (dk_at dksX0_of_1 0 rfl rfl)
theorem dX0_of_25 : decode cX0_of 25 = .ok (.astore_n 3, 1) := dk_78 (dk_at dksX0_of_1 1 rfl rfl)
theorem dX0_of_26 : decode cX0_of 26 = .ok (.iload_n 2, 1) := dk_28 (dk_at dksX0_of_1 2 rfl rfl)
theorem dX0_of_27 : decode cX0_of 27 = .ok (.ifCond .ne 10, 3) := dk_154 0 10 (dk_at dksX0_of_1 3 rfl rfl)
theorem dX0_of_30 : decode cX0_of 30 = .ok (.aload_n 3, 1) := dk_45 (dk_at dksX0_of_1 6 rfl rfl)
theorem dX0_of_31 : decode cX0_of 31 = .ok (.getfield 142, 3) := dk_180 0 142 (dk_at dksX0_of_1 7 rfl rfl)
theorem dX0_of_34 : decode cX0_of 34 = .ok (.goto 48, 3) := dk_167 0 48 (dk_at dksX0_of_1 10 rfl rfl)
theorem dX0_of_37 : decode cX0_of 37 = .ok (.iload_n 2, 1) := dk_28 (dk_at dksX0_of_1 13 rfl rfl)
theorem dX0_of_38 : decode cX0_of 38 = .ok (.iconst 1, 1) := dk_4 (dk_at dksX0_of_1 14 rfl rfl)
theorem dX0_of_39 : decode cX0_of 39 = .ok (.if_icmp .ne 10, 3) := dk_160 0 10 (dk_at dksX0_of_1 15 rfl rfl)
theorem dX0_of_42 : decode cX0_of 42 = .ok (.aload_n 3, 1) := dk_45 (dk_at dksX0_of_1 18 rfl rfl)
theorem dX0_of_43 : decode cX0_of 43 = .ok (.getfield 145, 3) := dk_180 0 145 (dk_at dksX0_of_1 19 rfl rfl)
theorem dX0_of_46 : decode cX0_of 46 = .ok (.goto 36, 3) := dk_167 0 36 (dk_at dksX0_of_2 0 rfl rfl)
theorem dX0_of_49 : decode cX0_of 49 = .ok (.iload_n 2, 1) := dk_28 (dk_at dksX0_of_2 3 rfl rfl)
theorem dX0_of_50 : decode cX0_of 50 = .ok (.iconst 2, 1) := dk_5 (dk_at dksX0_of_2 4 rfl rfl)
theorem dX0_of_51 : decode cX0_of 51 = .ok (.if_icmp .ne 10, 3) := dk_160 0 10 (dk_at dksX0_of_2 5 rfl rfl)
theorem dX0_of_54 : decode cX0_of 54 = .ok (.aload_n 3, 1) := dk_45 (dk_at dksX0_of_2 8 rfl rfl)
theorem dX0_of_55 : decode cX0_of 55 = .ok (.getfield 148, 3) := dk_180 0 148 (dk_at dksX0_of_2 9 rfl rfl)
theorem dX0_of_58 : decode cX0_of 58 = .ok (.goto 24, 3) := dk_167 0 24 (dk_at dksX0_of_2 12 rfl rfl)
theorem dX0_of_61 : decode cX0_of 61 = .ok (.iload_n 2, 1) := dk_28 (dk_at dksX0_of_2 15 rfl rfl)
theorem dX0_of_62 : decode cX0_of 62 = .ok (.iconst 3, 1) := dk_6 (dk_at dksX0_of_2 16 rfl rfl)
theorem dX0_of_63 : decode cX0_of 63 = .ok (.if_icmp .ne 11, 3) := dk_160 0 11 (dk_at dksX0_of_2 17 rfl rfl)
theorem dX0_of_66 : decode cX0_of 66 = .ok (.aload_n 0, 1) := dk_42 (dk_at dksX0_of_2 20 rfl rfl)
theorem dX0_of_67 : decode cX0_of 67 = .ok (.iload_n 1, 1) := dk_27 (dk_at dksX0_of_2 21 rfl rfl)
theorem dX0_of_68 : decode cX0_of 68 = .ok (.invokevirtual 151, 3) := dk_182 0 151 (dk_at dksX0_of_3 0 rfl rfl)
theorem dX0_of_71 : decode cX0_of 71 = .ok (.goto 11, 3) := dk_167 0 11 (dk_at dksX0_of_3 3 rfl rfl)
theorem dX0_of_74 : decode cX0_of 74 = .ok (.aload_n 0, 1) := dk_42 (dk_at dksX0_of_3 6 rfl rfl)
theorem dX0_of_75 : decode cX0_of 75 = .ok (.getfield 155, 3) := dk_180 0 155 (dk_at dksX0_of_3 7 rfl rfl)
theorem dX0_of_78 : decode cX0_of 78 = .ok (.iload_n 1, 1) := dk_27 (dk_at dksX0_of_3 10 rfl rfl)
theorem dX0_of_79 : decode cX0_of 79 = .ok (.ishr, 1) := dk_122 (dk_at dksX0_of_3 11 rfl rfl)
theorem dX0_of_80 : decode cX0_of 80 = .ok (.iconst 1, 1) := dk_4 (dk_at dksX0_of_3 12 rfl rfl)
theorem dX0_of_81 : decode cX0_of 81 = .ok (.iand, 1) := dk_126 (dk_at dksX0_of_3 13 rfl rfl)
theorem dX0_of_82 : decode cX0_of 82 = .ok (.ireturn, 1) := dk_172 (dk_at dksX0_of_3 14 rfl rfl)
abbrev cX0_placeOf : ByteArray := prog_1_method_7_code
def yX0_placeOf : MethodName := ⟨RX0, "placeOf", "(I)I"⟩
def dkwX0_placeOf_0 : List UInt8 := [3, 61, 42, 180, 0, 15, 28, 46, 27, 159, 0, 9, 132, 2, 1, 167, 255, 243, 28, 172]
abbrev dktX0_placeOf_0 : List UInt8 := dkwX0_placeOf_0 ++ []
theorem dksX0_placeOf_0 : cX0_placeOf.data.toList.drop 0 = dktX0_placeOf_0 := by decide +kernel
theorem dX0_placeOf_0 : decode cX0_placeOf 0 = .ok (.iconst 0, 1) := dk_3 (dk_at dksX0_placeOf_0 0 rfl rfl)
theorem dX0_placeOf_1 : decode cX0_placeOf 1 = .ok (.istore_n 2, 1) := dk_61 (dk_at dksX0_placeOf_0 1 rfl rfl)
theorem dX0_placeOf_2 : decode cX0_placeOf 2 = .ok (.aload_n 0, 1) := dk_42 (dk_at dksX0_placeOf_0 2 rfl rfl)
theorem dX0_placeOf_3 : decode cX0_placeOf 3 = .ok (.getfield 15, 3) := dk_180 0 15 (dk_at dksX0_placeOf_0 3 rfl rfl)
theorem dX0_placeOf_6 : decode cX0_placeOf 6 = .ok (.iload_n 2, 1) := dk_28 (dk_at dksX0_placeOf_0 6 rfl rfl)
theorem dX0_placeOf_7 : decode cX0_placeOf 7 = .ok (.iaload, 1) := dk_46 (dk_at dksX0_placeOf_0 7 rfl rfl)
theorem dX0_placeOf_8 : decode cX0_placeOf 8 = .ok (.iload_n 1, 1) := dk_27 (dk_at dksX0_placeOf_0 8 rfl rfl)
theorem dX0_placeOf_9 : decode cX0_placeOf 9 = .ok (.if_icmp .eq 9, 3) := dk_159 0 9 (dk_at dksX0_placeOf_0 9 rfl rfl)
theorem dX0_placeOf_12 : decode cX0_placeOf 12 = .ok (.iinc 2 1, 3) := dk_132 2 1 (dk_at dksX0_placeOf_0 12 rfl rfl)
theorem dX0_placeOf_15 : decode cX0_placeOf 15 = .ok (.goto (-13), 3) := dk_167 255 243 (dk_at dksX0_placeOf_0 15 rfl rfl)
theorem dX0_placeOf_18 : decode cX0_placeOf 18 = .ok (.iload_n 2, 1) := dk_28 (dk_at dksX0_placeOf_0 18 rfl rfl)
theorem dX0_placeOf_19 : decode cX0_placeOf 19 = .ok (.ireturn, 1) := dk_172 (dk_at dksX0_placeOf_0 19 rfl rfl)
abbrev cX0_undo : ByteArray := prog_1_method_18_code
def yX0_undo : MethodName := ⟨RX0, "undo", "()I"⟩
def dkwX0_undo_3 : List UInt8 := [182, 0, 167, 42, 180, 0, 161, 172]
abbrev dktX0_undo_3 : List UInt8 := dkwX0_undo_3 ++ []
def dkwX0_undo_2 : List UInt8 := [180, 0, 28, 42, 180, 0, 161, 50, 180, 0, 174, 42, 180, 0, 28, 42, 180, 0, 161, 50, 180, 0, 176]
abbrev dktX0_undo_2 : List UInt8 := dkwX0_undo_2 ++ dktX0_undo_3
def dkwX0_undo_1 : List UInt8 := [180, 0, 158, 4, 96, 181, 0, 158, 42, 42, 180, 0, 28, 42, 180, 0, 161, 50, 180, 0, 171, 42]
abbrev dktX0_undo_1 : List UInt8 := dkwX0_undo_1 ++ dktX0_undo_2
def dkwX0_undo_0 : List UInt8 := [42, 180, 0, 161, 154, 0, 6, 16, 251, 172, 42, 89, 180, 0, 161, 4, 100, 181, 0, 161, 42, 89]
abbrev dktX0_undo_0 : List UInt8 := dkwX0_undo_0 ++ dktX0_undo_1
theorem dksX0_undo_0 : cX0_undo.data.toList.drop 0 = dktX0_undo_0 := by decide +kernel
theorem dksX0_undo_1 : cX0_undo.data.toList.drop 22 = dktX0_undo_1 := dk_seg dksX0_undo_0 22 rfl rfl
theorem dksX0_undo_2 : cX0_undo.data.toList.drop 44 = dktX0_undo_2 := dk_seg dksX0_undo_1 22 rfl rfl
theorem dksX0_undo_3 : cX0_undo.data.toList.drop 67 = dktX0_undo_3 := dk_seg dksX0_undo_2 23 rfl rfl
theorem dX0_undo_0 : decode cX0_undo 0 = .ok (.aload_n 0, 1) := dk_42 (dk_at dksX0_undo_0 0 rfl rfl)
theorem dX0_undo_1 : decode cX0_undo 1 = .ok (.getfield 161, 3) := dk_180 0 161 (dk_at dksX0_undo_0 1 rfl rfl)
theorem dX0_undo_4 : decode cX0_undo 4 = .ok (.ifCond .ne 6, 3) := dk_154 0 6 (dk_at dksX0_undo_0 4 rfl rfl)
theorem dX0_undo_7 : decode cX0_undo 7 = .ok (.bipush (-5), 2) := dk_16 251 (dk_at dksX0_undo_0 7 rfl rfl)
theorem dX0_undo_9 : decode cX0_undo 9 = .ok (.ireturn, 1) := dk_172 (dk_at dksX0_undo_0 9 rfl rfl)
theorem dX0_undo_10 : decode cX0_undo 10 = .ok (.aload_n 0, 1) := dk_42 (dk_at dksX0_undo_0 10 rfl rfl)
theorem dX0_undo_11 : decode cX0_undo 11 = .ok (.dup, 1) := dk_89 (dk_at dksX0_undo_0 11 rfl rfl)
theorem dX0_undo_12 : decode cX0_undo 12 = .ok (.getfield 161, 3) := dk_180 0 161 (dk_at dksX0_undo_0 12 rfl rfl)
theorem dX0_undo_15 : decode cX0_undo 15 = .ok (.iconst 1, 1) := dk_4 (dk_at dksX0_undo_0 15 rfl rfl)
theorem dX0_undo_16 : decode cX0_undo 16 = .ok (.isub, 1) := dk_100 (dk_at dksX0_undo_0 16 rfl rfl)
theorem dX0_undo_17 : decode cX0_undo 17 = .ok (.putfield 161, 3) := dk_181 0 161 (dk_at dksX0_undo_0 17 rfl rfl)
theorem dX0_undo_20 : decode cX0_undo 20 = .ok (.aload_n 0, 1) := dk_42 (dk_at dksX0_undo_0 20 rfl rfl)
theorem dX0_undo_21 : decode cX0_undo 21 = .ok (.dup, 1) := dk_89 (dk_at dksX0_undo_0 21 rfl rfl)
theorem dX0_undo_22 : decode cX0_undo 22 = .ok (.getfield 158, 3) := dk_180 0 158 (dk_at dksX0_undo_1 0 rfl rfl)
theorem dX0_undo_25 : decode cX0_undo 25 = .ok (.iconst 1, 1) := dk_4 (dk_at dksX0_undo_1 3 rfl rfl)
theorem dX0_undo_26 : decode cX0_undo 26 = .ok (.iadd, 1) := dk_96 (dk_at dksX0_undo_1 4 rfl rfl)
theorem dX0_undo_27 : decode cX0_undo 27 = .ok (.putfield 158, 3) := dk_181 0 158 (dk_at dksX0_undo_1 5 rfl rfl)
theorem dX0_undo_30 : decode cX0_undo 30 = .ok (.aload_n 0, 1) := dk_42 (dk_at dksX0_undo_1 8 rfl rfl)
theorem dX0_undo_31 : decode cX0_undo 31 = .ok (.aload_n 0, 1) := dk_42 (dk_at dksX0_undo_1 9 rfl rfl)
theorem dX0_undo_32 : decode cX0_undo 32 = .ok (.getfield 28, 3) := dk_180 0 28 (dk_at dksX0_undo_1 10 rfl rfl)
theorem dX0_undo_35 : decode cX0_undo 35 = .ok (.aload_n 0, 1) := dk_42 (dk_at dksX0_undo_1 13 rfl rfl)
theorem dX0_undo_36 : decode cX0_undo 36 = .ok (.getfield 161, 3) := dk_180 0 161 (dk_at dksX0_undo_1 14 rfl rfl)
theorem dX0_undo_39 : decode cX0_undo 39 = .ok (.aaload, 1) := dk_50 (dk_at dksX0_undo_1 17 rfl rfl)
theorem dX0_undo_40 : decode cX0_undo 40 = .ok (.getfield 171, 3) := dk_180 0 171 (dk_at dksX0_undo_1 18 rfl rfl)
theorem dX0_undo_43 : decode cX0_undo 43 = .ok (.aload_n 0, 1) := dk_42 (dk_at dksX0_undo_1 21 rfl rfl)
theorem dX0_undo_44 : decode cX0_undo 44 = .ok (.getfield 28, 3) := dk_180 0 28 (dk_at dksX0_undo_2 0 rfl rfl)
theorem dX0_undo_47 : decode cX0_undo 47 = .ok (.aload_n 0, 1) := dk_42 (dk_at dksX0_undo_2 3 rfl rfl)
theorem dX0_undo_48 : decode cX0_undo 48 = .ok (.getfield 161, 3) := dk_180 0 161 (dk_at dksX0_undo_2 4 rfl rfl)
theorem dX0_undo_51 : decode cX0_undo 51 = .ok (.aaload, 1) := dk_50 (dk_at dksX0_undo_2 7 rfl rfl)
theorem dX0_undo_52 : decode cX0_undo 52 = .ok (.getfield 174, 3) := dk_180 0 174 (dk_at dksX0_undo_2 8 rfl rfl)
theorem dX0_undo_55 : decode cX0_undo 55 = .ok (.aload_n 0, 1) := dk_42 (dk_at dksX0_undo_2 11 rfl rfl)
theorem dX0_undo_56 : decode cX0_undo 56 = .ok (.getfield 28, 3) := dk_180 0 28 (dk_at dksX0_undo_2 12 rfl rfl)
theorem dX0_undo_59 : decode cX0_undo 59 = .ok (.aload_n 0, 1) := dk_42 (dk_at dksX0_undo_2 15 rfl rfl)
theorem dX0_undo_60 : decode cX0_undo 60 = .ok (.getfield 161, 3) := dk_180 0 161 (dk_at dksX0_undo_2 16 rfl rfl)
theorem dX0_undo_63 : decode cX0_undo 63 = .ok (.aaload, 1) := dk_50 (dk_at dksX0_undo_2 19 rfl rfl)
theorem dX0_undo_64 : decode cX0_undo 64 = .ok (.getfield 176, 3) := dk_180 0 176 (dk_at dksX0_undo_2 20 rfl rfl)
theorem dX0_undo_67 : decode cX0_undo 67 = .ok (.invokevirtual 167, 3) := dk_182 0 167 (dk_at dksX0_undo_3 0 rfl rfl)
theorem dX0_undo_70 : decode cX0_undo 70 = .ok (.aload_n 0, 1) := dk_42 (dk_at dksX0_undo_3 3 rfl rfl)
theorem dX0_undo_71 : decode cX0_undo 71 = .ok (.getfield 161, 3) := dk_180 0 161 (dk_at dksX0_undo_3 4 rfl rfl)
theorem dX0_undo_74 : decode cX0_undo 74 = .ok (.ireturn, 1) := dk_172 (dk_at dksX0_undo_3 7 rfl rfl)
abbrev cX0_setTo : ByteArray := prog_1_method_16_code
def yX0_setTo : MethodName := ⟨RX0, "setTo", "(III)V"⟩
def dkwX0_setTo_1 : List UInt8 := [180, 0, 11, 28, 50, 29, 181, 0, 145, 167, 0, 13, 42, 180, 0, 11, 28, 50, 29, 181, 0, 148, 177]
abbrev dktX0_setTo_1 : List UInt8 := dkwX0_setTo_1 ++ []
def dkwX0_setTo_0 : List UInt8 := [27, 154, 0, 16, 42, 180, 0, 11, 28, 50, 29, 181, 0, 142, 167, 0, 31, 27, 4, 160, 0, 16, 42]
abbrev dktX0_setTo_0 : List UInt8 := dkwX0_setTo_0 ++ dktX0_setTo_1
theorem dksX0_setTo_0 : cX0_setTo.data.toList.drop 0 = dktX0_setTo_0 := by decide +kernel
theorem dksX0_setTo_1 : cX0_setTo.data.toList.drop 23 = dktX0_setTo_1 := dk_seg dksX0_setTo_0 23 rfl rfl
theorem dX0_setTo_0 : decode cX0_setTo 0 = .ok (.iload_n 1, 1) := dk_27 (dk_at dksX0_setTo_0 0 rfl rfl)
theorem dX0_setTo_1 : decode cX0_setTo 1 = .ok (.ifCond .ne 16, 3) := dk_154 0 16 (dk_at dksX0_setTo_0 1 rfl rfl)
theorem dX0_setTo_4 : decode cX0_setTo 4 = .ok (.aload_n 0, 1) := dk_42 (dk_at dksX0_setTo_0 4 rfl rfl)
theorem dX0_setTo_5 : decode cX0_setTo 5 = .ok (.getfield 11, 3) := dk_180 0 11 (dk_at dksX0_setTo_0 5 rfl rfl)
theorem dX0_setTo_8 : decode cX0_setTo 8 = .ok (.iload_n 2, 1) := dk_28 (dk_at dksX0_setTo_0 8 rfl rfl)
theorem dX0_setTo_9 : decode cX0_setTo 9 = .ok (.aaload, 1) := dk_50 (dk_at dksX0_setTo_0 9 rfl rfl)
theorem dX0_setTo_10 : decode cX0_setTo 10 = .ok (.iload_n 3, 1) := dk_29 (dk_at dksX0_setTo_0 10 rfl rfl)
theorem dX0_setTo_11 : decode cX0_setTo 11 = .ok (.putfield 142, 3) := dk_181 0 142 (dk_at dksX0_setTo_0 11 rfl rfl)
theorem dX0_setTo_14 : decode cX0_setTo 14 = .ok (.goto 31, 3) := dk_167 0 31 (dk_at dksX0_setTo_0 14 rfl rfl)
theorem dX0_setTo_17 : decode cX0_setTo 17 = .ok (.iload_n 1, 1) := dk_27 (dk_at dksX0_setTo_0 17 rfl rfl)
theorem dX0_setTo_18 : decode cX0_setTo 18 = .ok (.iconst 1, 1) := dk_4 (dk_at dksX0_setTo_0 18 rfl rfl)
theorem dX0_setTo_19 : decode cX0_setTo 19 = .ok (.if_icmp .ne 16, 3) := dk_160 0 16 (dk_at dksX0_setTo_0 19 rfl rfl)
theorem dX0_setTo_22 : decode cX0_setTo 22 = .ok (.aload_n 0, 1) := dk_42 (dk_at dksX0_setTo_0 22 rfl rfl)
theorem dX0_setTo_23 : decode cX0_setTo 23 = .ok (.getfield 11, 3) := dk_180 0 11 (dk_at dksX0_setTo_1 0 rfl rfl)
theorem dX0_setTo_26 : decode cX0_setTo 26 = .ok (.iload_n 2, 1) := dk_28 (dk_at dksX0_setTo_1 3 rfl rfl)
theorem dX0_setTo_27 : decode cX0_setTo 27 = .ok (.aaload, 1) := dk_50 (dk_at dksX0_setTo_1 4 rfl rfl)
theorem dX0_setTo_28 : decode cX0_setTo 28 = .ok (.iload_n 3, 1) := dk_29 (dk_at dksX0_setTo_1 5 rfl rfl)
theorem dX0_setTo_29 : decode cX0_setTo 29 = .ok (.putfield 145, 3) := dk_181 0 145 (dk_at dksX0_setTo_1 6 rfl rfl)
theorem dX0_setTo_32 : decode cX0_setTo 32 = .ok (.goto 13, 3) := dk_167 0 13 (dk_at dksX0_setTo_1 9 rfl rfl)
theorem dX0_setTo_35 : decode cX0_setTo 35 = .ok (.aload_n 0, 1) := dk_42 (dk_at dksX0_setTo_1 12 rfl rfl)
theorem dX0_setTo_36 : decode cX0_setTo 36 = .ok (.getfield 11, 3) := dk_180 0 11 (dk_at dksX0_setTo_1 13 rfl rfl)
theorem dX0_setTo_39 : decode cX0_setTo 39 = .ok (.iload_n 2, 1) := dk_28 (dk_at dksX0_setTo_1 16 rfl rfl)
theorem dX0_setTo_40 : decode cX0_setTo 40 = .ok (.aaload, 1) := dk_50 (dk_at dksX0_setTo_1 17 rfl rfl)
theorem dX0_setTo_41 : decode cX0_setTo 41 = .ok (.iload_n 3, 1) := dk_29 (dk_at dksX0_setTo_1 18 rfl rfl)
theorem dX0_setTo_42 : decode cX0_setTo 42 = .ok (.putfield 148, 3) := dk_181 0 148 (dk_at dksX0_setTo_1 19 rfl rfl)
theorem dX0_setTo_45 : decode cX0_setTo 45 = .ok (.return_, 1) := dk_177 (dk_at dksX0_setTo_1 22 rfl rfl)
abbrev cX0_redo : ByteArray := prog_1_method_19_code
def yX0_redo : MethodName := ⟨RX0, "redo", "()I"⟩
def dkwX0_redo_3 : List UInt8 := [180, 0, 158, 172]
abbrev dktX0_redo_3 : List UInt8 := dkwX0_redo_3 ++ []
def dkwX0_redo_2 : List UInt8 := [182, 0, 167, 42, 89, 180, 0, 161, 4, 96, 181, 0, 161, 42, 89, 180, 0, 158, 4, 100, 181, 0, 158, 42]
abbrev dktX0_redo_2 : List UInt8 := dkwX0_redo_2 ++ dktX0_redo_3
def dkwX0_redo_1 : List UInt8 := [180, 0, 28, 42, 180, 0, 161, 50, 180, 0, 174, 42, 180, 0, 28, 42, 180, 0, 161, 50, 180, 0, 179]
abbrev dktX0_redo_1 : List UInt8 := dkwX0_redo_1 ++ dktX0_redo_2
def dkwX0_redo_0 : List UInt8 := [42, 180, 0, 158, 154, 0, 6, 16, 251, 172, 42, 42, 180, 0, 28, 42, 180, 0, 161, 50, 180, 0, 171, 42]
abbrev dktX0_redo_0 : List UInt8 := dkwX0_redo_0 ++ dktX0_redo_1
theorem dksX0_redo_0 : cX0_redo.data.toList.drop 0 = dktX0_redo_0 := by decide +kernel
theorem dksX0_redo_1 : cX0_redo.data.toList.drop 24 = dktX0_redo_1 := dk_seg dksX0_redo_0 24 rfl rfl
theorem dksX0_redo_2 : cX0_redo.data.toList.drop 47 = dktX0_redo_2 := dk_seg dksX0_redo_1 23 rfl rfl
theorem dksX0_redo_3 : cX0_redo.data.toList.drop 71 = dktX0_redo_3 := dk_seg dksX0_redo_2 24 rfl rfl
theorem dX0_redo_0 : decode cX0_redo 0 = .ok (.aload_n 0, 1) := dk_42 (dk_at dksX0_redo_0 0 rfl rfl)
theorem dX0_redo_1 : decode cX0_redo 1 = .ok (.getfield 158, 3) := dk_180 0 158 (dk_at dksX0_redo_0 1 rfl rfl)
theorem dX0_redo_4 : decode cX0_redo 4 = .ok (.ifCond .ne 6, 3) := dk_154 0 6 (dk_at dksX0_redo_0 4 rfl rfl)
theorem dX0_redo_7 : decode cX0_redo 7 = .ok (.bipush (-5), 2) := dk_16 251 (dk_at dksX0_redo_0 7 rfl rfl)
theorem dX0_redo_9 : decode cX0_redo 9 = .ok (.ireturn, 1) := dk_172 (dk_at dksX0_redo_0 9 rfl rfl)
theorem dX0_redo_10 : decode cX0_redo 10 = .ok (.aload_n 0, 1) := dk_42 (dk_at dksX0_redo_0 10 rfl rfl)
theorem dX0_redo_11 : decode cX0_redo 11 = .ok (.aload_n 0, 1) := dk_42 (dk_at dksX0_redo_0 11 rfl rfl)
theorem dX0_redo_12 : decode cX0_redo 12 = .ok (.getfield 28, 3) := dk_180 0 28 (dk_at dksX0_redo_0 12 rfl rfl)
theorem dX0_redo_15 : decode cX0_redo 15 = .ok (.aload_n 0, 1) := dk_42 (dk_at dksX0_redo_0 15 rfl rfl)
theorem dX0_redo_16 : decode cX0_redo 16 = .ok (.getfield 161, 3) := dk_180 0 161 (dk_at dksX0_redo_0 16 rfl rfl)
theorem dX0_redo_19 : decode cX0_redo 19 = .ok (.aaload, 1) := dk_50 (dk_at dksX0_redo_0 19 rfl rfl)
theorem dX0_redo_20 : decode cX0_redo 20 = .ok (.getfield 171, 3) := dk_180 0 171 (dk_at dksX0_redo_0 20 rfl rfl)
theorem dX0_redo_23 : decode cX0_redo 23 = .ok (.aload_n 0, 1) := dk_42 (dk_at dksX0_redo_0 23 rfl rfl)
theorem dX0_redo_24 : decode cX0_redo 24 = .ok (.getfield 28, 3) := dk_180 0 28 (dk_at dksX0_redo_1 0 rfl rfl)
theorem dX0_redo_27 : decode cX0_redo 27 = .ok (.aload_n 0, 1) := dk_42 (dk_at dksX0_redo_1 3 rfl rfl)
theorem dX0_redo_28 : decode cX0_redo 28 = .ok (.getfield 161, 3) := dk_180 0 161 (dk_at dksX0_redo_1 4 rfl rfl)
theorem dX0_redo_31 : decode cX0_redo 31 = .ok (.aaload, 1) := dk_50 (dk_at dksX0_redo_1 7 rfl rfl)
theorem dX0_redo_32 : decode cX0_redo 32 = .ok (.getfield 174, 3) := dk_180 0 174 (dk_at dksX0_redo_1 8 rfl rfl)
theorem dX0_redo_35 : decode cX0_redo 35 = .ok (.aload_n 0, 1) := dk_42 (dk_at dksX0_redo_1 11 rfl rfl)
theorem dX0_redo_36 : decode cX0_redo 36 = .ok (.getfield 28, 3) := dk_180 0 28 (dk_at dksX0_redo_1 12 rfl rfl)
theorem dX0_redo_39 : decode cX0_redo 39 = .ok (.aload_n 0, 1) := dk_42 (dk_at dksX0_redo_1 15 rfl rfl)
theorem dX0_redo_40 : decode cX0_redo 40 = .ok (.getfield 161, 3) := dk_180 0 161 (dk_at dksX0_redo_1 16 rfl rfl)
theorem dX0_redo_43 : decode cX0_redo 43 = .ok (.aaload, 1) := dk_50 (dk_at dksX0_redo_1 19 rfl rfl)
theorem dX0_redo_44 : decode cX0_redo 44 = .ok (.getfield 179, 3) := dk_180 0 179 (dk_at dksX0_redo_1 20 rfl rfl)
theorem dX0_redo_47 : decode cX0_redo 47 = .ok (.invokevirtual 167, 3) := dk_182 0 167 (dk_at dksX0_redo_2 0 rfl rfl)
theorem dX0_redo_50 : decode cX0_redo 50 = .ok (.aload_n 0, 1) := dk_42 (dk_at dksX0_redo_2 3 rfl rfl)
theorem dX0_redo_51 : decode cX0_redo 51 = .ok (.dup, 1) := dk_89 (dk_at dksX0_redo_2 4 rfl rfl)
theorem dX0_redo_52 : decode cX0_redo 52 = .ok (.getfield 161, 3) := dk_180 0 161 (dk_at dksX0_redo_2 5 rfl rfl)
theorem dX0_redo_55 : decode cX0_redo 55 = .ok (.iconst 1, 1) := dk_4 (dk_at dksX0_redo_2 8 rfl rfl)
theorem dX0_redo_56 : decode cX0_redo 56 = .ok (.iadd, 1) := dk_96 (dk_at dksX0_redo_2 9 rfl rfl)
theorem dX0_redo_57 : decode cX0_redo 57 = .ok (.putfield 161, 3) := dk_181 0 161 (dk_at dksX0_redo_2 10 rfl rfl)
theorem dX0_redo_60 : decode cX0_redo 60 = .ok (.aload_n 0, 1) := dk_42 (dk_at dksX0_redo_2 13 rfl rfl)
theorem dX0_redo_61 : decode cX0_redo 61 = .ok (.dup, 1) := dk_89 (dk_at dksX0_redo_2 14 rfl rfl)
theorem dX0_redo_62 : decode cX0_redo 62 = .ok (.getfield 158, 3) := dk_180 0 158 (dk_at dksX0_redo_2 15 rfl rfl)
theorem dX0_redo_65 : decode cX0_redo 65 = .ok (.iconst 1, 1) := dk_4 (dk_at dksX0_redo_2 18 rfl rfl)
theorem dX0_redo_66 : decode cX0_redo 66 = .ok (.isub, 1) := dk_100 (dk_at dksX0_redo_2 19 rfl rfl)
theorem dX0_redo_67 : decode cX0_redo 67 = .ok (.putfield 158, 3) := dk_181 0 158 (dk_at dksX0_redo_2 20 rfl rfl)
theorem dX0_redo_70 : decode cX0_redo 70 = .ok (.aload_n 0, 1) := dk_42 (dk_at dksX0_redo_2 23 rfl rfl)
theorem dX0_redo_71 : decode cX0_redo 71 = .ok (.getfield 158, 3) := dk_180 0 158 (dk_at dksX0_redo_3 0 rfl rfl)
theorem dX0_redo_74 : decode cX0_redo 74 = .ok (.ireturn, 1) := dk_172 (dk_at dksX0_redo_3 3 rfl rfl)
abbrev cX0_mend : ByteArray := prog_1_method_20_code
def yX0_mend : MethodName := ⟨RX0, "mend", "(III)I"⟩
def dkwX0_mend_2 : List UInt8 := [28, 27, 42, 27, 28, 182, 0, 182, 29, 182, 0, 184, 172]
abbrev dktX0_mend_2 : List UInt8 := dkwX0_mend_2 ++ []
def dkwX0_mend_1 : List UInt8 := [16, 12, 167, 0, 13, 28, 4, 160, 0, 7, 8, 167, 0, 4, 6, 184, 0, 98, 154, 0, 5, 2, 172, 42]
abbrev dktX0_mend_1 : List UInt8 := dkwX0_mend_1 ++ dktX0_mend_2
def dkwX0_mend_0 : List UInt8 := [42, 27, 182, 0, 136, 153, 0, 39, 28, 3, 5, 184, 0, 98, 153, 0, 30, 29, 3, 28, 154, 0, 8]
abbrev dktX0_mend_0 : List UInt8 := dkwX0_mend_0 ++ dktX0_mend_1
theorem dksX0_mend_0 : cX0_mend.data.toList.drop 0 = dktX0_mend_0 := by decide +kernel
theorem dksX0_mend_1 : cX0_mend.data.toList.drop 23 = dktX0_mend_1 := dk_seg dksX0_mend_0 23 rfl rfl
theorem dksX0_mend_2 : cX0_mend.data.toList.drop 47 = dktX0_mend_2 := dk_seg dksX0_mend_1 24 rfl rfl
theorem dX0_mend_0 : decode cX0_mend 0 = .ok (.aload_n 0, 1) := dk_42 (dk_at dksX0_mend_0 0 rfl rfl)
theorem dX0_mend_1 : decode cX0_mend 1 = .ok (.iload_n 1, 1) := dk_27 (dk_at dksX0_mend_0 1 rfl rfl)
theorem dX0_mend_2 : decode cX0_mend 2 = .ok (.invokevirtual 136, 3) := dk_182 0 136 (dk_at dksX0_mend_0 2 rfl rfl)
theorem dX0_mend_5 : decode cX0_mend 5 = .ok (.ifCond .eq 39, 3) := dk_153 0 39 (dk_at dksX0_mend_0 5 rfl rfl)
theorem dX0_mend_8 : decode cX0_mend 8 = .ok (.iload_n 2, 1) := dk_28 (dk_at dksX0_mend_0 8 rfl rfl)
theorem dX0_mend_9 : decode cX0_mend 9 = .ok (.iconst 0, 1) := dk_3 (dk_at dksX0_mend_0 9 rfl rfl)
theorem dX0_mend_10 : decode cX0_mend 10 = .ok (.iconst 2, 1) := dk_5 (dk_at dksX0_mend_0 10 rfl rfl)
theorem dX0_mend_11 : decode cX0_mend 11 = .ok (.invokestatic 98, 3) := dk_184 0 98 (dk_at dksX0_mend_0 11 rfl rfl)
theorem dX0_mend_14 : decode cX0_mend 14 = .ok (.ifCond .eq 30, 3) := dk_153 0 30 (dk_at dksX0_mend_0 14 rfl rfl)
theorem dX0_mend_17 : decode cX0_mend 17 = .ok (.iload_n 3, 1) := dk_29 (dk_at dksX0_mend_0 17 rfl rfl)
theorem dX0_mend_18 : decode cX0_mend 18 = .ok (.iconst 0, 1) := dk_3 (dk_at dksX0_mend_0 18 rfl rfl)
theorem dX0_mend_19 : decode cX0_mend 19 = .ok (.iload_n 2, 1) := dk_28 (dk_at dksX0_mend_0 19 rfl rfl)
theorem dX0_mend_20 : decode cX0_mend 20 = .ok (.ifCond .ne 8, 3) := dk_154 0 8 (dk_at dksX0_mend_0 20 rfl rfl)
theorem dX0_mend_23 : decode cX0_mend 23 = .ok (.bipush 12, 2) := dk_16 12 (dk_at dksX0_mend_1 0 rfl rfl)
theorem dX0_mend_25 : decode cX0_mend 25 = .ok (.goto 13, 3) := dk_167 0 13 (dk_at dksX0_mend_1 2 rfl rfl)
theorem dX0_mend_28 : decode cX0_mend 28 = .ok (.iload_n 2, 1) := dk_28 (dk_at dksX0_mend_1 5 rfl rfl)
theorem dX0_mend_29 : decode cX0_mend 29 = .ok (.iconst 1, 1) := dk_4 (dk_at dksX0_mend_1 6 rfl rfl)
theorem dX0_mend_30 : decode cX0_mend 30 = .ok (.if_icmp .ne 7, 3) := dk_160 0 7 (dk_at dksX0_mend_1 7 rfl rfl)
theorem dX0_mend_33 : decode cX0_mend 33 = .ok (.iconst 5, 1) := dk_8 (dk_at dksX0_mend_1 10 rfl rfl)
theorem dX0_mend_34 : decode cX0_mend 34 = .ok (.goto 4, 3) := dk_167 0 4 (dk_at dksX0_mend_1 11 rfl rfl)
theorem dX0_mend_37 : decode cX0_mend 37 = .ok (.iconst 3, 1) := dk_6 (dk_at dksX0_mend_1 14 rfl rfl)
theorem dX0_mend_38 : decode cX0_mend 38 = .ok (.invokestatic 98, 3) := dk_184 0 98 (dk_at dksX0_mend_1 15 rfl rfl)
theorem dX0_mend_41 : decode cX0_mend 41 = .ok (.ifCond .ne 5, 3) := dk_154 0 5 (dk_at dksX0_mend_1 18 rfl rfl)
theorem dX0_mend_44 : decode cX0_mend 44 = .ok (.iconst (-1), 1) := dk_2 (dk_at dksX0_mend_1 21 rfl rfl)
theorem dX0_mend_45 : decode cX0_mend 45 = .ok (.ireturn, 1) := dk_172 (dk_at dksX0_mend_1 22 rfl rfl)
theorem dX0_mend_46 : decode cX0_mend 46 = .ok (.aload_n 0, 1) := dk_42 (dk_at dksX0_mend_1 23 rfl rfl)
theorem dX0_mend_47 : decode cX0_mend 47 = .ok (.iload_n 2, 1) := dk_28 (dk_at dksX0_mend_2 0 rfl rfl)
theorem dX0_mend_48 : decode cX0_mend 48 = .ok (.iload_n 1, 1) := dk_27 (dk_at dksX0_mend_2 1 rfl rfl)
theorem dX0_mend_49 : decode cX0_mend 49 = .ok (.aload_n 0, 1) := dk_42 (dk_at dksX0_mend_2 2 rfl rfl)
theorem dX0_mend_50 : decode cX0_mend 50 = .ok (.iload_n 1, 1) := dk_27 (dk_at dksX0_mend_2 3 rfl rfl)
theorem dX0_mend_51 : decode cX0_mend 51 = .ok (.iload_n 2, 1) := dk_28 (dk_at dksX0_mend_2 4 rfl rfl)
theorem dX0_mend_52 : decode cX0_mend 52 = .ok (.invokevirtual 182, 3) := dk_182 0 182 (dk_at dksX0_mend_2 5 rfl rfl)
theorem dX0_mend_55 : decode cX0_mend 55 = .ok (.iload_n 3, 1) := dk_29 (dk_at dksX0_mend_2 8 rfl rfl)
theorem dX0_mend_56 : decode cX0_mend 56 = .ok (.invokevirtual 184, 3) := dk_182 0 184 (dk_at dksX0_mend_2 9 rfl rfl)
theorem dX0_mend_59 : decode cX0_mend 59 = .ok (.ireturn, 1) := dk_172 (dk_at dksX0_mend_2 12 rfl rfl)
abbrev cX0_become : ByteArray := prog_1_method_17_code
def yX0_become : MethodName := ⟨RX0, "become", "(IIII)I"⟩
def dkwX0_become_4 : List UInt8 := [181, 0, 161, 42, 27, 28, 21, 4, 182, 0, 167, 29, 172]
abbrev dktX0_become_4 : List UInt8 := dkwX0_become_4 ++ []
def dkwX0_become_3 : List UInt8 := [180, 0, 161, 187, 0, 26, 89, 27, 28, 29, 21, 4, 183, 0, 164, 83, 42, 89, 180, 0, 161, 4, 96]
abbrev dktX0_become_3 : List UInt8 := dkwX0_become_3 ++ dktX0_become_4
def dkwX0_become_2 : List UInt8 := [83, 132, 5, 1, 167, 255, 230, 42, 89, 180, 0, 161, 4, 100, 181, 0, 161, 42, 180, 0, 28, 42]
abbrev dktX0_become_2 : List UInt8 := dkwX0_become_2 ++ dktX0_become_3
def dkwX0_become_1 : List UInt8 := [54, 5, 21, 5, 16, 40, 162, 0, 25, 42, 180, 0, 28, 21, 5, 4, 100, 42, 180, 0, 28, 21, 5, 50]
abbrev dktX0_become_1 : List UInt8 := dkwX0_become_1 ++ dktX0_become_2
def dkwX0_become_0 : List UInt8 := [29, 21, 4, 160, 0, 5, 29, 172, 42, 3, 181, 0, 158, 42, 180, 0, 161, 16, 40, 160, 0, 45, 4]
abbrev dktX0_become_0 : List UInt8 := dkwX0_become_0 ++ dktX0_become_1
theorem dksX0_become_0 : cX0_become.data.toList.drop 0 = dktX0_become_0 := by decide +kernel
theorem dksX0_become_1 : cX0_become.data.toList.drop 23 = dktX0_become_1 := dk_seg dksX0_become_0 23 rfl rfl
theorem dksX0_become_2 : cX0_become.data.toList.drop 47 = dktX0_become_2 := dk_seg dksX0_become_1 24 rfl rfl
theorem dksX0_become_3 : cX0_become.data.toList.drop 69 = dktX0_become_3 := dk_seg dksX0_become_2 22 rfl rfl
theorem dksX0_become_4 : cX0_become.data.toList.drop 92 = dktX0_become_4 := dk_seg dksX0_become_3 23 rfl rfl
theorem dX0_become_0 : decode cX0_become 0 = .ok (.iload_n 3, 1) := dk_29 (dk_at dksX0_become_0 0 rfl rfl)
theorem dX0_become_1 : decode cX0_become 1 = .ok (.iload 4, 2) := dk_21 4 (dk_at dksX0_become_0 1 rfl rfl)
theorem dX0_become_3 : decode cX0_become 3 = .ok (.if_icmp .ne 5, 3) := dk_160 0 5 (dk_at dksX0_become_0 3 rfl rfl)
theorem dX0_become_6 : decode cX0_become 6 = .ok (.iload_n 3, 1) := dk_29 (dk_at dksX0_become_0 6 rfl rfl)
theorem dX0_become_7 : decode cX0_become 7 = .ok (.ireturn, 1) := dk_172 (dk_at dksX0_become_0 7 rfl rfl)
theorem dX0_become_8 : decode cX0_become 8 = .ok (.aload_n 0, 1) := dk_42 (dk_at dksX0_become_0 8 rfl rfl)
theorem dX0_become_9 : decode cX0_become 9 = .ok (.iconst 0, 1) := dk_3 (dk_at dksX0_become_0 9 rfl rfl)
theorem dX0_become_10 : decode cX0_become 10 = .ok (.putfield 158, 3) := dk_181 0 158 (dk_at dksX0_become_0 10 rfl rfl)
theorem dX0_become_13 : decode cX0_become 13 = .ok (.aload_n 0, 1) := dk_42 (dk_at dksX0_become_0 13 rfl rfl)
theorem dX0_become_14 : decode cX0_become 14 = .ok (.getfield 161, 3) := dk_180 0 161 (dk_at dksX0_become_0 14 rfl rfl)
theorem dX0_become_17 : decode cX0_become 17 = .ok (.bipush 40, 2) := dk_16 40 (dk_at dksX0_become_0 17 rfl rfl)
theorem dX0_become_19 : decode cX0_become 19 = .ok (.if_icmp .ne 45, 3) := dk_160 0 45 (dk_at dksX0_become_0 19 rfl rfl)
theorem dX0_become_22 : decode cX0_become 22 = .ok (.iconst 1, 1) := dk_4 (dk_at dksX0_become_0 22 rfl rfl)
theorem dX0_become_23 : decode cX0_become 23 = .ok (.istore 5, 2) := dk_54 5 (dk_at dksX0_become_1 0 rfl rfl)
theorem dX0_become_25 : decode cX0_become 25 = .ok (.iload 5, 2) := dk_21 5 (dk_at dksX0_become_1 2 rfl rfl)
theorem dX0_become_27 : decode cX0_become 27 = .ok (.bipush 40, 2) := dk_16 40 (dk_at dksX0_become_1 4 rfl rfl)
theorem dX0_become_29 : decode cX0_become 29 = .ok (.if_icmp .ge 25, 3) := dk_162 0 25 (dk_at dksX0_become_1 6 rfl rfl)
theorem dX0_become_32 : decode cX0_become 32 = .ok (.aload_n 0, 1) := dk_42 (dk_at dksX0_become_1 9 rfl rfl)
theorem dX0_become_33 : decode cX0_become 33 = .ok (.getfield 28, 3) := dk_180 0 28 (dk_at dksX0_become_1 10 rfl rfl)
theorem dX0_become_36 : decode cX0_become 36 = .ok (.iload 5, 2) := dk_21 5 (dk_at dksX0_become_1 13 rfl rfl)
theorem dX0_become_38 : decode cX0_become 38 = .ok (.iconst 1, 1) := dk_4 (dk_at dksX0_become_1 15 rfl rfl)
theorem dX0_become_39 : decode cX0_become 39 = .ok (.isub, 1) := dk_100 (dk_at dksX0_become_1 16 rfl rfl)
theorem dX0_become_40 : decode cX0_become 40 = .ok (.aload_n 0, 1) := dk_42 (dk_at dksX0_become_1 17 rfl rfl)
theorem dX0_become_41 : decode cX0_become 41 = .ok (.getfield 28, 3) := dk_180 0 28 (dk_at dksX0_become_1 18 rfl rfl)
theorem dX0_become_44 : decode cX0_become 44 = .ok (.iload 5, 2) := dk_21 5 (dk_at dksX0_become_1 21 rfl rfl)
theorem dX0_become_46 : decode cX0_become 46 = .ok (.aaload, 1) := dk_50 (dk_at dksX0_become_1 23 rfl rfl)
theorem dX0_become_47 : decode cX0_become 47 = .ok (.aastore, 1) := dk_83 (dk_at dksX0_become_2 0 rfl rfl)
theorem dX0_become_48 : decode cX0_become 48 = .ok (.iinc 5 1, 3) := dk_132 5 1 (dk_at dksX0_become_2 1 rfl rfl)
theorem dX0_become_51 : decode cX0_become 51 = .ok (.goto (-26), 3) := dk_167 255 230 (dk_at dksX0_become_2 4 rfl rfl)
theorem dX0_become_54 : decode cX0_become 54 = .ok (.aload_n 0, 1) := dk_42 (dk_at dksX0_become_2 7 rfl rfl)
theorem dX0_become_55 : decode cX0_become 55 = .ok (.dup, 1) := dk_89 (dk_at dksX0_become_2 8 rfl rfl)
theorem dX0_become_56 : decode cX0_become 56 = .ok (.getfield 161, 3) := dk_180 0 161 (dk_at dksX0_become_2 9 rfl rfl)
theorem dX0_become_59 : decode cX0_become 59 = .ok (.iconst 1, 1) := dk_4 (dk_at dksX0_become_2 12 rfl rfl)
theorem dX0_become_60 : decode cX0_become 60 = .ok (.isub, 1) := dk_100 (dk_at dksX0_become_2 13 rfl rfl)
theorem dX0_become_61 : decode cX0_become 61 = .ok (.putfield 161, 3) := dk_181 0 161 (dk_at dksX0_become_2 14 rfl rfl)
theorem dX0_become_64 : decode cX0_become 64 = .ok (.aload_n 0, 1) := dk_42 (dk_at dksX0_become_2 17 rfl rfl)
theorem dX0_become_65 : decode cX0_become 65 = .ok (.getfield 28, 3) := dk_180 0 28 (dk_at dksX0_become_2 18 rfl rfl)
theorem dX0_become_68 : decode cX0_become 68 = .ok (.aload_n 0, 1) := dk_42 (dk_at dksX0_become_2 21 rfl rfl)
theorem dX0_become_69 : decode cX0_become 69 = .ok (.getfield 161, 3) := dk_180 0 161 (dk_at dksX0_become_3 0 rfl rfl)
theorem dX0_become_72 : decode cX0_become 72 = .ok (.new 26, 3) := dk_187 0 26 (dk_at dksX0_become_3 3 rfl rfl)
theorem dX0_become_75 : decode cX0_become 75 = .ok (.dup, 1) := dk_89 (dk_at dksX0_become_3 6 rfl rfl)
theorem dX0_become_76 : decode cX0_become 76 = .ok (.iload_n 1, 1) := dk_27 (dk_at dksX0_become_3 7 rfl rfl)
theorem dX0_become_77 : decode cX0_become 77 = .ok (.iload_n 2, 1) := dk_28 (dk_at dksX0_become_3 8 rfl rfl)
theorem dX0_become_78 : decode cX0_become 78 = .ok (.iload_n 3, 1) := dk_29 (dk_at dksX0_become_3 9 rfl rfl)
theorem dX0_become_79 : decode cX0_become 79 = .ok (.iload 4, 2) := dk_21 4 (dk_at dksX0_become_3 10 rfl rfl)
theorem dX0_become_81 : decode cX0_become 81 = .ok (.invokespecial 164, 3) := dk_183 0 164 (dk_at dksX0_become_3 12 rfl rfl)
theorem dX0_become_84 : decode cX0_become 84 = .ok (.aastore, 1) := dk_83 (dk_at dksX0_become_3 15 rfl rfl)
theorem dX0_become_85 : decode cX0_become 85 = .ok (.aload_n 0, 1) := dk_42 (dk_at dksX0_become_3 16 rfl rfl)
theorem dX0_become_86 : decode cX0_become 86 = .ok (.dup, 1) := dk_89 (dk_at dksX0_become_3 17 rfl rfl)
theorem dX0_become_87 : decode cX0_become 87 = .ok (.getfield 161, 3) := dk_180 0 161 (dk_at dksX0_become_3 18 rfl rfl)
theorem dX0_become_90 : decode cX0_become 90 = .ok (.iconst 1, 1) := dk_4 (dk_at dksX0_become_3 21 rfl rfl)
theorem dX0_become_91 : decode cX0_become 91 = .ok (.iadd, 1) := dk_96 (dk_at dksX0_become_3 22 rfl rfl)
theorem dX0_become_92 : decode cX0_become 92 = .ok (.putfield 161, 3) := dk_181 0 161 (dk_at dksX0_become_4 0 rfl rfl)
theorem dX0_become_95 : decode cX0_become 95 = .ok (.aload_n 0, 1) := dk_42 (dk_at dksX0_become_4 3 rfl rfl)
theorem dX0_become_96 : decode cX0_become 96 = .ok (.iload_n 1, 1) := dk_27 (dk_at dksX0_become_4 4 rfl rfl)
theorem dX0_become_97 : decode cX0_become 97 = .ok (.iload_n 2, 1) := dk_28 (dk_at dksX0_become_4 5 rfl rfl)
theorem dX0_become_98 : decode cX0_become 98 = .ok (.iload 4, 2) := dk_21 4 (dk_at dksX0_become_4 6 rfl rfl)
theorem dX0_become_100 : decode cX0_become 100 = .ok (.invokevirtual 167, 3) := dk_182 0 167 (dk_at dksX0_become_4 8 rfl rfl)
theorem dX0_become_103 : decode cX0_become 103 = .ok (.iload_n 3, 1) := dk_29 (dk_at dksX0_become_4 11 rfl rfl)
theorem dX0_become_104 : decode cX0_become 104 = .ok (.ireturn, 1) := dk_172 (dk_at dksX0_become_4 12 rfl rfl)
abbrev cX0_feed : ByteArray := prog_1_method_21_code
def yX0_feed : MethodName := ⟨RX0, "feed", "(I)I"⟩
def dkwX0_feed_2 : List UInt8 := [180, 0, 188, 172]
abbrev dktX0_feed_2 : List UInt8 := dkwX0_feed_2 ++ []
def dkwX0_feed_1 : List UInt8 := [172, 42, 180, 0, 32, 42, 180, 0, 188, 27, 145, 84, 42, 89, 180, 0, 188, 4, 96, 181, 0, 188, 42]
abbrev dktX0_feed_1 : List UInt8 := dkwX0_feed_1 ++ dktX0_feed_2
def dkwX0_feed_0 : List UInt8 := [27, 3, 17, 0, 255, 184, 0, 98, 154, 0, 5, 2, 172, 42, 180, 0, 188, 16, 120, 160, 0, 6, 16, 253]
abbrev dktX0_feed_0 : List UInt8 := dkwX0_feed_0 ++ dktX0_feed_1
theorem dksX0_feed_0 : cX0_feed.data.toList.drop 0 = dktX0_feed_0 := by decide +kernel
theorem dksX0_feed_1 : cX0_feed.data.toList.drop 24 = dktX0_feed_1 := dk_seg dksX0_feed_0 24 rfl rfl
theorem dksX0_feed_2 : cX0_feed.data.toList.drop 47 = dktX0_feed_2 := dk_seg dksX0_feed_1 23 rfl rfl
theorem dX0_feed_0 : decode cX0_feed 0 = .ok (.iload_n 1, 1) := dk_27 (dk_at dksX0_feed_0 0 rfl rfl)
theorem dX0_feed_1 : decode cX0_feed 1 = .ok (.iconst 0, 1) := dk_3 (dk_at dksX0_feed_0 1 rfl rfl)
theorem dX0_feed_2 : decode cX0_feed 2 = .ok (.sipush 255, 3) := dk_17 0 255 (dk_at dksX0_feed_0 2 rfl rfl)
theorem dX0_feed_5 : decode cX0_feed 5 = .ok (.invokestatic 98, 3) := dk_184 0 98 (dk_at dksX0_feed_0 5 rfl rfl)
theorem dX0_feed_8 : decode cX0_feed 8 = .ok (.ifCond .ne 5, 3) := dk_154 0 5 (dk_at dksX0_feed_0 8 rfl rfl)
theorem dX0_feed_11 : decode cX0_feed 11 = .ok (.iconst (-1), 1) := dk_2 (dk_at dksX0_feed_0 11 rfl rfl)
theorem dX0_feed_12 : decode cX0_feed 12 = .ok (.ireturn, 1) := dk_172 (dk_at dksX0_feed_0 12 rfl rfl)
theorem dX0_feed_13 : decode cX0_feed 13 = .ok (.aload_n 0, 1) := dk_42 (dk_at dksX0_feed_0 13 rfl rfl)
theorem dX0_feed_14 : decode cX0_feed 14 = .ok (.getfield 188, 3) := dk_180 0 188 (dk_at dksX0_feed_0 14 rfl rfl)
theorem dX0_feed_17 : decode cX0_feed 17 = .ok (.bipush 120, 2) := dk_16 120 (dk_at dksX0_feed_0 17 rfl rfl)
theorem dX0_feed_19 : decode cX0_feed 19 = .ok (.if_icmp .ne 6, 3) := dk_160 0 6 (dk_at dksX0_feed_0 19 rfl rfl)
theorem dX0_feed_22 : decode cX0_feed 22 = .ok (.bipush (-3), 2) := dk_16 253 (dk_at dksX0_feed_0 22 rfl rfl)
theorem dX0_feed_24 : decode cX0_feed 24 = .ok (.ireturn, 1) := dk_172 (dk_at dksX0_feed_1 0 rfl rfl)
theorem dX0_feed_25 : decode cX0_feed 25 = .ok (.aload_n 0, 1) := dk_42 (dk_at dksX0_feed_1 1 rfl rfl)
theorem dX0_feed_26 : decode cX0_feed 26 = .ok (.getfield 32, 3) := dk_180 0 32 (dk_at dksX0_feed_1 2 rfl rfl)
theorem dX0_feed_29 : decode cX0_feed 29 = .ok (.aload_n 0, 1) := dk_42 (dk_at dksX0_feed_1 5 rfl rfl)
theorem dX0_feed_30 : decode cX0_feed 30 = .ok (.getfield 188, 3) := dk_180 0 188 (dk_at dksX0_feed_1 6 rfl rfl)
theorem dX0_feed_33 : decode cX0_feed 33 = .ok (.iload_n 1, 1) := dk_27 (dk_at dksX0_feed_1 9 rfl rfl)
theorem dX0_feed_34 : decode cX0_feed 34 = .ok (.i2b, 1) := dk_145 (dk_at dksX0_feed_1 10 rfl rfl)
theorem dX0_feed_35 : decode cX0_feed 35 = .ok (.bastore, 1) := dk_84 (dk_at dksX0_feed_1 11 rfl rfl)
theorem dX0_feed_36 : decode cX0_feed 36 = .ok (.aload_n 0, 1) := dk_42 (dk_at dksX0_feed_1 12 rfl rfl)
theorem dX0_feed_37 : decode cX0_feed 37 = .ok (.dup, 1) := dk_89 (dk_at dksX0_feed_1 13 rfl rfl)
theorem dX0_feed_38 : decode cX0_feed 38 = .ok (.getfield 188, 3) := dk_180 0 188 (dk_at dksX0_feed_1 14 rfl rfl)
theorem dX0_feed_41 : decode cX0_feed 41 = .ok (.iconst 1, 1) := dk_4 (dk_at dksX0_feed_1 17 rfl rfl)
theorem dX0_feed_42 : decode cX0_feed 42 = .ok (.iadd, 1) := dk_96 (dk_at dksX0_feed_1 18 rfl rfl)
theorem dX0_feed_43 : decode cX0_feed 43 = .ok (.putfield 188, 3) := dk_181 0 188 (dk_at dksX0_feed_1 19 rfl rfl)
theorem dX0_feed_46 : decode cX0_feed 46 = .ok (.aload_n 0, 1) := dk_42 (dk_at dksX0_feed_1 22 rfl rfl)
theorem dX0_feed_47 : decode cX0_feed 47 = .ok (.getfield 188, 3) := dk_180 0 188 (dk_at dksX0_feed_2 0 rfl rfl)
theorem dX0_feed_50 : decode cX0_feed 50 = .ok (.ireturn, 1) := dk_172 (dk_at dksX0_feed_2 3 rfl rfl)
abbrev cX0_law : ByteArray := prog_1_method_22_code
def yX0_law : MethodName := ⟨RX0, "law", "()I"⟩
def dkwX0_law_1 : List UInt8 := [155, 0, 11, 16, 156, 43, 180, 0, 200, 100, 172, 42, 44, 181, 0, 203, 4, 172]
abbrev dktX0_law_1 : List UInt8 := dkwX0_law_1 ++ []
def dkwX0_law_0 : List UInt8 := [187, 0, 191, 89, 42, 183, 0, 193, 76, 43, 182, 0, 196, 77, 42, 3, 181, 0, 188, 43, 180, 0, 200]
abbrev dktX0_law_0 : List UInt8 := dkwX0_law_0 ++ dktX0_law_1
theorem dksX0_law_0 : cX0_law.data.toList.drop 0 = dktX0_law_0 := by decide +kernel
theorem dksX0_law_1 : cX0_law.data.toList.drop 23 = dktX0_law_1 := dk_seg dksX0_law_0 23 rfl rfl
theorem dX0_law_0 : decode cX0_law 0 = .ok (.new 191, 3) := dk_187 0 191 (dk_at dksX0_law_0 0 rfl rfl)
theorem dX0_law_3 : decode cX0_law 3 = .ok (.dup, 1) := dk_89 (dk_at dksX0_law_0 3 rfl rfl)
theorem dX0_law_4 : decode cX0_law 4 = .ok (.aload_n 0, 1) := dk_42 (dk_at dksX0_law_0 4 rfl rfl)
theorem dX0_law_5 : decode cX0_law 5 = .ok (.invokespecial 193, 3) := dk_183 0 193 (dk_at dksX0_law_0 5 rfl rfl)
theorem dX0_law_8 : decode cX0_law 8 = .ok (.astore_n 1, 1) := dk_76 (dk_at dksX0_law_0 8 rfl rfl)
theorem dX0_law_9 : decode cX0_law 9 = .ok (.aload_n 1, 1) := dk_43 (dk_at dksX0_law_0 9 rfl rfl)
theorem dX0_law_10 : decode cX0_law 10 = .ok (.invokevirtual 196, 3) := dk_182 0 196 (dk_at dksX0_law_0 10 rfl rfl)
theorem dX0_law_13 : decode cX0_law 13 = .ok (.astore_n 2, 1) := dk_77 (dk_at dksX0_law_0 13 rfl rfl)
theorem dX0_law_14 : decode cX0_law 14 = .ok (.aload_n 0, 1) := dk_42 (dk_at dksX0_law_0 14 rfl rfl)
theorem dX0_law_15 : decode cX0_law 15 = .ok (.iconst 0, 1) := dk_3 (dk_at dksX0_law_0 15 rfl rfl)
theorem dX0_law_16 : decode cX0_law 16 = .ok (.putfield 188, 3) := dk_181 0 188 (dk_at dksX0_law_0 16 rfl rfl)
theorem dX0_law_19 : decode cX0_law 19 = .ok (.aload_n 1, 1) := dk_43 (dk_at dksX0_law_0 19 rfl rfl)
theorem dX0_law_20 : decode cX0_law 20 = .ok (.getfield 200, 3) := dk_180 0 200 (dk_at dksX0_law_0 20 rfl rfl)
theorem dX0_law_23 : decode cX0_law 23 = .ok (.ifCond .lt 11, 3) := dk_155 0 11 (dk_at dksX0_law_1 0 rfl rfl)
theorem dX0_law_26 : decode cX0_law 26 = .ok (.bipush (-100), 2) := dk_16 156 (dk_at dksX0_law_1 3 rfl rfl)
theorem dX0_law_28 : decode cX0_law 28 = .ok (.aload_n 1, 1) := dk_43 (dk_at dksX0_law_1 5 rfl rfl)
theorem dX0_law_29 : decode cX0_law 29 = .ok (.getfield 200, 3) := dk_180 0 200 (dk_at dksX0_law_1 6 rfl rfl)
theorem dX0_law_32 : decode cX0_law 32 = .ok (.isub, 1) := dk_100 (dk_at dksX0_law_1 9 rfl rfl)
theorem dX0_law_33 : decode cX0_law 33 = .ok (.ireturn, 1) := dk_172 (dk_at dksX0_law_1 10 rfl rfl)
theorem dX0_law_34 : decode cX0_law 34 = .ok (.aload_n 0, 1) := dk_42 (dk_at dksX0_law_1 11 rfl rfl)
theorem dX0_law_35 : decode cX0_law 35 = .ok (.aload_n 2, 1) := dk_44 (dk_at dksX0_law_1 12 rfl rfl)
theorem dX0_law_36 : decode cX0_law 36 = .ok (.putfield 203, 3) := dk_181 0 203 (dk_at dksX0_law_1 13 rfl rfl)
theorem dX0_law_39 : decode cX0_law 39 = .ok (.iconst 1, 1) := dk_4 (dk_at dksX0_law_1 16 rfl rfl)
theorem dX0_law_40 : decode cX0_law 40 = .ok (.ireturn, 1) := dk_172 (dk_at dksX0_law_1 17 rfl rfl)
abbrev cX0_worth : ByteArray := prog_1_method_42_code
def yX0_worth : MethodName := ⟨RX0, "worth", "(III)J"⟩
def dkwX0_worth_3 : List UInt8 := [184, 1, 52, 173]
abbrev dktX0_worth_3 : List UInt8 := dkwX0_worth_3 ++ []
def dkwX0_worth_2 : List UInt8 := [27, 28, 5, 160, 0, 7, 4, 167, 0, 4, 3, 182, 1, 48, 42, 180, 0, 68, 42, 180, 0, 22, 47, 29]
abbrev dktX0_worth_2 : List UInt8 := dkwX0_worth_2 ++ dktX0_worth_3
def dkwX0_worth_1 : List UInt8 := [154, 0, 7, 20, 1, 40, 173, 42, 182, 1, 42, 28, 154, 0, 11, 42, 27, 182, 1, 45, 167, 0, 18, 42]
abbrev dktX0_worth_1 : List UInt8 := dkwX0_worth_1 ++ dktX0_worth_2
def dkwX0_worth_0 : List UInt8 := [42, 27, 182, 0, 136, 153, 0, 21, 28, 3, 5, 184, 0, 98, 153, 0, 12, 29, 3, 4, 184, 0, 98]
abbrev dktX0_worth_0 : List UInt8 := dkwX0_worth_0 ++ dktX0_worth_1
theorem dksX0_worth_0 : cX0_worth.data.toList.drop 0 = dktX0_worth_0 := by decide +kernel
theorem dksX0_worth_1 : cX0_worth.data.toList.drop 23 = dktX0_worth_1 := dk_seg dksX0_worth_0 23 rfl rfl
theorem dksX0_worth_2 : cX0_worth.data.toList.drop 47 = dktX0_worth_2 := dk_seg dksX0_worth_1 24 rfl rfl
theorem dksX0_worth_3 : cX0_worth.data.toList.drop 71 = dktX0_worth_3 := dk_seg dksX0_worth_2 24 rfl rfl
theorem dX0_worth_0 : decode cX0_worth 0 = .ok (.aload_n 0, 1) := dk_42 (dk_at dksX0_worth_0 0 rfl rfl)
theorem dX0_worth_1 : decode cX0_worth 1 = .ok (.iload_n 1, 1) := dk_27 (dk_at dksX0_worth_0 1 rfl rfl)
theorem dX0_worth_2 : decode cX0_worth 2 = .ok (.invokevirtual 136, 3) := dk_182 0 136 (dk_at dksX0_worth_0 2 rfl rfl)
theorem dX0_worth_5 : decode cX0_worth 5 = .ok (.ifCond .eq 21, 3) := dk_153 0 21 (dk_at dksX0_worth_0 5 rfl rfl)
theorem dX0_worth_8 : decode cX0_worth 8 = .ok (.iload_n 2, 1) := dk_28 (dk_at dksX0_worth_0 8 rfl rfl)
theorem dX0_worth_9 : decode cX0_worth 9 = .ok (.iconst 0, 1) := dk_3 (dk_at dksX0_worth_0 9 rfl rfl)
theorem dX0_worth_10 : decode cX0_worth 10 = .ok (.iconst 2, 1) := dk_5 (dk_at dksX0_worth_0 10 rfl rfl)
theorem dX0_worth_11 : decode cX0_worth 11 = .ok (.invokestatic 98, 3) := dk_184 0 98 (dk_at dksX0_worth_0 11 rfl rfl)
theorem dX0_worth_14 : decode cX0_worth 14 = .ok (.ifCond .eq 12, 3) := dk_153 0 12 (dk_at dksX0_worth_0 14 rfl rfl)
theorem dX0_worth_17 : decode cX0_worth 17 = .ok (.iload_n 3, 1) := dk_29 (dk_at dksX0_worth_0 17 rfl rfl)
theorem dX0_worth_18 : decode cX0_worth 18 = .ok (.iconst 0, 1) := dk_3 (dk_at dksX0_worth_0 18 rfl rfl)
theorem dX0_worth_19 : decode cX0_worth 19 = .ok (.iconst 1, 1) := dk_4 (dk_at dksX0_worth_0 19 rfl rfl)
theorem dX0_worth_20 : decode cX0_worth 20 = .ok (.invokestatic 98, 3) := dk_184 0 98 (dk_at dksX0_worth_0 20 rfl rfl)
theorem dX0_worth_23 : decode cX0_worth 23 = .ok (.ifCond .ne 7, 3) := dk_154 0 7 (dk_at dksX0_worth_1 0 rfl rfl)
theorem dX0_worth_26 : decode cX0_worth 26 = .ok (.ldc2_w 296, 3) := dk_20 1 40 (dk_at dksX0_worth_1 3 rfl rfl)
theorem dX0_worth_29 : decode cX0_worth 29 = .ok (.lreturn, 1) := dk_173 (dk_at dksX0_worth_1 6 rfl rfl)
theorem dX0_worth_30 : decode cX0_worth 30 = .ok (.aload_n 0, 1) := dk_42 (dk_at dksX0_worth_1 7 rfl rfl)
theorem dX0_worth_31 : decode cX0_worth 31 = .ok (.invokevirtual 298, 3) := dk_182 1 42 (dk_at dksX0_worth_1 8 rfl rfl)
theorem dX0_worth_34 : decode cX0_worth 34 = .ok (.iload_n 2, 1) := dk_28 (dk_at dksX0_worth_1 11 rfl rfl)
theorem dX0_worth_35 : decode cX0_worth 35 = .ok (.ifCond .ne 11, 3) := dk_154 0 11 (dk_at dksX0_worth_1 12 rfl rfl)
theorem dX0_worth_38 : decode cX0_worth 38 = .ok (.aload_n 0, 1) := dk_42 (dk_at dksX0_worth_1 15 rfl rfl)
theorem dX0_worth_39 : decode cX0_worth 39 = .ok (.iload_n 1, 1) := dk_27 (dk_at dksX0_worth_1 16 rfl rfl)
theorem dX0_worth_40 : decode cX0_worth 40 = .ok (.invokevirtual 301, 3) := dk_182 1 45 (dk_at dksX0_worth_1 17 rfl rfl)
theorem dX0_worth_43 : decode cX0_worth 43 = .ok (.goto 18, 3) := dk_167 0 18 (dk_at dksX0_worth_1 20 rfl rfl)
theorem dX0_worth_46 : decode cX0_worth 46 = .ok (.aload_n 0, 1) := dk_42 (dk_at dksX0_worth_1 23 rfl rfl)
theorem dX0_worth_47 : decode cX0_worth 47 = .ok (.iload_n 1, 1) := dk_27 (dk_at dksX0_worth_2 0 rfl rfl)
theorem dX0_worth_48 : decode cX0_worth 48 = .ok (.iload_n 2, 1) := dk_28 (dk_at dksX0_worth_2 1 rfl rfl)
theorem dX0_worth_49 : decode cX0_worth 49 = .ok (.iconst 2, 1) := dk_5 (dk_at dksX0_worth_2 2 rfl rfl)
theorem dX0_worth_50 : decode cX0_worth 50 = .ok (.if_icmp .ne 7, 3) := dk_160 0 7 (dk_at dksX0_worth_2 3 rfl rfl)
theorem dX0_worth_53 : decode cX0_worth 53 = .ok (.iconst 1, 1) := dk_4 (dk_at dksX0_worth_2 6 rfl rfl)
theorem dX0_worth_54 : decode cX0_worth 54 = .ok (.goto 4, 3) := dk_167 0 4 (dk_at dksX0_worth_2 7 rfl rfl)
theorem dX0_worth_57 : decode cX0_worth 57 = .ok (.iconst 0, 1) := dk_3 (dk_at dksX0_worth_2 10 rfl rfl)
theorem dX0_worth_58 : decode cX0_worth 58 = .ok (.invokevirtual 304, 3) := dk_182 1 48 (dk_at dksX0_worth_2 11 rfl rfl)
theorem dX0_worth_61 : decode cX0_worth 61 = .ok (.aload_n 0, 1) := dk_42 (dk_at dksX0_worth_2 14 rfl rfl)
theorem dX0_worth_62 : decode cX0_worth 62 = .ok (.getfield 68, 3) := dk_180 0 68 (dk_at dksX0_worth_2 15 rfl rfl)
theorem dX0_worth_65 : decode cX0_worth 65 = .ok (.aload_n 0, 1) := dk_42 (dk_at dksX0_worth_2 18 rfl rfl)
theorem dX0_worth_66 : decode cX0_worth 66 = .ok (.getfield 22, 3) := dk_180 0 22 (dk_at dksX0_worth_2 19 rfl rfl)
theorem dX0_worth_69 : decode cX0_worth 69 = .ok (.laload, 1) := dk_47 (dk_at dksX0_worth_2 22 rfl rfl)
theorem dX0_worth_70 : decode cX0_worth 70 = .ok (.iload_n 3, 1) := dk_29 (dk_at dksX0_worth_2 23 rfl rfl)
theorem dX0_worth_71 : decode cX0_worth 71 = .ok (.invokestatic 308, 3) := dk_184 1 52 (dk_at dksX0_worth_3 0 rfl rfl)
theorem dX0_worth_74 : decode cX0_worth 74 = .ok (.lreturn, 1) := dk_173 (dk_at dksX0_worth_3 3 rfl rfl)
abbrev cX0_findEnds : ByteArray := prog_1_method_38_code
def yX0_findEnds : MethodName := ⟨RX0, "findEnds", "()V"⟩
def dkwX0_findEnds_11 : List UInt8 := [132, 1, 1, 167, 255, 61, 177]
abbrev dktX0_findEnds_11 : List UInt8 := dkwX0_findEnds_11 ++ []
def dkwX0_findEnds_10 : List UInt8 := [21, 7, 100, 133, 22, 4, 105, 182, 1, 30, 132, 3, 1, 167, 255, 93, 132, 2, 1, 167, 255, 77]
abbrev dktX0_findEnds_10 : List UInt8 := dkwX0_findEnds_10 ++ dktX0_findEnds_11
def dkwX0_findEnds_9 : List UInt8 := [4, 96, 21, 7, 133, 22, 4, 105, 182, 1, 30, 42, 28, 42, 28, 29, 182, 1, 0, 27, 4, 96, 16, 12]
abbrev dktX0_findEnds_9 : List UInt8 := dkwX0_findEnds_9 ++ dktX0_findEnds_10
def dkwX0_findEnds_8 : List UInt8 := [167, 0, 11, 28, 4, 21, 6, 120, 2, 130, 126, 54, 8, 42, 21, 8, 42, 21, 8, 29, 182, 1, 0, 27]
abbrev dktX0_findEnds_8 : List UInt8 := dkwX0_findEnds_8 ++ dktX0_findEnds_9
def dkwX0_findEnds_7 : List UInt8 := [42, 180, 0, 15, 29, 46, 21, 6, 28, 27, 182, 1, 7, 54, 7, 21, 6, 16, 9, 160, 0, 7, 28]
abbrev dktX0_findEnds_7 : List UInt8 := dkwX0_findEnds_7 ++ dktX0_findEnds_8
def dkwX0_findEnds_6 : List UInt8 := [180, 0, 47, 28, 29, 27, 184, 0, 253, 51, 54, 6, 21, 6, 16, 9, 160, 0, 7, 3, 167, 0, 17, 42]
abbrev dktX0_findEnds_6 : List UInt8 := dkwX0_findEnds_6 ++ dktX0_findEnds_7
def dkwX0_findEnds_5 : List UInt8 := [180, 1, 26, 22, 4, 42, 180, 0, 68, 42, 180, 0, 22, 27, 100, 47, 105, 97, 181, 1, 26, 42]
abbrev dktX0_findEnds_5 : List UInt8 := dkwX0_findEnds_5 ++ dktX0_findEnds_6
def dkwX0_findEnds_4 : List UInt8 := [180, 0, 71, 28, 29, 27, 184, 0, 253, 47, 55, 4, 22, 4, 9, 148, 154, 0, 6, 167, 0, 132, 42, 89]
abbrev dktX0_findEnds_4 : List UInt8 := dkwX0_findEnds_4 ++ dktX0_findEnds_5
def dkwX0_findEnds_3 : List UInt8 := [162, 0, 193, 3, 61, 28, 42, 182, 0, 102, 163, 0, 177, 3, 62, 29, 42, 180, 0, 95, 162, 0, 161, 42]
abbrev dktX0_findEnds_3 : List UInt8 := dkwX0_findEnds_3 ++ dktX0_findEnds_4
def dkwX0_findEnds_2 : List UInt8 := [132, 1, 1, 167, 255, 240, 42, 42, 182, 0, 102, 3, 3, 10, 182, 1, 30, 3, 60, 27, 42, 180, 0, 22]
abbrev dktX0_findEnds_2 : List UInt8 := dkwX0_findEnds_2 ++ dktX0_findEnds_3
def dkwX0_findEnds_1 : List UInt8 := [27, 9, 80, 132, 1, 1, 167, 255, 237, 3, 60, 27, 16, 16, 162, 0, 16, 42, 180, 0, 74, 27, 9, 80]
abbrev dktX0_findEnds_1 : List UInt8 := dkwX0_findEnds_1 ++ dktX0_findEnds_2
def dkwX0_findEnds_0 : List UInt8 := [42, 182, 1, 23, 42, 9, 181, 1, 26, 3, 60, 27, 42, 180, 0, 71, 190, 162, 0, 16, 42, 180, 0, 71]
abbrev dktX0_findEnds_0 : List UInt8 := dkwX0_findEnds_0 ++ dktX0_findEnds_1
theorem dksX0_findEnds_0 : cX0_findEnds.data.toList.drop 0 = dktX0_findEnds_0 := by decide +kernel
theorem dksX0_findEnds_1 : cX0_findEnds.data.toList.drop 24 = dktX0_findEnds_1 := dk_seg dksX0_findEnds_0 24 rfl rfl
theorem dksX0_findEnds_2 : cX0_findEnds.data.toList.drop 48 = dktX0_findEnds_2 := dk_seg dksX0_findEnds_1 24 rfl rfl
theorem dksX0_findEnds_3 : cX0_findEnds.data.toList.drop 72 = dktX0_findEnds_3 := dk_seg dksX0_findEnds_2 24 rfl rfl
theorem dksX0_findEnds_4 : cX0_findEnds.data.toList.drop 96 = dktX0_findEnds_4 := dk_seg dksX0_findEnds_3 24 rfl rfl
theorem dksX0_findEnds_5 : cX0_findEnds.data.toList.drop 120 = dktX0_findEnds_5 := dk_seg dksX0_findEnds_4 24 rfl rfl
theorem dksX0_findEnds_6 : cX0_findEnds.data.toList.drop 142 = dktX0_findEnds_6 := dk_seg dksX0_findEnds_5 22 rfl rfl
theorem dksX0_findEnds_7 : cX0_findEnds.data.toList.drop 166 = dktX0_findEnds_7 := dk_seg dksX0_findEnds_6 24 rfl rfl
theorem dksX0_findEnds_8 : cX0_findEnds.data.toList.drop 189 = dktX0_findEnds_8 := dk_seg dksX0_findEnds_7 23 rfl rfl
theorem dksX0_findEnds_9 : cX0_findEnds.data.toList.drop 213 = dktX0_findEnds_9 := dk_seg dksX0_findEnds_8 24 rfl rfl
theorem dksX0_findEnds_10 : cX0_findEnds.data.toList.drop 237 = dktX0_findEnds_10 := dk_seg dksX0_findEnds_9 24 rfl rfl
theorem dksX0_findEnds_11 : cX0_findEnds.data.toList.drop 259 = dktX0_findEnds_11 := dk_seg dksX0_findEnds_10 22 rfl rfl
theorem dX0_findEnds_0 : decode cX0_findEnds 0 = .ok (.aload_n 0, 1) := dk_42 (dk_at dksX0_findEnds_0 0 rfl rfl)
theorem dX0_findEnds_1 : decode cX0_findEnds 1 = .ok (.invokevirtual 279, 3) := dk_182 1 23 (dk_at dksX0_findEnds_0 1 rfl rfl)
theorem dX0_findEnds_4 : decode cX0_findEnds 4 = .ok (.aload_n 0, 1) := dk_42 (dk_at dksX0_findEnds_0 4 rfl rfl)
theorem dX0_findEnds_5 : decode cX0_findEnds 5 = .ok (.lconst 0, 1) := dk_9 (dk_at dksX0_findEnds_0 5 rfl rfl)
theorem dX0_findEnds_6 : decode cX0_findEnds 6 = .ok (.putfield 282, 3) := dk_181 1 26 (dk_at dksX0_findEnds_0 6 rfl rfl)
theorem dX0_findEnds_9 : decode cX0_findEnds 9 = .ok (.iconst 0, 1) := dk_3 (dk_at dksX0_findEnds_0 9 rfl rfl)
theorem dX0_findEnds_10 : decode cX0_findEnds 10 = .ok (.istore_n 1, 1) := dk_60 (dk_at dksX0_findEnds_0 10 rfl rfl)
theorem dX0_findEnds_11 : decode cX0_findEnds 11 = .ok (.iload_n 1, 1) := dk_27 (dk_at dksX0_findEnds_0 11 rfl rfl)
theorem dX0_findEnds_12 : decode cX0_findEnds 12 = .ok (.aload_n 0, 1) := dk_42 (dk_at dksX0_findEnds_0 12 rfl rfl)
theorem dX0_findEnds_13 : decode cX0_findEnds 13 = .ok (.getfield 71, 3) := dk_180 0 71 (dk_at dksX0_findEnds_0 13 rfl rfl)
theorem dX0_findEnds_16 : decode cX0_findEnds 16 = .ok (.arraylength, 1) := dk_190 (dk_at dksX0_findEnds_0 16 rfl rfl)
theorem dX0_findEnds_17 : decode cX0_findEnds 17 = .ok (.if_icmp .ge 16, 3) := dk_162 0 16 (dk_at dksX0_findEnds_0 17 rfl rfl)
theorem dX0_findEnds_20 : decode cX0_findEnds 20 = .ok (.aload_n 0, 1) := dk_42 (dk_at dksX0_findEnds_0 20 rfl rfl)
theorem dX0_findEnds_21 : decode cX0_findEnds 21 = .ok (.getfield 71, 3) := dk_180 0 71 (dk_at dksX0_findEnds_0 21 rfl rfl)
theorem dX0_findEnds_24 : decode cX0_findEnds 24 = .ok (.iload_n 1, 1) := dk_27 (dk_at dksX0_findEnds_1 0 rfl rfl)
theorem dX0_findEnds_25 : decode cX0_findEnds 25 = .ok (.lconst 0, 1) := dk_9 (dk_at dksX0_findEnds_1 1 rfl rfl)
theorem dX0_findEnds_26 : decode cX0_findEnds 26 = .ok (.lastore, 1) := dk_80 (dk_at dksX0_findEnds_1 2 rfl rfl)
theorem dX0_findEnds_27 : decode cX0_findEnds 27 = .ok (.iinc 1 1, 3) := dk_132 1 1 (dk_at dksX0_findEnds_1 3 rfl rfl)
theorem dX0_findEnds_30 : decode cX0_findEnds 30 = .ok (.goto (-19), 3) := dk_167 255 237 (dk_at dksX0_findEnds_1 6 rfl rfl)
theorem dX0_findEnds_33 : decode cX0_findEnds 33 = .ok (.iconst 0, 1) := dk_3 (dk_at dksX0_findEnds_1 9 rfl rfl)
theorem dX0_findEnds_34 : decode cX0_findEnds 34 = .ok (.istore_n 1, 1) := dk_60 (dk_at dksX0_findEnds_1 10 rfl rfl)
theorem dX0_findEnds_35 : decode cX0_findEnds 35 = .ok (.iload_n 1, 1) := dk_27 (dk_at dksX0_findEnds_1 11 rfl rfl)
theorem dX0_findEnds_36 : decode cX0_findEnds 36 = .ok (.bipush 16, 2) := dk_16 16 (dk_at dksX0_findEnds_1 12 rfl rfl)
theorem dX0_findEnds_38 : decode cX0_findEnds 38 = .ok (.if_icmp .ge 16, 3) := dk_162 0 16 (dk_at dksX0_findEnds_1 14 rfl rfl)
theorem dX0_findEnds_41 : decode cX0_findEnds 41 = .ok (.aload_n 0, 1) := dk_42 (dk_at dksX0_findEnds_1 17 rfl rfl)
theorem dX0_findEnds_42 : decode cX0_findEnds 42 = .ok (.getfield 74, 3) := dk_180 0 74 (dk_at dksX0_findEnds_1 18 rfl rfl)
theorem dX0_findEnds_45 : decode cX0_findEnds 45 = .ok (.iload_n 1, 1) := dk_27 (dk_at dksX0_findEnds_1 21 rfl rfl)
theorem dX0_findEnds_46 : decode cX0_findEnds 46 = .ok (.lconst 0, 1) := dk_9 (dk_at dksX0_findEnds_1 22 rfl rfl)
theorem dX0_findEnds_47 : decode cX0_findEnds 47 = .ok (.lastore, 1) := dk_80 (dk_at dksX0_findEnds_1 23 rfl rfl)
theorem dX0_findEnds_48 : decode cX0_findEnds 48 = .ok (.iinc 1 1, 3) := dk_132 1 1 (dk_at dksX0_findEnds_2 0 rfl rfl)
theorem dX0_findEnds_51 : decode cX0_findEnds 51 = .ok (.goto (-16), 3) := dk_167 255 240 (dk_at dksX0_findEnds_2 3 rfl rfl)
theorem dX0_findEnds_54 : decode cX0_findEnds 54 = .ok (.aload_n 0, 1) := dk_42 (dk_at dksX0_findEnds_2 6 rfl rfl)
theorem dX0_findEnds_55 : decode cX0_findEnds 55 = .ok (.aload_n 0, 1) := dk_42 (dk_at dksX0_findEnds_2 7 rfl rfl)
theorem dX0_findEnds_56 : decode cX0_findEnds 56 = .ok (.invokevirtual 102, 3) := dk_182 0 102 (dk_at dksX0_findEnds_2 8 rfl rfl)
theorem dX0_findEnds_59 : decode cX0_findEnds 59 = .ok (.iconst 0, 1) := dk_3 (dk_at dksX0_findEnds_2 11 rfl rfl)
theorem dX0_findEnds_60 : decode cX0_findEnds 60 = .ok (.iconst 0, 1) := dk_3 (dk_at dksX0_findEnds_2 12 rfl rfl)
theorem dX0_findEnds_61 : decode cX0_findEnds 61 = .ok (.lconst 1, 1) := dk_10 (dk_at dksX0_findEnds_2 13 rfl rfl)
theorem dX0_findEnds_62 : decode cX0_findEnds 62 = .ok (.invokevirtual 286, 3) := dk_182 1 30 (dk_at dksX0_findEnds_2 14 rfl rfl)
theorem dX0_findEnds_65 : decode cX0_findEnds 65 = .ok (.iconst 0, 1) := dk_3 (dk_at dksX0_findEnds_2 17 rfl rfl)
theorem dX0_findEnds_66 : decode cX0_findEnds 66 = .ok (.istore_n 1, 1) := dk_60 (dk_at dksX0_findEnds_2 18 rfl rfl)
theorem dX0_findEnds_67 : decode cX0_findEnds 67 = .ok (.iload_n 1, 1) := dk_27 (dk_at dksX0_findEnds_2 19 rfl rfl)
theorem dX0_findEnds_68 : decode cX0_findEnds 68 = .ok (.aload_n 0, 1) := dk_42 (dk_at dksX0_findEnds_2 20 rfl rfl)
theorem dX0_findEnds_69 : decode cX0_findEnds 69 = .ok (.getfield 22, 3) := dk_180 0 22 (dk_at dksX0_findEnds_2 21 rfl rfl)
theorem dX0_findEnds_72 : decode cX0_findEnds 72 = .ok (.if_icmp .ge 193, 3) := dk_162 0 193 (dk_at dksX0_findEnds_3 0 rfl rfl)
theorem dX0_findEnds_75 : decode cX0_findEnds 75 = .ok (.iconst 0, 1) := dk_3 (dk_at dksX0_findEnds_3 3 rfl rfl)
theorem dX0_findEnds_76 : decode cX0_findEnds 76 = .ok (.istore_n 2, 1) := dk_61 (dk_at dksX0_findEnds_3 4 rfl rfl)
theorem dX0_findEnds_77 : decode cX0_findEnds 77 = .ok (.iload_n 2, 1) := dk_28 (dk_at dksX0_findEnds_3 5 rfl rfl)
theorem dX0_findEnds_78 : decode cX0_findEnds 78 = .ok (.aload_n 0, 1) := dk_42 (dk_at dksX0_findEnds_3 6 rfl rfl)
theorem dX0_findEnds_79 : decode cX0_findEnds 79 = .ok (.invokevirtual 102, 3) := dk_182 0 102 (dk_at dksX0_findEnds_3 7 rfl rfl)
theorem dX0_findEnds_82 : decode cX0_findEnds 82 = .ok (.if_icmp .gt 177, 3) := dk_163 0 177 (dk_at dksX0_findEnds_3 10 rfl rfl)
theorem dX0_findEnds_85 : decode cX0_findEnds 85 = .ok (.iconst 0, 1) := dk_3 (dk_at dksX0_findEnds_3 13 rfl rfl)
theorem dX0_findEnds_86 : decode cX0_findEnds 86 = .ok (.istore_n 3, 1) := dk_62 (dk_at dksX0_findEnds_3 14 rfl rfl)
theorem dX0_findEnds_87 : decode cX0_findEnds 87 = .ok (.iload_n 3, 1) := dk_29 (dk_at dksX0_findEnds_3 15 rfl rfl)
theorem dX0_findEnds_88 : decode cX0_findEnds 88 = .ok (.aload_n 0, 1) := dk_42 (dk_at dksX0_findEnds_3 16 rfl rfl)
theorem dX0_findEnds_89 : decode cX0_findEnds 89 = .ok (.getfield 95, 3) := dk_180 0 95 (dk_at dksX0_findEnds_3 17 rfl rfl)
theorem dX0_findEnds_92 : decode cX0_findEnds 92 = .ok (.if_icmp .ge 161, 3) := dk_162 0 161 (dk_at dksX0_findEnds_3 20 rfl rfl)
theorem dX0_findEnds_95 : decode cX0_findEnds 95 = .ok (.aload_n 0, 1) := dk_42 (dk_at dksX0_findEnds_3 23 rfl rfl)
theorem dX0_findEnds_96 : decode cX0_findEnds 96 = .ok (.getfield 71, 3) := dk_180 0 71 (dk_at dksX0_findEnds_4 0 rfl rfl)
theorem dX0_findEnds_99 : decode cX0_findEnds 99 = .ok (.iload_n 2, 1) := dk_28 (dk_at dksX0_findEnds_4 3 rfl rfl)
theorem dX0_findEnds_100 : decode cX0_findEnds 100 = .ok (.iload_n 3, 1) := dk_29 (dk_at dksX0_findEnds_4 4 rfl rfl)
theorem dX0_findEnds_101 : decode cX0_findEnds 101 = .ok (.iload_n 1, 1) := dk_27 (dk_at dksX0_findEnds_4 5 rfl rfl)
theorem dX0_findEnds_102 : decode cX0_findEnds 102 = .ok (.invokestatic 253, 3) := dk_184 0 253 (dk_at dksX0_findEnds_4 6 rfl rfl)
theorem dX0_findEnds_105 : decode cX0_findEnds 105 = .ok (.laload, 1) := dk_47 (dk_at dksX0_findEnds_4 9 rfl rfl)
theorem dX0_findEnds_106 : decode cX0_findEnds 106 = .ok (.lstore 4, 2) := dk_55 4 (dk_at dksX0_findEnds_4 10 rfl rfl)
theorem dX0_findEnds_108 : decode cX0_findEnds 108 = .ok (.lload 4, 2) := dk_22 4 (dk_at dksX0_findEnds_4 12 rfl rfl)
theorem dX0_findEnds_110 : decode cX0_findEnds 110 = .ok (.lconst 0, 1) := dk_9 (dk_at dksX0_findEnds_4 14 rfl rfl)
theorem dX0_findEnds_111 : decode cX0_findEnds 111 = .ok (.lcmp, 1) := dk_148 (dk_at dksX0_findEnds_4 15 rfl rfl)
theorem dX0_findEnds_112 : decode cX0_findEnds 112 = .ok (.ifCond .ne 6, 3) := dk_154 0 6 (dk_at dksX0_findEnds_4 16 rfl rfl)
theorem dX0_findEnds_115 : decode cX0_findEnds 115 = .ok (.goto 132, 3) := dk_167 0 132 (dk_at dksX0_findEnds_4 19 rfl rfl)
theorem dX0_findEnds_118 : decode cX0_findEnds 118 = .ok (.aload_n 0, 1) := dk_42 (dk_at dksX0_findEnds_4 22 rfl rfl)
theorem dX0_findEnds_119 : decode cX0_findEnds 119 = .ok (.dup, 1) := dk_89 (dk_at dksX0_findEnds_4 23 rfl rfl)
theorem dX0_findEnds_120 : decode cX0_findEnds 120 = .ok (.getfield 282, 3) := dk_180 1 26 (dk_at dksX0_findEnds_5 0 rfl rfl)
theorem dX0_findEnds_123 : decode cX0_findEnds 123 = .ok (.lload 4, 2) := dk_22 4 (dk_at dksX0_findEnds_5 3 rfl rfl)
theorem dX0_findEnds_125 : decode cX0_findEnds 125 = .ok (.aload_n 0, 1) := dk_42 (dk_at dksX0_findEnds_5 5 rfl rfl)
theorem dX0_findEnds_126 : decode cX0_findEnds 126 = .ok (.getfield 68, 3) := dk_180 0 68 (dk_at dksX0_findEnds_5 6 rfl rfl)
theorem dX0_findEnds_129 : decode cX0_findEnds 129 = .ok (.aload_n 0, 1) := dk_42 (dk_at dksX0_findEnds_5 9 rfl rfl)
theorem dX0_findEnds_130 : decode cX0_findEnds 130 = .ok (.getfield 22, 3) := dk_180 0 22 (dk_at dksX0_findEnds_5 10 rfl rfl)
theorem dX0_findEnds_133 : decode cX0_findEnds 133 = .ok (.iload_n 1, 1) := dk_27 (dk_at dksX0_findEnds_5 13 rfl rfl)
theorem dX0_findEnds_134 : decode cX0_findEnds 134 = .ok (.isub, 1) := dk_100 (dk_at dksX0_findEnds_5 14 rfl rfl)
theorem dX0_findEnds_135 : decode cX0_findEnds 135 = .ok (.laload, 1) := dk_47 (dk_at dksX0_findEnds_5 15 rfl rfl)
theorem dX0_findEnds_136 : decode cX0_findEnds 136 = .ok (.lmul, 1) := dk_105 (dk_at dksX0_findEnds_5 16 rfl rfl)
theorem dX0_findEnds_137 : decode cX0_findEnds 137 = .ok (.ladd, 1) := dk_97 (dk_at dksX0_findEnds_5 17 rfl rfl)
theorem dX0_findEnds_138 : decode cX0_findEnds 138 = .ok (.putfield 282, 3) := dk_181 1 26 (dk_at dksX0_findEnds_5 18 rfl rfl)
theorem dX0_findEnds_141 : decode cX0_findEnds 141 = .ok (.aload_n 0, 1) := dk_42 (dk_at dksX0_findEnds_5 21 rfl rfl)
theorem dX0_findEnds_142 : decode cX0_findEnds 142 = .ok (.getfield 47, 3) := dk_180 0 47 (dk_at dksX0_findEnds_6 0 rfl rfl)
theorem dX0_findEnds_145 : decode cX0_findEnds 145 = .ok (.iload_n 2, 1) := dk_28 (dk_at dksX0_findEnds_6 3 rfl rfl)
theorem dX0_findEnds_146 : decode cX0_findEnds 146 = .ok (.iload_n 3, 1) := dk_29 (dk_at dksX0_findEnds_6 4 rfl rfl)
theorem dX0_findEnds_147 : decode cX0_findEnds 147 = .ok (.iload_n 1, 1) := dk_27 (dk_at dksX0_findEnds_6 5 rfl rfl)
theorem dX0_findEnds_148 : decode cX0_findEnds 148 = .ok (.invokestatic 253, 3) := dk_184 0 253 (dk_at dksX0_findEnds_6 6 rfl rfl)
theorem dX0_findEnds_151 : decode cX0_findEnds 151 = .ok (.baload, 1) := dk_51 (dk_at dksX0_findEnds_6 9 rfl rfl)
theorem dX0_findEnds_152 : decode cX0_findEnds 152 = .ok (.istore 6, 2) := dk_54 6 (dk_at dksX0_findEnds_6 10 rfl rfl)
theorem dX0_findEnds_154 : decode cX0_findEnds 154 = .ok (.iload 6, 2) := dk_21 6 (dk_at dksX0_findEnds_6 12 rfl rfl)
theorem dX0_findEnds_156 : decode cX0_findEnds 156 = .ok (.bipush 9, 2) := dk_16 9 (dk_at dksX0_findEnds_6 14 rfl rfl)
theorem dX0_findEnds_158 : decode cX0_findEnds 158 = .ok (.if_icmp .ne 7, 3) := dk_160 0 7 (dk_at dksX0_findEnds_6 16 rfl rfl)
theorem dX0_findEnds_161 : decode cX0_findEnds 161 = .ok (.iconst 0, 1) := dk_3 (dk_at dksX0_findEnds_6 19 rfl rfl)
theorem dX0_findEnds_162 : decode cX0_findEnds 162 = .ok (.goto 17, 3) := dk_167 0 17 (dk_at dksX0_findEnds_6 20 rfl rfl)
theorem dX0_findEnds_165 : decode cX0_findEnds 165 = .ok (.aload_n 0, 1) := dk_42 (dk_at dksX0_findEnds_6 23 rfl rfl)
theorem dX0_findEnds_166 : decode cX0_findEnds 166 = .ok (.aload_n 0, 1) := dk_42 (dk_at dksX0_findEnds_7 0 rfl rfl)
theorem dX0_findEnds_167 : decode cX0_findEnds 167 = .ok (.getfield 15, 3) := dk_180 0 15 (dk_at dksX0_findEnds_7 1 rfl rfl)
theorem dX0_findEnds_170 : decode cX0_findEnds 170 = .ok (.iload_n 3, 1) := dk_29 (dk_at dksX0_findEnds_7 4 rfl rfl)
theorem dX0_findEnds_171 : decode cX0_findEnds 171 = .ok (.iaload, 1) := dk_46 (dk_at dksX0_findEnds_7 5 rfl rfl)
theorem dX0_findEnds_172 : decode cX0_findEnds 172 = .ok (.iload 6, 2) := dk_21 6 (dk_at dksX0_findEnds_7 6 rfl rfl)
theorem dX0_findEnds_174 : decode cX0_findEnds 174 = .ok (.iload_n 2, 1) := dk_28 (dk_at dksX0_findEnds_7 8 rfl rfl)
theorem dX0_findEnds_175 : decode cX0_findEnds 175 = .ok (.iload_n 1, 1) := dk_27 (dk_at dksX0_findEnds_7 9 rfl rfl)
theorem dX0_findEnds_176 : decode cX0_findEnds 176 = .ok (.invokevirtual 263, 3) := dk_182 1 7 (dk_at dksX0_findEnds_7 10 rfl rfl)
theorem dX0_findEnds_179 : decode cX0_findEnds 179 = .ok (.istore 7, 2) := dk_54 7 (dk_at dksX0_findEnds_7 13 rfl rfl)
theorem dX0_findEnds_181 : decode cX0_findEnds 181 = .ok (.iload 6, 2) := dk_21 6 (dk_at dksX0_findEnds_7 15 rfl rfl)
theorem dX0_findEnds_183 : decode cX0_findEnds 183 = .ok (.bipush 9, 2) := dk_16 9 (dk_at dksX0_findEnds_7 17 rfl rfl)
theorem dX0_findEnds_185 : decode cX0_findEnds 185 = .ok (.if_icmp .ne 7, 3) := dk_160 0 7 (dk_at dksX0_findEnds_7 19 rfl rfl)
theorem dX0_findEnds_188 : decode cX0_findEnds 188 = .ok (.iload_n 2, 1) := dk_28 (dk_at dksX0_findEnds_7 22 rfl rfl)
theorem dX0_findEnds_189 : decode cX0_findEnds 189 = .ok (.goto 11, 3) := dk_167 0 11 (dk_at dksX0_findEnds_8 0 rfl rfl)
theorem dX0_findEnds_192 : decode cX0_findEnds 192 = .ok (.iload_n 2, 1) := dk_28 (dk_at dksX0_findEnds_8 3 rfl rfl)
theorem dX0_findEnds_193 : decode cX0_findEnds 193 = .ok (.iconst 1, 1) := dk_4 (dk_at dksX0_findEnds_8 4 rfl rfl)
theorem dX0_findEnds_194 : decode cX0_findEnds 194 = .ok (.iload 6, 2) := dk_21 6 (dk_at dksX0_findEnds_8 5 rfl rfl)
theorem dX0_findEnds_196 : decode cX0_findEnds 196 = .ok (.ishl, 1) := dk_120 (dk_at dksX0_findEnds_8 7 rfl rfl)
theorem dX0_findEnds_197 : decode cX0_findEnds 197 = .ok (.iconst (-1), 1) := dk_2 (dk_at dksX0_findEnds_8 8 rfl rfl)
theorem dX0_findEnds_198 : decode cX0_findEnds 198 = .ok (.ixor, 1) := dk_130 (dk_at dksX0_findEnds_8 9 rfl rfl)
theorem dX0_findEnds_199 : decode cX0_findEnds 199 = .ok (.iand, 1) := dk_126 (dk_at dksX0_findEnds_8 10 rfl rfl)
theorem dX0_findEnds_200 : decode cX0_findEnds 200 = .ok (.istore 8, 2) := dk_54 8 (dk_at dksX0_findEnds_8 11 rfl rfl)
theorem dX0_findEnds_202 : decode cX0_findEnds 202 = .ok (.aload_n 0, 1) := dk_42 (dk_at dksX0_findEnds_8 13 rfl rfl)
theorem dX0_findEnds_203 : decode cX0_findEnds 203 = .ok (.iload 8, 2) := dk_21 8 (dk_at dksX0_findEnds_8 14 rfl rfl)
theorem dX0_findEnds_205 : decode cX0_findEnds 205 = .ok (.aload_n 0, 1) := dk_42 (dk_at dksX0_findEnds_8 16 rfl rfl)
theorem dX0_findEnds_206 : decode cX0_findEnds 206 = .ok (.iload 8, 2) := dk_21 8 (dk_at dksX0_findEnds_8 17 rfl rfl)
theorem dX0_findEnds_208 : decode cX0_findEnds 208 = .ok (.iload_n 3, 1) := dk_29 (dk_at dksX0_findEnds_8 19 rfl rfl)
theorem dX0_findEnds_209 : decode cX0_findEnds 209 = .ok (.invokevirtual 256, 3) := dk_182 1 0 (dk_at dksX0_findEnds_8 20 rfl rfl)
theorem dX0_findEnds_212 : decode cX0_findEnds 212 = .ok (.iload_n 1, 1) := dk_27 (dk_at dksX0_findEnds_8 23 rfl rfl)
theorem dX0_findEnds_213 : decode cX0_findEnds 213 = .ok (.iconst 1, 1) := dk_4 (dk_at dksX0_findEnds_9 0 rfl rfl)
theorem dX0_findEnds_214 : decode cX0_findEnds 214 = .ok (.iadd, 1) := dk_96 (dk_at dksX0_findEnds_9 1 rfl rfl)
theorem dX0_findEnds_215 : decode cX0_findEnds 215 = .ok (.iload 7, 2) := dk_21 7 (dk_at dksX0_findEnds_9 2 rfl rfl)
theorem dX0_findEnds_217 : decode cX0_findEnds 217 = .ok (.i2l, 1) := dk_133 (dk_at dksX0_findEnds_9 4 rfl rfl)
theorem dX0_findEnds_218 : decode cX0_findEnds 218 = .ok (.lload 4, 2) := dk_22 4 (dk_at dksX0_findEnds_9 5 rfl rfl)
theorem dX0_findEnds_220 : decode cX0_findEnds 220 = .ok (.lmul, 1) := dk_105 (dk_at dksX0_findEnds_9 7 rfl rfl)
theorem dX0_findEnds_221 : decode cX0_findEnds 221 = .ok (.invokevirtual 286, 3) := dk_182 1 30 (dk_at dksX0_findEnds_9 8 rfl rfl)
theorem dX0_findEnds_224 : decode cX0_findEnds 224 = .ok (.aload_n 0, 1) := dk_42 (dk_at dksX0_findEnds_9 11 rfl rfl)
theorem dX0_findEnds_225 : decode cX0_findEnds 225 = .ok (.iload_n 2, 1) := dk_28 (dk_at dksX0_findEnds_9 12 rfl rfl)
theorem dX0_findEnds_226 : decode cX0_findEnds 226 = .ok (.aload_n 0, 1) := dk_42 (dk_at dksX0_findEnds_9 13 rfl rfl)
theorem dX0_findEnds_227 : decode cX0_findEnds 227 = .ok (.iload_n 2, 1) := dk_28 (dk_at dksX0_findEnds_9 14 rfl rfl)
theorem dX0_findEnds_228 : decode cX0_findEnds 228 = .ok (.iload_n 3, 1) := dk_29 (dk_at dksX0_findEnds_9 15 rfl rfl)
theorem dX0_findEnds_229 : decode cX0_findEnds 229 = .ok (.invokevirtual 256, 3) := dk_182 1 0 (dk_at dksX0_findEnds_9 16 rfl rfl)
theorem dX0_findEnds_232 : decode cX0_findEnds 232 = .ok (.iload_n 1, 1) := dk_27 (dk_at dksX0_findEnds_9 19 rfl rfl)
theorem dX0_findEnds_233 : decode cX0_findEnds 233 = .ok (.iconst 1, 1) := dk_4 (dk_at dksX0_findEnds_9 20 rfl rfl)
theorem dX0_findEnds_234 : decode cX0_findEnds 234 = .ok (.iadd, 1) := dk_96 (dk_at dksX0_findEnds_9 21 rfl rfl)
theorem dX0_findEnds_235 : decode cX0_findEnds 235 = .ok (.bipush 12, 2) := dk_16 12 (dk_at dksX0_findEnds_9 22 rfl rfl)
theorem dX0_findEnds_237 : decode cX0_findEnds 237 = .ok (.iload 7, 2) := dk_21 7 (dk_at dksX0_findEnds_10 0 rfl rfl)
theorem dX0_findEnds_239 : decode cX0_findEnds 239 = .ok (.isub, 1) := dk_100 (dk_at dksX0_findEnds_10 2 rfl rfl)
theorem dX0_findEnds_240 : decode cX0_findEnds 240 = .ok (.i2l, 1) := dk_133 (dk_at dksX0_findEnds_10 3 rfl rfl)
theorem dX0_findEnds_241 : decode cX0_findEnds 241 = .ok (.lload 4, 2) := dk_22 4 (dk_at dksX0_findEnds_10 4 rfl rfl)
theorem dX0_findEnds_243 : decode cX0_findEnds 243 = .ok (.lmul, 1) := dk_105 (dk_at dksX0_findEnds_10 6 rfl rfl)
theorem dX0_findEnds_244 : decode cX0_findEnds 244 = .ok (.invokevirtual 286, 3) := dk_182 1 30 (dk_at dksX0_findEnds_10 7 rfl rfl)
theorem dX0_findEnds_247 : decode cX0_findEnds 247 = .ok (.iinc 3 1, 3) := dk_132 3 1 (dk_at dksX0_findEnds_10 10 rfl rfl)
theorem dX0_findEnds_250 : decode cX0_findEnds 250 = .ok (.goto (-163), 3) := dk_167 255 93 (dk_at dksX0_findEnds_10 13 rfl rfl)
theorem dX0_findEnds_253 : decode cX0_findEnds 253 = .ok (.iinc 2 1, 3) := dk_132 2 1 (dk_at dksX0_findEnds_10 16 rfl rfl)
theorem dX0_findEnds_256 : decode cX0_findEnds 256 = .ok (.goto (-179), 3) := dk_167 255 77 (dk_at dksX0_findEnds_10 19 rfl rfl)
theorem dX0_findEnds_259 : decode cX0_findEnds 259 = .ok (.iinc 1 1, 3) := dk_132 1 1 (dk_at dksX0_findEnds_11 0 rfl rfl)
theorem dX0_findEnds_262 : decode cX0_findEnds 262 = .ok (.goto (-195), 3) := dk_167 255 61 (dk_at dksX0_findEnds_11 3 rfl rfl)
theorem dX0_findEnds_265 : decode cX0_findEnds 265 = .ok (.return_, 1) := dk_177 (dk_at dksX0_findEnds_11 6 rfl rfl)
abbrev cX0_findValues : ByteArray := prog_1_method_34_code
def yX0_findValues : MethodName := ⟨RX0, "findValues", "()V"⟩
def dkwX0_findValues_6 : List UInt8 := [132, 1, 255, 167, 255, 121, 177]
abbrev dktX0_findValues_6 : List UInt8 := dkwX0_findValues_6 ++ []
def dkwX0_findValues_5 : List UInt8 := [182, 1, 10, 80, 132, 5, 1, 167, 255, 217, 132, 3, 1, 167, 255, 161, 132, 2, 1, 167, 255, 133]
abbrev dktX0_findValues_5 : List UInt8 := dkwX0_findValues_5 ++ dktX0_findValues_6
def dkwX0_findValues_4 : List UInt8 := [180, 0, 43, 7, 28, 29, 27, 184, 0, 253, 104, 21, 5, 96, 42, 28, 29, 27, 21, 4, 21, 5]
abbrev dktX0_findValues_4 : List UInt8 := dkwX0_findValues_4 ++ dktX0_findValues_5
def dkwX0_findValues_3 : List UInt8 := [28, 29, 27, 184, 0, 253, 21, 4, 145, 84, 3, 54, 5, 21, 5, 42, 180, 0, 95, 162, 0, 36, 42]
abbrev dktX0_findValues_3 : List UInt8 := dkwX0_findValues_3 ++ dktX0_findValues_4
def dkwX0_findValues_2 : List UInt8 := [29, 46, 184, 0, 139, 154, 0, 6, 167, 0, 71, 42, 28, 29, 27, 182, 1, 20, 54, 4, 42, 180, 0, 47]
abbrev dktX0_findValues_2 : List UInt8 := dkwX0_findValues_2 ++ dktX0_findValues_3
def dkwX0_findValues_1 : List UInt8 := [182, 0, 246, 153, 0, 6, 167, 0, 103, 3, 62, 29, 42, 180, 0, 95, 162, 0, 93, 28, 42, 180, 0, 15]
abbrev dktX0_findValues_1 : List UInt8 := dkwX0_findValues_1 ++ dktX0_findValues_2
def dkwX0_findValues_0 : List UInt8 := [42, 180, 0, 22, 4, 100, 60, 27, 155, 0, 137, 3, 61, 28, 42, 182, 0, 102, 163, 0, 121, 42, 28, 27]
abbrev dktX0_findValues_0 : List UInt8 := dkwX0_findValues_0 ++ dktX0_findValues_1
theorem dksX0_findValues_0 : cX0_findValues.data.toList.drop 0 = dktX0_findValues_0 := by decide +kernel
theorem dksX0_findValues_1 : cX0_findValues.data.toList.drop 24 = dktX0_findValues_1 := dk_seg dksX0_findValues_0 24 rfl rfl
theorem dksX0_findValues_2 : cX0_findValues.data.toList.drop 48 = dktX0_findValues_2 := dk_seg dksX0_findValues_1 24 rfl rfl
theorem dksX0_findValues_3 : cX0_findValues.data.toList.drop 72 = dktX0_findValues_3 := dk_seg dksX0_findValues_2 24 rfl rfl
theorem dksX0_findValues_4 : cX0_findValues.data.toList.drop 95 = dktX0_findValues_4 := dk_seg dksX0_findValues_3 23 rfl rfl
theorem dksX0_findValues_5 : cX0_findValues.data.toList.drop 117 = dktX0_findValues_5 := dk_seg dksX0_findValues_4 22 rfl rfl
theorem dksX0_findValues_6 : cX0_findValues.data.toList.drop 139 = dktX0_findValues_6 := dk_seg dksX0_findValues_5 22 rfl rfl
theorem dX0_findValues_0 : decode cX0_findValues 0 = .ok (.aload_n 0, 1) := dk_42 (dk_at dksX0_findValues_0 0 rfl rfl)
theorem dX0_findValues_1 : decode cX0_findValues 1 = .ok (.getfield 22, 3) := dk_180 0 22 (dk_at dksX0_findValues_0 1 rfl rfl)
theorem dX0_findValues_4 : decode cX0_findValues 4 = .ok (.iconst 1, 1) := dk_4 (dk_at dksX0_findValues_0 4 rfl rfl)
theorem dX0_findValues_5 : decode cX0_findValues 5 = .ok (.isub, 1) := dk_100 (dk_at dksX0_findValues_0 5 rfl rfl)
theorem dX0_findValues_6 : decode cX0_findValues 6 = .ok (.istore_n 1, 1) := dk_60 (dk_at dksX0_findValues_0 6 rfl rfl)
theorem dX0_findValues_7 : decode cX0_findValues 7 = .ok (.iload_n 1, 1) := dk_27 (dk_at dksX0_findValues_0 7 rfl rfl)
theorem dX0_findValues_8 : decode cX0_findValues 8 = .ok (.ifCond .lt 137, 3) := dk_155 0 137 (dk_at dksX0_findValues_0 8 rfl rfl)
theorem dX0_findValues_11 : decode cX0_findValues 11 = .ok (.iconst 0, 1) := dk_3 (dk_at dksX0_findValues_0 11 rfl rfl)
theorem dX0_findValues_12 : decode cX0_findValues 12 = .ok (.istore_n 2, 1) := dk_61 (dk_at dksX0_findValues_0 12 rfl rfl)
theorem dX0_findValues_13 : decode cX0_findValues 13 = .ok (.iload_n 2, 1) := dk_28 (dk_at dksX0_findValues_0 13 rfl rfl)
theorem dX0_findValues_14 : decode cX0_findValues 14 = .ok (.aload_n 0, 1) := dk_42 (dk_at dksX0_findValues_0 14 rfl rfl)
theorem dX0_findValues_15 : decode cX0_findValues 15 = .ok (.invokevirtual 102, 3) := dk_182 0 102 (dk_at dksX0_findValues_0 15 rfl rfl)
theorem dX0_findValues_18 : decode cX0_findValues 18 = .ok (.if_icmp .gt 121, 3) := dk_163 0 121 (dk_at dksX0_findValues_0 18 rfl rfl)
theorem dX0_findValues_21 : decode cX0_findValues 21 = .ok (.aload_n 0, 1) := dk_42 (dk_at dksX0_findValues_0 21 rfl rfl)
theorem dX0_findValues_22 : decode cX0_findValues 22 = .ok (.iload_n 2, 1) := dk_28 (dk_at dksX0_findValues_0 22 rfl rfl)
theorem dX0_findValues_23 : decode cX0_findValues 23 = .ok (.iload_n 1, 1) := dk_27 (dk_at dksX0_findValues_0 23 rfl rfl)
theorem dX0_findValues_24 : decode cX0_findValues 24 = .ok (.invokevirtual 246, 3) := dk_182 0 246 (dk_at dksX0_findValues_1 0 rfl rfl)
theorem dX0_findValues_27 : decode cX0_findValues 27 = .ok (.ifCond .eq 6, 3) := dk_153 0 6 (dk_at dksX0_findValues_1 3 rfl rfl)
theorem dX0_findValues_30 : decode cX0_findValues 30 = .ok (.goto 103, 3) := dk_167 0 103 (dk_at dksX0_findValues_1 6 rfl rfl)
theorem dX0_findValues_33 : decode cX0_findValues 33 = .ok (.iconst 0, 1) := dk_3 (dk_at dksX0_findValues_1 9 rfl rfl)
theorem dX0_findValues_34 : decode cX0_findValues 34 = .ok (.istore_n 3, 1) := dk_62 (dk_at dksX0_findValues_1 10 rfl rfl)
theorem dX0_findValues_35 : decode cX0_findValues 35 = .ok (.iload_n 3, 1) := dk_29 (dk_at dksX0_findValues_1 11 rfl rfl)
theorem dX0_findValues_36 : decode cX0_findValues 36 = .ok (.aload_n 0, 1) := dk_42 (dk_at dksX0_findValues_1 12 rfl rfl)
theorem dX0_findValues_37 : decode cX0_findValues 37 = .ok (.getfield 95, 3) := dk_180 0 95 (dk_at dksX0_findValues_1 13 rfl rfl)
theorem dX0_findValues_40 : decode cX0_findValues 40 = .ok (.if_icmp .ge 93, 3) := dk_162 0 93 (dk_at dksX0_findValues_1 16 rfl rfl)
theorem dX0_findValues_43 : decode cX0_findValues 43 = .ok (.iload_n 2, 1) := dk_28 (dk_at dksX0_findValues_1 19 rfl rfl)
theorem dX0_findValues_44 : decode cX0_findValues 44 = .ok (.aload_n 0, 1) := dk_42 (dk_at dksX0_findValues_1 20 rfl rfl)
theorem dX0_findValues_45 : decode cX0_findValues 45 = .ok (.getfield 15, 3) := dk_180 0 15 (dk_at dksX0_findValues_1 21 rfl rfl)
theorem dX0_findValues_48 : decode cX0_findValues 48 = .ok (.iload_n 3, 1) := dk_29 (dk_at dksX0_findValues_2 0 rfl rfl)
theorem dX0_findValues_49 : decode cX0_findValues 49 = .ok (.iaload, 1) := dk_46 (dk_at dksX0_findValues_2 1 rfl rfl)
theorem dX0_findValues_50 : decode cX0_findValues 50 = .ok (.invokestatic 139, 3) := dk_184 0 139 (dk_at dksX0_findValues_2 2 rfl rfl)
theorem dX0_findValues_53 : decode cX0_findValues 53 = .ok (.ifCond .ne 6, 3) := dk_154 0 6 (dk_at dksX0_findValues_2 5 rfl rfl)
theorem dX0_findValues_56 : decode cX0_findValues 56 = .ok (.goto 71, 3) := dk_167 0 71 (dk_at dksX0_findValues_2 8 rfl rfl)
theorem dX0_findValues_59 : decode cX0_findValues 59 = .ok (.aload_n 0, 1) := dk_42 (dk_at dksX0_findValues_2 11 rfl rfl)
theorem dX0_findValues_60 : decode cX0_findValues 60 = .ok (.iload_n 2, 1) := dk_28 (dk_at dksX0_findValues_2 12 rfl rfl)
theorem dX0_findValues_61 : decode cX0_findValues 61 = .ok (.iload_n 3, 1) := dk_29 (dk_at dksX0_findValues_2 13 rfl rfl)
theorem dX0_findValues_62 : decode cX0_findValues 62 = .ok (.iload_n 1, 1) := dk_27 (dk_at dksX0_findValues_2 14 rfl rfl)
theorem dX0_findValues_63 : decode cX0_findValues 63 = .ok (.invokevirtual 276, 3) := dk_182 1 20 (dk_at dksX0_findValues_2 15 rfl rfl)
theorem dX0_findValues_66 : decode cX0_findValues 66 = .ok (.istore 4, 2) := dk_54 4 (dk_at dksX0_findValues_2 18 rfl rfl)
theorem dX0_findValues_68 : decode cX0_findValues 68 = .ok (.aload_n 0, 1) := dk_42 (dk_at dksX0_findValues_2 20 rfl rfl)
theorem dX0_findValues_69 : decode cX0_findValues 69 = .ok (.getfield 47, 3) := dk_180 0 47 (dk_at dksX0_findValues_2 21 rfl rfl)
theorem dX0_findValues_72 : decode cX0_findValues 72 = .ok (.iload_n 2, 1) := dk_28 (dk_at dksX0_findValues_3 0 rfl rfl)
theorem dX0_findValues_73 : decode cX0_findValues 73 = .ok (.iload_n 3, 1) := dk_29 (dk_at dksX0_findValues_3 1 rfl rfl)
theorem dX0_findValues_74 : decode cX0_findValues 74 = .ok (.iload_n 1, 1) := dk_27 (dk_at dksX0_findValues_3 2 rfl rfl)
theorem dX0_findValues_75 : decode cX0_findValues 75 = .ok (.invokestatic 253, 3) := dk_184 0 253 (dk_at dksX0_findValues_3 3 rfl rfl)
theorem dX0_findValues_78 : decode cX0_findValues 78 = .ok (.iload 4, 2) := dk_21 4 (dk_at dksX0_findValues_3 6 rfl rfl)
theorem dX0_findValues_80 : decode cX0_findValues 80 = .ok (.i2b, 1) := dk_145 (dk_at dksX0_findValues_3 8 rfl rfl)
theorem dX0_findValues_81 : decode cX0_findValues 81 = .ok (.bastore, 1) := dk_84 (dk_at dksX0_findValues_3 9 rfl rfl)
theorem dX0_findValues_82 : decode cX0_findValues 82 = .ok (.iconst 0, 1) := dk_3 (dk_at dksX0_findValues_3 10 rfl rfl)
theorem dX0_findValues_83 : decode cX0_findValues 83 = .ok (.istore 5, 2) := dk_54 5 (dk_at dksX0_findValues_3 11 rfl rfl)
theorem dX0_findValues_85 : decode cX0_findValues 85 = .ok (.iload 5, 2) := dk_21 5 (dk_at dksX0_findValues_3 13 rfl rfl)
theorem dX0_findValues_87 : decode cX0_findValues 87 = .ok (.aload_n 0, 1) := dk_42 (dk_at dksX0_findValues_3 15 rfl rfl)
theorem dX0_findValues_88 : decode cX0_findValues 88 = .ok (.getfield 95, 3) := dk_180 0 95 (dk_at dksX0_findValues_3 16 rfl rfl)
theorem dX0_findValues_91 : decode cX0_findValues 91 = .ok (.if_icmp .ge 36, 3) := dk_162 0 36 (dk_at dksX0_findValues_3 19 rfl rfl)
theorem dX0_findValues_94 : decode cX0_findValues 94 = .ok (.aload_n 0, 1) := dk_42 (dk_at dksX0_findValues_3 22 rfl rfl)
theorem dX0_findValues_95 : decode cX0_findValues 95 = .ok (.getfield 43, 3) := dk_180 0 43 (dk_at dksX0_findValues_4 0 rfl rfl)
theorem dX0_findValues_98 : decode cX0_findValues 98 = .ok (.iconst 4, 1) := dk_7 (dk_at dksX0_findValues_4 3 rfl rfl)
theorem dX0_findValues_99 : decode cX0_findValues 99 = .ok (.iload_n 2, 1) := dk_28 (dk_at dksX0_findValues_4 4 rfl rfl)
theorem dX0_findValues_100 : decode cX0_findValues 100 = .ok (.iload_n 3, 1) := dk_29 (dk_at dksX0_findValues_4 5 rfl rfl)
theorem dX0_findValues_101 : decode cX0_findValues 101 = .ok (.iload_n 1, 1) := dk_27 (dk_at dksX0_findValues_4 6 rfl rfl)
theorem dX0_findValues_102 : decode cX0_findValues 102 = .ok (.invokestatic 253, 3) := dk_184 0 253 (dk_at dksX0_findValues_4 7 rfl rfl)
theorem dX0_findValues_105 : decode cX0_findValues 105 = .ok (.imul, 1) := dk_104 (dk_at dksX0_findValues_4 10 rfl rfl)
theorem dX0_findValues_106 : decode cX0_findValues 106 = .ok (.iload 5, 2) := dk_21 5 (dk_at dksX0_findValues_4 11 rfl rfl)
theorem dX0_findValues_108 : decode cX0_findValues 108 = .ok (.iadd, 1) := dk_96 (dk_at dksX0_findValues_4 13 rfl rfl)
theorem dX0_findValues_109 : decode cX0_findValues 109 = .ok (.aload_n 0, 1) := dk_42 (dk_at dksX0_findValues_4 14 rfl rfl)
theorem dX0_findValues_110 : decode cX0_findValues 110 = .ok (.iload_n 2, 1) := dk_28 (dk_at dksX0_findValues_4 15 rfl rfl)
theorem dX0_findValues_111 : decode cX0_findValues 111 = .ok (.iload_n 3, 1) := dk_29 (dk_at dksX0_findValues_4 16 rfl rfl)
theorem dX0_findValues_112 : decode cX0_findValues 112 = .ok (.iload_n 1, 1) := dk_27 (dk_at dksX0_findValues_4 17 rfl rfl)
theorem dX0_findValues_113 : decode cX0_findValues 113 = .ok (.iload 4, 2) := dk_21 4 (dk_at dksX0_findValues_4 18 rfl rfl)
theorem dX0_findValues_115 : decode cX0_findValues 115 = .ok (.iload 5, 2) := dk_21 5 (dk_at dksX0_findValues_4 20 rfl rfl)
theorem dX0_findValues_117 : decode cX0_findValues 117 = .ok (.invokevirtual 266, 3) := dk_182 1 10 (dk_at dksX0_findValues_5 0 rfl rfl)
theorem dX0_findValues_120 : decode cX0_findValues 120 = .ok (.lastore, 1) := dk_80 (dk_at dksX0_findValues_5 3 rfl rfl)
theorem dX0_findValues_121 : decode cX0_findValues 121 = .ok (.iinc 5 1, 3) := dk_132 5 1 (dk_at dksX0_findValues_5 4 rfl rfl)
theorem dX0_findValues_124 : decode cX0_findValues 124 = .ok (.goto (-39), 3) := dk_167 255 217 (dk_at dksX0_findValues_5 7 rfl rfl)
theorem dX0_findValues_127 : decode cX0_findValues 127 = .ok (.iinc 3 1, 3) := dk_132 3 1 (dk_at dksX0_findValues_5 10 rfl rfl)
theorem dX0_findValues_130 : decode cX0_findValues 130 = .ok (.goto (-95), 3) := dk_167 255 161 (dk_at dksX0_findValues_5 13 rfl rfl)
theorem dX0_findValues_133 : decode cX0_findValues 133 = .ok (.iinc 2 1, 3) := dk_132 2 1 (dk_at dksX0_findValues_5 16 rfl rfl)
theorem dX0_findValues_136 : decode cX0_findValues 136 = .ok (.goto (-123), 3) := dk_167 255 133 (dk_at dksX0_findValues_5 19 rfl rfl)
theorem dX0_findValues_139 : decode cX0_findValues 139 = .ok (.iinc 1 (-1), 3) := dk_132 1 255 (dk_at dksX0_findValues_6 0 rfl rfl)
theorem dX0_findValues_142 : decode cX0_findValues 142 = .ok (.goto (-135), 3) := dk_167 255 121 (dk_at dksX0_findValues_6 3 rfl rfl)
theorem dX0_findValues_145 : decode cX0_findValues 145 = .ok (.return_, 1) := dk_177 (dk_at dksX0_findValues_6 6 rfl rfl)
abbrev cX0_isOver : ByteArray := prog_1_method_26_code
def yX0_isOver : MethodName := ⟨RX0, "isOver", "(II)Z"⟩
def dkwX0_isOver_0 : List UInt8 := [28, 42, 180, 0, 22, 162, 0, 11, 27, 184, 0, 231, 4, 163, 0, 7, 4, 167, 0, 4, 3, 172]
abbrev dktX0_isOver_0 : List UInt8 := dkwX0_isOver_0 ++ []
theorem dksX0_isOver_0 : cX0_isOver.data.toList.drop 0 = dktX0_isOver_0 := by decide +kernel
theorem dX0_isOver_0 : decode cX0_isOver 0 = .ok (.iload_n 2, 1) := dk_28 (dk_at dksX0_isOver_0 0 rfl rfl)
theorem dX0_isOver_1 : decode cX0_isOver 1 = .ok (.aload_n 0, 1) := dk_42 (dk_at dksX0_isOver_0 1 rfl rfl)
theorem dX0_isOver_2 : decode cX0_isOver 2 = .ok (.getfield 22, 3) := dk_180 0 22 (dk_at dksX0_isOver_0 2 rfl rfl)
theorem dX0_isOver_5 : decode cX0_isOver 5 = .ok (.if_icmp .ge 11, 3) := dk_162 0 11 (dk_at dksX0_isOver_0 5 rfl rfl)
theorem dX0_isOver_8 : decode cX0_isOver 8 = .ok (.iload_n 1, 1) := dk_27 (dk_at dksX0_isOver_0 8 rfl rfl)
theorem dX0_isOver_9 : decode cX0_isOver 9 = .ok (.invokestatic 231, 3) := dk_184 0 231 (dk_at dksX0_isOver_0 9 rfl rfl)
theorem dX0_isOver_12 : decode cX0_isOver 12 = .ok (.iconst 1, 1) := dk_4 (dk_at dksX0_isOver_0 12 rfl rfl)
theorem dX0_isOver_13 : decode cX0_isOver 13 = .ok (.if_icmp .gt 7, 3) := dk_163 0 7 (dk_at dksX0_isOver_0 13 rfl rfl)
theorem dX0_isOver_16 : decode cX0_isOver 16 = .ok (.iconst 1, 1) := dk_4 (dk_at dksX0_isOver_0 16 rfl rfl)
theorem dX0_isOver_17 : decode cX0_isOver 17 = .ok (.goto 4, 3) := dk_167 0 4 (dk_at dksX0_isOver_0 17 rfl rfl)
theorem dX0_isOver_20 : decode cX0_isOver 20 = .ok (.iconst 0, 1) := dk_3 (dk_at dksX0_isOver_0 20 rfl rfl)
theorem dX0_isOver_21 : decode cX0_isOver 21 = .ok (.ireturn, 1) := dk_172 (dk_at dksX0_isOver_0 21 rfl rfl)
abbrev cX0_aimOf : ByteArray := prog_1_method_33_code
def yX0_aimOf : MethodName := ⟨RX0, "aimOf", "(III)I"⟩
def dkwX0_aimOf_6 : List UInt8 := [172, 42, 27, 28, 29, 182, 1, 17, 172, 16, 9, 172]
abbrev dktX0_aimOf_6 : List UInt8 := dkwX0_aimOf_6 ++ []
def dkwX0_aimOf_5 : List UInt8 := [180, 0, 148, 184, 0, 139, 153, 0, 16, 42, 180, 0, 11, 21, 4, 50, 180, 0, 148, 167, 0, 5, 16, 9]
abbrev dktX0_aimOf_5 : List UInt8 := dkwX0_aimOf_5 ++ dktX0_aimOf_6
def dkwX0_aimOf_4 : List UInt8 := [180, 0, 11, 21, 4, 50, 180, 0, 148, 21, 4, 159, 0, 33, 27, 42, 180, 0, 11, 21, 4, 50]
abbrev dktX0_aimOf_4 : List UInt8 := dkwX0_aimOf_4 ++ dktX0_aimOf_5
def dkwX0_aimOf_3 : List UInt8 := [28, 160, 0, 8, 16, 9, 167, 0, 14, 42, 180, 0, 15, 42, 27, 28, 182, 1, 0, 46, 172, 42]
abbrev dktX0_aimOf_3 : List UInt8 := dkwX0_aimOf_3 ++ dktX0_aimOf_4
def dkwX0_aimOf_2 : List UInt8 := [42, 27, 21, 4, 4, 182, 1, 14, 172, 42, 27, 21, 4, 2, 182, 1, 14, 172, 42, 27, 28, 182, 1, 0]
abbrev dktX0_aimOf_2 : List UInt8 := dkwX0_aimOf_2 ++ dktX0_aimOf_3
def dkwX0_aimOf_1 : List UInt8 := [170, 0, 0, 0, 0, 139, 0, 0, 0, 0, 0, 0, 0, 5, 0, 0, 0, 38, 0, 0, 0, 47, 0, 0, 0, 139, 0, 0, 0, 56, 0, 0, 0, 83, 0, 0, 0, 131]
abbrev dktX0_aimOf_1 : List UInt8 := dkwX0_aimOf_1 ++ dktX0_aimOf_2
def dkwX0_aimOf_0 : List UInt8 := [42, 180, 0, 15, 28, 46, 54, 4, 42, 180, 0, 11, 21, 4, 50, 180, 0, 145]
abbrev dktX0_aimOf_0 : List UInt8 := dkwX0_aimOf_0 ++ dktX0_aimOf_1
theorem dksX0_aimOf_0 : cX0_aimOf.data.toList.drop 0 = dktX0_aimOf_0 := by decide +kernel
theorem dksX0_aimOf_1 : cX0_aimOf.data.toList.drop 18 = dktX0_aimOf_1 := dk_seg dksX0_aimOf_0 18 rfl rfl
theorem dksX0_aimOf_2 : cX0_aimOf.data.toList.drop 56 = dktX0_aimOf_2 := dk_seg dksX0_aimOf_1 38 rfl rfl
theorem dksX0_aimOf_3 : cX0_aimOf.data.toList.drop 80 = dktX0_aimOf_3 := dk_seg dksX0_aimOf_2 24 rfl rfl
theorem dksX0_aimOf_4 : cX0_aimOf.data.toList.drop 102 = dktX0_aimOf_4 := dk_seg dksX0_aimOf_3 22 rfl rfl
theorem dksX0_aimOf_5 : cX0_aimOf.data.toList.drop 124 = dktX0_aimOf_5 := dk_seg dksX0_aimOf_4 22 rfl rfl
theorem dksX0_aimOf_6 : cX0_aimOf.data.toList.drop 148 = dktX0_aimOf_6 := dk_seg dksX0_aimOf_5 24 rfl rfl
theorem dX0_aimOf_0 : decode cX0_aimOf 0 = .ok (.aload_n 0, 1) := dk_42 (dk_at dksX0_aimOf_0 0 rfl rfl)
theorem dX0_aimOf_1 : decode cX0_aimOf 1 = .ok (.getfield 15, 3) := dk_180 0 15 (dk_at dksX0_aimOf_0 1 rfl rfl)
theorem dX0_aimOf_4 : decode cX0_aimOf 4 = .ok (.iload_n 2, 1) := dk_28 (dk_at dksX0_aimOf_0 4 rfl rfl)
theorem dX0_aimOf_5 : decode cX0_aimOf 5 = .ok (.iaload, 1) := dk_46 (dk_at dksX0_aimOf_0 5 rfl rfl)
theorem dX0_aimOf_6 : decode cX0_aimOf 6 = .ok (.istore 4, 2) := dk_54 4 (dk_at dksX0_aimOf_0 6 rfl rfl)
theorem dX0_aimOf_8 : decode cX0_aimOf 8 = .ok (.aload_n 0, 1) := dk_42 (dk_at dksX0_aimOf_0 8 rfl rfl)
theorem dX0_aimOf_9 : decode cX0_aimOf 9 = .ok (.getfield 11, 3) := dk_180 0 11 (dk_at dksX0_aimOf_0 9 rfl rfl)
theorem dX0_aimOf_12 : decode cX0_aimOf 12 = .ok (.iload 4, 2) := dk_21 4 (dk_at dksX0_aimOf_0 12 rfl rfl)
theorem dX0_aimOf_14 : decode cX0_aimOf 14 = .ok (.aaload, 1) := dk_50 (dk_at dksX0_aimOf_0 14 rfl rfl)
theorem dX0_aimOf_15 : decode cX0_aimOf 15 = .ok (.getfield 145, 3) := dk_180 0 145 (dk_at dksX0_aimOf_0 15 rfl rfl)
theorem dX0_aimOf_18 : decode cX0_aimOf 18 = .ok (.tableswitch 139 0 5 #[38, 47, 139, 56, 83, 131], 38) := by decide +kernel
theorem dX0_aimOf_56 : decode cX0_aimOf 56 = .ok (.aload_n 0, 1) := dk_42 (dk_at dksX0_aimOf_2 0 rfl rfl)
theorem dX0_aimOf_57 : decode cX0_aimOf 57 = .ok (.iload_n 1, 1) := dk_27 (dk_at dksX0_aimOf_2 1 rfl rfl)
theorem dX0_aimOf_58 : decode cX0_aimOf 58 = .ok (.iload 4, 2) := dk_21 4 (dk_at dksX0_aimOf_2 2 rfl rfl)
theorem dX0_aimOf_60 : decode cX0_aimOf 60 = .ok (.iconst 1, 1) := dk_4 (dk_at dksX0_aimOf_2 4 rfl rfl)
theorem dX0_aimOf_61 : decode cX0_aimOf 61 = .ok (.invokevirtual 270, 3) := dk_182 1 14 (dk_at dksX0_aimOf_2 5 rfl rfl)
theorem dX0_aimOf_64 : decode cX0_aimOf 64 = .ok (.ireturn, 1) := dk_172 (dk_at dksX0_aimOf_2 8 rfl rfl)
theorem dX0_aimOf_65 : decode cX0_aimOf 65 = .ok (.aload_n 0, 1) := dk_42 (dk_at dksX0_aimOf_2 9 rfl rfl)
theorem dX0_aimOf_66 : decode cX0_aimOf 66 = .ok (.iload_n 1, 1) := dk_27 (dk_at dksX0_aimOf_2 10 rfl rfl)
theorem dX0_aimOf_67 : decode cX0_aimOf 67 = .ok (.iload 4, 2) := dk_21 4 (dk_at dksX0_aimOf_2 11 rfl rfl)
theorem dX0_aimOf_69 : decode cX0_aimOf 69 = .ok (.iconst (-1), 1) := dk_2 (dk_at dksX0_aimOf_2 13 rfl rfl)
theorem dX0_aimOf_70 : decode cX0_aimOf 70 = .ok (.invokevirtual 270, 3) := dk_182 1 14 (dk_at dksX0_aimOf_2 14 rfl rfl)
theorem dX0_aimOf_73 : decode cX0_aimOf 73 = .ok (.ireturn, 1) := dk_172 (dk_at dksX0_aimOf_2 17 rfl rfl)
theorem dX0_aimOf_74 : decode cX0_aimOf 74 = .ok (.aload_n 0, 1) := dk_42 (dk_at dksX0_aimOf_2 18 rfl rfl)
theorem dX0_aimOf_75 : decode cX0_aimOf 75 = .ok (.iload_n 1, 1) := dk_27 (dk_at dksX0_aimOf_2 19 rfl rfl)
theorem dX0_aimOf_76 : decode cX0_aimOf 76 = .ok (.iload_n 2, 1) := dk_28 (dk_at dksX0_aimOf_2 20 rfl rfl)
theorem dX0_aimOf_77 : decode cX0_aimOf 77 = .ok (.invokevirtual 256, 3) := dk_182 1 0 (dk_at dksX0_aimOf_2 21 rfl rfl)
theorem dX0_aimOf_80 : decode cX0_aimOf 80 = .ok (.iload_n 2, 1) := dk_28 (dk_at dksX0_aimOf_3 0 rfl rfl)
theorem dX0_aimOf_81 : decode cX0_aimOf 81 = .ok (.if_icmp .ne 8, 3) := dk_160 0 8 (dk_at dksX0_aimOf_3 1 rfl rfl)
theorem dX0_aimOf_84 : decode cX0_aimOf 84 = .ok (.bipush 9, 2) := dk_16 9 (dk_at dksX0_aimOf_3 4 rfl rfl)
theorem dX0_aimOf_86 : decode cX0_aimOf 86 = .ok (.goto 14, 3) := dk_167 0 14 (dk_at dksX0_aimOf_3 6 rfl rfl)
theorem dX0_aimOf_89 : decode cX0_aimOf 89 = .ok (.aload_n 0, 1) := dk_42 (dk_at dksX0_aimOf_3 9 rfl rfl)
theorem dX0_aimOf_90 : decode cX0_aimOf 90 = .ok (.getfield 15, 3) := dk_180 0 15 (dk_at dksX0_aimOf_3 10 rfl rfl)
theorem dX0_aimOf_93 : decode cX0_aimOf 93 = .ok (.aload_n 0, 1) := dk_42 (dk_at dksX0_aimOf_3 13 rfl rfl)
theorem dX0_aimOf_94 : decode cX0_aimOf 94 = .ok (.iload_n 1, 1) := dk_27 (dk_at dksX0_aimOf_3 14 rfl rfl)
theorem dX0_aimOf_95 : decode cX0_aimOf 95 = .ok (.iload_n 2, 1) := dk_28 (dk_at dksX0_aimOf_3 15 rfl rfl)
theorem dX0_aimOf_96 : decode cX0_aimOf 96 = .ok (.invokevirtual 256, 3) := dk_182 1 0 (dk_at dksX0_aimOf_3 16 rfl rfl)
theorem dX0_aimOf_99 : decode cX0_aimOf 99 = .ok (.iaload, 1) := dk_46 (dk_at dksX0_aimOf_3 19 rfl rfl)
theorem dX0_aimOf_100 : decode cX0_aimOf 100 = .ok (.ireturn, 1) := dk_172 (dk_at dksX0_aimOf_3 20 rfl rfl)
theorem dX0_aimOf_101 : decode cX0_aimOf 101 = .ok (.aload_n 0, 1) := dk_42 (dk_at dksX0_aimOf_3 21 rfl rfl)
theorem dX0_aimOf_102 : decode cX0_aimOf 102 = .ok (.getfield 11, 3) := dk_180 0 11 (dk_at dksX0_aimOf_4 0 rfl rfl)
theorem dX0_aimOf_105 : decode cX0_aimOf 105 = .ok (.iload 4, 2) := dk_21 4 (dk_at dksX0_aimOf_4 3 rfl rfl)
theorem dX0_aimOf_107 : decode cX0_aimOf 107 = .ok (.aaload, 1) := dk_50 (dk_at dksX0_aimOf_4 5 rfl rfl)
theorem dX0_aimOf_108 : decode cX0_aimOf 108 = .ok (.getfield 148, 3) := dk_180 0 148 (dk_at dksX0_aimOf_4 6 rfl rfl)
theorem dX0_aimOf_111 : decode cX0_aimOf 111 = .ok (.iload 4, 2) := dk_21 4 (dk_at dksX0_aimOf_4 9 rfl rfl)
theorem dX0_aimOf_113 : decode cX0_aimOf 113 = .ok (.if_icmp .eq 33, 3) := dk_159 0 33 (dk_at dksX0_aimOf_4 11 rfl rfl)
theorem dX0_aimOf_116 : decode cX0_aimOf 116 = .ok (.iload_n 1, 1) := dk_27 (dk_at dksX0_aimOf_4 14 rfl rfl)
theorem dX0_aimOf_117 : decode cX0_aimOf 117 = .ok (.aload_n 0, 1) := dk_42 (dk_at dksX0_aimOf_4 15 rfl rfl)
theorem dX0_aimOf_118 : decode cX0_aimOf 118 = .ok (.getfield 11, 3) := dk_180 0 11 (dk_at dksX0_aimOf_4 16 rfl rfl)
theorem dX0_aimOf_121 : decode cX0_aimOf 121 = .ok (.iload 4, 2) := dk_21 4 (dk_at dksX0_aimOf_4 19 rfl rfl)
theorem dX0_aimOf_123 : decode cX0_aimOf 123 = .ok (.aaload, 1) := dk_50 (dk_at dksX0_aimOf_4 21 rfl rfl)
theorem dX0_aimOf_124 : decode cX0_aimOf 124 = .ok (.getfield 148, 3) := dk_180 0 148 (dk_at dksX0_aimOf_5 0 rfl rfl)
theorem dX0_aimOf_127 : decode cX0_aimOf 127 = .ok (.invokestatic 139, 3) := dk_184 0 139 (dk_at dksX0_aimOf_5 3 rfl rfl)
theorem dX0_aimOf_130 : decode cX0_aimOf 130 = .ok (.ifCond .eq 16, 3) := dk_153 0 16 (dk_at dksX0_aimOf_5 6 rfl rfl)
theorem dX0_aimOf_133 : decode cX0_aimOf 133 = .ok (.aload_n 0, 1) := dk_42 (dk_at dksX0_aimOf_5 9 rfl rfl)
theorem dX0_aimOf_134 : decode cX0_aimOf 134 = .ok (.getfield 11, 3) := dk_180 0 11 (dk_at dksX0_aimOf_5 10 rfl rfl)
theorem dX0_aimOf_137 : decode cX0_aimOf 137 = .ok (.iload 4, 2) := dk_21 4 (dk_at dksX0_aimOf_5 13 rfl rfl)
theorem dX0_aimOf_139 : decode cX0_aimOf 139 = .ok (.aaload, 1) := dk_50 (dk_at dksX0_aimOf_5 15 rfl rfl)
theorem dX0_aimOf_140 : decode cX0_aimOf 140 = .ok (.getfield 148, 3) := dk_180 0 148 (dk_at dksX0_aimOf_5 16 rfl rfl)
theorem dX0_aimOf_143 : decode cX0_aimOf 143 = .ok (.goto 5, 3) := dk_167 0 5 (dk_at dksX0_aimOf_5 19 rfl rfl)
theorem dX0_aimOf_146 : decode cX0_aimOf 146 = .ok (.bipush 9, 2) := dk_16 9 (dk_at dksX0_aimOf_5 22 rfl rfl)
theorem dX0_aimOf_148 : decode cX0_aimOf 148 = .ok (.ireturn, 1) := dk_172 (dk_at dksX0_aimOf_6 0 rfl rfl)
theorem dX0_aimOf_149 : decode cX0_aimOf 149 = .ok (.aload_n 0, 1) := dk_42 (dk_at dksX0_aimOf_6 1 rfl rfl)
theorem dX0_aimOf_150 : decode cX0_aimOf 150 = .ok (.iload_n 1, 1) := dk_27 (dk_at dksX0_aimOf_6 2 rfl rfl)
theorem dX0_aimOf_151 : decode cX0_aimOf 151 = .ok (.iload_n 2, 1) := dk_28 (dk_at dksX0_aimOf_6 3 rfl rfl)
theorem dX0_aimOf_152 : decode cX0_aimOf 152 = .ok (.iload_n 3, 1) := dk_29 (dk_at dksX0_aimOf_6 4 rfl rfl)
theorem dX0_aimOf_153 : decode cX0_aimOf 153 = .ok (.invokevirtual 273, 3) := dk_182 1 17 (dk_at dksX0_aimOf_6 5 rfl rfl)
theorem dX0_aimOf_156 : decode cX0_aimOf 156 = .ok (.ireturn, 1) := dk_172 (dk_at dksX0_aimOf_6 8 rfl rfl)
theorem dX0_aimOf_157 : decode cX0_aimOf 157 = .ok (.bipush 9, 2) := dk_16 9 (dk_at dksX0_aimOf_6 9 rfl rfl)
theorem dX0_aimOf_159 : decode cX0_aimOf 159 = .ok (.ireturn, 1) := dk_172 (dk_at dksX0_aimOf_6 11 rfl rfl)
abbrev cX0_byHits : ByteArray := prog_1_method_31_code
def yX0_byHits : MethodName := ⟨RX0, "byHits", "(III)I"⟩
def dkwX0_byHits_3 : List UInt8 := [132, 5, 1, 167, 255, 191, 21, 4, 172]
abbrev dktX0_byHits_3 : List UInt8 := dkwX0_byHits_3 ++ []
def dkwX0_byHits_2 : List UInt8 := [180, 0, 142, 104, 29, 42, 180, 0, 11, 21, 4, 50, 180, 0, 142, 104, 164, 0, 7, 21, 5, 54, 4]
abbrev dktX0_byHits_2 : List UInt8 := dkwX0_byHits_2 ++ dktX0_byHits_3
def dkwX0_byHits_1 : List UInt8 := [21, 5, 184, 0, 139, 153, 0, 41, 21, 4, 16, 9, 159, 0, 30, 29, 42, 180, 0, 11, 21, 5, 50]
abbrev dktX0_byHits_1 : List UInt8 := dkwX0_byHits_1 ++ dktX0_byHits_2
def dkwX0_byHits_0 : List UInt8 := [16, 9, 54, 4, 3, 54, 5, 21, 5, 42, 180, 0, 95, 162, 0, 62, 21, 5, 28, 159, 0, 50, 27]
abbrev dktX0_byHits_0 : List UInt8 := dkwX0_byHits_0 ++ dktX0_byHits_1
theorem dksX0_byHits_0 : cX0_byHits.data.toList.drop 0 = dktX0_byHits_0 := by decide +kernel
theorem dksX0_byHits_1 : cX0_byHits.data.toList.drop 23 = dktX0_byHits_1 := dk_seg dksX0_byHits_0 23 rfl rfl
theorem dksX0_byHits_2 : cX0_byHits.data.toList.drop 46 = dktX0_byHits_2 := dk_seg dksX0_byHits_1 23 rfl rfl
theorem dksX0_byHits_3 : cX0_byHits.data.toList.drop 69 = dktX0_byHits_3 := dk_seg dksX0_byHits_2 23 rfl rfl
theorem dX0_byHits_0 : decode cX0_byHits 0 = .ok (.bipush 9, 2) := dk_16 9 (dk_at dksX0_byHits_0 0 rfl rfl)
theorem dX0_byHits_2 : decode cX0_byHits 2 = .ok (.istore 4, 2) := dk_54 4 (dk_at dksX0_byHits_0 2 rfl rfl)
theorem dX0_byHits_4 : decode cX0_byHits 4 = .ok (.iconst 0, 1) := dk_3 (dk_at dksX0_byHits_0 4 rfl rfl)
theorem dX0_byHits_5 : decode cX0_byHits 5 = .ok (.istore 5, 2) := dk_54 5 (dk_at dksX0_byHits_0 5 rfl rfl)
theorem dX0_byHits_7 : decode cX0_byHits 7 = .ok (.iload 5, 2) := dk_21 5 (dk_at dksX0_byHits_0 7 rfl rfl)
theorem dX0_byHits_9 : decode cX0_byHits 9 = .ok (.aload_n 0, 1) := dk_42 (dk_at dksX0_byHits_0 9 rfl rfl)
theorem dX0_byHits_10 : decode cX0_byHits 10 = .ok (.getfield 95, 3) := dk_180 0 95 (dk_at dksX0_byHits_0 10 rfl rfl)
theorem dX0_byHits_13 : decode cX0_byHits 13 = .ok (.if_icmp .ge 62, 3) := dk_162 0 62 (dk_at dksX0_byHits_0 13 rfl rfl)
theorem dX0_byHits_16 : decode cX0_byHits 16 = .ok (.iload 5, 2) := dk_21 5 (dk_at dksX0_byHits_0 16 rfl rfl)
theorem dX0_byHits_18 : decode cX0_byHits 18 = .ok (.iload_n 2, 1) := dk_28 (dk_at dksX0_byHits_0 18 rfl rfl)
theorem dX0_byHits_19 : decode cX0_byHits 19 = .ok (.if_icmp .eq 50, 3) := dk_159 0 50 (dk_at dksX0_byHits_0 19 rfl rfl)
theorem dX0_byHits_22 : decode cX0_byHits 22 = .ok (.iload_n 1, 1) := dk_27 (dk_at dksX0_byHits_0 22 rfl rfl)
theorem dX0_byHits_23 : decode cX0_byHits 23 = .ok (.iload 5, 2) := dk_21 5 (dk_at dksX0_byHits_1 0 rfl rfl)
theorem dX0_byHits_25 : decode cX0_byHits 25 = .ok (.invokestatic 139, 3) := dk_184 0 139 (dk_at dksX0_byHits_1 2 rfl rfl)
theorem dX0_byHits_28 : decode cX0_byHits 28 = .ok (.ifCond .eq 41, 3) := dk_153 0 41 (dk_at dksX0_byHits_1 5 rfl rfl)
theorem dX0_byHits_31 : decode cX0_byHits 31 = .ok (.iload 4, 2) := dk_21 4 (dk_at dksX0_byHits_1 8 rfl rfl)
theorem dX0_byHits_33 : decode cX0_byHits 33 = .ok (.bipush 9, 2) := dk_16 9 (dk_at dksX0_byHits_1 10 rfl rfl)
theorem dX0_byHits_35 : decode cX0_byHits 35 = .ok (.if_icmp .eq 30, 3) := dk_159 0 30 (dk_at dksX0_byHits_1 12 rfl rfl)
theorem dX0_byHits_38 : decode cX0_byHits 38 = .ok (.iload_n 3, 1) := dk_29 (dk_at dksX0_byHits_1 15 rfl rfl)
theorem dX0_byHits_39 : decode cX0_byHits 39 = .ok (.aload_n 0, 1) := dk_42 (dk_at dksX0_byHits_1 16 rfl rfl)
theorem dX0_byHits_40 : decode cX0_byHits 40 = .ok (.getfield 11, 3) := dk_180 0 11 (dk_at dksX0_byHits_1 17 rfl rfl)
theorem dX0_byHits_43 : decode cX0_byHits 43 = .ok (.iload 5, 2) := dk_21 5 (dk_at dksX0_byHits_1 20 rfl rfl)
theorem dX0_byHits_45 : decode cX0_byHits 45 = .ok (.aaload, 1) := dk_50 (dk_at dksX0_byHits_1 22 rfl rfl)
theorem dX0_byHits_46 : decode cX0_byHits 46 = .ok (.getfield 142, 3) := dk_180 0 142 (dk_at dksX0_byHits_2 0 rfl rfl)
theorem dX0_byHits_49 : decode cX0_byHits 49 = .ok (.imul, 1) := dk_104 (dk_at dksX0_byHits_2 3 rfl rfl)
theorem dX0_byHits_50 : decode cX0_byHits 50 = .ok (.iload_n 3, 1) := dk_29 (dk_at dksX0_byHits_2 4 rfl rfl)
theorem dX0_byHits_51 : decode cX0_byHits 51 = .ok (.aload_n 0, 1) := dk_42 (dk_at dksX0_byHits_2 5 rfl rfl)
theorem dX0_byHits_52 : decode cX0_byHits 52 = .ok (.getfield 11, 3) := dk_180 0 11 (dk_at dksX0_byHits_2 6 rfl rfl)
theorem dX0_byHits_55 : decode cX0_byHits 55 = .ok (.iload 4, 2) := dk_21 4 (dk_at dksX0_byHits_2 9 rfl rfl)
theorem dX0_byHits_57 : decode cX0_byHits 57 = .ok (.aaload, 1) := dk_50 (dk_at dksX0_byHits_2 11 rfl rfl)
theorem dX0_byHits_58 : decode cX0_byHits 58 = .ok (.getfield 142, 3) := dk_180 0 142 (dk_at dksX0_byHits_2 12 rfl rfl)
theorem dX0_byHits_61 : decode cX0_byHits 61 = .ok (.imul, 1) := dk_104 (dk_at dksX0_byHits_2 15 rfl rfl)
theorem dX0_byHits_62 : decode cX0_byHits 62 = .ok (.if_icmp .le 7, 3) := dk_164 0 7 (dk_at dksX0_byHits_2 16 rfl rfl)
theorem dX0_byHits_65 : decode cX0_byHits 65 = .ok (.iload 5, 2) := dk_21 5 (dk_at dksX0_byHits_2 19 rfl rfl)
theorem dX0_byHits_67 : decode cX0_byHits 67 = .ok (.istore 4, 2) := dk_54 4 (dk_at dksX0_byHits_2 21 rfl rfl)
theorem dX0_byHits_69 : decode cX0_byHits 69 = .ok (.iinc 5 1, 3) := dk_132 5 1 (dk_at dksX0_byHits_3 0 rfl rfl)
theorem dX0_byHits_72 : decode cX0_byHits 72 = .ok (.goto (-65), 3) := dk_167 255 191 (dk_at dksX0_byHits_3 3 rfl rfl)
theorem dX0_byHits_75 : decode cX0_byHits 75 = .ok (.iload 4, 2) := dk_21 4 (dk_at dksX0_byHits_3 6 rfl rfl)
theorem dX0_byHits_77 : decode cX0_byHits 77 = .ok (.ireturn, 1) := dk_172 (dk_at dksX0_byHits_3 8 rfl rfl)
abbrev cX0_nextPlace : ByteArray := prog_1_method_27_code
def yX0_nextPlace : MethodName := ⟨RX0, "nextPlace", "(II)I"⟩
def dkwX0_nextPlace_1 : List UInt8 := [184, 0, 139, 153, 255, 232, 29, 172]
abbrev dktX0_nextPlace_1 : List UInt8 := dkwX0_nextPlace_1 ++ []
def dkwX0_nextPlace_0 : List UInt8 := [28, 62, 29, 4, 96, 42, 180, 0, 95, 112, 62, 29, 28, 159, 0, 16, 27, 42, 180, 0, 15, 29, 46]
abbrev dktX0_nextPlace_0 : List UInt8 := dkwX0_nextPlace_0 ++ dktX0_nextPlace_1
theorem dksX0_nextPlace_0 : cX0_nextPlace.data.toList.drop 0 = dktX0_nextPlace_0 := by decide +kernel
theorem dksX0_nextPlace_1 : cX0_nextPlace.data.toList.drop 23 = dktX0_nextPlace_1 := dk_seg dksX0_nextPlace_0 23 rfl rfl
theorem dX0_nextPlace_0 : decode cX0_nextPlace 0 = .ok (.iload_n 2, 1) := dk_28 (dk_at dksX0_nextPlace_0 0 rfl rfl)
theorem dX0_nextPlace_1 : decode cX0_nextPlace 1 = .ok (.istore_n 3, 1) := dk_62 (dk_at dksX0_nextPlace_0 1 rfl rfl)
theorem dX0_nextPlace_2 : decode cX0_nextPlace 2 = .ok (.iload_n 3, 1) := dk_29 (dk_at dksX0_nextPlace_0 2 rfl rfl)
theorem dX0_nextPlace_3 : decode cX0_nextPlace 3 = .ok (.iconst 1, 1) := dk_4 (dk_at dksX0_nextPlace_0 3 rfl rfl)
theorem dX0_nextPlace_4 : decode cX0_nextPlace 4 = .ok (.iadd, 1) := dk_96 (dk_at dksX0_nextPlace_0 4 rfl rfl)
theorem dX0_nextPlace_5 : decode cX0_nextPlace 5 = .ok (.aload_n 0, 1) := dk_42 (dk_at dksX0_nextPlace_0 5 rfl rfl)
theorem dX0_nextPlace_6 : decode cX0_nextPlace 6 = .ok (.getfield 95, 3) := dk_180 0 95 (dk_at dksX0_nextPlace_0 6 rfl rfl)
theorem dX0_nextPlace_9 : decode cX0_nextPlace 9 = .ok (.irem, 1) := dk_112 (dk_at dksX0_nextPlace_0 9 rfl rfl)
theorem dX0_nextPlace_10 : decode cX0_nextPlace 10 = .ok (.istore_n 3, 1) := dk_62 (dk_at dksX0_nextPlace_0 10 rfl rfl)
theorem dX0_nextPlace_11 : decode cX0_nextPlace 11 = .ok (.iload_n 3, 1) := dk_29 (dk_at dksX0_nextPlace_0 11 rfl rfl)
theorem dX0_nextPlace_12 : decode cX0_nextPlace 12 = .ok (.iload_n 2, 1) := dk_28 (dk_at dksX0_nextPlace_0 12 rfl rfl)
theorem dX0_nextPlace_13 : decode cX0_nextPlace 13 = .ok (.if_icmp .eq 16, 3) := dk_159 0 16 (dk_at dksX0_nextPlace_0 13 rfl rfl)
theorem dX0_nextPlace_16 : decode cX0_nextPlace 16 = .ok (.iload_n 1, 1) := dk_27 (dk_at dksX0_nextPlace_0 16 rfl rfl)
theorem dX0_nextPlace_17 : decode cX0_nextPlace 17 = .ok (.aload_n 0, 1) := dk_42 (dk_at dksX0_nextPlace_0 17 rfl rfl)
theorem dX0_nextPlace_18 : decode cX0_nextPlace 18 = .ok (.getfield 15, 3) := dk_180 0 15 (dk_at dksX0_nextPlace_0 18 rfl rfl)
theorem dX0_nextPlace_21 : decode cX0_nextPlace 21 = .ok (.iload_n 3, 1) := dk_29 (dk_at dksX0_nextPlace_0 21 rfl rfl)
theorem dX0_nextPlace_22 : decode cX0_nextPlace 22 = .ok (.iaload, 1) := dk_46 (dk_at dksX0_nextPlace_0 22 rfl rfl)
theorem dX0_nextPlace_23 : decode cX0_nextPlace 23 = .ok (.invokestatic 139, 3) := dk_184 0 139 (dk_at dksX0_nextPlace_1 0 rfl rfl)
theorem dX0_nextPlace_26 : decode cX0_nextPlace 26 = .ok (.ifCond .eq (-24), 3) := dk_153 255 232 (dk_at dksX0_nextPlace_1 3 rfl rfl)
theorem dX0_nextPlace_29 : decode cX0_nextPlace 29 = .ok (.iload_n 3, 1) := dk_29 (dk_at dksX0_nextPlace_1 6 rfl rfl)
theorem dX0_nextPlace_30 : decode cX0_nextPlace 30 = .ok (.ireturn, 1) := dk_172 (dk_at dksX0_nextPlace_1 7 rfl rfl)
abbrev cX0_bestAim : ByteArray := prog_1_method_32_code
def yX0_bestAim : MethodName := ⟨RX0, "bestAim", "(III)I"⟩
def dkwX0_bestAim_4 : List UInt8 := [21, 5, 172]
abbrev dktX0_bestAim_4 : List UInt8 := dkwX0_bestAim_4 ++ []
def dkwX0_bestAim_3 : List UInt8 := [22, 6, 148, 157, 0, 6, 167, 0, 11, 21, 8, 54, 5, 22, 9, 55, 6, 132, 8, 1, 167, 255, 193]
abbrev dktX0_bestAim_3 : List UInt8 := dkwX0_bestAim_3 ++ dktX0_bestAim_4
def dkwX0_bestAim_2 : List UInt8 := [184, 0, 139, 154, 0, 6, 167, 0, 35, 42, 27, 28, 29, 21, 8, 21, 4, 182, 1, 10, 55, 9, 22, 9]
abbrev dktX0_bestAim_2 : List UInt8 := dkwX0_bestAim_2 ++ dktX0_bestAim_3
def dkwX0_bestAim_1 : List UInt8 := [55, 6, 3, 54, 8, 21, 8, 42, 180, 0, 95, 162, 0, 60, 21, 8, 21, 4, 159, 0, 47, 27, 21, 8]
abbrev dktX0_bestAim_1 : List UInt8 := dkwX0_bestAim_1 ++ dktX0_bestAim_2
def dkwX0_bestAim_0 : List UInt8 := [42, 180, 0, 15, 28, 46, 54, 4, 16, 9, 54, 5, 42, 27, 28, 29, 16, 9, 21, 4, 182, 1, 10]
abbrev dktX0_bestAim_0 : List UInt8 := dkwX0_bestAim_0 ++ dktX0_bestAim_1
theorem dksX0_bestAim_0 : cX0_bestAim.data.toList.drop 0 = dktX0_bestAim_0 := by decide +kernel
theorem dksX0_bestAim_1 : cX0_bestAim.data.toList.drop 23 = dktX0_bestAim_1 := dk_seg dksX0_bestAim_0 23 rfl rfl
theorem dksX0_bestAim_2 : cX0_bestAim.data.toList.drop 47 = dktX0_bestAim_2 := dk_seg dksX0_bestAim_1 24 rfl rfl
theorem dksX0_bestAim_3 : cX0_bestAim.data.toList.drop 71 = dktX0_bestAim_3 := dk_seg dksX0_bestAim_2 24 rfl rfl
theorem dksX0_bestAim_4 : cX0_bestAim.data.toList.drop 94 = dktX0_bestAim_4 := dk_seg dksX0_bestAim_3 23 rfl rfl
theorem dX0_bestAim_0 : decode cX0_bestAim 0 = .ok (.aload_n 0, 1) := dk_42 (dk_at dksX0_bestAim_0 0 rfl rfl)
theorem dX0_bestAim_1 : decode cX0_bestAim 1 = .ok (.getfield 15, 3) := dk_180 0 15 (dk_at dksX0_bestAim_0 1 rfl rfl)
theorem dX0_bestAim_4 : decode cX0_bestAim 4 = .ok (.iload_n 2, 1) := dk_28 (dk_at dksX0_bestAim_0 4 rfl rfl)
theorem dX0_bestAim_5 : decode cX0_bestAim 5 = .ok (.iaload, 1) := dk_46 (dk_at dksX0_bestAim_0 5 rfl rfl)
theorem dX0_bestAim_6 : decode cX0_bestAim 6 = .ok (.istore 4, 2) := dk_54 4 (dk_at dksX0_bestAim_0 6 rfl rfl)
theorem dX0_bestAim_8 : decode cX0_bestAim 8 = .ok (.bipush 9, 2) := dk_16 9 (dk_at dksX0_bestAim_0 8 rfl rfl)
theorem dX0_bestAim_10 : decode cX0_bestAim 10 = .ok (.istore 5, 2) := dk_54 5 (dk_at dksX0_bestAim_0 10 rfl rfl)
theorem dX0_bestAim_12 : decode cX0_bestAim 12 = .ok (.aload_n 0, 1) := dk_42 (dk_at dksX0_bestAim_0 12 rfl rfl)
theorem dX0_bestAim_13 : decode cX0_bestAim 13 = .ok (.iload_n 1, 1) := dk_27 (dk_at dksX0_bestAim_0 13 rfl rfl)
theorem dX0_bestAim_14 : decode cX0_bestAim 14 = .ok (.iload_n 2, 1) := dk_28 (dk_at dksX0_bestAim_0 14 rfl rfl)
theorem dX0_bestAim_15 : decode cX0_bestAim 15 = .ok (.iload_n 3, 1) := dk_29 (dk_at dksX0_bestAim_0 15 rfl rfl)
theorem dX0_bestAim_16 : decode cX0_bestAim 16 = .ok (.bipush 9, 2) := dk_16 9 (dk_at dksX0_bestAim_0 16 rfl rfl)
theorem dX0_bestAim_18 : decode cX0_bestAim 18 = .ok (.iload 4, 2) := dk_21 4 (dk_at dksX0_bestAim_0 18 rfl rfl)
theorem dX0_bestAim_20 : decode cX0_bestAim 20 = .ok (.invokevirtual 266, 3) := dk_182 1 10 (dk_at dksX0_bestAim_0 20 rfl rfl)
theorem dX0_bestAim_23 : decode cX0_bestAim 23 = .ok (.lstore 6, 2) := dk_55 6 (dk_at dksX0_bestAim_1 0 rfl rfl)
theorem dX0_bestAim_25 : decode cX0_bestAim 25 = .ok (.iconst 0, 1) := dk_3 (dk_at dksX0_bestAim_1 2 rfl rfl)
theorem dX0_bestAim_26 : decode cX0_bestAim 26 = .ok (.istore 8, 2) := dk_54 8 (dk_at dksX0_bestAim_1 3 rfl rfl)
theorem dX0_bestAim_28 : decode cX0_bestAim 28 = .ok (.iload 8, 2) := dk_21 8 (dk_at dksX0_bestAim_1 5 rfl rfl)
theorem dX0_bestAim_30 : decode cX0_bestAim 30 = .ok (.aload_n 0, 1) := dk_42 (dk_at dksX0_bestAim_1 7 rfl rfl)
theorem dX0_bestAim_31 : decode cX0_bestAim 31 = .ok (.getfield 95, 3) := dk_180 0 95 (dk_at dksX0_bestAim_1 8 rfl rfl)
theorem dX0_bestAim_34 : decode cX0_bestAim 34 = .ok (.if_icmp .ge 60, 3) := dk_162 0 60 (dk_at dksX0_bestAim_1 11 rfl rfl)
theorem dX0_bestAim_37 : decode cX0_bestAim 37 = .ok (.iload 8, 2) := dk_21 8 (dk_at dksX0_bestAim_1 14 rfl rfl)
theorem dX0_bestAim_39 : decode cX0_bestAim 39 = .ok (.iload 4, 2) := dk_21 4 (dk_at dksX0_bestAim_1 16 rfl rfl)
theorem dX0_bestAim_41 : decode cX0_bestAim 41 = .ok (.if_icmp .eq 47, 3) := dk_159 0 47 (dk_at dksX0_bestAim_1 18 rfl rfl)
theorem dX0_bestAim_44 : decode cX0_bestAim 44 = .ok (.iload_n 1, 1) := dk_27 (dk_at dksX0_bestAim_1 21 rfl rfl)
theorem dX0_bestAim_45 : decode cX0_bestAim 45 = .ok (.iload 8, 2) := dk_21 8 (dk_at dksX0_bestAim_1 22 rfl rfl)
theorem dX0_bestAim_47 : decode cX0_bestAim 47 = .ok (.invokestatic 139, 3) := dk_184 0 139 (dk_at dksX0_bestAim_2 0 rfl rfl)
theorem dX0_bestAim_50 : decode cX0_bestAim 50 = .ok (.ifCond .ne 6, 3) := dk_154 0 6 (dk_at dksX0_bestAim_2 3 rfl rfl)
theorem dX0_bestAim_53 : decode cX0_bestAim 53 = .ok (.goto 35, 3) := dk_167 0 35 (dk_at dksX0_bestAim_2 6 rfl rfl)
theorem dX0_bestAim_56 : decode cX0_bestAim 56 = .ok (.aload_n 0, 1) := dk_42 (dk_at dksX0_bestAim_2 9 rfl rfl)
theorem dX0_bestAim_57 : decode cX0_bestAim 57 = .ok (.iload_n 1, 1) := dk_27 (dk_at dksX0_bestAim_2 10 rfl rfl)
theorem dX0_bestAim_58 : decode cX0_bestAim 58 = .ok (.iload_n 2, 1) := dk_28 (dk_at dksX0_bestAim_2 11 rfl rfl)
theorem dX0_bestAim_59 : decode cX0_bestAim 59 = .ok (.iload_n 3, 1) := dk_29 (dk_at dksX0_bestAim_2 12 rfl rfl)
theorem dX0_bestAim_60 : decode cX0_bestAim 60 = .ok (.iload 8, 2) := dk_21 8 (dk_at dksX0_bestAim_2 13 rfl rfl)
theorem dX0_bestAim_62 : decode cX0_bestAim 62 = .ok (.iload 4, 2) := dk_21 4 (dk_at dksX0_bestAim_2 15 rfl rfl)
theorem dX0_bestAim_64 : decode cX0_bestAim 64 = .ok (.invokevirtual 266, 3) := dk_182 1 10 (dk_at dksX0_bestAim_2 17 rfl rfl)
theorem dX0_bestAim_67 : decode cX0_bestAim 67 = .ok (.lstore 9, 2) := dk_55 9 (dk_at dksX0_bestAim_2 20 rfl rfl)
theorem dX0_bestAim_69 : decode cX0_bestAim 69 = .ok (.lload 9, 2) := dk_22 9 (dk_at dksX0_bestAim_2 22 rfl rfl)
theorem dX0_bestAim_71 : decode cX0_bestAim 71 = .ok (.lload 6, 2) := dk_22 6 (dk_at dksX0_bestAim_3 0 rfl rfl)
theorem dX0_bestAim_73 : decode cX0_bestAim 73 = .ok (.lcmp, 1) := dk_148 (dk_at dksX0_bestAim_3 2 rfl rfl)
theorem dX0_bestAim_74 : decode cX0_bestAim 74 = .ok (.ifCond .gt 6, 3) := dk_157 0 6 (dk_at dksX0_bestAim_3 3 rfl rfl)
theorem dX0_bestAim_77 : decode cX0_bestAim 77 = .ok (.goto 11, 3) := dk_167 0 11 (dk_at dksX0_bestAim_3 6 rfl rfl)
theorem dX0_bestAim_80 : decode cX0_bestAim 80 = .ok (.iload 8, 2) := dk_21 8 (dk_at dksX0_bestAim_3 9 rfl rfl)
theorem dX0_bestAim_82 : decode cX0_bestAim 82 = .ok (.istore 5, 2) := dk_54 5 (dk_at dksX0_bestAim_3 11 rfl rfl)
theorem dX0_bestAim_84 : decode cX0_bestAim 84 = .ok (.lload 9, 2) := dk_22 9 (dk_at dksX0_bestAim_3 13 rfl rfl)
theorem dX0_bestAim_86 : decode cX0_bestAim 86 = .ok (.lstore 6, 2) := dk_55 6 (dk_at dksX0_bestAim_3 15 rfl rfl)
theorem dX0_bestAim_88 : decode cX0_bestAim 88 = .ok (.iinc 8 1, 3) := dk_132 8 1 (dk_at dksX0_bestAim_3 17 rfl rfl)
theorem dX0_bestAim_91 : decode cX0_bestAim 91 = .ok (.goto (-63), 3) := dk_167 255 193 (dk_at dksX0_bestAim_3 20 rfl rfl)
theorem dX0_bestAim_94 : decode cX0_bestAim 94 = .ok (.iload 5, 2) := dk_21 5 (dk_at dksX0_bestAim_4 0 rfl rfl)
theorem dX0_bestAim_96 : decode cX0_bestAim 96 = .ok (.ireturn, 1) := dk_172 (dk_at dksX0_bestAim_4 2 rfl rfl)
abbrev cX0_throwing : ByteArray := prog_1_method_30_code
def yX0_throwing : MethodName := ⟨RX0, "throwing", "(IIIII)J"⟩
def dkwX0_throwing_4 : List UInt8 := [21, 5, 182, 1, 3, 105, 97, 173]
abbrev dktX0_throwing_4 : List UInt8 := dkwX0_throwing_4 ++ []
def dkwX0_throwing_3 : List UInt8 := [21, 5, 182, 1, 3, 105, 16, 12, 21, 6, 100, 133, 42, 27, 42, 27, 28, 182, 1, 0, 29, 4, 96]
abbrev dktX0_throwing_3 : List UInt8 := dkwX0_throwing_3 ++ dktX0_throwing_4
def dkwX0_throwing_2 : List UInt8 := [21, 4, 120, 2, 130, 126, 54, 7, 21, 6, 133, 42, 21, 7, 42, 21, 7, 28, 182, 1, 0, 29, 4, 96]
abbrev dktX0_throwing_2 : List UInt8 := dkwX0_throwing_2 ++ dktX0_throwing_3
def dkwX0_throwing_1 : List UInt8 := [182, 1, 3, 105, 173, 42, 42, 180, 0, 15, 28, 46, 21, 4, 27, 29, 182, 1, 7, 54, 6, 27, 4]
abbrev dktX0_throwing_1 : List UInt8 := dkwX0_throwing_1 ++ dktX0_throwing_2
def dkwX0_throwing_0 : List UInt8 := [21, 4, 16, 9, 160, 0, 24, 20, 0, 50, 42, 27, 42, 27, 28, 182, 1, 0, 29, 4, 96, 21, 5]
abbrev dktX0_throwing_0 : List UInt8 := dkwX0_throwing_0 ++ dktX0_throwing_1
theorem dksX0_throwing_0 : cX0_throwing.data.toList.drop 0 = dktX0_throwing_0 := by decide +kernel
theorem dksX0_throwing_1 : cX0_throwing.data.toList.drop 23 = dktX0_throwing_1 := dk_seg dksX0_throwing_0 23 rfl rfl
theorem dksX0_throwing_2 : cX0_throwing.data.toList.drop 46 = dktX0_throwing_2 := dk_seg dksX0_throwing_1 23 rfl rfl
theorem dksX0_throwing_3 : cX0_throwing.data.toList.drop 70 = dktX0_throwing_3 := dk_seg dksX0_throwing_2 24 rfl rfl
theorem dksX0_throwing_4 : cX0_throwing.data.toList.drop 93 = dktX0_throwing_4 := dk_seg dksX0_throwing_3 23 rfl rfl
theorem dX0_throwing_0 : decode cX0_throwing 0 = .ok (.iload 4, 2) := dk_21 4 (dk_at dksX0_throwing_0 0 rfl rfl)
theorem dX0_throwing_2 : decode cX0_throwing 2 = .ok (.bipush 9, 2) := dk_16 9 (dk_at dksX0_throwing_0 2 rfl rfl)
theorem dX0_throwing_4 : decode cX0_throwing 4 = .ok (.if_icmp .ne 24, 3) := dk_160 0 24 (dk_at dksX0_throwing_0 4 rfl rfl)
theorem dX0_throwing_7 : decode cX0_throwing 7 = .ok (.ldc2_w 50, 3) := dk_20 0 50 (dk_at dksX0_throwing_0 7 rfl rfl)
theorem dX0_throwing_10 : decode cX0_throwing 10 = .ok (.aload_n 0, 1) := dk_42 (dk_at dksX0_throwing_0 10 rfl rfl)
theorem dX0_throwing_11 : decode cX0_throwing 11 = .ok (.iload_n 1, 1) := dk_27 (dk_at dksX0_throwing_0 11 rfl rfl)
theorem dX0_throwing_12 : decode cX0_throwing 12 = .ok (.aload_n 0, 1) := dk_42 (dk_at dksX0_throwing_0 12 rfl rfl)
theorem dX0_throwing_13 : decode cX0_throwing 13 = .ok (.iload_n 1, 1) := dk_27 (dk_at dksX0_throwing_0 13 rfl rfl)
theorem dX0_throwing_14 : decode cX0_throwing 14 = .ok (.iload_n 2, 1) := dk_28 (dk_at dksX0_throwing_0 14 rfl rfl)
theorem dX0_throwing_15 : decode cX0_throwing 15 = .ok (.invokevirtual 256, 3) := dk_182 1 0 (dk_at dksX0_throwing_0 15 rfl rfl)
theorem dX0_throwing_18 : decode cX0_throwing 18 = .ok (.iload_n 3, 1) := dk_29 (dk_at dksX0_throwing_0 18 rfl rfl)
theorem dX0_throwing_19 : decode cX0_throwing 19 = .ok (.iconst 1, 1) := dk_4 (dk_at dksX0_throwing_0 19 rfl rfl)
theorem dX0_throwing_20 : decode cX0_throwing 20 = .ok (.iadd, 1) := dk_96 (dk_at dksX0_throwing_0 20 rfl rfl)
theorem dX0_throwing_21 : decode cX0_throwing 21 = .ok (.iload 5, 2) := dk_21 5 (dk_at dksX0_throwing_0 21 rfl rfl)
theorem dX0_throwing_23 : decode cX0_throwing 23 = .ok (.invokevirtual 259, 3) := dk_182 1 3 (dk_at dksX0_throwing_1 0 rfl rfl)
theorem dX0_throwing_26 : decode cX0_throwing 26 = .ok (.lmul, 1) := dk_105 (dk_at dksX0_throwing_1 3 rfl rfl)
theorem dX0_throwing_27 : decode cX0_throwing 27 = .ok (.lreturn, 1) := dk_173 (dk_at dksX0_throwing_1 4 rfl rfl)
theorem dX0_throwing_28 : decode cX0_throwing 28 = .ok (.aload_n 0, 1) := dk_42 (dk_at dksX0_throwing_1 5 rfl rfl)
theorem dX0_throwing_29 : decode cX0_throwing 29 = .ok (.aload_n 0, 1) := dk_42 (dk_at dksX0_throwing_1 6 rfl rfl)
theorem dX0_throwing_30 : decode cX0_throwing 30 = .ok (.getfield 15, 3) := dk_180 0 15 (dk_at dksX0_throwing_1 7 rfl rfl)
theorem dX0_throwing_33 : decode cX0_throwing 33 = .ok (.iload_n 2, 1) := dk_28 (dk_at dksX0_throwing_1 10 rfl rfl)
theorem dX0_throwing_34 : decode cX0_throwing 34 = .ok (.iaload, 1) := dk_46 (dk_at dksX0_throwing_1 11 rfl rfl)
theorem dX0_throwing_35 : decode cX0_throwing 35 = .ok (.iload 4, 2) := dk_21 4 (dk_at dksX0_throwing_1 12 rfl rfl)
theorem dX0_throwing_37 : decode cX0_throwing 37 = .ok (.iload_n 1, 1) := dk_27 (dk_at dksX0_throwing_1 14 rfl rfl)
theorem dX0_throwing_38 : decode cX0_throwing 38 = .ok (.iload_n 3, 1) := dk_29 (dk_at dksX0_throwing_1 15 rfl rfl)
theorem dX0_throwing_39 : decode cX0_throwing 39 = .ok (.invokevirtual 263, 3) := dk_182 1 7 (dk_at dksX0_throwing_1 16 rfl rfl)
theorem dX0_throwing_42 : decode cX0_throwing 42 = .ok (.istore 6, 2) := dk_54 6 (dk_at dksX0_throwing_1 19 rfl rfl)
theorem dX0_throwing_44 : decode cX0_throwing 44 = .ok (.iload_n 1, 1) := dk_27 (dk_at dksX0_throwing_1 21 rfl rfl)
theorem dX0_throwing_45 : decode cX0_throwing 45 = .ok (.iconst 1, 1) := dk_4 (dk_at dksX0_throwing_1 22 rfl rfl)
theorem dX0_throwing_46 : decode cX0_throwing 46 = .ok (.iload 4, 2) := dk_21 4 (dk_at dksX0_throwing_2 0 rfl rfl)
theorem dX0_throwing_48 : decode cX0_throwing 48 = .ok (.ishl, 1) := dk_120 (dk_at dksX0_throwing_2 2 rfl rfl)
theorem dX0_throwing_49 : decode cX0_throwing 49 = .ok (.iconst (-1), 1) := dk_2 (dk_at dksX0_throwing_2 3 rfl rfl)
theorem dX0_throwing_50 : decode cX0_throwing 50 = .ok (.ixor, 1) := dk_130 (dk_at dksX0_throwing_2 4 rfl rfl)
theorem dX0_throwing_51 : decode cX0_throwing 51 = .ok (.iand, 1) := dk_126 (dk_at dksX0_throwing_2 5 rfl rfl)
theorem dX0_throwing_52 : decode cX0_throwing 52 = .ok (.istore 7, 2) := dk_54 7 (dk_at dksX0_throwing_2 6 rfl rfl)
theorem dX0_throwing_54 : decode cX0_throwing 54 = .ok (.iload 6, 2) := dk_21 6 (dk_at dksX0_throwing_2 8 rfl rfl)
theorem dX0_throwing_56 : decode cX0_throwing 56 = .ok (.i2l, 1) := dk_133 (dk_at dksX0_throwing_2 10 rfl rfl)
theorem dX0_throwing_57 : decode cX0_throwing 57 = .ok (.aload_n 0, 1) := dk_42 (dk_at dksX0_throwing_2 11 rfl rfl)
theorem dX0_throwing_58 : decode cX0_throwing 58 = .ok (.iload 7, 2) := dk_21 7 (dk_at dksX0_throwing_2 12 rfl rfl)
theorem dX0_throwing_60 : decode cX0_throwing 60 = .ok (.aload_n 0, 1) := dk_42 (dk_at dksX0_throwing_2 14 rfl rfl)
theorem dX0_throwing_61 : decode cX0_throwing 61 = .ok (.iload 7, 2) := dk_21 7 (dk_at dksX0_throwing_2 15 rfl rfl)
theorem dX0_throwing_63 : decode cX0_throwing 63 = .ok (.iload_n 2, 1) := dk_28 (dk_at dksX0_throwing_2 17 rfl rfl)
theorem dX0_throwing_64 : decode cX0_throwing 64 = .ok (.invokevirtual 256, 3) := dk_182 1 0 (dk_at dksX0_throwing_2 18 rfl rfl)
theorem dX0_throwing_67 : decode cX0_throwing 67 = .ok (.iload_n 3, 1) := dk_29 (dk_at dksX0_throwing_2 21 rfl rfl)
theorem dX0_throwing_68 : decode cX0_throwing 68 = .ok (.iconst 1, 1) := dk_4 (dk_at dksX0_throwing_2 22 rfl rfl)
theorem dX0_throwing_69 : decode cX0_throwing 69 = .ok (.iadd, 1) := dk_96 (dk_at dksX0_throwing_2 23 rfl rfl)
theorem dX0_throwing_70 : decode cX0_throwing 70 = .ok (.iload 5, 2) := dk_21 5 (dk_at dksX0_throwing_3 0 rfl rfl)
theorem dX0_throwing_72 : decode cX0_throwing 72 = .ok (.invokevirtual 259, 3) := dk_182 1 3 (dk_at dksX0_throwing_3 2 rfl rfl)
theorem dX0_throwing_75 : decode cX0_throwing 75 = .ok (.lmul, 1) := dk_105 (dk_at dksX0_throwing_3 5 rfl rfl)
theorem dX0_throwing_76 : decode cX0_throwing 76 = .ok (.bipush 12, 2) := dk_16 12 (dk_at dksX0_throwing_3 6 rfl rfl)
theorem dX0_throwing_78 : decode cX0_throwing 78 = .ok (.iload 6, 2) := dk_21 6 (dk_at dksX0_throwing_3 8 rfl rfl)
theorem dX0_throwing_80 : decode cX0_throwing 80 = .ok (.isub, 1) := dk_100 (dk_at dksX0_throwing_3 10 rfl rfl)
theorem dX0_throwing_81 : decode cX0_throwing 81 = .ok (.i2l, 1) := dk_133 (dk_at dksX0_throwing_3 11 rfl rfl)
theorem dX0_throwing_82 : decode cX0_throwing 82 = .ok (.aload_n 0, 1) := dk_42 (dk_at dksX0_throwing_3 12 rfl rfl)
theorem dX0_throwing_83 : decode cX0_throwing 83 = .ok (.iload_n 1, 1) := dk_27 (dk_at dksX0_throwing_3 13 rfl rfl)
theorem dX0_throwing_84 : decode cX0_throwing 84 = .ok (.aload_n 0, 1) := dk_42 (dk_at dksX0_throwing_3 14 rfl rfl)
theorem dX0_throwing_85 : decode cX0_throwing 85 = .ok (.iload_n 1, 1) := dk_27 (dk_at dksX0_throwing_3 15 rfl rfl)
theorem dX0_throwing_86 : decode cX0_throwing 86 = .ok (.iload_n 2, 1) := dk_28 (dk_at dksX0_throwing_3 16 rfl rfl)
theorem dX0_throwing_87 : decode cX0_throwing 87 = .ok (.invokevirtual 256, 3) := dk_182 1 0 (dk_at dksX0_throwing_3 17 rfl rfl)
theorem dX0_throwing_90 : decode cX0_throwing 90 = .ok (.iload_n 3, 1) := dk_29 (dk_at dksX0_throwing_3 20 rfl rfl)
theorem dX0_throwing_91 : decode cX0_throwing 91 = .ok (.iconst 1, 1) := dk_4 (dk_at dksX0_throwing_3 21 rfl rfl)
theorem dX0_throwing_92 : decode cX0_throwing 92 = .ok (.iadd, 1) := dk_96 (dk_at dksX0_throwing_3 22 rfl rfl)
theorem dX0_throwing_93 : decode cX0_throwing 93 = .ok (.iload 5, 2) := dk_21 5 (dk_at dksX0_throwing_4 0 rfl rfl)
theorem dX0_throwing_95 : decode cX0_throwing 95 = .ok (.invokevirtual 259, 3) := dk_182 1 3 (dk_at dksX0_throwing_4 2 rfl rfl)
theorem dX0_throwing_98 : decode cX0_throwing 98 = .ok (.lmul, 1) := dk_105 (dk_at dksX0_throwing_4 5 rfl rfl)
theorem dX0_throwing_99 : decode cX0_throwing 99 = .ok (.ladd, 1) := dk_97 (dk_at dksX0_throwing_4 6 rfl rfl)
theorem dX0_throwing_100 : decode cX0_throwing 100 = .ok (.lreturn, 1) := dk_173 (dk_at dksX0_throwing_4 7 rfl rfl)
abbrev cX0_valueAt : ByteArray := prog_1_method_29_code
def yX0_valueAt : MethodName := ⟨RX0, "valueAt", "(IIII)J"⟩
def dkwX0_valueAt_1 : List UInt8 := [29, 100, 47, 105, 167, 0, 19, 42, 180, 0, 43, 7, 27, 28, 29, 184, 0, 253, 104, 21, 4, 96, 47, 173]
abbrev dktX0_valueAt_1 : List UInt8 := dkwX0_valueAt_1 ++ []
def dkwX0_valueAt_0 : List UInt8 := [42, 27, 29, 182, 0, 246, 153, 0, 25, 42, 27, 21, 4, 182, 0, 249, 42, 180, 0, 68, 42, 180, 0, 22]
abbrev dktX0_valueAt_0 : List UInt8 := dkwX0_valueAt_0 ++ dktX0_valueAt_1
theorem dksX0_valueAt_0 : cX0_valueAt.data.toList.drop 0 = dktX0_valueAt_0 := by decide +kernel
theorem dksX0_valueAt_1 : cX0_valueAt.data.toList.drop 24 = dktX0_valueAt_1 := dk_seg dksX0_valueAt_0 24 rfl rfl
theorem dX0_valueAt_0 : decode cX0_valueAt 0 = .ok (.aload_n 0, 1) := dk_42 (dk_at dksX0_valueAt_0 0 rfl rfl)
theorem dX0_valueAt_1 : decode cX0_valueAt 1 = .ok (.iload_n 1, 1) := dk_27 (dk_at dksX0_valueAt_0 1 rfl rfl)
theorem dX0_valueAt_2 : decode cX0_valueAt 2 = .ok (.iload_n 3, 1) := dk_29 (dk_at dksX0_valueAt_0 2 rfl rfl)
theorem dX0_valueAt_3 : decode cX0_valueAt 3 = .ok (.invokevirtual 246, 3) := dk_182 0 246 (dk_at dksX0_valueAt_0 3 rfl rfl)
theorem dX0_valueAt_6 : decode cX0_valueAt 6 = .ok (.ifCond .eq 25, 3) := dk_153 0 25 (dk_at dksX0_valueAt_0 6 rfl rfl)
theorem dX0_valueAt_9 : decode cX0_valueAt 9 = .ok (.aload_n 0, 1) := dk_42 (dk_at dksX0_valueAt_0 9 rfl rfl)
theorem dX0_valueAt_10 : decode cX0_valueAt 10 = .ok (.iload_n 1, 1) := dk_27 (dk_at dksX0_valueAt_0 10 rfl rfl)
theorem dX0_valueAt_11 : decode cX0_valueAt 11 = .ok (.iload 4, 2) := dk_21 4 (dk_at dksX0_valueAt_0 11 rfl rfl)
theorem dX0_valueAt_13 : decode cX0_valueAt 13 = .ok (.invokevirtual 249, 3) := dk_182 0 249 (dk_at dksX0_valueAt_0 13 rfl rfl)
theorem dX0_valueAt_16 : decode cX0_valueAt 16 = .ok (.aload_n 0, 1) := dk_42 (dk_at dksX0_valueAt_0 16 rfl rfl)
theorem dX0_valueAt_17 : decode cX0_valueAt 17 = .ok (.getfield 68, 3) := dk_180 0 68 (dk_at dksX0_valueAt_0 17 rfl rfl)
theorem dX0_valueAt_20 : decode cX0_valueAt 20 = .ok (.aload_n 0, 1) := dk_42 (dk_at dksX0_valueAt_0 20 rfl rfl)
theorem dX0_valueAt_21 : decode cX0_valueAt 21 = .ok (.getfield 22, 3) := dk_180 0 22 (dk_at dksX0_valueAt_0 21 rfl rfl)
theorem dX0_valueAt_24 : decode cX0_valueAt 24 = .ok (.iload_n 3, 1) := dk_29 (dk_at dksX0_valueAt_1 0 rfl rfl)
theorem dX0_valueAt_25 : decode cX0_valueAt 25 = .ok (.isub, 1) := dk_100 (dk_at dksX0_valueAt_1 1 rfl rfl)
theorem dX0_valueAt_26 : decode cX0_valueAt 26 = .ok (.laload, 1) := dk_47 (dk_at dksX0_valueAt_1 2 rfl rfl)
theorem dX0_valueAt_27 : decode cX0_valueAt 27 = .ok (.lmul, 1) := dk_105 (dk_at dksX0_valueAt_1 3 rfl rfl)
theorem dX0_valueAt_28 : decode cX0_valueAt 28 = .ok (.goto 19, 3) := dk_167 0 19 (dk_at dksX0_valueAt_1 4 rfl rfl)
theorem dX0_valueAt_31 : decode cX0_valueAt 31 = .ok (.aload_n 0, 1) := dk_42 (dk_at dksX0_valueAt_1 7 rfl rfl)
theorem dX0_valueAt_32 : decode cX0_valueAt 32 = .ok (.getfield 43, 3) := dk_180 0 43 (dk_at dksX0_valueAt_1 8 rfl rfl)
theorem dX0_valueAt_35 : decode cX0_valueAt 35 = .ok (.iconst 4, 1) := dk_7 (dk_at dksX0_valueAt_1 11 rfl rfl)
theorem dX0_valueAt_36 : decode cX0_valueAt 36 = .ok (.iload_n 1, 1) := dk_27 (dk_at dksX0_valueAt_1 12 rfl rfl)
theorem dX0_valueAt_37 : decode cX0_valueAt 37 = .ok (.iload_n 2, 1) := dk_28 (dk_at dksX0_valueAt_1 13 rfl rfl)
theorem dX0_valueAt_38 : decode cX0_valueAt 38 = .ok (.iload_n 3, 1) := dk_29 (dk_at dksX0_valueAt_1 14 rfl rfl)
theorem dX0_valueAt_39 : decode cX0_valueAt 39 = .ok (.invokestatic 253, 3) := dk_184 0 253 (dk_at dksX0_valueAt_1 15 rfl rfl)
theorem dX0_valueAt_42 : decode cX0_valueAt 42 = .ok (.imul, 1) := dk_104 (dk_at dksX0_valueAt_1 18 rfl rfl)
theorem dX0_valueAt_43 : decode cX0_valueAt 43 = .ok (.iload 4, 2) := dk_21 4 (dk_at dksX0_valueAt_1 19 rfl rfl)
theorem dX0_valueAt_45 : decode cX0_valueAt 45 = .ok (.iadd, 1) := dk_96 (dk_at dksX0_valueAt_1 21 rfl rfl)
theorem dX0_valueAt_46 : decode cX0_valueAt 46 = .ok (.laload, 1) := dk_47 (dk_at dksX0_valueAt_1 22 rfl rfl)
theorem dX0_valueAt_47 : decode cX0_valueAt 47 = .ok (.lreturn, 1) := dk_173 (dk_at dksX0_valueAt_1 23 rfl rfl)
abbrev cX0_ends : ByteArray := prog_1_method_28_code
def yX0_ends : MethodName := ⟨RX0, "ends", "(II)J"⟩
def dkwX0_ends_0 : List UInt8 := [27, 28, 184, 0, 139, 153, 0, 16, 42, 180, 0, 19, 27, 184, 0, 231, 46, 133, 167, 0, 4, 9, 173]
abbrev dktX0_ends_0 : List UInt8 := dkwX0_ends_0 ++ []
theorem dksX0_ends_0 : cX0_ends.data.toList.drop 0 = dktX0_ends_0 := by decide +kernel
theorem dX0_ends_0 : decode cX0_ends 0 = .ok (.iload_n 1, 1) := dk_27 (dk_at dksX0_ends_0 0 rfl rfl)
theorem dX0_ends_1 : decode cX0_ends 1 = .ok (.iload_n 2, 1) := dk_28 (dk_at dksX0_ends_0 1 rfl rfl)
theorem dX0_ends_2 : decode cX0_ends 2 = .ok (.invokestatic 139, 3) := dk_184 0 139 (dk_at dksX0_ends_0 2 rfl rfl)
theorem dX0_ends_5 : decode cX0_ends 5 = .ok (.ifCond .eq 16, 3) := dk_153 0 16 (dk_at dksX0_ends_0 5 rfl rfl)
theorem dX0_ends_8 : decode cX0_ends 8 = .ok (.aload_n 0, 1) := dk_42 (dk_at dksX0_ends_0 8 rfl rfl)
theorem dX0_ends_9 : decode cX0_ends 9 = .ok (.getfield 19, 3) := dk_180 0 19 (dk_at dksX0_ends_0 9 rfl rfl)
theorem dX0_ends_12 : decode cX0_ends 12 = .ok (.iload_n 1, 1) := dk_27 (dk_at dksX0_ends_0 12 rfl rfl)
theorem dX0_ends_13 : decode cX0_ends 13 = .ok (.invokestatic 231, 3) := dk_184 0 231 (dk_at dksX0_ends_0 13 rfl rfl)
theorem dX0_ends_16 : decode cX0_ends 16 = .ok (.iaload, 1) := dk_46 (dk_at dksX0_ends_0 16 rfl rfl)
theorem dX0_ends_17 : decode cX0_ends 17 = .ok (.i2l, 1) := dk_133 (dk_at dksX0_ends_0 17 rfl rfl)
theorem dX0_ends_18 : decode cX0_ends 18 = .ok (.goto 4, 3) := dk_167 0 4 (dk_at dksX0_ends_0 18 rfl rfl)
theorem dX0_ends_21 : decode cX0_ends 21 = .ok (.lconst 0, 1) := dk_9 (dk_at dksX0_ends_0 21 rfl rfl)
theorem dX0_ends_22 : decode cX0_ends 22 = .ok (.lreturn, 1) := dk_173 (dk_at dksX0_ends_0 22 rfl rfl)
abbrev cX0_at : ByteArray := prog_1_method_25_code
def yX0_at : MethodName := ⟨RX0, "at", "(III)I"⟩
def dkwX0_at_0 : List UInt8 := [16, 40, 26, 104, 16, 10, 27, 104, 96, 28, 96, 172]
abbrev dktX0_at_0 : List UInt8 := dkwX0_at_0 ++ []
theorem dksX0_at_0 : cX0_at.data.toList.drop 0 = dktX0_at_0 := by decide +kernel
theorem dX0_at_0 : decode cX0_at 0 = .ok (.bipush 40, 2) := dk_16 40 (dk_at dksX0_at_0 0 rfl rfl)
theorem dX0_at_2 : decode cX0_at 2 = .ok (.iload_n 0, 1) := dk_26 (dk_at dksX0_at_0 2 rfl rfl)
theorem dX0_at_3 : decode cX0_at 3 = .ok (.imul, 1) := dk_104 (dk_at dksX0_at_0 3 rfl rfl)
theorem dX0_at_4 : decode cX0_at 4 = .ok (.bipush 10, 2) := dk_16 10 (dk_at dksX0_at_0 4 rfl rfl)
theorem dX0_at_6 : decode cX0_at 6 = .ok (.iload_n 1, 1) := dk_27 (dk_at dksX0_at_0 6 rfl rfl)
theorem dX0_at_7 : decode cX0_at 7 = .ok (.imul, 1) := dk_104 (dk_at dksX0_at_0 7 rfl rfl)
theorem dX0_at_8 : decode cX0_at 8 = .ok (.iadd, 1) := dk_96 (dk_at dksX0_at_0 8 rfl rfl)
theorem dX0_at_9 : decode cX0_at 9 = .ok (.iload_n 2, 1) := dk_28 (dk_at dksX0_at_0 9 rfl rfl)
theorem dX0_at_10 : decode cX0_at 10 = .ok (.iadd, 1) := dk_96 (dk_at dksX0_at_0 10 rfl rfl)
theorem dX0_at_11 : decode cX0_at 11 = .ok (.ireturn, 1) := dk_172 (dk_at dksX0_at_0 11 rfl rfl)
abbrev cX0_hitsOf : ByteArray := prog_1_method_24_code
def yX0_hitsOf : MethodName := ⟨RX0, "hitsOf", "(IIII)I"⟩
def dkwX0_hitsOf_4 : List UInt8 := [16, 12, 21, 5, 184, 0, 238, 184, 0, 243, 172]
abbrev dktX0_hitsOf_4 : List UInt8 := dkwX0_hitsOf_4 ++ []
def dkwX0_hitsOf_3 : List UInt8 := [184, 0, 231, 79, 42, 180, 0, 39, 180, 0, 228, 16, 110, 21, 4, 79, 42, 182, 0, 236, 54, 5, 3]
abbrev dktX0_hitsOf_3 : List UInt8 := dkwX0_hitsOf_3 ++ dktX0_hitsOf_4
def dkwX0_hitsOf_2 : List UInt8 := [27, 79, 42, 180, 0, 39, 180, 0, 228, 16, 116, 28, 79, 42, 180, 0, 39, 180, 0, 228, 16, 109, 29]
abbrev dktX0_hitsOf_2 : List UInt8 := dkwX0_hitsOf_2 ++ dktX0_hitsOf_3
def dkwX0_hitsOf_1 : List UInt8 := [182, 0, 225, 42, 180, 0, 39, 180, 0, 228, 16, 104, 21, 5, 79, 42, 180, 0, 39, 180, 0, 228, 16, 97]
abbrev dktX0_hitsOf_1 : List UInt8 := dkwX0_hitsOf_1 ++ dktX0_hitsOf_2
def dkwX0_hitsOf_0 : List UInt8 := [42, 180, 0, 11, 27, 50, 180, 0, 142, 54, 5, 42, 180, 0, 203, 198, 0, 76, 42, 180, 0, 39]
abbrev dktX0_hitsOf_0 : List UInt8 := dkwX0_hitsOf_0 ++ dktX0_hitsOf_1
theorem dksX0_hitsOf_0 : cX0_hitsOf.data.toList.drop 0 = dktX0_hitsOf_0 := by decide +kernel
theorem dksX0_hitsOf_1 : cX0_hitsOf.data.toList.drop 22 = dktX0_hitsOf_1 := dk_seg dksX0_hitsOf_0 22 rfl rfl
theorem dksX0_hitsOf_2 : cX0_hitsOf.data.toList.drop 46 = dktX0_hitsOf_2 := dk_seg dksX0_hitsOf_1 24 rfl rfl
theorem dksX0_hitsOf_3 : cX0_hitsOf.data.toList.drop 69 = dktX0_hitsOf_3 := dk_seg dksX0_hitsOf_2 23 rfl rfl
theorem dksX0_hitsOf_4 : cX0_hitsOf.data.toList.drop 92 = dktX0_hitsOf_4 := dk_seg dksX0_hitsOf_3 23 rfl rfl
theorem dX0_hitsOf_0 : decode cX0_hitsOf 0 = .ok (.aload_n 0, 1) := dk_42 (dk_at dksX0_hitsOf_0 0 rfl rfl)
theorem dX0_hitsOf_1 : decode cX0_hitsOf 1 = .ok (.getfield 11, 3) := dk_180 0 11 (dk_at dksX0_hitsOf_0 1 rfl rfl)
theorem dX0_hitsOf_4 : decode cX0_hitsOf 4 = .ok (.iload_n 1, 1) := dk_27 (dk_at dksX0_hitsOf_0 4 rfl rfl)
theorem dX0_hitsOf_5 : decode cX0_hitsOf 5 = .ok (.aaload, 1) := dk_50 (dk_at dksX0_hitsOf_0 5 rfl rfl)
theorem dX0_hitsOf_6 : decode cX0_hitsOf 6 = .ok (.getfield 142, 3) := dk_180 0 142 (dk_at dksX0_hitsOf_0 6 rfl rfl)
theorem dX0_hitsOf_9 : decode cX0_hitsOf 9 = .ok (.istore 5, 2) := dk_54 5 (dk_at dksX0_hitsOf_0 9 rfl rfl)
theorem dX0_hitsOf_11 : decode cX0_hitsOf 11 = .ok (.aload_n 0, 1) := dk_42 (dk_at dksX0_hitsOf_0 11 rfl rfl)
theorem dX0_hitsOf_12 : decode cX0_hitsOf 12 = .ok (.getfield 203, 3) := dk_180 0 203 (dk_at dksX0_hitsOf_0 12 rfl rfl)
theorem dX0_hitsOf_15 : decode cX0_hitsOf 15 = .ok (.ifnull 76, 3) := dk_198 0 76 (dk_at dksX0_hitsOf_0 15 rfl rfl)
theorem dX0_hitsOf_18 : decode cX0_hitsOf 18 = .ok (.aload_n 0, 1) := dk_42 (dk_at dksX0_hitsOf_0 18 rfl rfl)
theorem dX0_hitsOf_19 : decode cX0_hitsOf 19 = .ok (.getfield 39, 3) := dk_180 0 39 (dk_at dksX0_hitsOf_0 19 rfl rfl)
theorem dX0_hitsOf_22 : decode cX0_hitsOf 22 = .ok (.invokevirtual 225, 3) := dk_182 0 225 (dk_at dksX0_hitsOf_1 0 rfl rfl)
theorem dX0_hitsOf_25 : decode cX0_hitsOf 25 = .ok (.aload_n 0, 1) := dk_42 (dk_at dksX0_hitsOf_1 3 rfl rfl)
theorem dX0_hitsOf_26 : decode cX0_hitsOf 26 = .ok (.getfield 39, 3) := dk_180 0 39 (dk_at dksX0_hitsOf_1 4 rfl rfl)
theorem dX0_hitsOf_29 : decode cX0_hitsOf 29 = .ok (.getfield 228, 3) := dk_180 0 228 (dk_at dksX0_hitsOf_1 7 rfl rfl)
theorem dX0_hitsOf_32 : decode cX0_hitsOf 32 = .ok (.bipush 104, 2) := dk_16 104 (dk_at dksX0_hitsOf_1 10 rfl rfl)
theorem dX0_hitsOf_34 : decode cX0_hitsOf 34 = .ok (.iload 5, 2) := dk_21 5 (dk_at dksX0_hitsOf_1 12 rfl rfl)
theorem dX0_hitsOf_36 : decode cX0_hitsOf 36 = .ok (.iastore, 1) := dk_79 (dk_at dksX0_hitsOf_1 14 rfl rfl)
theorem dX0_hitsOf_37 : decode cX0_hitsOf 37 = .ok (.aload_n 0, 1) := dk_42 (dk_at dksX0_hitsOf_1 15 rfl rfl)
theorem dX0_hitsOf_38 : decode cX0_hitsOf 38 = .ok (.getfield 39, 3) := dk_180 0 39 (dk_at dksX0_hitsOf_1 16 rfl rfl)
theorem dX0_hitsOf_41 : decode cX0_hitsOf 41 = .ok (.getfield 228, 3) := dk_180 0 228 (dk_at dksX0_hitsOf_1 19 rfl rfl)
theorem dX0_hitsOf_44 : decode cX0_hitsOf 44 = .ok (.bipush 97, 2) := dk_16 97 (dk_at dksX0_hitsOf_1 22 rfl rfl)
theorem dX0_hitsOf_46 : decode cX0_hitsOf 46 = .ok (.iload_n 1, 1) := dk_27 (dk_at dksX0_hitsOf_2 0 rfl rfl)
theorem dX0_hitsOf_47 : decode cX0_hitsOf 47 = .ok (.iastore, 1) := dk_79 (dk_at dksX0_hitsOf_2 1 rfl rfl)
theorem dX0_hitsOf_48 : decode cX0_hitsOf 48 = .ok (.aload_n 0, 1) := dk_42 (dk_at dksX0_hitsOf_2 2 rfl rfl)
theorem dX0_hitsOf_49 : decode cX0_hitsOf 49 = .ok (.getfield 39, 3) := dk_180 0 39 (dk_at dksX0_hitsOf_2 3 rfl rfl)
theorem dX0_hitsOf_52 : decode cX0_hitsOf 52 = .ok (.getfield 228, 3) := dk_180 0 228 (dk_at dksX0_hitsOf_2 6 rfl rfl)
theorem dX0_hitsOf_55 : decode cX0_hitsOf 55 = .ok (.bipush 116, 2) := dk_16 116 (dk_at dksX0_hitsOf_2 9 rfl rfl)
theorem dX0_hitsOf_57 : decode cX0_hitsOf 57 = .ok (.iload_n 2, 1) := dk_28 (dk_at dksX0_hitsOf_2 11 rfl rfl)
theorem dX0_hitsOf_58 : decode cX0_hitsOf 58 = .ok (.iastore, 1) := dk_79 (dk_at dksX0_hitsOf_2 12 rfl rfl)
theorem dX0_hitsOf_59 : decode cX0_hitsOf 59 = .ok (.aload_n 0, 1) := dk_42 (dk_at dksX0_hitsOf_2 13 rfl rfl)
theorem dX0_hitsOf_60 : decode cX0_hitsOf 60 = .ok (.getfield 39, 3) := dk_180 0 39 (dk_at dksX0_hitsOf_2 14 rfl rfl)
theorem dX0_hitsOf_63 : decode cX0_hitsOf 63 = .ok (.getfield 228, 3) := dk_180 0 228 (dk_at dksX0_hitsOf_2 17 rfl rfl)
theorem dX0_hitsOf_66 : decode cX0_hitsOf 66 = .ok (.bipush 109, 2) := dk_16 109 (dk_at dksX0_hitsOf_2 20 rfl rfl)
theorem dX0_hitsOf_68 : decode cX0_hitsOf 68 = .ok (.iload_n 3, 1) := dk_29 (dk_at dksX0_hitsOf_2 22 rfl rfl)
theorem dX0_hitsOf_69 : decode cX0_hitsOf 69 = .ok (.invokestatic 231, 3) := dk_184 0 231 (dk_at dksX0_hitsOf_3 0 rfl rfl)
theorem dX0_hitsOf_72 : decode cX0_hitsOf 72 = .ok (.iastore, 1) := dk_79 (dk_at dksX0_hitsOf_3 3 rfl rfl)
theorem dX0_hitsOf_73 : decode cX0_hitsOf 73 = .ok (.aload_n 0, 1) := dk_42 (dk_at dksX0_hitsOf_3 4 rfl rfl)
theorem dX0_hitsOf_74 : decode cX0_hitsOf 74 = .ok (.getfield 39, 3) := dk_180 0 39 (dk_at dksX0_hitsOf_3 5 rfl rfl)
theorem dX0_hitsOf_77 : decode cX0_hitsOf 77 = .ok (.getfield 228, 3) := dk_180 0 228 (dk_at dksX0_hitsOf_3 8 rfl rfl)
theorem dX0_hitsOf_80 : decode cX0_hitsOf 80 = .ok (.bipush 110, 2) := dk_16 110 (dk_at dksX0_hitsOf_3 11 rfl rfl)
theorem dX0_hitsOf_82 : decode cX0_hitsOf 82 = .ok (.iload 4, 2) := dk_21 4 (dk_at dksX0_hitsOf_3 13 rfl rfl)
theorem dX0_hitsOf_84 : decode cX0_hitsOf 84 = .ok (.iastore, 1) := dk_79 (dk_at dksX0_hitsOf_3 15 rfl rfl)
theorem dX0_hitsOf_85 : decode cX0_hitsOf 85 = .ok (.aload_n 0, 1) := dk_42 (dk_at dksX0_hitsOf_3 16 rfl rfl)
theorem dX0_hitsOf_86 : decode cX0_hitsOf 86 = .ok (.invokevirtual 236, 3) := dk_182 0 236 (dk_at dksX0_hitsOf_3 17 rfl rfl)
theorem dX0_hitsOf_89 : decode cX0_hitsOf 89 = .ok (.istore 5, 2) := dk_54 5 (dk_at dksX0_hitsOf_3 20 rfl rfl)
theorem dX0_hitsOf_91 : decode cX0_hitsOf 91 = .ok (.iconst 0, 1) := dk_3 (dk_at dksX0_hitsOf_3 22 rfl rfl)
theorem dX0_hitsOf_92 : decode cX0_hitsOf 92 = .ok (.bipush 12, 2) := dk_16 12 (dk_at dksX0_hitsOf_4 0 rfl rfl)
theorem dX0_hitsOf_94 : decode cX0_hitsOf 94 = .ok (.iload 5, 2) := dk_21 5 (dk_at dksX0_hitsOf_4 2 rfl rfl)
theorem dX0_hitsOf_96 : decode cX0_hitsOf 96 = .ok (.invokestatic 238, 3) := dk_184 0 238 (dk_at dksX0_hitsOf_4 4 rfl rfl)
theorem dX0_hitsOf_99 : decode cX0_hitsOf 99 = .ok (.invokestatic 243, 3) := dk_184 0 243 (dk_at dksX0_hitsOf_4 7 rfl rfl)
theorem dX0_hitsOf_102 : decode cX0_hitsOf 102 = .ok (.ireturn, 1) := dk_172 (dk_at dksX0_hitsOf_4 10 rfl rfl)
abbrev cX0_gives : ByteArray := prog_1_method_23_code
def yX0_gives : MethodName := ⟨RX0, "gives", "()I"⟩
def dkwX0_gives_2 : List UInt8 := [167, 255, 214, 3, 172]
abbrev dktX0_gives_2 : List UInt8 := dkwX0_gives_2 ++ []
def dkwX0_gives_1 : List UInt8 := [182, 0, 213, 153, 0, 15, 43, 180, 0, 219, 42, 180, 0, 39, 182, 0, 213, 172, 43, 180, 0, 222, 76]
abbrev dktX0_gives_1 : List UInt8 := dkwX0_gives_1 ++ dktX0_gives_2
def dkwX0_gives_0 : List UInt8 := [42, 180, 0, 203, 76, 43, 198, 0, 44, 43, 180, 0, 207, 198, 0, 17, 43, 180, 0, 207, 42, 180, 0, 39]
abbrev dktX0_gives_0 : List UInt8 := dkwX0_gives_0 ++ dktX0_gives_1
theorem dksX0_gives_0 : cX0_gives.data.toList.drop 0 = dktX0_gives_0 := by decide +kernel
theorem dksX0_gives_1 : cX0_gives.data.toList.drop 24 = dktX0_gives_1 := dk_seg dksX0_gives_0 24 rfl rfl
theorem dksX0_gives_2 : cX0_gives.data.toList.drop 47 = dktX0_gives_2 := dk_seg dksX0_gives_1 23 rfl rfl
theorem dX0_gives_0 : decode cX0_gives 0 = .ok (.aload_n 0, 1) := dk_42 (dk_at dksX0_gives_0 0 rfl rfl)
theorem dX0_gives_1 : decode cX0_gives 1 = .ok (.getfield 203, 3) := dk_180 0 203 (dk_at dksX0_gives_0 1 rfl rfl)
theorem dX0_gives_4 : decode cX0_gives 4 = .ok (.astore_n 1, 1) := dk_76 (dk_at dksX0_gives_0 4 rfl rfl)
theorem dX0_gives_5 : decode cX0_gives 5 = .ok (.aload_n 1, 1) := dk_43 (dk_at dksX0_gives_0 5 rfl rfl)
theorem dX0_gives_6 : decode cX0_gives 6 = .ok (.ifnull 44, 3) := dk_198 0 44 (dk_at dksX0_gives_0 6 rfl rfl)
theorem dX0_gives_9 : decode cX0_gives 9 = .ok (.aload_n 1, 1) := dk_43 (dk_at dksX0_gives_0 9 rfl rfl)
theorem dX0_gives_10 : decode cX0_gives 10 = .ok (.getfield 207, 3) := dk_180 0 207 (dk_at dksX0_gives_0 10 rfl rfl)
theorem dX0_gives_13 : decode cX0_gives 13 = .ok (.ifnull 17, 3) := dk_198 0 17 (dk_at dksX0_gives_0 13 rfl rfl)
theorem dX0_gives_16 : decode cX0_gives 16 = .ok (.aload_n 1, 1) := dk_43 (dk_at dksX0_gives_0 16 rfl rfl)
theorem dX0_gives_17 : decode cX0_gives 17 = .ok (.getfield 207, 3) := dk_180 0 207 (dk_at dksX0_gives_0 17 rfl rfl)
theorem dX0_gives_20 : decode cX0_gives 20 = .ok (.aload_n 0, 1) := dk_42 (dk_at dksX0_gives_0 20 rfl rfl)
theorem dX0_gives_21 : decode cX0_gives 21 = .ok (.getfield 39, 3) := dk_180 0 39 (dk_at dksX0_gives_0 21 rfl rfl)
theorem dX0_gives_24 : decode cX0_gives 24 = .ok (.invokevirtual 213, 3) := dk_182 0 213 (dk_at dksX0_gives_1 0 rfl rfl)
theorem dX0_gives_27 : decode cX0_gives 27 = .ok (.ifCond .eq 15, 3) := dk_153 0 15 (dk_at dksX0_gives_1 3 rfl rfl)
theorem dX0_gives_30 : decode cX0_gives 30 = .ok (.aload_n 1, 1) := dk_43 (dk_at dksX0_gives_1 6 rfl rfl)
theorem dX0_gives_31 : decode cX0_gives 31 = .ok (.getfield 219, 3) := dk_180 0 219 (dk_at dksX0_gives_1 7 rfl rfl)
theorem dX0_gives_34 : decode cX0_gives 34 = .ok (.aload_n 0, 1) := dk_42 (dk_at dksX0_gives_1 10 rfl rfl)
theorem dX0_gives_35 : decode cX0_gives 35 = .ok (.getfield 39, 3) := dk_180 0 39 (dk_at dksX0_gives_1 11 rfl rfl)
theorem dX0_gives_38 : decode cX0_gives 38 = .ok (.invokevirtual 213, 3) := dk_182 0 213 (dk_at dksX0_gives_1 14 rfl rfl)
theorem dX0_gives_41 : decode cX0_gives 41 = .ok (.ireturn, 1) := dk_172 (dk_at dksX0_gives_1 17 rfl rfl)
theorem dX0_gives_42 : decode cX0_gives 42 = .ok (.aload_n 1, 1) := dk_43 (dk_at dksX0_gives_1 18 rfl rfl)
theorem dX0_gives_43 : decode cX0_gives 43 = .ok (.getfield 222, 3) := dk_180 0 222 (dk_at dksX0_gives_1 19 rfl rfl)
theorem dX0_gives_46 : decode cX0_gives 46 = .ok (.astore_n 1, 1) := dk_76 (dk_at dksX0_gives_1 22 rfl rfl)
theorem dX0_gives_47 : decode cX0_gives 47 = .ok (.goto (-42), 3) := dk_167 255 214 (dk_at dksX0_gives_2 0 rfl rfl)
theorem dX0_gives_50 : decode cX0_gives 50 = .ok (.iconst 0, 1) := dk_3 (dk_at dksX0_gives_2 3 rfl rfl)
theorem dX0_gives_51 : decode cX0_gives 51 = .ok (.ireturn, 1) := dk_172 (dk_at dksX0_gives_2 4 rfl rfl)
abbrev cX0_reach : ByteArray := prog_1_method_37_code
def yX0_reach : MethodName := ⟨RX0, "reach", "(IIIJ)V"⟩
def dkwX0_reach_2 : List UInt8 := [28, 29, 184, 0, 253, 92, 47, 22, 4, 97, 80, 177]
abbrev dktX0_reach_2 : List UInt8 := dkwX0_reach_2 ++ []
def dkwX0_reach_1 : List UInt8 := [22, 4, 42, 180, 0, 68, 42, 180, 0, 22, 29, 100, 47, 105, 97, 80, 167, 0, 19, 42, 180, 0, 71, 27]
abbrev dktX0_reach_1 : List UInt8 := dkwX0_reach_1 ++ dktX0_reach_2
def dkwX0_reach_0 : List UInt8 := [22, 4, 9, 148, 154, 0, 4, 177, 42, 27, 29, 182, 0, 246, 153, 0, 29, 42, 180, 0, 74, 27, 92, 47]
abbrev dktX0_reach_0 : List UInt8 := dkwX0_reach_0 ++ dktX0_reach_1
theorem dksX0_reach_0 : cX0_reach.data.toList.drop 0 = dktX0_reach_0 := by decide +kernel
theorem dksX0_reach_1 : cX0_reach.data.toList.drop 24 = dktX0_reach_1 := dk_seg dksX0_reach_0 24 rfl rfl
theorem dksX0_reach_2 : cX0_reach.data.toList.drop 48 = dktX0_reach_2 := dk_seg dksX0_reach_1 24 rfl rfl
theorem dX0_reach_0 : decode cX0_reach 0 = .ok (.lload 4, 2) := dk_22 4 (dk_at dksX0_reach_0 0 rfl rfl)
theorem dX0_reach_2 : decode cX0_reach 2 = .ok (.lconst 0, 1) := dk_9 (dk_at dksX0_reach_0 2 rfl rfl)
theorem dX0_reach_3 : decode cX0_reach 3 = .ok (.lcmp, 1) := dk_148 (dk_at dksX0_reach_0 3 rfl rfl)
theorem dX0_reach_4 : decode cX0_reach 4 = .ok (.ifCond .ne 4, 3) := dk_154 0 4 (dk_at dksX0_reach_0 4 rfl rfl)
theorem dX0_reach_7 : decode cX0_reach 7 = .ok (.return_, 1) := dk_177 (dk_at dksX0_reach_0 7 rfl rfl)
theorem dX0_reach_8 : decode cX0_reach 8 = .ok (.aload_n 0, 1) := dk_42 (dk_at dksX0_reach_0 8 rfl rfl)
theorem dX0_reach_9 : decode cX0_reach 9 = .ok (.iload_n 1, 1) := dk_27 (dk_at dksX0_reach_0 9 rfl rfl)
theorem dX0_reach_10 : decode cX0_reach 10 = .ok (.iload_n 3, 1) := dk_29 (dk_at dksX0_reach_0 10 rfl rfl)
theorem dX0_reach_11 : decode cX0_reach 11 = .ok (.invokevirtual 246, 3) := dk_182 0 246 (dk_at dksX0_reach_0 11 rfl rfl)
theorem dX0_reach_14 : decode cX0_reach 14 = .ok (.ifCond .eq 29, 3) := dk_153 0 29 (dk_at dksX0_reach_0 14 rfl rfl)
theorem dX0_reach_17 : decode cX0_reach 17 = .ok (.aload_n 0, 1) := dk_42 (dk_at dksX0_reach_0 17 rfl rfl)
theorem dX0_reach_18 : decode cX0_reach 18 = .ok (.getfield 74, 3) := dk_180 0 74 (dk_at dksX0_reach_0 18 rfl rfl)
theorem dX0_reach_21 : decode cX0_reach 21 = .ok (.iload_n 1, 1) := dk_27 (dk_at dksX0_reach_0 21 rfl rfl)
theorem dX0_reach_22 : decode cX0_reach 22 = .ok (.dup2, 1) := dk_92 (dk_at dksX0_reach_0 22 rfl rfl)
theorem dX0_reach_23 : decode cX0_reach 23 = .ok (.laload, 1) := dk_47 (dk_at dksX0_reach_0 23 rfl rfl)
theorem dX0_reach_24 : decode cX0_reach 24 = .ok (.lload 4, 2) := dk_22 4 (dk_at dksX0_reach_1 0 rfl rfl)
theorem dX0_reach_26 : decode cX0_reach 26 = .ok (.aload_n 0, 1) := dk_42 (dk_at dksX0_reach_1 2 rfl rfl)
theorem dX0_reach_27 : decode cX0_reach 27 = .ok (.getfield 68, 3) := dk_180 0 68 (dk_at dksX0_reach_1 3 rfl rfl)
theorem dX0_reach_30 : decode cX0_reach 30 = .ok (.aload_n 0, 1) := dk_42 (dk_at dksX0_reach_1 6 rfl rfl)
theorem dX0_reach_31 : decode cX0_reach 31 = .ok (.getfield 22, 3) := dk_180 0 22 (dk_at dksX0_reach_1 7 rfl rfl)
theorem dX0_reach_34 : decode cX0_reach 34 = .ok (.iload_n 3, 1) := dk_29 (dk_at dksX0_reach_1 10 rfl rfl)
theorem dX0_reach_35 : decode cX0_reach 35 = .ok (.isub, 1) := dk_100 (dk_at dksX0_reach_1 11 rfl rfl)
theorem dX0_reach_36 : decode cX0_reach 36 = .ok (.laload, 1) := dk_47 (dk_at dksX0_reach_1 12 rfl rfl)
theorem dX0_reach_37 : decode cX0_reach 37 = .ok (.lmul, 1) := dk_105 (dk_at dksX0_reach_1 13 rfl rfl)
theorem dX0_reach_38 : decode cX0_reach 38 = .ok (.ladd, 1) := dk_97 (dk_at dksX0_reach_1 14 rfl rfl)
theorem dX0_reach_39 : decode cX0_reach 39 = .ok (.lastore, 1) := dk_80 (dk_at dksX0_reach_1 15 rfl rfl)
theorem dX0_reach_40 : decode cX0_reach 40 = .ok (.goto 19, 3) := dk_167 0 19 (dk_at dksX0_reach_1 16 rfl rfl)
theorem dX0_reach_43 : decode cX0_reach 43 = .ok (.aload_n 0, 1) := dk_42 (dk_at dksX0_reach_1 19 rfl rfl)
theorem dX0_reach_44 : decode cX0_reach 44 = .ok (.getfield 71, 3) := dk_180 0 71 (dk_at dksX0_reach_1 20 rfl rfl)
theorem dX0_reach_47 : decode cX0_reach 47 = .ok (.iload_n 1, 1) := dk_27 (dk_at dksX0_reach_1 23 rfl rfl)
theorem dX0_reach_48 : decode cX0_reach 48 = .ok (.iload_n 2, 1) := dk_28 (dk_at dksX0_reach_2 0 rfl rfl)
theorem dX0_reach_49 : decode cX0_reach 49 = .ok (.iload_n 3, 1) := dk_29 (dk_at dksX0_reach_2 1 rfl rfl)
theorem dX0_reach_50 : decode cX0_reach 50 = .ok (.invokestatic 253, 3) := dk_184 0 253 (dk_at dksX0_reach_2 2 rfl rfl)
theorem dX0_reach_53 : decode cX0_reach 53 = .ok (.dup2, 1) := dk_92 (dk_at dksX0_reach_2 5 rfl rfl)
theorem dX0_reach_54 : decode cX0_reach 54 = .ok (.laload, 1) := dk_47 (dk_at dksX0_reach_2 6 rfl rfl)
theorem dX0_reach_55 : decode cX0_reach 55 = .ok (.lload 4, 2) := dk_22 4 (dk_at dksX0_reach_2 7 rfl rfl)
theorem dX0_reach_57 : decode cX0_reach 57 = .ok (.ladd, 1) := dk_97 (dk_at dksX0_reach_2 9 rfl rfl)
theorem dX0_reach_58 : decode cX0_reach 58 = .ok (.lastore, 1) := dk_80 (dk_at dksX0_reach_2 10 rfl rfl)
theorem dX0_reach_59 : decode cX0_reach 59 = .ok (.return_, 1) := dk_177 (dk_at dksX0_reach_2 11 rfl rfl)
abbrev cX0_worthOf : ByteArray := prog_1_method_36_code
def yX0_worthOf : MethodName := ⟨RX0, "worthOf", "(I)J"⟩
def dkwX0_worthOf_0 : List UInt8 := [42, 42, 182, 0, 102, 3, 3, 27, 182, 1, 3, 173]
abbrev dktX0_worthOf_0 : List UInt8 := dkwX0_worthOf_0 ++ []
theorem dksX0_worthOf_0 : cX0_worthOf.data.toList.drop 0 = dktX0_worthOf_0 := by decide +kernel
theorem dX0_worthOf_0 : decode cX0_worthOf 0 = .ok (.aload_n 0, 1) := dk_42 (dk_at dksX0_worthOf_0 0 rfl rfl)
theorem dX0_worthOf_1 : decode cX0_worthOf 1 = .ok (.aload_n 0, 1) := dk_42 (dk_at dksX0_worthOf_0 1 rfl rfl)
theorem dX0_worthOf_2 : decode cX0_worthOf 2 = .ok (.invokevirtual 102, 3) := dk_182 0 102 (dk_at dksX0_worthOf_0 2 rfl rfl)
theorem dX0_worthOf_5 : decode cX0_worthOf 5 = .ok (.iconst 0, 1) := dk_3 (dk_at dksX0_worthOf_0 5 rfl rfl)
theorem dX0_worthOf_6 : decode cX0_worthOf 6 = .ok (.iconst 0, 1) := dk_3 (dk_at dksX0_worthOf_0 6 rfl rfl)
theorem dX0_worthOf_7 : decode cX0_worthOf 7 = .ok (.iload_n 1, 1) := dk_27 (dk_at dksX0_worthOf_0 7 rfl rfl)
theorem dX0_worthOf_8 : decode cX0_worthOf 8 = .ok (.invokevirtual 259, 3) := dk_182 1 3 (dk_at dksX0_worthOf_0 8 rfl rfl)
theorem dX0_worthOf_11 : decode cX0_worthOf 11 = .ok (.lreturn, 1) := dk_173 (dk_at dksX0_worthOf_0 11 rfl rfl)
abbrev cX0_leftOf : ByteArray := prog_1_method_41_code
def yX0_leftOf : MethodName := ⟨RX0, "leftOf", "(IZ)J"⟩
def dkwX0_leftOf_2 : List UInt8 := [167, 255, 213, 33, 173]
abbrev dktX0_leftOf_2 : List UInt8 := dkwX0_leftOf_2 ++ []
def dkwX0_leftOf_1 : List UInt8 := [153, 0, 11, 21, 5, 4, 27, 120, 160, 0, 13, 33, 42, 180, 0, 74, 21, 5, 47, 97, 66, 132, 5, 1]
abbrev dktX0_leftOf_1 : List UInt8 := dkwX0_leftOf_1 ++ dktX0_leftOf_2
def dkwX0_leftOf_0 : List UInt8 := [9, 66, 3, 54, 5, 21, 5, 42, 182, 0, 102, 163, 0, 40, 21, 5, 27, 184, 0, 139, 153, 0, 25, 28]
abbrev dktX0_leftOf_0 : List UInt8 := dkwX0_leftOf_0 ++ dktX0_leftOf_1
theorem dksX0_leftOf_0 : cX0_leftOf.data.toList.drop 0 = dktX0_leftOf_0 := by decide +kernel
theorem dksX0_leftOf_1 : cX0_leftOf.data.toList.drop 24 = dktX0_leftOf_1 := dk_seg dksX0_leftOf_0 24 rfl rfl
theorem dksX0_leftOf_2 : cX0_leftOf.data.toList.drop 48 = dktX0_leftOf_2 := dk_seg dksX0_leftOf_1 24 rfl rfl
theorem dX0_leftOf_0 : decode cX0_leftOf 0 = .ok (.lconst 0, 1) := dk_9 (dk_at dksX0_leftOf_0 0 rfl rfl)
theorem dX0_leftOf_1 : decode cX0_leftOf 1 = .ok (.lstore_n 3, 1) := dk_66 (dk_at dksX0_leftOf_0 1 rfl rfl)
theorem dX0_leftOf_2 : decode cX0_leftOf 2 = .ok (.iconst 0, 1) := dk_3 (dk_at dksX0_leftOf_0 2 rfl rfl)
theorem dX0_leftOf_3 : decode cX0_leftOf 3 = .ok (.istore 5, 2) := dk_54 5 (dk_at dksX0_leftOf_0 3 rfl rfl)
theorem dX0_leftOf_5 : decode cX0_leftOf 5 = .ok (.iload 5, 2) := dk_21 5 (dk_at dksX0_leftOf_0 5 rfl rfl)
theorem dX0_leftOf_7 : decode cX0_leftOf 7 = .ok (.aload_n 0, 1) := dk_42 (dk_at dksX0_leftOf_0 7 rfl rfl)
theorem dX0_leftOf_8 : decode cX0_leftOf 8 = .ok (.invokevirtual 102, 3) := dk_182 0 102 (dk_at dksX0_leftOf_0 8 rfl rfl)
theorem dX0_leftOf_11 : decode cX0_leftOf 11 = .ok (.if_icmp .gt 40, 3) := dk_163 0 40 (dk_at dksX0_leftOf_0 11 rfl rfl)
theorem dX0_leftOf_14 : decode cX0_leftOf 14 = .ok (.iload 5, 2) := dk_21 5 (dk_at dksX0_leftOf_0 14 rfl rfl)
theorem dX0_leftOf_16 : decode cX0_leftOf 16 = .ok (.iload_n 1, 1) := dk_27 (dk_at dksX0_leftOf_0 16 rfl rfl)
theorem dX0_leftOf_17 : decode cX0_leftOf 17 = .ok (.invokestatic 139, 3) := dk_184 0 139 (dk_at dksX0_leftOf_0 17 rfl rfl)
theorem dX0_leftOf_20 : decode cX0_leftOf 20 = .ok (.ifCond .eq 25, 3) := dk_153 0 25 (dk_at dksX0_leftOf_0 20 rfl rfl)
theorem dX0_leftOf_23 : decode cX0_leftOf 23 = .ok (.iload_n 2, 1) := dk_28 (dk_at dksX0_leftOf_0 23 rfl rfl)
theorem dX0_leftOf_24 : decode cX0_leftOf 24 = .ok (.ifCond .eq 11, 3) := dk_153 0 11 (dk_at dksX0_leftOf_1 0 rfl rfl)
theorem dX0_leftOf_27 : decode cX0_leftOf 27 = .ok (.iload 5, 2) := dk_21 5 (dk_at dksX0_leftOf_1 3 rfl rfl)
theorem dX0_leftOf_29 : decode cX0_leftOf 29 = .ok (.iconst 1, 1) := dk_4 (dk_at dksX0_leftOf_1 5 rfl rfl)
theorem dX0_leftOf_30 : decode cX0_leftOf 30 = .ok (.iload_n 1, 1) := dk_27 (dk_at dksX0_leftOf_1 6 rfl rfl)
theorem dX0_leftOf_31 : decode cX0_leftOf 31 = .ok (.ishl, 1) := dk_120 (dk_at dksX0_leftOf_1 7 rfl rfl)
theorem dX0_leftOf_32 : decode cX0_leftOf 32 = .ok (.if_icmp .ne 13, 3) := dk_160 0 13 (dk_at dksX0_leftOf_1 8 rfl rfl)
theorem dX0_leftOf_35 : decode cX0_leftOf 35 = .ok (.lload_n 3, 1) := dk_33 (dk_at dksX0_leftOf_1 11 rfl rfl)
theorem dX0_leftOf_36 : decode cX0_leftOf 36 = .ok (.aload_n 0, 1) := dk_42 (dk_at dksX0_leftOf_1 12 rfl rfl)
theorem dX0_leftOf_37 : decode cX0_leftOf 37 = .ok (.getfield 74, 3) := dk_180 0 74 (dk_at dksX0_leftOf_1 13 rfl rfl)
theorem dX0_leftOf_40 : decode cX0_leftOf 40 = .ok (.iload 5, 2) := dk_21 5 (dk_at dksX0_leftOf_1 16 rfl rfl)
theorem dX0_leftOf_42 : decode cX0_leftOf 42 = .ok (.laload, 1) := dk_47 (dk_at dksX0_leftOf_1 18 rfl rfl)
theorem dX0_leftOf_43 : decode cX0_leftOf 43 = .ok (.ladd, 1) := dk_97 (dk_at dksX0_leftOf_1 19 rfl rfl)
theorem dX0_leftOf_44 : decode cX0_leftOf 44 = .ok (.lstore_n 3, 1) := dk_66 (dk_at dksX0_leftOf_1 20 rfl rfl)
theorem dX0_leftOf_45 : decode cX0_leftOf 45 = .ok (.iinc 5 1, 3) := dk_132 5 1 (dk_at dksX0_leftOf_1 21 rfl rfl)
theorem dX0_leftOf_48 : decode cX0_leftOf 48 = .ok (.goto (-43), 3) := dk_167 255 213 (dk_at dksX0_leftOf_2 0 rfl rfl)
theorem dX0_leftOf_51 : decode cX0_leftOf 51 = .ok (.lload_n 3, 1) := dk_33 (dk_at dksX0_leftOf_2 3 rfl rfl)
theorem dX0_leftOf_52 : decode cX0_leftOf 52 = .ok (.lreturn, 1) := dk_173 (dk_at dksX0_leftOf_2 4 rfl rfl)
abbrev cX0_part : ByteArray := prog_1_method_40_code
def yX0_part : MethodName := ⟨RX0, "part", "(JJI)J"⟩
def dkwX0_part_0 : List UInt8 := [30, 32, 184, 1, 34, 55, 5, 21, 4, 154, 0, 10, 30, 22, 5, 109, 167, 0, 7, 32, 22, 5, 109, 173]
abbrev dktX0_part_0 : List UInt8 := dkwX0_part_0 ++ []
theorem dksX0_part_0 : cX0_part.data.toList.drop 0 = dktX0_part_0 := by decide +kernel
theorem dX0_part_0 : decode cX0_part 0 = .ok (.lload_n 0, 1) := dk_30 (dk_at dksX0_part_0 0 rfl rfl)
theorem dX0_part_1 : decode cX0_part 1 = .ok (.lload_n 2, 1) := dk_32 (dk_at dksX0_part_0 1 rfl rfl)
theorem dX0_part_2 : decode cX0_part 2 = .ok (.invokestatic 290, 3) := dk_184 1 34 (dk_at dksX0_part_0 2 rfl rfl)
theorem dX0_part_5 : decode cX0_part 5 = .ok (.lstore 5, 2) := dk_55 5 (dk_at dksX0_part_0 5 rfl rfl)
theorem dX0_part_7 : decode cX0_part 7 = .ok (.iload 4, 2) := dk_21 4 (dk_at dksX0_part_0 7 rfl rfl)
theorem dX0_part_9 : decode cX0_part 9 = .ok (.ifCond .ne 10, 3) := dk_154 0 10 (dk_at dksX0_part_0 9 rfl rfl)
theorem dX0_part_12 : decode cX0_part 12 = .ok (.lload_n 0, 1) := dk_30 (dk_at dksX0_part_0 12 rfl rfl)
theorem dX0_part_13 : decode cX0_part 13 = .ok (.lload 5, 2) := dk_22 5 (dk_at dksX0_part_0 13 rfl rfl)
theorem dX0_part_15 : decode cX0_part 15 = .ok (.ldiv, 1) := dk_109 (dk_at dksX0_part_0 15 rfl rfl)
theorem dX0_part_16 : decode cX0_part 16 = .ok (.goto 7, 3) := dk_167 0 7 (dk_at dksX0_part_0 16 rfl rfl)
theorem dX0_part_19 : decode cX0_part 19 = .ok (.lload_n 2, 1) := dk_32 (dk_at dksX0_part_0 19 rfl rfl)
theorem dX0_part_20 : decode cX0_part 20 = .ok (.lload 5, 2) := dk_22 5 (dk_at dksX0_part_0 20 rfl rfl)
theorem dX0_part_22 : decode cX0_part 22 = .ok (.ldiv, 1) := dk_109 (dk_at dksX0_part_0 22 rfl rfl)
theorem dX0_part_23 : decode cX0_part 23 = .ok (.lreturn, 1) := dk_173 (dk_at dksX0_part_0 23 rfl rfl)
abbrev cX0_common : ByteArray := prog_1_method_39_code
def yX0_common : MethodName := ⟨RX0, "common", "(JJ)J"⟩
def dkwX0_common_1 : List UInt8 := [22, 8, 55, 6, 167, 255, 234, 22, 4, 173]
abbrev dktX0_common_1 : List UInt8 := dkwX0_common_1 ++ []
def dkwX0_common_0 : List UInt8 := [30, 55, 4, 32, 55, 6, 22, 6, 9, 148, 153, 0, 21, 22, 4, 22, 6, 113, 55, 8, 22, 6, 55, 4]
abbrev dktX0_common_0 : List UInt8 := dkwX0_common_0 ++ dktX0_common_1
theorem dksX0_common_0 : cX0_common.data.toList.drop 0 = dktX0_common_0 := by decide +kernel
theorem dksX0_common_1 : cX0_common.data.toList.drop 24 = dktX0_common_1 := dk_seg dksX0_common_0 24 rfl rfl
theorem dX0_common_0 : decode cX0_common 0 = .ok (.lload_n 0, 1) := dk_30 (dk_at dksX0_common_0 0 rfl rfl)
theorem dX0_common_1 : decode cX0_common 1 = .ok (.lstore 4, 2) := dk_55 4 (dk_at dksX0_common_0 1 rfl rfl)
theorem dX0_common_3 : decode cX0_common 3 = .ok (.lload_n 2, 1) := dk_32 (dk_at dksX0_common_0 3 rfl rfl)
theorem dX0_common_4 : decode cX0_common 4 = .ok (.lstore 6, 2) := dk_55 6 (dk_at dksX0_common_0 4 rfl rfl)
theorem dX0_common_6 : decode cX0_common 6 = .ok (.lload 6, 2) := dk_22 6 (dk_at dksX0_common_0 6 rfl rfl)
theorem dX0_common_8 : decode cX0_common 8 = .ok (.lconst 0, 1) := dk_9 (dk_at dksX0_common_0 8 rfl rfl)
theorem dX0_common_9 : decode cX0_common 9 = .ok (.lcmp, 1) := dk_148 (dk_at dksX0_common_0 9 rfl rfl)
theorem dX0_common_10 : decode cX0_common 10 = .ok (.ifCond .eq 21, 3) := dk_153 0 21 (dk_at dksX0_common_0 10 rfl rfl)
theorem dX0_common_13 : decode cX0_common 13 = .ok (.lload 4, 2) := dk_22 4 (dk_at dksX0_common_0 13 rfl rfl)
theorem dX0_common_15 : decode cX0_common 15 = .ok (.lload 6, 2) := dk_22 6 (dk_at dksX0_common_0 15 rfl rfl)
theorem dX0_common_17 : decode cX0_common 17 = .ok (.lrem, 1) := dk_113 (dk_at dksX0_common_0 17 rfl rfl)
theorem dX0_common_18 : decode cX0_common 18 = .ok (.lstore 8, 2) := dk_55 8 (dk_at dksX0_common_0 18 rfl rfl)
theorem dX0_common_20 : decode cX0_common 20 = .ok (.lload 6, 2) := dk_22 6 (dk_at dksX0_common_0 20 rfl rfl)
theorem dX0_common_22 : decode cX0_common 22 = .ok (.lstore 4, 2) := dk_55 4 (dk_at dksX0_common_0 22 rfl rfl)
theorem dX0_common_24 : decode cX0_common 24 = .ok (.lload 8, 2) := dk_22 8 (dk_at dksX0_common_1 0 rfl rfl)
theorem dX0_common_26 : decode cX0_common 26 = .ok (.lstore 6, 2) := dk_55 6 (dk_at dksX0_common_1 2 rfl rfl)
theorem dX0_common_28 : decode cX0_common 28 = .ok (.goto (-22), 3) := dk_167 255 234 (dk_at dksX0_common_1 4 rfl rfl)
theorem dX0_common_31 : decode cX0_common 31 = .ok (.lload 4, 2) := dk_22 4 (dk_at dksX0_common_1 7 rfl rfl)
theorem dX0_common_33 : decode cX0_common 33 = .ok (.lreturn, 1) := dk_173 (dk_at dksX0_common_1 9 rfl rfl)
abbrev cX0_just : ByteArray := prog_1_method_43_code
def yX0_just : MethodName := ⟨RX0, "just", "(II)J"⟩
def dkwX0_just_3 : List UInt8 := [180, 0, 68, 42, 180, 0, 22, 47, 28, 184, 1, 52, 173]
abbrev dktX0_just_3 : List UInt8 := dkwX0_just_3 ++ []
def dkwX0_just_2 : List UInt8 := [173, 42, 182, 1, 42, 27, 156, 0, 10, 42, 180, 1, 26, 167, 0, 9, 42, 180, 0, 74, 27, 47, 42]
abbrev dktX0_just_2 : List UInt8 := dkwX0_just_2 ++ dktX0_just_3
def dkwX0_just_1 : List UInt8 := [20, 1, 40, 173, 42, 180, 0, 95, 154, 0, 17, 27, 156, 0, 11, 28, 154, 0, 7, 9, 167, 0, 4, 10]
abbrev dktX0_just_1 : List UInt8 := dkwX0_just_1 ++ dktX0_just_2
def dkwX0_just_0 : List UInt8 := [27, 2, 159, 0, 11, 42, 27, 182, 1, 56, 153, 0, 12, 28, 3, 4, 184, 0, 98, 154, 0, 7]
abbrev dktX0_just_0 : List UInt8 := dkwX0_just_0 ++ dktX0_just_1
theorem dksX0_just_0 : cX0_just.data.toList.drop 0 = dktX0_just_0 := by decide +kernel
theorem dksX0_just_1 : cX0_just.data.toList.drop 22 = dktX0_just_1 := dk_seg dksX0_just_0 22 rfl rfl
theorem dksX0_just_2 : cX0_just.data.toList.drop 46 = dktX0_just_2 := dk_seg dksX0_just_1 24 rfl rfl
theorem dksX0_just_3 : cX0_just.data.toList.drop 69 = dktX0_just_3 := dk_seg dksX0_just_2 23 rfl rfl
theorem dX0_just_0 : decode cX0_just 0 = .ok (.iload_n 1, 1) := dk_27 (dk_at dksX0_just_0 0 rfl rfl)
theorem dX0_just_1 : decode cX0_just 1 = .ok (.iconst (-1), 1) := dk_2 (dk_at dksX0_just_0 1 rfl rfl)
theorem dX0_just_2 : decode cX0_just 2 = .ok (.if_icmp .eq 11, 3) := dk_159 0 11 (dk_at dksX0_just_0 2 rfl rfl)
theorem dX0_just_5 : decode cX0_just 5 = .ok (.aload_n 0, 1) := dk_42 (dk_at dksX0_just_0 5 rfl rfl)
theorem dX0_just_6 : decode cX0_just 6 = .ok (.iload_n 1, 1) := dk_27 (dk_at dksX0_just_0 6 rfl rfl)
theorem dX0_just_7 : decode cX0_just 7 = .ok (.invokevirtual 312, 3) := dk_182 1 56 (dk_at dksX0_just_0 7 rfl rfl)
theorem dX0_just_10 : decode cX0_just 10 = .ok (.ifCond .eq 12, 3) := dk_153 0 12 (dk_at dksX0_just_0 10 rfl rfl)
theorem dX0_just_13 : decode cX0_just 13 = .ok (.iload_n 2, 1) := dk_28 (dk_at dksX0_just_0 13 rfl rfl)
theorem dX0_just_14 : decode cX0_just 14 = .ok (.iconst 0, 1) := dk_3 (dk_at dksX0_just_0 14 rfl rfl)
theorem dX0_just_15 : decode cX0_just 15 = .ok (.iconst 1, 1) := dk_4 (dk_at dksX0_just_0 15 rfl rfl)
theorem dX0_just_16 : decode cX0_just 16 = .ok (.invokestatic 98, 3) := dk_184 0 98 (dk_at dksX0_just_0 16 rfl rfl)
theorem dX0_just_19 : decode cX0_just 19 = .ok (.ifCond .ne 7, 3) := dk_154 0 7 (dk_at dksX0_just_0 19 rfl rfl)
theorem dX0_just_22 : decode cX0_just 22 = .ok (.ldc2_w 296, 3) := dk_20 1 40 (dk_at dksX0_just_1 0 rfl rfl)
theorem dX0_just_25 : decode cX0_just 25 = .ok (.lreturn, 1) := dk_173 (dk_at dksX0_just_1 3 rfl rfl)
theorem dX0_just_26 : decode cX0_just 26 = .ok (.aload_n 0, 1) := dk_42 (dk_at dksX0_just_1 4 rfl rfl)
theorem dX0_just_27 : decode cX0_just 27 = .ok (.getfield 95, 3) := dk_180 0 95 (dk_at dksX0_just_1 5 rfl rfl)
theorem dX0_just_30 : decode cX0_just 30 = .ok (.ifCond .ne 17, 3) := dk_154 0 17 (dk_at dksX0_just_1 8 rfl rfl)
theorem dX0_just_33 : decode cX0_just 33 = .ok (.iload_n 1, 1) := dk_27 (dk_at dksX0_just_1 11 rfl rfl)
theorem dX0_just_34 : decode cX0_just 34 = .ok (.ifCond .ge 11, 3) := dk_156 0 11 (dk_at dksX0_just_1 12 rfl rfl)
theorem dX0_just_37 : decode cX0_just 37 = .ok (.iload_n 2, 1) := dk_28 (dk_at dksX0_just_1 15 rfl rfl)
theorem dX0_just_38 : decode cX0_just 38 = .ok (.ifCond .ne 7, 3) := dk_154 0 7 (dk_at dksX0_just_1 16 rfl rfl)
theorem dX0_just_41 : decode cX0_just 41 = .ok (.lconst 0, 1) := dk_9 (dk_at dksX0_just_1 19 rfl rfl)
theorem dX0_just_42 : decode cX0_just 42 = .ok (.goto 4, 3) := dk_167 0 4 (dk_at dksX0_just_1 20 rfl rfl)
theorem dX0_just_45 : decode cX0_just 45 = .ok (.lconst 1, 1) := dk_10 (dk_at dksX0_just_1 23 rfl rfl)
theorem dX0_just_46 : decode cX0_just 46 = .ok (.lreturn, 1) := dk_173 (dk_at dksX0_just_2 0 rfl rfl)
theorem dX0_just_47 : decode cX0_just 47 = .ok (.aload_n 0, 1) := dk_42 (dk_at dksX0_just_2 1 rfl rfl)
theorem dX0_just_48 : decode cX0_just 48 = .ok (.invokevirtual 298, 3) := dk_182 1 42 (dk_at dksX0_just_2 2 rfl rfl)
theorem dX0_just_51 : decode cX0_just 51 = .ok (.iload_n 1, 1) := dk_27 (dk_at dksX0_just_2 5 rfl rfl)
theorem dX0_just_52 : decode cX0_just 52 = .ok (.ifCond .ge 10, 3) := dk_156 0 10 (dk_at dksX0_just_2 6 rfl rfl)
theorem dX0_just_55 : decode cX0_just 55 = .ok (.aload_n 0, 1) := dk_42 (dk_at dksX0_just_2 9 rfl rfl)
theorem dX0_just_56 : decode cX0_just 56 = .ok (.getfield 282, 3) := dk_180 1 26 (dk_at dksX0_just_2 10 rfl rfl)
theorem dX0_just_59 : decode cX0_just 59 = .ok (.goto 9, 3) := dk_167 0 9 (dk_at dksX0_just_2 13 rfl rfl)
theorem dX0_just_62 : decode cX0_just 62 = .ok (.aload_n 0, 1) := dk_42 (dk_at dksX0_just_2 16 rfl rfl)
theorem dX0_just_63 : decode cX0_just 63 = .ok (.getfield 74, 3) := dk_180 0 74 (dk_at dksX0_just_2 17 rfl rfl)
theorem dX0_just_66 : decode cX0_just 66 = .ok (.iload_n 1, 1) := dk_27 (dk_at dksX0_just_2 20 rfl rfl)
theorem dX0_just_67 : decode cX0_just 67 = .ok (.laload, 1) := dk_47 (dk_at dksX0_just_2 21 rfl rfl)
theorem dX0_just_68 : decode cX0_just 68 = .ok (.aload_n 0, 1) := dk_42 (dk_at dksX0_just_2 22 rfl rfl)
theorem dX0_just_69 : decode cX0_just 69 = .ok (.getfield 68, 3) := dk_180 0 68 (dk_at dksX0_just_3 0 rfl rfl)
theorem dX0_just_72 : decode cX0_just 72 = .ok (.aload_n 0, 1) := dk_42 (dk_at dksX0_just_3 3 rfl rfl)
theorem dX0_just_73 : decode cX0_just 73 = .ok (.getfield 22, 3) := dk_180 0 22 (dk_at dksX0_just_3 4 rfl rfl)
theorem dX0_just_76 : decode cX0_just 76 = .ok (.laload, 1) := dk_47 (dk_at dksX0_just_3 7 rfl rfl)
theorem dX0_just_77 : decode cX0_just 77 = .ok (.iload_n 2, 1) := dk_28 (dk_at dksX0_just_3 8 rfl rfl)
theorem dX0_just_78 : decode cX0_just 78 = .ok (.invokestatic 308, 3) := dk_184 1 52 (dk_at dksX0_just_3 9 rfl rfl)
theorem dX0_just_81 : decode cX0_just 81 = .ok (.lreturn, 1) := dk_173 (dk_at dksX0_just_3 12 rfl rfl)
abbrev cX0_isSet : ByteArray := prog_1_method_6_code
def yX0_isSet : MethodName := ⟨RX0, "isSet", "(I)Z"⟩
def dkwX0_isSet_0 : List UInt8 := [27, 3, 42, 182, 0, 102, 184, 0, 98, 172]
abbrev dktX0_isSet_0 : List UInt8 := dkwX0_isSet_0 ++ []
theorem dksX0_isSet_0 : cX0_isSet.data.toList.drop 0 = dktX0_isSet_0 := by decide +kernel
theorem dX0_isSet_0 : decode cX0_isSet 0 = .ok (.iload_n 1, 1) := dk_27 (dk_at dksX0_isSet_0 0 rfl rfl)
theorem dX0_isSet_1 : decode cX0_isSet 1 = .ok (.iconst 0, 1) := dk_3 (dk_at dksX0_isSet_0 1 rfl rfl)
theorem dX0_isSet_2 : decode cX0_isSet 2 = .ok (.aload_n 0, 1) := dk_42 (dk_at dksX0_isSet_0 2 rfl rfl)
theorem dX0_isSet_3 : decode cX0_isSet 3 = .ok (.invokevirtual 102, 3) := dk_182 0 102 (dk_at dksX0_isSet_0 3 rfl rfl)
theorem dX0_isSet_6 : decode cX0_isSet 6 = .ok (.invokestatic 98, 3) := dk_184 0 98 (dk_at dksX0_isSet_0 6 rfl rfl)
theorem dX0_isSet_9 : decode cX0_isSet 9 = .ok (.ireturn, 1) := dk_172 (dk_at dksX0_isSet_0 9 rfl rfl)
abbrev cX0_aims : ByteArray := prog_1_method_44_code
def yX0_aims : MethodName := ⟨RX0, "aims", "(III)I"⟩
def dkwX0_aims_3 : List UInt8 := [51, 54, 4, 21, 4, 16, 9, 160, 0, 8, 16, 254, 167, 0, 5, 21, 4, 172]
abbrev dktX0_aims_3 : List UInt8 := dkwX0_aims_3 ++ []
def dkwX0_aims_2 : List UInt8 := [153, 0, 6, 16, 254, 172, 42, 182, 1, 23, 42, 180, 0, 47, 28, 42, 27, 182, 0, 151, 29, 184, 0, 253]
abbrev dktX0_aims_2 : List UInt8 := dkwX0_aims_2 ++ dktX0_aims_3
def dkwX0_aims_1 : List UInt8 := [29, 3, 42, 180, 0, 22, 4, 100, 184, 0, 98, 154, 0, 5, 2, 172, 42, 28, 29, 182, 0, 246]
abbrev dktX0_aims_1 : List UInt8 := dkwX0_aims_1 ++ dktX0_aims_2
def dkwX0_aims_0 : List UInt8 := [42, 27, 182, 0, 136, 153, 0, 33, 42, 28, 182, 1, 56, 153, 0, 25, 28, 27, 184, 0, 139, 153, 0, 17]
abbrev dktX0_aims_0 : List UInt8 := dkwX0_aims_0 ++ dktX0_aims_1
theorem dksX0_aims_0 : cX0_aims.data.toList.drop 0 = dktX0_aims_0 := by decide +kernel
theorem dksX0_aims_1 : cX0_aims.data.toList.drop 24 = dktX0_aims_1 := dk_seg dksX0_aims_0 24 rfl rfl
theorem dksX0_aims_2 : cX0_aims.data.toList.drop 46 = dktX0_aims_2 := dk_seg dksX0_aims_1 22 rfl rfl
theorem dksX0_aims_3 : cX0_aims.data.toList.drop 70 = dktX0_aims_3 := dk_seg dksX0_aims_2 24 rfl rfl
theorem dX0_aims_0 : decode cX0_aims 0 = .ok (.aload_n 0, 1) := dk_42 (dk_at dksX0_aims_0 0 rfl rfl)
theorem dX0_aims_1 : decode cX0_aims 1 = .ok (.iload_n 1, 1) := dk_27 (dk_at dksX0_aims_0 1 rfl rfl)
theorem dX0_aims_2 : decode cX0_aims 2 = .ok (.invokevirtual 136, 3) := dk_182 0 136 (dk_at dksX0_aims_0 2 rfl rfl)
theorem dX0_aims_5 : decode cX0_aims 5 = .ok (.ifCond .eq 33, 3) := dk_153 0 33 (dk_at dksX0_aims_0 5 rfl rfl)
theorem dX0_aims_8 : decode cX0_aims 8 = .ok (.aload_n 0, 1) := dk_42 (dk_at dksX0_aims_0 8 rfl rfl)
theorem dX0_aims_9 : decode cX0_aims 9 = .ok (.iload_n 2, 1) := dk_28 (dk_at dksX0_aims_0 9 rfl rfl)
theorem dX0_aims_10 : decode cX0_aims 10 = .ok (.invokevirtual 312, 3) := dk_182 1 56 (dk_at dksX0_aims_0 10 rfl rfl)
theorem dX0_aims_13 : decode cX0_aims 13 = .ok (.ifCond .eq 25, 3) := dk_153 0 25 (dk_at dksX0_aims_0 13 rfl rfl)
theorem dX0_aims_16 : decode cX0_aims 16 = .ok (.iload_n 2, 1) := dk_28 (dk_at dksX0_aims_0 16 rfl rfl)
theorem dX0_aims_17 : decode cX0_aims 17 = .ok (.iload_n 1, 1) := dk_27 (dk_at dksX0_aims_0 17 rfl rfl)
theorem dX0_aims_18 : decode cX0_aims 18 = .ok (.invokestatic 139, 3) := dk_184 0 139 (dk_at dksX0_aims_0 18 rfl rfl)
theorem dX0_aims_21 : decode cX0_aims 21 = .ok (.ifCond .eq 17, 3) := dk_153 0 17 (dk_at dksX0_aims_0 21 rfl rfl)
theorem dX0_aims_24 : decode cX0_aims 24 = .ok (.iload_n 3, 1) := dk_29 (dk_at dksX0_aims_1 0 rfl rfl)
theorem dX0_aims_25 : decode cX0_aims 25 = .ok (.iconst 0, 1) := dk_3 (dk_at dksX0_aims_1 1 rfl rfl)
theorem dX0_aims_26 : decode cX0_aims 26 = .ok (.aload_n 0, 1) := dk_42 (dk_at dksX0_aims_1 2 rfl rfl)
theorem dX0_aims_27 : decode cX0_aims 27 = .ok (.getfield 22, 3) := dk_180 0 22 (dk_at dksX0_aims_1 3 rfl rfl)
theorem dX0_aims_30 : decode cX0_aims 30 = .ok (.iconst 1, 1) := dk_4 (dk_at dksX0_aims_1 6 rfl rfl)
theorem dX0_aims_31 : decode cX0_aims 31 = .ok (.isub, 1) := dk_100 (dk_at dksX0_aims_1 7 rfl rfl)
theorem dX0_aims_32 : decode cX0_aims 32 = .ok (.invokestatic 98, 3) := dk_184 0 98 (dk_at dksX0_aims_1 8 rfl rfl)
theorem dX0_aims_35 : decode cX0_aims 35 = .ok (.ifCond .ne 5, 3) := dk_154 0 5 (dk_at dksX0_aims_1 11 rfl rfl)
theorem dX0_aims_38 : decode cX0_aims 38 = .ok (.iconst (-1), 1) := dk_2 (dk_at dksX0_aims_1 14 rfl rfl)
theorem dX0_aims_39 : decode cX0_aims 39 = .ok (.ireturn, 1) := dk_172 (dk_at dksX0_aims_1 15 rfl rfl)
theorem dX0_aims_40 : decode cX0_aims 40 = .ok (.aload_n 0, 1) := dk_42 (dk_at dksX0_aims_1 16 rfl rfl)
theorem dX0_aims_41 : decode cX0_aims 41 = .ok (.iload_n 2, 1) := dk_28 (dk_at dksX0_aims_1 17 rfl rfl)
theorem dX0_aims_42 : decode cX0_aims 42 = .ok (.iload_n 3, 1) := dk_29 (dk_at dksX0_aims_1 18 rfl rfl)
theorem dX0_aims_43 : decode cX0_aims 43 = .ok (.invokevirtual 246, 3) := dk_182 0 246 (dk_at dksX0_aims_1 19 rfl rfl)
theorem dX0_aims_46 : decode cX0_aims 46 = .ok (.ifCond .eq 6, 3) := dk_153 0 6 (dk_at dksX0_aims_2 0 rfl rfl)
theorem dX0_aims_49 : decode cX0_aims 49 = .ok (.bipush (-2), 2) := dk_16 254 (dk_at dksX0_aims_2 3 rfl rfl)
theorem dX0_aims_51 : decode cX0_aims 51 = .ok (.ireturn, 1) := dk_172 (dk_at dksX0_aims_2 5 rfl rfl)
theorem dX0_aims_52 : decode cX0_aims 52 = .ok (.aload_n 0, 1) := dk_42 (dk_at dksX0_aims_2 6 rfl rfl)
theorem dX0_aims_53 : decode cX0_aims 53 = .ok (.invokevirtual 279, 3) := dk_182 1 23 (dk_at dksX0_aims_2 7 rfl rfl)
theorem dX0_aims_56 : decode cX0_aims 56 = .ok (.aload_n 0, 1) := dk_42 (dk_at dksX0_aims_2 10 rfl rfl)
theorem dX0_aims_57 : decode cX0_aims 57 = .ok (.getfield 47, 3) := dk_180 0 47 (dk_at dksX0_aims_2 11 rfl rfl)
theorem dX0_aims_60 : decode cX0_aims 60 = .ok (.iload_n 2, 1) := dk_28 (dk_at dksX0_aims_2 14 rfl rfl)
theorem dX0_aims_61 : decode cX0_aims 61 = .ok (.aload_n 0, 1) := dk_42 (dk_at dksX0_aims_2 15 rfl rfl)
theorem dX0_aims_62 : decode cX0_aims 62 = .ok (.iload_n 1, 1) := dk_27 (dk_at dksX0_aims_2 16 rfl rfl)
theorem dX0_aims_63 : decode cX0_aims 63 = .ok (.invokevirtual 151, 3) := dk_182 0 151 (dk_at dksX0_aims_2 17 rfl rfl)
theorem dX0_aims_66 : decode cX0_aims 66 = .ok (.iload_n 3, 1) := dk_29 (dk_at dksX0_aims_2 20 rfl rfl)
theorem dX0_aims_67 : decode cX0_aims 67 = .ok (.invokestatic 253, 3) := dk_184 0 253 (dk_at dksX0_aims_2 21 rfl rfl)
theorem dX0_aims_70 : decode cX0_aims 70 = .ok (.baload, 1) := dk_51 (dk_at dksX0_aims_3 0 rfl rfl)
theorem dX0_aims_71 : decode cX0_aims 71 = .ok (.istore 4, 2) := dk_54 4 (dk_at dksX0_aims_3 1 rfl rfl)
theorem dX0_aims_73 : decode cX0_aims 73 = .ok (.iload 4, 2) := dk_21 4 (dk_at dksX0_aims_3 3 rfl rfl)
theorem dX0_aims_75 : decode cX0_aims 75 = .ok (.bipush 9, 2) := dk_16 9 (dk_at dksX0_aims_3 5 rfl rfl)
theorem dX0_aims_77 : decode cX0_aims 77 = .ok (.if_icmp .ne 8, 3) := dk_160 0 8 (dk_at dksX0_aims_3 7 rfl rfl)
theorem dX0_aims_80 : decode cX0_aims 80 = .ok (.bipush (-2), 2) := dk_16 254 (dk_at dksX0_aims_3 10 rfl rfl)
theorem dX0_aims_82 : decode cX0_aims 82 = .ok (.goto 5, 3) := dk_167 0 5 (dk_at dksX0_aims_3 12 rfl rfl)
theorem dX0_aims_85 : decode cX0_aims 85 = .ok (.iload 4, 2) := dk_21 4 (dk_at dksX0_aims_3 15 rfl rfl)
theorem dX0_aims_87 : decode cX0_aims 87 = .ok (.ireturn, 1) := dk_172 (dk_at dksX0_aims_3 17 rfl rfl)
abbrev cX0_begin : ByteArray := prog_1_method_45_code
def yX0_begin : MethodName := ⟨RX0, "begin", "(I)I"⟩
def dkwX0_begin_2 : List UInt8 := [182, 1, 3, 148, 158, 0, 5, 29, 61, 132, 3, 1, 167, 255, 217, 28, 172]
abbrev dktX0_begin_2 : List UInt8 := dkwX0_begin_2 ++ []
def dkwX0_begin_1 : List UInt8 := [162, 0, 37, 42, 42, 182, 0, 102, 29, 3, 27, 182, 1, 3, 42, 42, 182, 0, 102, 28, 3, 27]
abbrev dktX0_begin_1 : List UInt8 := dkwX0_begin_1 ++ dktX0_begin_2
def dkwX0_begin_0 : List UInt8 := [42, 27, 182, 0, 136, 154, 0, 5, 2, 172, 42, 182, 1, 23, 3, 61, 4, 62, 29, 42, 180, 0, 95]
abbrev dktX0_begin_0 : List UInt8 := dkwX0_begin_0 ++ dktX0_begin_1
theorem dksX0_begin_0 : cX0_begin.data.toList.drop 0 = dktX0_begin_0 := by decide +kernel
theorem dksX0_begin_1 : cX0_begin.data.toList.drop 23 = dktX0_begin_1 := dk_seg dksX0_begin_0 23 rfl rfl
theorem dksX0_begin_2 : cX0_begin.data.toList.drop 45 = dktX0_begin_2 := dk_seg dksX0_begin_1 22 rfl rfl
theorem dX0_begin_0 : decode cX0_begin 0 = .ok (.aload_n 0, 1) := dk_42 (dk_at dksX0_begin_0 0 rfl rfl)
theorem dX0_begin_1 : decode cX0_begin 1 = .ok (.iload_n 1, 1) := dk_27 (dk_at dksX0_begin_0 1 rfl rfl)
theorem dX0_begin_2 : decode cX0_begin 2 = .ok (.invokevirtual 136, 3) := dk_182 0 136 (dk_at dksX0_begin_0 2 rfl rfl)
theorem dX0_begin_5 : decode cX0_begin 5 = .ok (.ifCond .ne 5, 3) := dk_154 0 5 (dk_at dksX0_begin_0 5 rfl rfl)
theorem dX0_begin_8 : decode cX0_begin 8 = .ok (.iconst (-1), 1) := dk_2 (dk_at dksX0_begin_0 8 rfl rfl)
theorem dX0_begin_9 : decode cX0_begin 9 = .ok (.ireturn, 1) := dk_172 (dk_at dksX0_begin_0 9 rfl rfl)
theorem dX0_begin_10 : decode cX0_begin 10 = .ok (.aload_n 0, 1) := dk_42 (dk_at dksX0_begin_0 10 rfl rfl)
theorem dX0_begin_11 : decode cX0_begin 11 = .ok (.invokevirtual 279, 3) := dk_182 1 23 (dk_at dksX0_begin_0 11 rfl rfl)
theorem dX0_begin_14 : decode cX0_begin 14 = .ok (.iconst 0, 1) := dk_3 (dk_at dksX0_begin_0 14 rfl rfl)
theorem dX0_begin_15 : decode cX0_begin 15 = .ok (.istore_n 2, 1) := dk_61 (dk_at dksX0_begin_0 15 rfl rfl)
theorem dX0_begin_16 : decode cX0_begin 16 = .ok (.iconst 1, 1) := dk_4 (dk_at dksX0_begin_0 16 rfl rfl)
theorem dX0_begin_17 : decode cX0_begin 17 = .ok (.istore_n 3, 1) := dk_62 (dk_at dksX0_begin_0 17 rfl rfl)
theorem dX0_begin_18 : decode cX0_begin 18 = .ok (.iload_n 3, 1) := dk_29 (dk_at dksX0_begin_0 18 rfl rfl)
theorem dX0_begin_19 : decode cX0_begin 19 = .ok (.aload_n 0, 1) := dk_42 (dk_at dksX0_begin_0 19 rfl rfl)
theorem dX0_begin_20 : decode cX0_begin 20 = .ok (.getfield 95, 3) := dk_180 0 95 (dk_at dksX0_begin_0 20 rfl rfl)
theorem dX0_begin_23 : decode cX0_begin 23 = .ok (.if_icmp .ge 37, 3) := dk_162 0 37 (dk_at dksX0_begin_1 0 rfl rfl)
theorem dX0_begin_26 : decode cX0_begin 26 = .ok (.aload_n 0, 1) := dk_42 (dk_at dksX0_begin_1 3 rfl rfl)
theorem dX0_begin_27 : decode cX0_begin 27 = .ok (.aload_n 0, 1) := dk_42 (dk_at dksX0_begin_1 4 rfl rfl)
theorem dX0_begin_28 : decode cX0_begin 28 = .ok (.invokevirtual 102, 3) := dk_182 0 102 (dk_at dksX0_begin_1 5 rfl rfl)
theorem dX0_begin_31 : decode cX0_begin 31 = .ok (.iload_n 3, 1) := dk_29 (dk_at dksX0_begin_1 8 rfl rfl)
theorem dX0_begin_32 : decode cX0_begin 32 = .ok (.iconst 0, 1) := dk_3 (dk_at dksX0_begin_1 9 rfl rfl)
theorem dX0_begin_33 : decode cX0_begin 33 = .ok (.iload_n 1, 1) := dk_27 (dk_at dksX0_begin_1 10 rfl rfl)
theorem dX0_begin_34 : decode cX0_begin 34 = .ok (.invokevirtual 259, 3) := dk_182 1 3 (dk_at dksX0_begin_1 11 rfl rfl)
theorem dX0_begin_37 : decode cX0_begin 37 = .ok (.aload_n 0, 1) := dk_42 (dk_at dksX0_begin_1 14 rfl rfl)
theorem dX0_begin_38 : decode cX0_begin 38 = .ok (.aload_n 0, 1) := dk_42 (dk_at dksX0_begin_1 15 rfl rfl)
theorem dX0_begin_39 : decode cX0_begin 39 = .ok (.invokevirtual 102, 3) := dk_182 0 102 (dk_at dksX0_begin_1 16 rfl rfl)
theorem dX0_begin_42 : decode cX0_begin 42 = .ok (.iload_n 2, 1) := dk_28 (dk_at dksX0_begin_1 19 rfl rfl)
theorem dX0_begin_43 : decode cX0_begin 43 = .ok (.iconst 0, 1) := dk_3 (dk_at dksX0_begin_1 20 rfl rfl)
theorem dX0_begin_44 : decode cX0_begin 44 = .ok (.iload_n 1, 1) := dk_27 (dk_at dksX0_begin_1 21 rfl rfl)
theorem dX0_begin_45 : decode cX0_begin 45 = .ok (.invokevirtual 259, 3) := dk_182 1 3 (dk_at dksX0_begin_2 0 rfl rfl)
theorem dX0_begin_48 : decode cX0_begin 48 = .ok (.lcmp, 1) := dk_148 (dk_at dksX0_begin_2 3 rfl rfl)
theorem dX0_begin_49 : decode cX0_begin 49 = .ok (.ifCond .le 5, 3) := dk_158 0 5 (dk_at dksX0_begin_2 4 rfl rfl)
theorem dX0_begin_52 : decode cX0_begin 52 = .ok (.iload_n 3, 1) := dk_29 (dk_at dksX0_begin_2 7 rfl rfl)
theorem dX0_begin_53 : decode cX0_begin 53 = .ok (.istore_n 2, 1) := dk_61 (dk_at dksX0_begin_2 8 rfl rfl)
theorem dX0_begin_54 : decode cX0_begin 54 = .ok (.iinc 3 1, 3) := dk_132 3 1 (dk_at dksX0_begin_2 9 rfl rfl)
theorem dX0_begin_57 : decode cX0_begin 57 = .ok (.goto (-39), 3) := dk_167 255 217 (dk_at dksX0_begin_2 12 rfl rfl)
theorem dX0_begin_60 : decode cX0_begin 60 = .ok (.iload_n 2, 1) := dk_28 (dk_at dksX0_begin_2 15 rfl rfl)
theorem dX0_begin_61 : decode cX0_begin 61 = .ok (.ireturn, 1) := dk_172 (dk_at dksX0_begin_2 16 rfl rfl)
abbrev cX0_fair : ByteArray := prog_1_method_47_code
def yX0_fair : MethodName := ⟨RX0, "fair", "()I"⟩
def dkwX0_fair_2 : List UInt8 := [167, 255, 229, 27, 172]
abbrev dktX0_fair_2 : List UInt8 := dkwX0_fair_2 ++ []
def dkwX0_fair_1 : List UInt8 := [162, 0, 25, 42, 28, 182, 1, 65, 42, 27, 182, 1, 65, 148, 156, 0, 5, 28, 60, 132, 2, 1]
abbrev dktX0_fair_1 : List UInt8 := dkwX0_fair_1 ++ dktX0_fair_2
def dkwX0_fair_0 : List UInt8 := [42, 180, 0, 95, 154, 0, 6, 16, 251, 172, 42, 182, 1, 23, 3, 60, 4, 61, 28, 42, 180, 0, 95]
abbrev dktX0_fair_0 : List UInt8 := dkwX0_fair_0 ++ dktX0_fair_1
theorem dksX0_fair_0 : cX0_fair.data.toList.drop 0 = dktX0_fair_0 := by decide +kernel
theorem dksX0_fair_1 : cX0_fair.data.toList.drop 23 = dktX0_fair_1 := dk_seg dksX0_fair_0 23 rfl rfl
theorem dksX0_fair_2 : cX0_fair.data.toList.drop 45 = dktX0_fair_2 := dk_seg dksX0_fair_1 22 rfl rfl
theorem dX0_fair_0 : decode cX0_fair 0 = .ok (.aload_n 0, 1) := dk_42 (dk_at dksX0_fair_0 0 rfl rfl)
theorem dX0_fair_1 : decode cX0_fair 1 = .ok (.getfield 95, 3) := dk_180 0 95 (dk_at dksX0_fair_0 1 rfl rfl)
theorem dX0_fair_4 : decode cX0_fair 4 = .ok (.ifCond .ne 6, 3) := dk_154 0 6 (dk_at dksX0_fair_0 4 rfl rfl)
theorem dX0_fair_7 : decode cX0_fair 7 = .ok (.bipush (-5), 2) := dk_16 251 (dk_at dksX0_fair_0 7 rfl rfl)
theorem dX0_fair_9 : decode cX0_fair 9 = .ok (.ireturn, 1) := dk_172 (dk_at dksX0_fair_0 9 rfl rfl)
theorem dX0_fair_10 : decode cX0_fair 10 = .ok (.aload_n 0, 1) := dk_42 (dk_at dksX0_fair_0 10 rfl rfl)
theorem dX0_fair_11 : decode cX0_fair 11 = .ok (.invokevirtual 279, 3) := dk_182 1 23 (dk_at dksX0_fair_0 11 rfl rfl)
theorem dX0_fair_14 : decode cX0_fair 14 = .ok (.iconst 0, 1) := dk_3 (dk_at dksX0_fair_0 14 rfl rfl)
theorem dX0_fair_15 : decode cX0_fair 15 = .ok (.istore_n 1, 1) := dk_60 (dk_at dksX0_fair_0 15 rfl rfl)
theorem dX0_fair_16 : decode cX0_fair 16 = .ok (.iconst 1, 1) := dk_4 (dk_at dksX0_fair_0 16 rfl rfl)
theorem dX0_fair_17 : decode cX0_fair 17 = .ok (.istore_n 2, 1) := dk_61 (dk_at dksX0_fair_0 17 rfl rfl)
theorem dX0_fair_18 : decode cX0_fair 18 = .ok (.iload_n 2, 1) := dk_28 (dk_at dksX0_fair_0 18 rfl rfl)
theorem dX0_fair_19 : decode cX0_fair 19 = .ok (.aload_n 0, 1) := dk_42 (dk_at dksX0_fair_0 19 rfl rfl)
theorem dX0_fair_20 : decode cX0_fair 20 = .ok (.getfield 95, 3) := dk_180 0 95 (dk_at dksX0_fair_0 20 rfl rfl)
theorem dX0_fair_23 : decode cX0_fair 23 = .ok (.if_icmp .ge 25, 3) := dk_162 0 25 (dk_at dksX0_fair_1 0 rfl rfl)
theorem dX0_fair_26 : decode cX0_fair 26 = .ok (.aload_n 0, 1) := dk_42 (dk_at dksX0_fair_1 3 rfl rfl)
theorem dX0_fair_27 : decode cX0_fair 27 = .ok (.iload_n 2, 1) := dk_28 (dk_at dksX0_fair_1 4 rfl rfl)
theorem dX0_fair_28 : decode cX0_fair 28 = .ok (.invokevirtual 321, 3) := dk_182 1 65 (dk_at dksX0_fair_1 5 rfl rfl)
theorem dX0_fair_31 : decode cX0_fair 31 = .ok (.aload_n 0, 1) := dk_42 (dk_at dksX0_fair_1 8 rfl rfl)
theorem dX0_fair_32 : decode cX0_fair 32 = .ok (.iload_n 1, 1) := dk_27 (dk_at dksX0_fair_1 9 rfl rfl)
theorem dX0_fair_33 : decode cX0_fair 33 = .ok (.invokevirtual 321, 3) := dk_182 1 65 (dk_at dksX0_fair_1 10 rfl rfl)
theorem dX0_fair_36 : decode cX0_fair 36 = .ok (.lcmp, 1) := dk_148 (dk_at dksX0_fair_1 13 rfl rfl)
theorem dX0_fair_37 : decode cX0_fair 37 = .ok (.ifCond .ge 5, 3) := dk_156 0 5 (dk_at dksX0_fair_1 14 rfl rfl)
theorem dX0_fair_40 : decode cX0_fair 40 = .ok (.iload_n 2, 1) := dk_28 (dk_at dksX0_fair_1 17 rfl rfl)
theorem dX0_fair_41 : decode cX0_fair 41 = .ok (.istore_n 1, 1) := dk_60 (dk_at dksX0_fair_1 18 rfl rfl)
theorem dX0_fair_42 : decode cX0_fair 42 = .ok (.iinc 2 1, 3) := dk_132 2 1 (dk_at dksX0_fair_1 19 rfl rfl)
theorem dX0_fair_45 : decode cX0_fair 45 = .ok (.goto (-27), 3) := dk_167 255 229 (dk_at dksX0_fair_2 0 rfl rfl)
theorem dX0_fair_48 : decode cX0_fair 48 = .ok (.iload_n 1, 1) := dk_27 (dk_at dksX0_fair_2 3 rfl rfl)
theorem dX0_fair_49 : decode cX0_fair 49 = .ok (.ireturn, 1) := dk_172 (dk_at dksX0_fair_2 4 rfl rfl)
abbrev cX0_apart : ByteArray := prog_1_method_46_code
def yX0_apart : MethodName := ⟨RX0, "apart", "(I)J"⟩
def dkwX0_apart_2 : List UInt8 := [55, 4, 132, 6, 1, 167, 255, 214, 32, 22, 4, 101, 173]
abbrev dktX0_apart_2 : List UInt8 := dkwX0_apart_2 ++ []
def dkwX0_apart_1 : List UInt8 := [27, 3, 21, 6, 182, 1, 3, 55, 7, 32, 22, 7, 184, 1, 61, 65, 22, 4, 22, 7, 184, 1, 63]
abbrev dktX0_apart_1 : List UInt8 := dkwX0_apart_1 ++ dktX0_apart_2
def dkwX0_apart_0 : List UInt8 := [9, 65, 20, 1, 59, 55, 4, 3, 54, 6, 21, 6, 42, 180, 0, 95, 162, 0, 39, 42, 42, 182, 0, 102]
abbrev dktX0_apart_0 : List UInt8 := dkwX0_apart_0 ++ dktX0_apart_1
theorem dksX0_apart_0 : cX0_apart.data.toList.drop 0 = dktX0_apart_0 := by decide +kernel
theorem dksX0_apart_1 : cX0_apart.data.toList.drop 24 = dktX0_apart_1 := dk_seg dksX0_apart_0 24 rfl rfl
theorem dksX0_apart_2 : cX0_apart.data.toList.drop 47 = dktX0_apart_2 := dk_seg dksX0_apart_1 23 rfl rfl
theorem dX0_apart_0 : decode cX0_apart 0 = .ok (.lconst 0, 1) := dk_9 (dk_at dksX0_apart_0 0 rfl rfl)
theorem dX0_apart_1 : decode cX0_apart 1 = .ok (.lstore_n 2, 1) := dk_65 (dk_at dksX0_apart_0 1 rfl rfl)
theorem dX0_apart_2 : decode cX0_apart 2 = .ok (.ldc2_w 315, 3) := dk_20 1 59 (dk_at dksX0_apart_0 2 rfl rfl)
theorem dX0_apart_5 : decode cX0_apart 5 = .ok (.lstore 4, 2) := dk_55 4 (dk_at dksX0_apart_0 5 rfl rfl)
theorem dX0_apart_7 : decode cX0_apart 7 = .ok (.iconst 0, 1) := dk_3 (dk_at dksX0_apart_0 7 rfl rfl)
theorem dX0_apart_8 : decode cX0_apart 8 = .ok (.istore 6, 2) := dk_54 6 (dk_at dksX0_apart_0 8 rfl rfl)
theorem dX0_apart_10 : decode cX0_apart 10 = .ok (.iload 6, 2) := dk_21 6 (dk_at dksX0_apart_0 10 rfl rfl)
theorem dX0_apart_12 : decode cX0_apart 12 = .ok (.aload_n 0, 1) := dk_42 (dk_at dksX0_apart_0 12 rfl rfl)
theorem dX0_apart_13 : decode cX0_apart 13 = .ok (.getfield 95, 3) := dk_180 0 95 (dk_at dksX0_apart_0 13 rfl rfl)
theorem dX0_apart_16 : decode cX0_apart 16 = .ok (.if_icmp .ge 39, 3) := dk_162 0 39 (dk_at dksX0_apart_0 16 rfl rfl)
theorem dX0_apart_19 : decode cX0_apart 19 = .ok (.aload_n 0, 1) := dk_42 (dk_at dksX0_apart_0 19 rfl rfl)
theorem dX0_apart_20 : decode cX0_apart 20 = .ok (.aload_n 0, 1) := dk_42 (dk_at dksX0_apart_0 20 rfl rfl)
theorem dX0_apart_21 : decode cX0_apart 21 = .ok (.invokevirtual 102, 3) := dk_182 0 102 (dk_at dksX0_apart_0 21 rfl rfl)
theorem dX0_apart_24 : decode cX0_apart 24 = .ok (.iload_n 1, 1) := dk_27 (dk_at dksX0_apart_1 0 rfl rfl)
theorem dX0_apart_25 : decode cX0_apart 25 = .ok (.iconst 0, 1) := dk_3 (dk_at dksX0_apart_1 1 rfl rfl)
theorem dX0_apart_26 : decode cX0_apart 26 = .ok (.iload 6, 2) := dk_21 6 (dk_at dksX0_apart_1 2 rfl rfl)
theorem dX0_apart_28 : decode cX0_apart 28 = .ok (.invokevirtual 259, 3) := dk_182 1 3 (dk_at dksX0_apart_1 4 rfl rfl)
theorem dX0_apart_31 : decode cX0_apart 31 = .ok (.lstore 7, 2) := dk_55 7 (dk_at dksX0_apart_1 7 rfl rfl)
theorem dX0_apart_33 : decode cX0_apart 33 = .ok (.lload_n 2, 1) := dk_32 (dk_at dksX0_apart_1 9 rfl rfl)
theorem dX0_apart_34 : decode cX0_apart 34 = .ok (.lload 7, 2) := dk_22 7 (dk_at dksX0_apart_1 10 rfl rfl)
theorem dX0_apart_36 : decode cX0_apart 36 = .ok (.invokestatic 317, 3) := dk_184 1 61 (dk_at dksX0_apart_1 12 rfl rfl)
theorem dX0_apart_39 : decode cX0_apart 39 = .ok (.lstore_n 2, 1) := dk_65 (dk_at dksX0_apart_1 15 rfl rfl)
theorem dX0_apart_40 : decode cX0_apart 40 = .ok (.lload 4, 2) := dk_22 4 (dk_at dksX0_apart_1 16 rfl rfl)
theorem dX0_apart_42 : decode cX0_apart 42 = .ok (.lload 7, 2) := dk_22 7 (dk_at dksX0_apart_1 18 rfl rfl)
theorem dX0_apart_44 : decode cX0_apart 44 = .ok (.invokestatic 319, 3) := dk_184 1 63 (dk_at dksX0_apart_1 20 rfl rfl)
theorem dX0_apart_47 : decode cX0_apart 47 = .ok (.lstore 4, 2) := dk_55 4 (dk_at dksX0_apart_2 0 rfl rfl)
theorem dX0_apart_49 : decode cX0_apart 49 = .ok (.iinc 6 1, 3) := dk_132 6 1 (dk_at dksX0_apart_2 2 rfl rfl)
theorem dX0_apart_52 : decode cX0_apart 52 = .ok (.goto (-42), 3) := dk_167 255 214 (dk_at dksX0_apart_2 5 rfl rfl)
theorem dX0_apart_55 : decode cX0_apart 55 = .ok (.lload_n 2, 1) := dk_32 (dk_at dksX0_apart_2 8 rfl rfl)
theorem dX0_apart_56 : decode cX0_apart 56 = .ok (.lload 4, 2) := dk_22 4 (dk_at dksX0_apart_2 9 rfl rfl)
theorem dX0_apart_58 : decode cX0_apart 58 = .ok (.lsub, 1) := dk_101 (dk_at dksX0_apart_2 11 rfl rfl)
theorem dX0_apart_59 : decode cX0_apart 59 = .ok (.lreturn, 1) := dk_173 (dk_at dksX0_apart_2 12 rfl rfl)
abbrev cX0_would : ByteArray := prog_1_method_49_code
def yX0_would : MethodName := ⟨RX0, "would", "(I)I"⟩
def dkwX0_would_0 : List UInt8 := [42, 27, 182, 0, 136, 153, 0, 11, 42, 27, 182, 1, 68, 167, 0, 4, 2, 172]
abbrev dktX0_would_0 : List UInt8 := dkwX0_would_0 ++ []
theorem dksX0_would_0 : cX0_would.data.toList.drop 0 = dktX0_would_0 := by decide +kernel
theorem dX0_would_0 : decode cX0_would 0 = .ok (.aload_n 0, 1) := dk_42 (dk_at dksX0_would_0 0 rfl rfl)
theorem dX0_would_1 : decode cX0_would 1 = .ok (.iload_n 1, 1) := dk_27 (dk_at dksX0_would_0 1 rfl rfl)
theorem dX0_would_2 : decode cX0_would 2 = .ok (.invokevirtual 136, 3) := dk_182 0 136 (dk_at dksX0_would_0 2 rfl rfl)
theorem dX0_would_5 : decode cX0_would 5 = .ok (.ifCond .eq 11, 3) := dk_153 0 11 (dk_at dksX0_would_0 5 rfl rfl)
theorem dX0_would_8 : decode cX0_would 8 = .ok (.aload_n 0, 1) := dk_42 (dk_at dksX0_would_0 8 rfl rfl)
theorem dX0_would_9 : decode cX0_would 9 = .ok (.iload_n 1, 1) := dk_27 (dk_at dksX0_would_0 9 rfl rfl)
theorem dX0_would_10 : decode cX0_would 10 = .ok (.invokevirtual 324, 3) := dk_182 1 68 (dk_at dksX0_would_0 10 rfl rfl)
theorem dX0_would_13 : decode cX0_would 13 = .ok (.goto 4, 3) := dk_167 0 4 (dk_at dksX0_would_0 13 rfl rfl)
theorem dX0_would_16 : decode cX0_would 16 = .ok (.iconst (-1), 1) := dk_2 (dk_at dksX0_would_0 16 rfl rfl)
theorem dX0_would_17 : decode cX0_would 17 = .ok (.ireturn, 1) := dk_172 (dk_at dksX0_would_0 17 rfl rfl)
abbrev cX0_wouldOf : ByteArray := prog_1_method_48_code
def yX0_wouldOf : MethodName := ⟨RX0, "wouldOf", "(I)I"⟩
def dkwX0_wouldOf_3 : List UInt8 := [132, 6, 1, 167, 255, 208, 42, 180, 0, 11, 27, 50, 28, 181, 0, 145, 29, 172]
abbrev dktX0_wouldOf_3 : List UInt8 := dkwX0_wouldOf_3 ++ []
def dkwX0_wouldOf_2 : List UInt8 := [27, 182, 1, 45, 22, 4, 148, 157, 0, 6, 167, 0, 13, 21, 6, 62, 42, 27, 182, 1, 45, 55, 4]
abbrev dktX0_wouldOf_2 : List UInt8 := dkwX0_wouldOf_2 ++ dktX0_wouldOf_3
def dkwX0_wouldOf_1 : List UInt8 := [54, 6, 21, 6, 8, 163, 0, 48, 42, 180, 0, 11, 27, 50, 21, 6, 181, 0, 145, 42, 182, 1, 23, 42]
abbrev dktX0_wouldOf_1 : List UInt8 := dkwX0_wouldOf_1 ++ dktX0_wouldOf_2
def dkwX0_wouldOf_0 : List UInt8 := [42, 180, 0, 11, 27, 50, 180, 0, 145, 61, 42, 182, 1, 23, 28, 62, 42, 27, 182, 1, 45, 55, 4, 3]
abbrev dktX0_wouldOf_0 : List UInt8 := dkwX0_wouldOf_0 ++ dktX0_wouldOf_1
theorem dksX0_wouldOf_0 : cX0_wouldOf.data.toList.drop 0 = dktX0_wouldOf_0 := by decide +kernel
theorem dksX0_wouldOf_1 : cX0_wouldOf.data.toList.drop 24 = dktX0_wouldOf_1 := dk_seg dksX0_wouldOf_0 24 rfl rfl
theorem dksX0_wouldOf_2 : cX0_wouldOf.data.toList.drop 48 = dktX0_wouldOf_2 := dk_seg dksX0_wouldOf_1 24 rfl rfl
theorem dksX0_wouldOf_3 : cX0_wouldOf.data.toList.drop 71 = dktX0_wouldOf_3 := dk_seg dksX0_wouldOf_2 23 rfl rfl
theorem dX0_wouldOf_0 : decode cX0_wouldOf 0 = .ok (.aload_n 0, 1) := dk_42 (dk_at dksX0_wouldOf_0 0 rfl rfl)
theorem dX0_wouldOf_1 : decode cX0_wouldOf 1 = .ok (.getfield 11, 3) := dk_180 0 11 (dk_at dksX0_wouldOf_0 1 rfl rfl)
theorem dX0_wouldOf_4 : decode cX0_wouldOf 4 = .ok (.iload_n 1, 1) := dk_27 (dk_at dksX0_wouldOf_0 4 rfl rfl)
theorem dX0_wouldOf_5 : decode cX0_wouldOf 5 = .ok (.aaload, 1) := dk_50 (dk_at dksX0_wouldOf_0 5 rfl rfl)
theorem dX0_wouldOf_6 : decode cX0_wouldOf 6 = .ok (.getfield 145, 3) := dk_180 0 145 (dk_at dksX0_wouldOf_0 6 rfl rfl)
theorem dX0_wouldOf_9 : decode cX0_wouldOf 9 = .ok (.istore_n 2, 1) := dk_61 (dk_at dksX0_wouldOf_0 9 rfl rfl)
theorem dX0_wouldOf_10 : decode cX0_wouldOf 10 = .ok (.aload_n 0, 1) := dk_42 (dk_at dksX0_wouldOf_0 10 rfl rfl)
theorem dX0_wouldOf_11 : decode cX0_wouldOf 11 = .ok (.invokevirtual 279, 3) := dk_182 1 23 (dk_at dksX0_wouldOf_0 11 rfl rfl)
theorem dX0_wouldOf_14 : decode cX0_wouldOf 14 = .ok (.iload_n 2, 1) := dk_28 (dk_at dksX0_wouldOf_0 14 rfl rfl)
theorem dX0_wouldOf_15 : decode cX0_wouldOf 15 = .ok (.istore_n 3, 1) := dk_62 (dk_at dksX0_wouldOf_0 15 rfl rfl)
theorem dX0_wouldOf_16 : decode cX0_wouldOf 16 = .ok (.aload_n 0, 1) := dk_42 (dk_at dksX0_wouldOf_0 16 rfl rfl)
theorem dX0_wouldOf_17 : decode cX0_wouldOf 17 = .ok (.iload_n 1, 1) := dk_27 (dk_at dksX0_wouldOf_0 17 rfl rfl)
theorem dX0_wouldOf_18 : decode cX0_wouldOf 18 = .ok (.invokevirtual 301, 3) := dk_182 1 45 (dk_at dksX0_wouldOf_0 18 rfl rfl)
theorem dX0_wouldOf_21 : decode cX0_wouldOf 21 = .ok (.lstore 4, 2) := dk_55 4 (dk_at dksX0_wouldOf_0 21 rfl rfl)
theorem dX0_wouldOf_23 : decode cX0_wouldOf 23 = .ok (.iconst 0, 1) := dk_3 (dk_at dksX0_wouldOf_0 23 rfl rfl)
theorem dX0_wouldOf_24 : decode cX0_wouldOf 24 = .ok (.istore 6, 2) := dk_54 6 (dk_at dksX0_wouldOf_1 0 rfl rfl)
theorem dX0_wouldOf_26 : decode cX0_wouldOf 26 = .ok (.iload 6, 2) := dk_21 6 (dk_at dksX0_wouldOf_1 2 rfl rfl)
theorem dX0_wouldOf_28 : decode cX0_wouldOf 28 = .ok (.iconst 5, 1) := dk_8 (dk_at dksX0_wouldOf_1 4 rfl rfl)
theorem dX0_wouldOf_29 : decode cX0_wouldOf 29 = .ok (.if_icmp .gt 48, 3) := dk_163 0 48 (dk_at dksX0_wouldOf_1 5 rfl rfl)
theorem dX0_wouldOf_32 : decode cX0_wouldOf 32 = .ok (.aload_n 0, 1) := dk_42 (dk_at dksX0_wouldOf_1 8 rfl rfl)
theorem dX0_wouldOf_33 : decode cX0_wouldOf 33 = .ok (.getfield 11, 3) := dk_180 0 11 (dk_at dksX0_wouldOf_1 9 rfl rfl)
theorem dX0_wouldOf_36 : decode cX0_wouldOf 36 = .ok (.iload_n 1, 1) := dk_27 (dk_at dksX0_wouldOf_1 12 rfl rfl)
theorem dX0_wouldOf_37 : decode cX0_wouldOf 37 = .ok (.aaload, 1) := dk_50 (dk_at dksX0_wouldOf_1 13 rfl rfl)
theorem dX0_wouldOf_38 : decode cX0_wouldOf 38 = .ok (.iload 6, 2) := dk_21 6 (dk_at dksX0_wouldOf_1 14 rfl rfl)
theorem dX0_wouldOf_40 : decode cX0_wouldOf 40 = .ok (.putfield 145, 3) := dk_181 0 145 (dk_at dksX0_wouldOf_1 16 rfl rfl)
theorem dX0_wouldOf_43 : decode cX0_wouldOf 43 = .ok (.aload_n 0, 1) := dk_42 (dk_at dksX0_wouldOf_1 19 rfl rfl)
theorem dX0_wouldOf_44 : decode cX0_wouldOf 44 = .ok (.invokevirtual 279, 3) := dk_182 1 23 (dk_at dksX0_wouldOf_1 20 rfl rfl)
theorem dX0_wouldOf_47 : decode cX0_wouldOf 47 = .ok (.aload_n 0, 1) := dk_42 (dk_at dksX0_wouldOf_1 23 rfl rfl)
theorem dX0_wouldOf_48 : decode cX0_wouldOf 48 = .ok (.iload_n 1, 1) := dk_27 (dk_at dksX0_wouldOf_2 0 rfl rfl)
theorem dX0_wouldOf_49 : decode cX0_wouldOf 49 = .ok (.invokevirtual 301, 3) := dk_182 1 45 (dk_at dksX0_wouldOf_2 1 rfl rfl)
theorem dX0_wouldOf_52 : decode cX0_wouldOf 52 = .ok (.lload 4, 2) := dk_22 4 (dk_at dksX0_wouldOf_2 4 rfl rfl)
theorem dX0_wouldOf_54 : decode cX0_wouldOf 54 = .ok (.lcmp, 1) := dk_148 (dk_at dksX0_wouldOf_2 6 rfl rfl)
theorem dX0_wouldOf_55 : decode cX0_wouldOf 55 = .ok (.ifCond .gt 6, 3) := dk_157 0 6 (dk_at dksX0_wouldOf_2 7 rfl rfl)
theorem dX0_wouldOf_58 : decode cX0_wouldOf 58 = .ok (.goto 13, 3) := dk_167 0 13 (dk_at dksX0_wouldOf_2 10 rfl rfl)
theorem dX0_wouldOf_61 : decode cX0_wouldOf 61 = .ok (.iload 6, 2) := dk_21 6 (dk_at dksX0_wouldOf_2 13 rfl rfl)
theorem dX0_wouldOf_63 : decode cX0_wouldOf 63 = .ok (.istore_n 3, 1) := dk_62 (dk_at dksX0_wouldOf_2 15 rfl rfl)
theorem dX0_wouldOf_64 : decode cX0_wouldOf 64 = .ok (.aload_n 0, 1) := dk_42 (dk_at dksX0_wouldOf_2 16 rfl rfl)
theorem dX0_wouldOf_65 : decode cX0_wouldOf 65 = .ok (.iload_n 1, 1) := dk_27 (dk_at dksX0_wouldOf_2 17 rfl rfl)
theorem dX0_wouldOf_66 : decode cX0_wouldOf 66 = .ok (.invokevirtual 301, 3) := dk_182 1 45 (dk_at dksX0_wouldOf_2 18 rfl rfl)
theorem dX0_wouldOf_69 : decode cX0_wouldOf 69 = .ok (.lstore 4, 2) := dk_55 4 (dk_at dksX0_wouldOf_2 21 rfl rfl)
theorem dX0_wouldOf_71 : decode cX0_wouldOf 71 = .ok (.iinc 6 1, 3) := dk_132 6 1 (dk_at dksX0_wouldOf_3 0 rfl rfl)
theorem dX0_wouldOf_74 : decode cX0_wouldOf 74 = .ok (.goto (-48), 3) := dk_167 255 208 (dk_at dksX0_wouldOf_3 3 rfl rfl)
theorem dX0_wouldOf_77 : decode cX0_wouldOf 77 = .ok (.aload_n 0, 1) := dk_42 (dk_at dksX0_wouldOf_3 6 rfl rfl)
theorem dX0_wouldOf_78 : decode cX0_wouldOf 78 = .ok (.getfield 11, 3) := dk_180 0 11 (dk_at dksX0_wouldOf_3 7 rfl rfl)
theorem dX0_wouldOf_81 : decode cX0_wouldOf 81 = .ok (.iload_n 1, 1) := dk_27 (dk_at dksX0_wouldOf_3 10 rfl rfl)
theorem dX0_wouldOf_82 : decode cX0_wouldOf 82 = .ok (.aaload, 1) := dk_50 (dk_at dksX0_wouldOf_3 11 rfl rfl)
theorem dX0_wouldOf_83 : decode cX0_wouldOf 83 = .ok (.iload_n 2, 1) := dk_28 (dk_at dksX0_wouldOf_3 12 rfl rfl)
theorem dX0_wouldOf_84 : decode cX0_wouldOf 84 = .ok (.putfield 145, 3) := dk_181 0 145 (dk_at dksX0_wouldOf_3 13 rfl rfl)
theorem dX0_wouldOf_87 : decode cX0_wouldOf 87 = .ok (.iload_n 3, 1) := dk_29 (dk_at dksX0_wouldOf_3 16 rfl rfl)
theorem dX0_wouldOf_88 : decode cX0_wouldOf 88 = .ok (.ireturn, 1) := dk_172 (dk_at dksX0_wouldOf_3 17 rfl rfl)
abbrev cX0_rest : ByteArray := prog_1_method_51_code
def yX0_rest : MethodName := ⟨RX0, "rest", "()I"⟩
def dkwX0_rest_0 : List UInt8 := [42, 182, 1, 71, 60, 27, 156, 0, 8, 16, 254, 167, 0, 4, 27, 172]
abbrev dktX0_rest_0 : List UInt8 := dkwX0_rest_0 ++ []
theorem dksX0_rest_0 : cX0_rest.data.toList.drop 0 = dktX0_rest_0 := by decide +kernel
theorem dX0_rest_0 : decode cX0_rest 0 = .ok (.aload_n 0, 1) := dk_42 (dk_at dksX0_rest_0 0 rfl rfl)
theorem dX0_rest_1 : decode cX0_rest 1 = .ok (.invokevirtual 327, 3) := dk_182 1 71 (dk_at dksX0_rest_0 1 rfl rfl)
theorem dX0_rest_4 : decode cX0_rest 4 = .ok (.istore_n 1, 1) := dk_60 (dk_at dksX0_rest_0 4 rfl rfl)
theorem dX0_rest_5 : decode cX0_rest 5 = .ok (.iload_n 1, 1) := dk_27 (dk_at dksX0_rest_0 5 rfl rfl)
theorem dX0_rest_6 : decode cX0_rest 6 = .ok (.ifCond .ge 8, 3) := dk_156 0 8 (dk_at dksX0_rest_0 6 rfl rfl)
theorem dX0_rest_9 : decode cX0_rest 9 = .ok (.bipush (-2), 2) := dk_16 254 (dk_at dksX0_rest_0 9 rfl rfl)
theorem dX0_rest_11 : decode cX0_rest 11 = .ok (.goto 4, 3) := dk_167 0 4 (dk_at dksX0_rest_0 11 rfl rfl)
theorem dX0_rest_14 : decode cX0_rest 14 = .ok (.iload_n 1, 1) := dk_27 (dk_at dksX0_rest_0 14 rfl rfl)
theorem dX0_rest_15 : decode cX0_rest 15 = .ok (.ireturn, 1) := dk_172 (dk_at dksX0_rest_0 15 rfl rfl)
abbrev cX0_restless : ByteArray := prog_1_method_50_code
def yX0_restless : MethodName := ⟨RX0, "restless", "()I"⟩
def dkwX0_restless_1 : List UInt8 := [159, 0, 5, 27, 172, 132, 1, 1, 167, 255, 226, 2, 172]
abbrev dktX0_restless_1 : List UInt8 := dkwX0_restless_1 ++ []
def dkwX0_restless_0 : List UInt8 := [3, 60, 27, 42, 180, 0, 95, 162, 0, 28, 42, 27, 182, 1, 68, 42, 180, 0, 11, 27, 50, 180, 0, 145]
abbrev dktX0_restless_0 : List UInt8 := dkwX0_restless_0 ++ dktX0_restless_1
theorem dksX0_restless_0 : cX0_restless.data.toList.drop 0 = dktX0_restless_0 := by decide +kernel
theorem dksX0_restless_1 : cX0_restless.data.toList.drop 24 = dktX0_restless_1 := dk_seg dksX0_restless_0 24 rfl rfl
theorem dX0_restless_0 : decode cX0_restless 0 = .ok (.iconst 0, 1) := dk_3 (dk_at dksX0_restless_0 0 rfl rfl)
theorem dX0_restless_1 : decode cX0_restless 1 = .ok (.istore_n 1, 1) := dk_60 (dk_at dksX0_restless_0 1 rfl rfl)
theorem dX0_restless_2 : decode cX0_restless 2 = .ok (.iload_n 1, 1) := dk_27 (dk_at dksX0_restless_0 2 rfl rfl)
theorem dX0_restless_3 : decode cX0_restless 3 = .ok (.aload_n 0, 1) := dk_42 (dk_at dksX0_restless_0 3 rfl rfl)
theorem dX0_restless_4 : decode cX0_restless 4 = .ok (.getfield 95, 3) := dk_180 0 95 (dk_at dksX0_restless_0 4 rfl rfl)
theorem dX0_restless_7 : decode cX0_restless 7 = .ok (.if_icmp .ge 28, 3) := dk_162 0 28 (dk_at dksX0_restless_0 7 rfl rfl)
theorem dX0_restless_10 : decode cX0_restless 10 = .ok (.aload_n 0, 1) := dk_42 (dk_at dksX0_restless_0 10 rfl rfl)
theorem dX0_restless_11 : decode cX0_restless 11 = .ok (.iload_n 1, 1) := dk_27 (dk_at dksX0_restless_0 11 rfl rfl)
theorem dX0_restless_12 : decode cX0_restless 12 = .ok (.invokevirtual 324, 3) := dk_182 1 68 (dk_at dksX0_restless_0 12 rfl rfl)
theorem dX0_restless_15 : decode cX0_restless 15 = .ok (.aload_n 0, 1) := dk_42 (dk_at dksX0_restless_0 15 rfl rfl)
theorem dX0_restless_16 : decode cX0_restless 16 = .ok (.getfield 11, 3) := dk_180 0 11 (dk_at dksX0_restless_0 16 rfl rfl)
theorem dX0_restless_19 : decode cX0_restless 19 = .ok (.iload_n 1, 1) := dk_27 (dk_at dksX0_restless_0 19 rfl rfl)
theorem dX0_restless_20 : decode cX0_restless 20 = .ok (.aaload, 1) := dk_50 (dk_at dksX0_restless_0 20 rfl rfl)
theorem dX0_restless_21 : decode cX0_restless 21 = .ok (.getfield 145, 3) := dk_180 0 145 (dk_at dksX0_restless_0 21 rfl rfl)
theorem dX0_restless_24 : decode cX0_restless 24 = .ok (.if_icmp .eq 5, 3) := dk_159 0 5 (dk_at dksX0_restless_1 0 rfl rfl)
theorem dX0_restless_27 : decode cX0_restless 27 = .ok (.iload_n 1, 1) := dk_27 (dk_at dksX0_restless_1 3 rfl rfl)
theorem dX0_restless_28 : decode cX0_restless 28 = .ok (.ireturn, 1) := dk_172 (dk_at dksX0_restless_1 4 rfl rfl)
theorem dX0_restless_29 : decode cX0_restless 29 = .ok (.iinc 1 1, 3) := dk_132 1 1 (dk_at dksX0_restless_1 5 rfl rfl)
theorem dX0_restless_32 : decode cX0_restless 32 = .ok (.goto (-30), 3) := dk_167 255 226 (dk_at dksX0_restless_1 8 rfl rfl)
theorem dX0_restless_35 : decode cX0_restless 35 = .ok (.iconst (-1), 1) := dk_2 (dk_at dksX0_restless_1 11 rfl rfl)
theorem dX0_restless_36 : decode cX0_restless 36 = .ok (.ireturn, 1) := dk_172 (dk_at dksX0_restless_1 12 rfl rfl)
abbrev cX0_settle : ByteArray := prog_1_method_52_code
def yX0_settle : MethodName := ⟨RX0, "settle", "(I)I"⟩
def dkwX0_settle_6 : List UInt8 := [46, 181, 0, 145, 132, 5, 1, 167, 255, 227, 21, 4, 172]
abbrev dktX0_settle_6 : List UInt8 := dkwX0_settle_6 ++ []
def dkwX0_settle_5 : List UInt8 := [54, 5, 21, 5, 42, 180, 0, 95, 162, 0, 26, 42, 180, 0, 11, 21, 5, 50, 42, 180, 0, 77, 21, 5]
abbrev dktX0_settle_5 : List UInt8 := dkwX0_settle_5 ++ dktX0_settle_6
def dkwX0_settle_4 : List UInt8 := [167, 0, 20, 27, 156, 0, 7, 28, 167, 0, 12, 42, 180, 0, 11, 27, 50, 180, 0, 145, 54, 4, 3]
abbrev dktX0_settle_4 : List UInt8 := dkwX0_settle_4 ++ dktX0_settle_5
def dkwX0_settle_3 : List UInt8 := [29, 182, 1, 68, 181, 0, 145, 132, 2, 1, 42, 182, 1, 71, 62, 167, 255, 224, 29, 155, 0, 8, 16, 254]
abbrev dktX0_settle_3 : List UInt8 := dkwX0_settle_3 ++ dktX0_settle_4
def dkwX0_settle_2 : List UInt8 := [3, 61, 42, 182, 1, 71, 62, 29, 155, 0, 34, 28, 16, 8, 162, 0, 28, 42, 180, 0, 11, 29, 50, 42]
abbrev dktX0_settle_2 : List UInt8 := dkwX0_settle_2 ++ dktX0_settle_3
def dkwX0_settle_1 : List UInt8 := [162, 0, 24, 42, 180, 0, 77, 28, 42, 180, 0, 11, 28, 50, 180, 0, 145, 79, 132, 2, 1, 167, 255, 230]
abbrev dktX0_settle_1 : List UInt8 := dkwX0_settle_1 ++ dktX0_settle_2
def dkwX0_settle_0 : List UInt8 := [27, 2, 159, 0, 13, 42, 27, 182, 0, 136, 154, 0, 5, 2, 172, 3, 61, 28, 42, 180, 0, 95]
abbrev dktX0_settle_0 : List UInt8 := dkwX0_settle_0 ++ dktX0_settle_1
theorem dksX0_settle_0 : cX0_settle.data.toList.drop 0 = dktX0_settle_0 := by decide +kernel
theorem dksX0_settle_1 : cX0_settle.data.toList.drop 22 = dktX0_settle_1 := dk_seg dksX0_settle_0 22 rfl rfl
theorem dksX0_settle_2 : cX0_settle.data.toList.drop 46 = dktX0_settle_2 := dk_seg dksX0_settle_1 24 rfl rfl
theorem dksX0_settle_3 : cX0_settle.data.toList.drop 70 = dktX0_settle_3 := dk_seg dksX0_settle_2 24 rfl rfl
theorem dksX0_settle_4 : cX0_settle.data.toList.drop 94 = dktX0_settle_4 := dk_seg dksX0_settle_3 24 rfl rfl
theorem dksX0_settle_5 : cX0_settle.data.toList.drop 117 = dktX0_settle_5 := dk_seg dksX0_settle_4 23 rfl rfl
theorem dksX0_settle_6 : cX0_settle.data.toList.drop 141 = dktX0_settle_6 := dk_seg dksX0_settle_5 24 rfl rfl
theorem dX0_settle_0 : decode cX0_settle 0 = .ok (.iload_n 1, 1) := dk_27 (dk_at dksX0_settle_0 0 rfl rfl)
theorem dX0_settle_1 : decode cX0_settle 1 = .ok (.iconst (-1), 1) := dk_2 (dk_at dksX0_settle_0 1 rfl rfl)
theorem dX0_settle_2 : decode cX0_settle 2 = .ok (.if_icmp .eq 13, 3) := dk_159 0 13 (dk_at dksX0_settle_0 2 rfl rfl)
theorem dX0_settle_5 : decode cX0_settle 5 = .ok (.aload_n 0, 1) := dk_42 (dk_at dksX0_settle_0 5 rfl rfl)
theorem dX0_settle_6 : decode cX0_settle 6 = .ok (.iload_n 1, 1) := dk_27 (dk_at dksX0_settle_0 6 rfl rfl)
theorem dX0_settle_7 : decode cX0_settle 7 = .ok (.invokevirtual 136, 3) := dk_182 0 136 (dk_at dksX0_settle_0 7 rfl rfl)
theorem dX0_settle_10 : decode cX0_settle 10 = .ok (.ifCond .ne 5, 3) := dk_154 0 5 (dk_at dksX0_settle_0 10 rfl rfl)
theorem dX0_settle_13 : decode cX0_settle 13 = .ok (.iconst (-1), 1) := dk_2 (dk_at dksX0_settle_0 13 rfl rfl)
theorem dX0_settle_14 : decode cX0_settle 14 = .ok (.ireturn, 1) := dk_172 (dk_at dksX0_settle_0 14 rfl rfl)
theorem dX0_settle_15 : decode cX0_settle 15 = .ok (.iconst 0, 1) := dk_3 (dk_at dksX0_settle_0 15 rfl rfl)
theorem dX0_settle_16 : decode cX0_settle 16 = .ok (.istore_n 2, 1) := dk_61 (dk_at dksX0_settle_0 16 rfl rfl)
theorem dX0_settle_17 : decode cX0_settle 17 = .ok (.iload_n 2, 1) := dk_28 (dk_at dksX0_settle_0 17 rfl rfl)
theorem dX0_settle_18 : decode cX0_settle 18 = .ok (.aload_n 0, 1) := dk_42 (dk_at dksX0_settle_0 18 rfl rfl)
theorem dX0_settle_19 : decode cX0_settle 19 = .ok (.getfield 95, 3) := dk_180 0 95 (dk_at dksX0_settle_0 19 rfl rfl)
theorem dX0_settle_22 : decode cX0_settle 22 = .ok (.if_icmp .ge 24, 3) := dk_162 0 24 (dk_at dksX0_settle_1 0 rfl rfl)
theorem dX0_settle_25 : decode cX0_settle 25 = .ok (.aload_n 0, 1) := dk_42 (dk_at dksX0_settle_1 3 rfl rfl)
theorem dX0_settle_26 : decode cX0_settle 26 = .ok (.getfield 77, 3) := dk_180 0 77 (dk_at dksX0_settle_1 4 rfl rfl)
theorem dX0_settle_29 : decode cX0_settle 29 = .ok (.iload_n 2, 1) := dk_28 (dk_at dksX0_settle_1 7 rfl rfl)
theorem dX0_settle_30 : decode cX0_settle 30 = .ok (.aload_n 0, 1) := dk_42 (dk_at dksX0_settle_1 8 rfl rfl)
theorem dX0_settle_31 : decode cX0_settle 31 = .ok (.getfield 11, 3) := dk_180 0 11 (dk_at dksX0_settle_1 9 rfl rfl)
theorem dX0_settle_34 : decode cX0_settle 34 = .ok (.iload_n 2, 1) := dk_28 (dk_at dksX0_settle_1 12 rfl rfl)
theorem dX0_settle_35 : decode cX0_settle 35 = .ok (.aaload, 1) := dk_50 (dk_at dksX0_settle_1 13 rfl rfl)
theorem dX0_settle_36 : decode cX0_settle 36 = .ok (.getfield 145, 3) := dk_180 0 145 (dk_at dksX0_settle_1 14 rfl rfl)
theorem dX0_settle_39 : decode cX0_settle 39 = .ok (.iastore, 1) := dk_79 (dk_at dksX0_settle_1 17 rfl rfl)
theorem dX0_settle_40 : decode cX0_settle 40 = .ok (.iinc 2 1, 3) := dk_132 2 1 (dk_at dksX0_settle_1 18 rfl rfl)
theorem dX0_settle_43 : decode cX0_settle 43 = .ok (.goto (-26), 3) := dk_167 255 230 (dk_at dksX0_settle_1 21 rfl rfl)
theorem dX0_settle_46 : decode cX0_settle 46 = .ok (.iconst 0, 1) := dk_3 (dk_at dksX0_settle_2 0 rfl rfl)
theorem dX0_settle_47 : decode cX0_settle 47 = .ok (.istore_n 2, 1) := dk_61 (dk_at dksX0_settle_2 1 rfl rfl)
theorem dX0_settle_48 : decode cX0_settle 48 = .ok (.aload_n 0, 1) := dk_42 (dk_at dksX0_settle_2 2 rfl rfl)
theorem dX0_settle_49 : decode cX0_settle 49 = .ok (.invokevirtual 327, 3) := dk_182 1 71 (dk_at dksX0_settle_2 3 rfl rfl)
theorem dX0_settle_52 : decode cX0_settle 52 = .ok (.istore_n 3, 1) := dk_62 (dk_at dksX0_settle_2 6 rfl rfl)
theorem dX0_settle_53 : decode cX0_settle 53 = .ok (.iload_n 3, 1) := dk_29 (dk_at dksX0_settle_2 7 rfl rfl)
theorem dX0_settle_54 : decode cX0_settle 54 = .ok (.ifCond .lt 34, 3) := dk_155 0 34 (dk_at dksX0_settle_2 8 rfl rfl)
theorem dX0_settle_57 : decode cX0_settle 57 = .ok (.iload_n 2, 1) := dk_28 (dk_at dksX0_settle_2 11 rfl rfl)
theorem dX0_settle_58 : decode cX0_settle 58 = .ok (.bipush 8, 2) := dk_16 8 (dk_at dksX0_settle_2 12 rfl rfl)
theorem dX0_settle_60 : decode cX0_settle 60 = .ok (.if_icmp .ge 28, 3) := dk_162 0 28 (dk_at dksX0_settle_2 14 rfl rfl)
theorem dX0_settle_63 : decode cX0_settle 63 = .ok (.aload_n 0, 1) := dk_42 (dk_at dksX0_settle_2 17 rfl rfl)
theorem dX0_settle_64 : decode cX0_settle 64 = .ok (.getfield 11, 3) := dk_180 0 11 (dk_at dksX0_settle_2 18 rfl rfl)
theorem dX0_settle_67 : decode cX0_settle 67 = .ok (.iload_n 3, 1) := dk_29 (dk_at dksX0_settle_2 21 rfl rfl)
theorem dX0_settle_68 : decode cX0_settle 68 = .ok (.aaload, 1) := dk_50 (dk_at dksX0_settle_2 22 rfl rfl)
theorem dX0_settle_69 : decode cX0_settle 69 = .ok (.aload_n 0, 1) := dk_42 (dk_at dksX0_settle_2 23 rfl rfl)
theorem dX0_settle_70 : decode cX0_settle 70 = .ok (.iload_n 3, 1) := dk_29 (dk_at dksX0_settle_3 0 rfl rfl)
theorem dX0_settle_71 : decode cX0_settle 71 = .ok (.invokevirtual 324, 3) := dk_182 1 68 (dk_at dksX0_settle_3 1 rfl rfl)
theorem dX0_settle_74 : decode cX0_settle 74 = .ok (.putfield 145, 3) := dk_181 0 145 (dk_at dksX0_settle_3 4 rfl rfl)
theorem dX0_settle_77 : decode cX0_settle 77 = .ok (.iinc 2 1, 3) := dk_132 2 1 (dk_at dksX0_settle_3 7 rfl rfl)
theorem dX0_settle_80 : decode cX0_settle 80 = .ok (.aload_n 0, 1) := dk_42 (dk_at dksX0_settle_3 10 rfl rfl)
theorem dX0_settle_81 : decode cX0_settle 81 = .ok (.invokevirtual 327, 3) := dk_182 1 71 (dk_at dksX0_settle_3 11 rfl rfl)
theorem dX0_settle_84 : decode cX0_settle 84 = .ok (.istore_n 3, 1) := dk_62 (dk_at dksX0_settle_3 14 rfl rfl)
theorem dX0_settle_85 : decode cX0_settle 85 = .ok (.goto (-32), 3) := dk_167 255 224 (dk_at dksX0_settle_3 15 rfl rfl)
theorem dX0_settle_88 : decode cX0_settle 88 = .ok (.iload_n 3, 1) := dk_29 (dk_at dksX0_settle_3 18 rfl rfl)
theorem dX0_settle_89 : decode cX0_settle 89 = .ok (.ifCond .lt 8, 3) := dk_155 0 8 (dk_at dksX0_settle_3 19 rfl rfl)
theorem dX0_settle_92 : decode cX0_settle 92 = .ok (.bipush (-2), 2) := dk_16 254 (dk_at dksX0_settle_3 22 rfl rfl)
theorem dX0_settle_94 : decode cX0_settle 94 = .ok (.goto 20, 3) := dk_167 0 20 (dk_at dksX0_settle_4 0 rfl rfl)
theorem dX0_settle_97 : decode cX0_settle 97 = .ok (.iload_n 1, 1) := dk_27 (dk_at dksX0_settle_4 3 rfl rfl)
theorem dX0_settle_98 : decode cX0_settle 98 = .ok (.ifCond .ge 7, 3) := dk_156 0 7 (dk_at dksX0_settle_4 4 rfl rfl)
theorem dX0_settle_101 : decode cX0_settle 101 = .ok (.iload_n 2, 1) := dk_28 (dk_at dksX0_settle_4 7 rfl rfl)
theorem dX0_settle_102 : decode cX0_settle 102 = .ok (.goto 12, 3) := dk_167 0 12 (dk_at dksX0_settle_4 8 rfl rfl)
theorem dX0_settle_105 : decode cX0_settle 105 = .ok (.aload_n 0, 1) := dk_42 (dk_at dksX0_settle_4 11 rfl rfl)
theorem dX0_settle_106 : decode cX0_settle 106 = .ok (.getfield 11, 3) := dk_180 0 11 (dk_at dksX0_settle_4 12 rfl rfl)
theorem dX0_settle_109 : decode cX0_settle 109 = .ok (.iload_n 1, 1) := dk_27 (dk_at dksX0_settle_4 15 rfl rfl)
theorem dX0_settle_110 : decode cX0_settle 110 = .ok (.aaload, 1) := dk_50 (dk_at dksX0_settle_4 16 rfl rfl)
theorem dX0_settle_111 : decode cX0_settle 111 = .ok (.getfield 145, 3) := dk_180 0 145 (dk_at dksX0_settle_4 17 rfl rfl)
theorem dX0_settle_114 : decode cX0_settle 114 = .ok (.istore 4, 2) := dk_54 4 (dk_at dksX0_settle_4 20 rfl rfl)
theorem dX0_settle_116 : decode cX0_settle 116 = .ok (.iconst 0, 1) := dk_3 (dk_at dksX0_settle_4 22 rfl rfl)
theorem dX0_settle_117 : decode cX0_settle 117 = .ok (.istore 5, 2) := dk_54 5 (dk_at dksX0_settle_5 0 rfl rfl)
theorem dX0_settle_119 : decode cX0_settle 119 = .ok (.iload 5, 2) := dk_21 5 (dk_at dksX0_settle_5 2 rfl rfl)
theorem dX0_settle_121 : decode cX0_settle 121 = .ok (.aload_n 0, 1) := dk_42 (dk_at dksX0_settle_5 4 rfl rfl)
theorem dX0_settle_122 : decode cX0_settle 122 = .ok (.getfield 95, 3) := dk_180 0 95 (dk_at dksX0_settle_5 5 rfl rfl)
theorem dX0_settle_125 : decode cX0_settle 125 = .ok (.if_icmp .ge 26, 3) := dk_162 0 26 (dk_at dksX0_settle_5 8 rfl rfl)
theorem dX0_settle_128 : decode cX0_settle 128 = .ok (.aload_n 0, 1) := dk_42 (dk_at dksX0_settle_5 11 rfl rfl)
theorem dX0_settle_129 : decode cX0_settle 129 = .ok (.getfield 11, 3) := dk_180 0 11 (dk_at dksX0_settle_5 12 rfl rfl)
theorem dX0_settle_132 : decode cX0_settle 132 = .ok (.iload 5, 2) := dk_21 5 (dk_at dksX0_settle_5 15 rfl rfl)
theorem dX0_settle_134 : decode cX0_settle 134 = .ok (.aaload, 1) := dk_50 (dk_at dksX0_settle_5 17 rfl rfl)
theorem dX0_settle_135 : decode cX0_settle 135 = .ok (.aload_n 0, 1) := dk_42 (dk_at dksX0_settle_5 18 rfl rfl)
theorem dX0_settle_136 : decode cX0_settle 136 = .ok (.getfield 77, 3) := dk_180 0 77 (dk_at dksX0_settle_5 19 rfl rfl)
theorem dX0_settle_139 : decode cX0_settle 139 = .ok (.iload 5, 2) := dk_21 5 (dk_at dksX0_settle_5 22 rfl rfl)
theorem dX0_settle_141 : decode cX0_settle 141 = .ok (.iaload, 1) := dk_46 (dk_at dksX0_settle_6 0 rfl rfl)
theorem dX0_settle_142 : decode cX0_settle 142 = .ok (.putfield 145, 3) := dk_181 0 145 (dk_at dksX0_settle_6 1 rfl rfl)
theorem dX0_settle_145 : decode cX0_settle 145 = .ok (.iinc 5 1, 3) := dk_132 5 1 (dk_at dksX0_settle_6 4 rfl rfl)
theorem dX0_settle_148 : decode cX0_settle 148 = .ok (.goto (-29), 3) := dk_167 255 227 (dk_at dksX0_settle_6 7 rfl rfl)
theorem dX0_settle_151 : decode cX0_settle 151 = .ok (.iload 4, 2) := dk_21 4 (dk_at dksX0_settle_6 10 rfl rfl)
theorem dX0_settle_153 : decode cX0_settle 153 = .ok (.ireturn, 1) := dk_172 (dk_at dksX0_settle_6 12 rfl rfl)
abbrev cX0_even : ByteArray := prog_1_method_53_code
def yX0_even : MethodName := ⟨RX0, "even", "(I)I"⟩
def dkwX0_even_6 : List UInt8 := [50, 28, 181, 0, 142, 29, 172]
abbrev dktX0_even_6 : List UInt8 := dkwX0_even_6 ++ []
def dkwX0_even_5 : List UInt8 := [155, 0, 6, 167, 0, 10, 21, 6, 62, 22, 7, 55, 4, 132, 6, 1, 167, 255, 157, 42, 180, 0, 11, 27]
abbrev dktX0_even_5 : List UInt8 := dkwX0_even_5 ++ dktX0_even_6
def dkwX0_even_4 : List UInt8 := [167, 255, 233, 22, 7, 184, 1, 76, 55, 7, 22, 4, 9, 148, 155, 0, 14, 22, 7, 22, 4, 148]
abbrev dktX0_even_4 : List UInt8 := dkwX0_even_4 ++ dktX0_even_5
def dkwX0_even_3 : List UInt8 := [21, 9, 42, 180, 0, 95, 162, 0, 20, 22, 7, 42, 21, 9, 182, 1, 45, 101, 55, 7, 132, 9, 1]
abbrev dktX0_even_3 : List UInt8 := dkwX0_even_3 ++ dktX0_even_4
def dkwX0_even_2 : List UInt8 := [181, 0, 142, 42, 182, 1, 23, 42, 180, 0, 95, 133, 42, 27, 182, 1, 45, 105, 55, 7, 3, 54, 9]
abbrev dktX0_even_2 : List UInt8 := dkwX0_even_2 ++ dktX0_even_3
def dkwX0_even_1 : List UInt8 := [20, 1, 74, 55, 4, 3, 54, 6, 21, 6, 16, 12, 163, 0, 98, 42, 180, 0, 11, 27, 50, 21, 6]
abbrev dktX0_even_1 : List UInt8 := dkwX0_even_1 ++ dktX0_even_2
def dkwX0_even_0 : List UInt8 := [42, 27, 182, 0, 136, 154, 0, 5, 2, 172, 42, 180, 0, 11, 27, 50, 180, 0, 142, 61, 3, 62]
abbrev dktX0_even_0 : List UInt8 := dkwX0_even_0 ++ dktX0_even_1
theorem dksX0_even_0 : cX0_even.data.toList.drop 0 = dktX0_even_0 := by decide +kernel
theorem dksX0_even_1 : cX0_even.data.toList.drop 22 = dktX0_even_1 := dk_seg dksX0_even_0 22 rfl rfl
theorem dksX0_even_2 : cX0_even.data.toList.drop 45 = dktX0_even_2 := dk_seg dksX0_even_1 23 rfl rfl
theorem dksX0_even_3 : cX0_even.data.toList.drop 68 = dktX0_even_3 := dk_seg dksX0_even_2 23 rfl rfl
theorem dksX0_even_4 : cX0_even.data.toList.drop 91 = dktX0_even_4 := dk_seg dksX0_even_3 23 rfl rfl
theorem dksX0_even_5 : cX0_even.data.toList.drop 113 = dktX0_even_5 := dk_seg dksX0_even_4 22 rfl rfl
theorem dksX0_even_6 : cX0_even.data.toList.drop 137 = dktX0_even_6 := dk_seg dksX0_even_5 24 rfl rfl
theorem dX0_even_0 : decode cX0_even 0 = .ok (.aload_n 0, 1) := dk_42 (dk_at dksX0_even_0 0 rfl rfl)
theorem dX0_even_1 : decode cX0_even 1 = .ok (.iload_n 1, 1) := dk_27 (dk_at dksX0_even_0 1 rfl rfl)
theorem dX0_even_2 : decode cX0_even 2 = .ok (.invokevirtual 136, 3) := dk_182 0 136 (dk_at dksX0_even_0 2 rfl rfl)
theorem dX0_even_5 : decode cX0_even 5 = .ok (.ifCond .ne 5, 3) := dk_154 0 5 (dk_at dksX0_even_0 5 rfl rfl)
theorem dX0_even_8 : decode cX0_even 8 = .ok (.iconst (-1), 1) := dk_2 (dk_at dksX0_even_0 8 rfl rfl)
theorem dX0_even_9 : decode cX0_even 9 = .ok (.ireturn, 1) := dk_172 (dk_at dksX0_even_0 9 rfl rfl)
theorem dX0_even_10 : decode cX0_even 10 = .ok (.aload_n 0, 1) := dk_42 (dk_at dksX0_even_0 10 rfl rfl)
theorem dX0_even_11 : decode cX0_even 11 = .ok (.getfield 11, 3) := dk_180 0 11 (dk_at dksX0_even_0 11 rfl rfl)
theorem dX0_even_14 : decode cX0_even 14 = .ok (.iload_n 1, 1) := dk_27 (dk_at dksX0_even_0 14 rfl rfl)
theorem dX0_even_15 : decode cX0_even 15 = .ok (.aaload, 1) := dk_50 (dk_at dksX0_even_0 15 rfl rfl)
theorem dX0_even_16 : decode cX0_even 16 = .ok (.getfield 142, 3) := dk_180 0 142 (dk_at dksX0_even_0 16 rfl rfl)
theorem dX0_even_19 : decode cX0_even 19 = .ok (.istore_n 2, 1) := dk_61 (dk_at dksX0_even_0 19 rfl rfl)
theorem dX0_even_20 : decode cX0_even 20 = .ok (.iconst 0, 1) := dk_3 (dk_at dksX0_even_0 20 rfl rfl)
theorem dX0_even_21 : decode cX0_even 21 = .ok (.istore_n 3, 1) := dk_62 (dk_at dksX0_even_0 21 rfl rfl)
theorem dX0_even_22 : decode cX0_even 22 = .ok (.ldc2_w 330, 3) := dk_20 1 74 (dk_at dksX0_even_1 0 rfl rfl)
theorem dX0_even_25 : decode cX0_even 25 = .ok (.lstore 4, 2) := dk_55 4 (dk_at dksX0_even_1 3 rfl rfl)
theorem dX0_even_27 : decode cX0_even 27 = .ok (.iconst 0, 1) := dk_3 (dk_at dksX0_even_1 5 rfl rfl)
theorem dX0_even_28 : decode cX0_even 28 = .ok (.istore 6, 2) := dk_54 6 (dk_at dksX0_even_1 6 rfl rfl)
theorem dX0_even_30 : decode cX0_even 30 = .ok (.iload 6, 2) := dk_21 6 (dk_at dksX0_even_1 8 rfl rfl)
theorem dX0_even_32 : decode cX0_even 32 = .ok (.bipush 12, 2) := dk_16 12 (dk_at dksX0_even_1 10 rfl rfl)
theorem dX0_even_34 : decode cX0_even 34 = .ok (.if_icmp .gt 98, 3) := dk_163 0 98 (dk_at dksX0_even_1 12 rfl rfl)
theorem dX0_even_37 : decode cX0_even 37 = .ok (.aload_n 0, 1) := dk_42 (dk_at dksX0_even_1 15 rfl rfl)
theorem dX0_even_38 : decode cX0_even 38 = .ok (.getfield 11, 3) := dk_180 0 11 (dk_at dksX0_even_1 16 rfl rfl)
theorem dX0_even_41 : decode cX0_even 41 = .ok (.iload_n 1, 1) := dk_27 (dk_at dksX0_even_1 19 rfl rfl)
theorem dX0_even_42 : decode cX0_even 42 = .ok (.aaload, 1) := dk_50 (dk_at dksX0_even_1 20 rfl rfl)
theorem dX0_even_43 : decode cX0_even 43 = .ok (.iload 6, 2) := dk_21 6 (dk_at dksX0_even_1 21 rfl rfl)
theorem dX0_even_45 : decode cX0_even 45 = .ok (.putfield 142, 3) := dk_181 0 142 (dk_at dksX0_even_2 0 rfl rfl)
theorem dX0_even_48 : decode cX0_even 48 = .ok (.aload_n 0, 1) := dk_42 (dk_at dksX0_even_2 3 rfl rfl)
theorem dX0_even_49 : decode cX0_even 49 = .ok (.invokevirtual 279, 3) := dk_182 1 23 (dk_at dksX0_even_2 4 rfl rfl)
theorem dX0_even_52 : decode cX0_even 52 = .ok (.aload_n 0, 1) := dk_42 (dk_at dksX0_even_2 7 rfl rfl)
theorem dX0_even_53 : decode cX0_even 53 = .ok (.getfield 95, 3) := dk_180 0 95 (dk_at dksX0_even_2 8 rfl rfl)
theorem dX0_even_56 : decode cX0_even 56 = .ok (.i2l, 1) := dk_133 (dk_at dksX0_even_2 11 rfl rfl)
theorem dX0_even_57 : decode cX0_even 57 = .ok (.aload_n 0, 1) := dk_42 (dk_at dksX0_even_2 12 rfl rfl)
theorem dX0_even_58 : decode cX0_even 58 = .ok (.iload_n 1, 1) := dk_27 (dk_at dksX0_even_2 13 rfl rfl)
theorem dX0_even_59 : decode cX0_even 59 = .ok (.invokevirtual 301, 3) := dk_182 1 45 (dk_at dksX0_even_2 14 rfl rfl)
theorem dX0_even_62 : decode cX0_even 62 = .ok (.lmul, 1) := dk_105 (dk_at dksX0_even_2 17 rfl rfl)
theorem dX0_even_63 : decode cX0_even 63 = .ok (.lstore 7, 2) := dk_55 7 (dk_at dksX0_even_2 18 rfl rfl)
theorem dX0_even_65 : decode cX0_even 65 = .ok (.iconst 0, 1) := dk_3 (dk_at dksX0_even_2 20 rfl rfl)
theorem dX0_even_66 : decode cX0_even 66 = .ok (.istore 9, 2) := dk_54 9 (dk_at dksX0_even_2 21 rfl rfl)
theorem dX0_even_68 : decode cX0_even 68 = .ok (.iload 9, 2) := dk_21 9 (dk_at dksX0_even_3 0 rfl rfl)
theorem dX0_even_70 : decode cX0_even 70 = .ok (.aload_n 0, 1) := dk_42 (dk_at dksX0_even_3 2 rfl rfl)
theorem dX0_even_71 : decode cX0_even 71 = .ok (.getfield 95, 3) := dk_180 0 95 (dk_at dksX0_even_3 3 rfl rfl)
theorem dX0_even_74 : decode cX0_even 74 = .ok (.if_icmp .ge 20, 3) := dk_162 0 20 (dk_at dksX0_even_3 6 rfl rfl)
theorem dX0_even_77 : decode cX0_even 77 = .ok (.lload 7, 2) := dk_22 7 (dk_at dksX0_even_3 9 rfl rfl)
theorem dX0_even_79 : decode cX0_even 79 = .ok (.aload_n 0, 1) := dk_42 (dk_at dksX0_even_3 11 rfl rfl)
theorem dX0_even_80 : decode cX0_even 80 = .ok (.iload 9, 2) := dk_21 9 (dk_at dksX0_even_3 12 rfl rfl)
theorem dX0_even_82 : decode cX0_even 82 = .ok (.invokevirtual 301, 3) := dk_182 1 45 (dk_at dksX0_even_3 14 rfl rfl)
theorem dX0_even_85 : decode cX0_even 85 = .ok (.lsub, 1) := dk_101 (dk_at dksX0_even_3 17 rfl rfl)
theorem dX0_even_86 : decode cX0_even 86 = .ok (.lstore 7, 2) := dk_55 7 (dk_at dksX0_even_3 18 rfl rfl)
theorem dX0_even_88 : decode cX0_even 88 = .ok (.iinc 9 1, 3) := dk_132 9 1 (dk_at dksX0_even_3 20 rfl rfl)
theorem dX0_even_91 : decode cX0_even 91 = .ok (.goto (-23), 3) := dk_167 255 233 (dk_at dksX0_even_4 0 rfl rfl)
theorem dX0_even_94 : decode cX0_even 94 = .ok (.lload 7, 2) := dk_22 7 (dk_at dksX0_even_4 3 rfl rfl)
theorem dX0_even_96 : decode cX0_even 96 = .ok (.invokestatic 332, 3) := dk_184 1 76 (dk_at dksX0_even_4 5 rfl rfl)
theorem dX0_even_99 : decode cX0_even 99 = .ok (.lstore 7, 2) := dk_55 7 (dk_at dksX0_even_4 8 rfl rfl)
theorem dX0_even_101 : decode cX0_even 101 = .ok (.lload 4, 2) := dk_22 4 (dk_at dksX0_even_4 10 rfl rfl)
theorem dX0_even_103 : decode cX0_even 103 = .ok (.lconst 0, 1) := dk_9 (dk_at dksX0_even_4 12 rfl rfl)
theorem dX0_even_104 : decode cX0_even 104 = .ok (.lcmp, 1) := dk_148 (dk_at dksX0_even_4 13 rfl rfl)
theorem dX0_even_105 : decode cX0_even 105 = .ok (.ifCond .lt 14, 3) := dk_155 0 14 (dk_at dksX0_even_4 14 rfl rfl)
theorem dX0_even_108 : decode cX0_even 108 = .ok (.lload 7, 2) := dk_22 7 (dk_at dksX0_even_4 17 rfl rfl)
theorem dX0_even_110 : decode cX0_even 110 = .ok (.lload 4, 2) := dk_22 4 (dk_at dksX0_even_4 19 rfl rfl)
theorem dX0_even_112 : decode cX0_even 112 = .ok (.lcmp, 1) := dk_148 (dk_at dksX0_even_4 21 rfl rfl)
theorem dX0_even_113 : decode cX0_even 113 = .ok (.ifCond .lt 6, 3) := dk_155 0 6 (dk_at dksX0_even_5 0 rfl rfl)
theorem dX0_even_116 : decode cX0_even 116 = .ok (.goto 10, 3) := dk_167 0 10 (dk_at dksX0_even_5 3 rfl rfl)
theorem dX0_even_119 : decode cX0_even 119 = .ok (.iload 6, 2) := dk_21 6 (dk_at dksX0_even_5 6 rfl rfl)
theorem dX0_even_121 : decode cX0_even 121 = .ok (.istore_n 3, 1) := dk_62 (dk_at dksX0_even_5 8 rfl rfl)
theorem dX0_even_122 : decode cX0_even 122 = .ok (.lload 7, 2) := dk_22 7 (dk_at dksX0_even_5 9 rfl rfl)
theorem dX0_even_124 : decode cX0_even 124 = .ok (.lstore 4, 2) := dk_55 4 (dk_at dksX0_even_5 11 rfl rfl)
theorem dX0_even_126 : decode cX0_even 126 = .ok (.iinc 6 1, 3) := dk_132 6 1 (dk_at dksX0_even_5 13 rfl rfl)
theorem dX0_even_129 : decode cX0_even 129 = .ok (.goto (-99), 3) := dk_167 255 157 (dk_at dksX0_even_5 16 rfl rfl)
theorem dX0_even_132 : decode cX0_even 132 = .ok (.aload_n 0, 1) := dk_42 (dk_at dksX0_even_5 19 rfl rfl)
theorem dX0_even_133 : decode cX0_even 133 = .ok (.getfield 11, 3) := dk_180 0 11 (dk_at dksX0_even_5 20 rfl rfl)
theorem dX0_even_136 : decode cX0_even 136 = .ok (.iload_n 1, 1) := dk_27 (dk_at dksX0_even_5 23 rfl rfl)
theorem dX0_even_137 : decode cX0_even 137 = .ok (.aaload, 1) := dk_50 (dk_at dksX0_even_6 0 rfl rfl)
theorem dX0_even_138 : decode cX0_even 138 = .ok (.iload_n 2, 1) := dk_28 (dk_at dksX0_even_6 1 rfl rfl)
theorem dX0_even_139 : decode cX0_even 139 = .ok (.putfield 142, 3) := dk_181 0 142 (dk_at dksX0_even_6 2 rfl rfl)
theorem dX0_even_142 : decode cX0_even 142 = .ok (.iload_n 3, 1) := dk_29 (dk_at dksX0_even_6 5 rfl rfl)
theorem dX0_even_143 : decode cX0_even 143 = .ok (.ireturn, 1) := dk_172 (dk_at dksX0_even_6 6 rfl rfl)
abbrev cX0_league : ByteArray := prog_1_method_55_code
def yX0_league : MethodName := ⟨RX0, "league", "(I)I"⟩
def dkwX0_league_2 : List UInt8 := [182, 1, 83, 167, 0, 4, 2, 172]
abbrev dktX0_league_2 : List UInt8 := dkwX0_league_2 ++ []
def dkwX0_league_1 : List UInt8 := [153, 0, 29, 27, 16, 10, 108, 27, 16, 10, 112, 159, 0, 18, 42, 27, 16, 10, 108, 27, 16, 10, 112]
abbrev dktX0_league_1 : List UInt8 := dkwX0_league_1 ++ dktX0_league_2
def dkwX0_league_0 : List UInt8 := [27, 155, 0, 51, 42, 27, 16, 10, 108, 182, 0, 136, 153, 0, 40, 42, 27, 16, 10, 112, 182, 0, 136]
abbrev dktX0_league_0 : List UInt8 := dkwX0_league_0 ++ dktX0_league_1
theorem dksX0_league_0 : cX0_league.data.toList.drop 0 = dktX0_league_0 := by decide +kernel
theorem dksX0_league_1 : cX0_league.data.toList.drop 23 = dktX0_league_1 := dk_seg dksX0_league_0 23 rfl rfl
theorem dksX0_league_2 : cX0_league.data.toList.drop 46 = dktX0_league_2 := dk_seg dksX0_league_1 23 rfl rfl
theorem dX0_league_0 : decode cX0_league 0 = .ok (.iload_n 1, 1) := dk_27 (dk_at dksX0_league_0 0 rfl rfl)
theorem dX0_league_1 : decode cX0_league 1 = .ok (.ifCond .lt 51, 3) := dk_155 0 51 (dk_at dksX0_league_0 1 rfl rfl)
theorem dX0_league_4 : decode cX0_league 4 = .ok (.aload_n 0, 1) := dk_42 (dk_at dksX0_league_0 4 rfl rfl)
theorem dX0_league_5 : decode cX0_league 5 = .ok (.iload_n 1, 1) := dk_27 (dk_at dksX0_league_0 5 rfl rfl)
theorem dX0_league_6 : decode cX0_league 6 = .ok (.bipush 10, 2) := dk_16 10 (dk_at dksX0_league_0 6 rfl rfl)
theorem dX0_league_8 : decode cX0_league 8 = .ok (.idiv, 1) := dk_108 (dk_at dksX0_league_0 8 rfl rfl)
theorem dX0_league_9 : decode cX0_league 9 = .ok (.invokevirtual 136, 3) := dk_182 0 136 (dk_at dksX0_league_0 9 rfl rfl)
theorem dX0_league_12 : decode cX0_league 12 = .ok (.ifCond .eq 40, 3) := dk_153 0 40 (dk_at dksX0_league_0 12 rfl rfl)
theorem dX0_league_15 : decode cX0_league 15 = .ok (.aload_n 0, 1) := dk_42 (dk_at dksX0_league_0 15 rfl rfl)
theorem dX0_league_16 : decode cX0_league 16 = .ok (.iload_n 1, 1) := dk_27 (dk_at dksX0_league_0 16 rfl rfl)
theorem dX0_league_17 : decode cX0_league 17 = .ok (.bipush 10, 2) := dk_16 10 (dk_at dksX0_league_0 17 rfl rfl)
theorem dX0_league_19 : decode cX0_league 19 = .ok (.irem, 1) := dk_112 (dk_at dksX0_league_0 19 rfl rfl)
theorem dX0_league_20 : decode cX0_league 20 = .ok (.invokevirtual 136, 3) := dk_182 0 136 (dk_at dksX0_league_0 20 rfl rfl)
theorem dX0_league_23 : decode cX0_league 23 = .ok (.ifCond .eq 29, 3) := dk_153 0 29 (dk_at dksX0_league_1 0 rfl rfl)
theorem dX0_league_26 : decode cX0_league 26 = .ok (.iload_n 1, 1) := dk_27 (dk_at dksX0_league_1 3 rfl rfl)
theorem dX0_league_27 : decode cX0_league 27 = .ok (.bipush 10, 2) := dk_16 10 (dk_at dksX0_league_1 4 rfl rfl)
theorem dX0_league_29 : decode cX0_league 29 = .ok (.idiv, 1) := dk_108 (dk_at dksX0_league_1 6 rfl rfl)
theorem dX0_league_30 : decode cX0_league 30 = .ok (.iload_n 1, 1) := dk_27 (dk_at dksX0_league_1 7 rfl rfl)
theorem dX0_league_31 : decode cX0_league 31 = .ok (.bipush 10, 2) := dk_16 10 (dk_at dksX0_league_1 8 rfl rfl)
theorem dX0_league_33 : decode cX0_league 33 = .ok (.irem, 1) := dk_112 (dk_at dksX0_league_1 10 rfl rfl)
theorem dX0_league_34 : decode cX0_league 34 = .ok (.if_icmp .eq 18, 3) := dk_159 0 18 (dk_at dksX0_league_1 11 rfl rfl)
theorem dX0_league_37 : decode cX0_league 37 = .ok (.aload_n 0, 1) := dk_42 (dk_at dksX0_league_1 14 rfl rfl)
theorem dX0_league_38 : decode cX0_league 38 = .ok (.iload_n 1, 1) := dk_27 (dk_at dksX0_league_1 15 rfl rfl)
theorem dX0_league_39 : decode cX0_league 39 = .ok (.bipush 10, 2) := dk_16 10 (dk_at dksX0_league_1 16 rfl rfl)
theorem dX0_league_41 : decode cX0_league 41 = .ok (.idiv, 1) := dk_108 (dk_at dksX0_league_1 18 rfl rfl)
theorem dX0_league_42 : decode cX0_league 42 = .ok (.iload_n 1, 1) := dk_27 (dk_at dksX0_league_1 19 rfl rfl)
theorem dX0_league_43 : decode cX0_league 43 = .ok (.bipush 10, 2) := dk_16 10 (dk_at dksX0_league_1 20 rfl rfl)
theorem dX0_league_45 : decode cX0_league 45 = .ok (.irem, 1) := dk_112 (dk_at dksX0_league_1 22 rfl rfl)
theorem dX0_league_46 : decode cX0_league 46 = .ok (.invokevirtual 339, 3) := dk_182 1 83 (dk_at dksX0_league_2 0 rfl rfl)
theorem dX0_league_49 : decode cX0_league 49 = .ok (.goto 4, 3) := dk_167 0 4 (dk_at dksX0_league_2 3 rfl rfl)
theorem dX0_league_52 : decode cX0_league 52 = .ok (.iconst (-1), 1) := dk_2 (dk_at dksX0_league_2 6 rfl rfl)
theorem dX0_league_53 : decode cX0_league 53 = .ok (.ireturn, 1) := dk_172 (dk_at dksX0_league_2 7 rfl rfl)
abbrev cX0_better : ByteArray := prog_1_method_54_code
def yX0_better : MethodName := ⟨RX0, "better", "(II)I"⟩
def dkwX0_better_2 : List UInt8 := [3, 167, 0, 16, 22, 4, 22, 6, 148, 158, 0, 7, 4, 167, 0, 4, 5, 172]
abbrev dktX0_better_2 : List UInt8 := dkwX0_better_2 ++ []
def dkwX0_better_1 : List UInt8 := [55, 4, 42, 29, 42, 29, 182, 1, 80, 3, 28, 182, 1, 3, 55, 6, 22, 4, 22, 6, 148, 154, 0, 7]
abbrev dktX0_better_1 : List UInt8 := dkwX0_better_1 ++ dktX0_better_2
def dkwX0_better_0 : List UInt8 := [42, 182, 1, 23, 4, 27, 120, 4, 28, 120, 128, 62, 42, 29, 42, 29, 182, 1, 80, 3, 27, 182, 1, 3]
abbrev dktX0_better_0 : List UInt8 := dkwX0_better_0 ++ dktX0_better_1
theorem dksX0_better_0 : cX0_better.data.toList.drop 0 = dktX0_better_0 := by decide +kernel
theorem dksX0_better_1 : cX0_better.data.toList.drop 24 = dktX0_better_1 := dk_seg dksX0_better_0 24 rfl rfl
theorem dksX0_better_2 : cX0_better.data.toList.drop 48 = dktX0_better_2 := dk_seg dksX0_better_1 24 rfl rfl
theorem dX0_better_0 : decode cX0_better 0 = .ok (.aload_n 0, 1) := dk_42 (dk_at dksX0_better_0 0 rfl rfl)
theorem dX0_better_1 : decode cX0_better 1 = .ok (.invokevirtual 279, 3) := dk_182 1 23 (dk_at dksX0_better_0 1 rfl rfl)
theorem dX0_better_4 : decode cX0_better 4 = .ok (.iconst 1, 1) := dk_4 (dk_at dksX0_better_0 4 rfl rfl)
theorem dX0_better_5 : decode cX0_better 5 = .ok (.iload_n 1, 1) := dk_27 (dk_at dksX0_better_0 5 rfl rfl)
theorem dX0_better_6 : decode cX0_better 6 = .ok (.ishl, 1) := dk_120 (dk_at dksX0_better_0 6 rfl rfl)
theorem dX0_better_7 : decode cX0_better 7 = .ok (.iconst 1, 1) := dk_4 (dk_at dksX0_better_0 7 rfl rfl)
theorem dX0_better_8 : decode cX0_better 8 = .ok (.iload_n 2, 1) := dk_28 (dk_at dksX0_better_0 8 rfl rfl)
theorem dX0_better_9 : decode cX0_better 9 = .ok (.ishl, 1) := dk_120 (dk_at dksX0_better_0 9 rfl rfl)
theorem dX0_better_10 : decode cX0_better 10 = .ok (.ior, 1) := dk_128 (dk_at dksX0_better_0 10 rfl rfl)
theorem dX0_better_11 : decode cX0_better 11 = .ok (.istore_n 3, 1) := dk_62 (dk_at dksX0_better_0 11 rfl rfl)
theorem dX0_better_12 : decode cX0_better 12 = .ok (.aload_n 0, 1) := dk_42 (dk_at dksX0_better_0 12 rfl rfl)
theorem dX0_better_13 : decode cX0_better 13 = .ok (.iload_n 3, 1) := dk_29 (dk_at dksX0_better_0 13 rfl rfl)
theorem dX0_better_14 : decode cX0_better 14 = .ok (.aload_n 0, 1) := dk_42 (dk_at dksX0_better_0 14 rfl rfl)
theorem dX0_better_15 : decode cX0_better 15 = .ok (.iload_n 3, 1) := dk_29 (dk_at dksX0_better_0 15 rfl rfl)
theorem dX0_better_16 : decode cX0_better 16 = .ok (.invokevirtual 336, 3) := dk_182 1 80 (dk_at dksX0_better_0 16 rfl rfl)
theorem dX0_better_19 : decode cX0_better 19 = .ok (.iconst 0, 1) := dk_3 (dk_at dksX0_better_0 19 rfl rfl)
theorem dX0_better_20 : decode cX0_better 20 = .ok (.iload_n 1, 1) := dk_27 (dk_at dksX0_better_0 20 rfl rfl)
theorem dX0_better_21 : decode cX0_better 21 = .ok (.invokevirtual 259, 3) := dk_182 1 3 (dk_at dksX0_better_0 21 rfl rfl)
theorem dX0_better_24 : decode cX0_better 24 = .ok (.lstore 4, 2) := dk_55 4 (dk_at dksX0_better_1 0 rfl rfl)
theorem dX0_better_26 : decode cX0_better 26 = .ok (.aload_n 0, 1) := dk_42 (dk_at dksX0_better_1 2 rfl rfl)
theorem dX0_better_27 : decode cX0_better 27 = .ok (.iload_n 3, 1) := dk_29 (dk_at dksX0_better_1 3 rfl rfl)
theorem dX0_better_28 : decode cX0_better 28 = .ok (.aload_n 0, 1) := dk_42 (dk_at dksX0_better_1 4 rfl rfl)
theorem dX0_better_29 : decode cX0_better 29 = .ok (.iload_n 3, 1) := dk_29 (dk_at dksX0_better_1 5 rfl rfl)
theorem dX0_better_30 : decode cX0_better 30 = .ok (.invokevirtual 336, 3) := dk_182 1 80 (dk_at dksX0_better_1 6 rfl rfl)
theorem dX0_better_33 : decode cX0_better 33 = .ok (.iconst 0, 1) := dk_3 (dk_at dksX0_better_1 9 rfl rfl)
theorem dX0_better_34 : decode cX0_better 34 = .ok (.iload_n 2, 1) := dk_28 (dk_at dksX0_better_1 10 rfl rfl)
theorem dX0_better_35 : decode cX0_better 35 = .ok (.invokevirtual 259, 3) := dk_182 1 3 (dk_at dksX0_better_1 11 rfl rfl)
theorem dX0_better_38 : decode cX0_better 38 = .ok (.lstore 6, 2) := dk_55 6 (dk_at dksX0_better_1 14 rfl rfl)
theorem dX0_better_40 : decode cX0_better 40 = .ok (.lload 4, 2) := dk_22 4 (dk_at dksX0_better_1 16 rfl rfl)
theorem dX0_better_42 : decode cX0_better 42 = .ok (.lload 6, 2) := dk_22 6 (dk_at dksX0_better_1 18 rfl rfl)
theorem dX0_better_44 : decode cX0_better 44 = .ok (.lcmp, 1) := dk_148 (dk_at dksX0_better_1 20 rfl rfl)
theorem dX0_better_45 : decode cX0_better 45 = .ok (.ifCond .ne 7, 3) := dk_154 0 7 (dk_at dksX0_better_1 21 rfl rfl)
theorem dX0_better_48 : decode cX0_better 48 = .ok (.iconst 0, 1) := dk_3 (dk_at dksX0_better_2 0 rfl rfl)
theorem dX0_better_49 : decode cX0_better 49 = .ok (.goto 16, 3) := dk_167 0 16 (dk_at dksX0_better_2 1 rfl rfl)
theorem dX0_better_52 : decode cX0_better 52 = .ok (.lload 4, 2) := dk_22 4 (dk_at dksX0_better_2 4 rfl rfl)
theorem dX0_better_54 : decode cX0_better 54 = .ok (.lload 6, 2) := dk_22 6 (dk_at dksX0_better_2 6 rfl rfl)
theorem dX0_better_56 : decode cX0_better 56 = .ok (.lcmp, 1) := dk_148 (dk_at dksX0_better_2 8 rfl rfl)
theorem dX0_better_57 : decode cX0_better 57 = .ok (.ifCond .le 7, 3) := dk_158 0 7 (dk_at dksX0_better_2 9 rfl rfl)
theorem dX0_better_60 : decode cX0_better 60 = .ok (.iconst 1, 1) := dk_4 (dk_at dksX0_better_2 12 rfl rfl)
theorem dX0_better_61 : decode cX0_better 61 = .ok (.goto 4, 3) := dk_167 0 4 (dk_at dksX0_better_2 13 rfl rfl)
theorem dX0_better_64 : decode cX0_better 64 = .ok (.iconst 2, 1) := dk_5 (dk_at dksX0_better_2 16 rfl rfl)
theorem dX0_better_65 : decode cX0_better 65 = .ok (.ireturn, 1) := dk_172 (dk_at dksX0_better_2 17 rfl rfl)
abbrev cX0_firstPlace : ByteArray := prog_1_method_35_code
def yX0_firstPlace : MethodName := ⟨RX0, "firstPlace", "(I)I"⟩
def dkwX0_firstPlace_1 : List UInt8 := [154, 0, 9, 132, 2, 1, 167, 255, 230, 28, 172]
abbrev dktX0_firstPlace_1 : List UInt8 := dkwX0_firstPlace_1 ++ []
def dkwX0_firstPlace_0 : List UInt8 := [3, 61, 28, 42, 180, 0, 95, 4, 100, 162, 0, 22, 27, 42, 180, 0, 15, 28, 46, 184, 0, 139]
abbrev dktX0_firstPlace_0 : List UInt8 := dkwX0_firstPlace_0 ++ dktX0_firstPlace_1
theorem dksX0_firstPlace_0 : cX0_firstPlace.data.toList.drop 0 = dktX0_firstPlace_0 := by decide +kernel
theorem dksX0_firstPlace_1 : cX0_firstPlace.data.toList.drop 22 = dktX0_firstPlace_1 := dk_seg dksX0_firstPlace_0 22 rfl rfl
theorem dX0_firstPlace_0 : decode cX0_firstPlace 0 = .ok (.iconst 0, 1) := dk_3 (dk_at dksX0_firstPlace_0 0 rfl rfl)
theorem dX0_firstPlace_1 : decode cX0_firstPlace 1 = .ok (.istore_n 2, 1) := dk_61 (dk_at dksX0_firstPlace_0 1 rfl rfl)
theorem dX0_firstPlace_2 : decode cX0_firstPlace 2 = .ok (.iload_n 2, 1) := dk_28 (dk_at dksX0_firstPlace_0 2 rfl rfl)
theorem dX0_firstPlace_3 : decode cX0_firstPlace 3 = .ok (.aload_n 0, 1) := dk_42 (dk_at dksX0_firstPlace_0 3 rfl rfl)
theorem dX0_firstPlace_4 : decode cX0_firstPlace 4 = .ok (.getfield 95, 3) := dk_180 0 95 (dk_at dksX0_firstPlace_0 4 rfl rfl)
theorem dX0_firstPlace_7 : decode cX0_firstPlace 7 = .ok (.iconst 1, 1) := dk_4 (dk_at dksX0_firstPlace_0 7 rfl rfl)
theorem dX0_firstPlace_8 : decode cX0_firstPlace 8 = .ok (.isub, 1) := dk_100 (dk_at dksX0_firstPlace_0 8 rfl rfl)
theorem dX0_firstPlace_9 : decode cX0_firstPlace 9 = .ok (.if_icmp .ge 22, 3) := dk_162 0 22 (dk_at dksX0_firstPlace_0 9 rfl rfl)
theorem dX0_firstPlace_12 : decode cX0_firstPlace 12 = .ok (.iload_n 1, 1) := dk_27 (dk_at dksX0_firstPlace_0 12 rfl rfl)
theorem dX0_firstPlace_13 : decode cX0_firstPlace 13 = .ok (.aload_n 0, 1) := dk_42 (dk_at dksX0_firstPlace_0 13 rfl rfl)
theorem dX0_firstPlace_14 : decode cX0_firstPlace 14 = .ok (.getfield 15, 3) := dk_180 0 15 (dk_at dksX0_firstPlace_0 14 rfl rfl)
theorem dX0_firstPlace_17 : decode cX0_firstPlace 17 = .ok (.iload_n 2, 1) := dk_28 (dk_at dksX0_firstPlace_0 17 rfl rfl)
theorem dX0_firstPlace_18 : decode cX0_firstPlace 18 = .ok (.iaload, 1) := dk_46 (dk_at dksX0_firstPlace_0 18 rfl rfl)
theorem dX0_firstPlace_19 : decode cX0_firstPlace 19 = .ok (.invokestatic 139, 3) := dk_184 0 139 (dk_at dksX0_firstPlace_0 19 rfl rfl)
theorem dX0_firstPlace_22 : decode cX0_firstPlace 22 = .ok (.ifCond .ne 9, 3) := dk_154 0 9 (dk_at dksX0_firstPlace_1 0 rfl rfl)
theorem dX0_firstPlace_25 : decode cX0_firstPlace 25 = .ok (.iinc 2 1, 3) := dk_132 2 1 (dk_at dksX0_firstPlace_1 3 rfl rfl)
theorem dX0_firstPlace_28 : decode cX0_firstPlace 28 = .ok (.goto (-26), 3) := dk_167 255 230 (dk_at dksX0_firstPlace_1 6 rfl rfl)
theorem dX0_firstPlace_31 : decode cX0_firstPlace 31 = .ok (.iload_n 2, 1) := dk_28 (dk_at dksX0_firstPlace_1 9 rfl rfl)
theorem dX0_firstPlace_32 : decode cX0_firstPlace 32 = .ok (.ireturn, 1) := dk_172 (dk_at dksX0_firstPlace_1 10 rfl rfl)
abbrev cX0_points : ByteArray := prog_1_method_56_code
def yX0_points : MethodName := ⟨RX0, "points", "(I)I"⟩
def dkwX0_points_2 : List UInt8 := [167, 0, 13, 21, 4, 154, 0, 7, 4, 167, 0, 4, 3, 96, 61, 132, 3, 1, 167, 255, 206, 28, 172]
abbrev dktX0_points_2 : List UInt8 := dkwX0_points_2 ++ []
def dkwX0_points_1 : List UInt8 := [160, 0, 6, 167, 0, 34, 42, 27, 29, 182, 1, 83, 54, 4, 28, 21, 4, 4, 160, 0, 7, 5]
abbrev dktX0_points_1 : List UInt8 := dkwX0_points_1 ++ dktX0_points_2
def dkwX0_points_0 : List UInt8 := [42, 27, 182, 0, 136, 154, 0, 5, 2, 172, 3, 61, 3, 62, 29, 42, 180, 0, 95, 162, 0, 48, 29, 27]
abbrev dktX0_points_0 : List UInt8 := dkwX0_points_0 ++ dktX0_points_1
theorem dksX0_points_0 : cX0_points.data.toList.drop 0 = dktX0_points_0 := by decide +kernel
theorem dksX0_points_1 : cX0_points.data.toList.drop 24 = dktX0_points_1 := dk_seg dksX0_points_0 24 rfl rfl
theorem dksX0_points_2 : cX0_points.data.toList.drop 46 = dktX0_points_2 := dk_seg dksX0_points_1 22 rfl rfl
theorem dX0_points_0 : decode cX0_points 0 = .ok (.aload_n 0, 1) := dk_42 (dk_at dksX0_points_0 0 rfl rfl)
theorem dX0_points_1 : decode cX0_points 1 = .ok (.iload_n 1, 1) := dk_27 (dk_at dksX0_points_0 1 rfl rfl)
theorem dX0_points_2 : decode cX0_points 2 = .ok (.invokevirtual 136, 3) := dk_182 0 136 (dk_at dksX0_points_0 2 rfl rfl)
theorem dX0_points_5 : decode cX0_points 5 = .ok (.ifCond .ne 5, 3) := dk_154 0 5 (dk_at dksX0_points_0 5 rfl rfl)
theorem dX0_points_8 : decode cX0_points 8 = .ok (.iconst (-1), 1) := dk_2 (dk_at dksX0_points_0 8 rfl rfl)
theorem dX0_points_9 : decode cX0_points 9 = .ok (.ireturn, 1) := dk_172 (dk_at dksX0_points_0 9 rfl rfl)
theorem dX0_points_10 : decode cX0_points 10 = .ok (.iconst 0, 1) := dk_3 (dk_at dksX0_points_0 10 rfl rfl)
theorem dX0_points_11 : decode cX0_points 11 = .ok (.istore_n 2, 1) := dk_61 (dk_at dksX0_points_0 11 rfl rfl)
theorem dX0_points_12 : decode cX0_points 12 = .ok (.iconst 0, 1) := dk_3 (dk_at dksX0_points_0 12 rfl rfl)
theorem dX0_points_13 : decode cX0_points 13 = .ok (.istore_n 3, 1) := dk_62 (dk_at dksX0_points_0 13 rfl rfl)
theorem dX0_points_14 : decode cX0_points 14 = .ok (.iload_n 3, 1) := dk_29 (dk_at dksX0_points_0 14 rfl rfl)
theorem dX0_points_15 : decode cX0_points 15 = .ok (.aload_n 0, 1) := dk_42 (dk_at dksX0_points_0 15 rfl rfl)
theorem dX0_points_16 : decode cX0_points 16 = .ok (.getfield 95, 3) := dk_180 0 95 (dk_at dksX0_points_0 16 rfl rfl)
theorem dX0_points_19 : decode cX0_points 19 = .ok (.if_icmp .ge 48, 3) := dk_162 0 48 (dk_at dksX0_points_0 19 rfl rfl)
theorem dX0_points_22 : decode cX0_points 22 = .ok (.iload_n 3, 1) := dk_29 (dk_at dksX0_points_0 22 rfl rfl)
theorem dX0_points_23 : decode cX0_points 23 = .ok (.iload_n 1, 1) := dk_27 (dk_at dksX0_points_0 23 rfl rfl)
theorem dX0_points_24 : decode cX0_points 24 = .ok (.if_icmp .ne 6, 3) := dk_160 0 6 (dk_at dksX0_points_1 0 rfl rfl)
theorem dX0_points_27 : decode cX0_points 27 = .ok (.goto 34, 3) := dk_167 0 34 (dk_at dksX0_points_1 3 rfl rfl)
theorem dX0_points_30 : decode cX0_points 30 = .ok (.aload_n 0, 1) := dk_42 (dk_at dksX0_points_1 6 rfl rfl)
theorem dX0_points_31 : decode cX0_points 31 = .ok (.iload_n 1, 1) := dk_27 (dk_at dksX0_points_1 7 rfl rfl)
theorem dX0_points_32 : decode cX0_points 32 = .ok (.iload_n 3, 1) := dk_29 (dk_at dksX0_points_1 8 rfl rfl)
theorem dX0_points_33 : decode cX0_points 33 = .ok (.invokevirtual 339, 3) := dk_182 1 83 (dk_at dksX0_points_1 9 rfl rfl)
theorem dX0_points_36 : decode cX0_points 36 = .ok (.istore 4, 2) := dk_54 4 (dk_at dksX0_points_1 12 rfl rfl)
theorem dX0_points_38 : decode cX0_points 38 = .ok (.iload_n 2, 1) := dk_28 (dk_at dksX0_points_1 14 rfl rfl)
theorem dX0_points_39 : decode cX0_points 39 = .ok (.iload 4, 2) := dk_21 4 (dk_at dksX0_points_1 15 rfl rfl)
theorem dX0_points_41 : decode cX0_points 41 = .ok (.iconst 1, 1) := dk_4 (dk_at dksX0_points_1 17 rfl rfl)
theorem dX0_points_42 : decode cX0_points 42 = .ok (.if_icmp .ne 7, 3) := dk_160 0 7 (dk_at dksX0_points_1 18 rfl rfl)
theorem dX0_points_45 : decode cX0_points 45 = .ok (.iconst 2, 1) := dk_5 (dk_at dksX0_points_1 21 rfl rfl)
theorem dX0_points_46 : decode cX0_points 46 = .ok (.goto 13, 3) := dk_167 0 13 (dk_at dksX0_points_2 0 rfl rfl)
theorem dX0_points_49 : decode cX0_points 49 = .ok (.iload 4, 2) := dk_21 4 (dk_at dksX0_points_2 3 rfl rfl)
theorem dX0_points_51 : decode cX0_points 51 = .ok (.ifCond .ne 7, 3) := dk_154 0 7 (dk_at dksX0_points_2 5 rfl rfl)
theorem dX0_points_54 : decode cX0_points 54 = .ok (.iconst 1, 1) := dk_4 (dk_at dksX0_points_2 8 rfl rfl)
theorem dX0_points_55 : decode cX0_points 55 = .ok (.goto 4, 3) := dk_167 0 4 (dk_at dksX0_points_2 9 rfl rfl)
theorem dX0_points_58 : decode cX0_points 58 = .ok (.iconst 0, 1) := dk_3 (dk_at dksX0_points_2 12 rfl rfl)
theorem dX0_points_59 : decode cX0_points 59 = .ok (.iadd, 1) := dk_96 (dk_at dksX0_points_2 13 rfl rfl)
theorem dX0_points_60 : decode cX0_points 60 = .ok (.istore_n 2, 1) := dk_61 (dk_at dksX0_points_2 14 rfl rfl)
theorem dX0_points_61 : decode cX0_points 61 = .ok (.iinc 3 1, 3) := dk_132 3 1 (dk_at dksX0_points_2 15 rfl rfl)
theorem dX0_points_64 : decode cX0_points 64 = .ok (.goto (-50), 3) := dk_167 255 206 (dk_at dksX0_points_2 18 rfl rfl)
theorem dX0_points_67 : decode cX0_points 67 = .ok (.iload_n 2, 1) := dk_28 (dk_at dksX0_points_2 21 rfl rfl)
theorem dX0_points_68 : decode cX0_points 68 = .ok (.ireturn, 1) := dk_172 (dk_at dksX0_points_2 22 rfl rfl)
abbrev cX0_judge : ByteArray := prog_1_method_60_code
def yX0_judge : MethodName := ⟨RX0, "judge", "(II)I"⟩
def dkwX0_judge_3 : List UInt8 := [78, 16, 245, 172]
abbrev dktX0_judge_3 : List UInt8 := dkwX0_judge_3 ++ []
def dkwX0_judge_2 : List UInt8 := [167, 0, 19, 42, 180, 1, 107, 155, 0, 8, 16, 254, 167, 0, 7, 42, 180, 1, 95, 172, 78, 16, 244, 172]
abbrev dktX0_judge_2 : List UInt8 := dkwX0_judge_2 ++ dktX0_judge_3
def dkwX0_judge_1 : List UInt8 := [192, 0, 124, 78, 45, 182, 1, 110, 87, 42, 45, 182, 1, 116, 28, 154, 0, 10, 42, 180, 1, 107]
abbrev dktX0_judge_1 : List UInt8 := dkwX0_judge_1 ++ dktX0_judge_2
def dkwX0_judge_0 : List UInt8 := [27, 184, 0, 120, 153, 0, 12, 28, 3, 4, 184, 0, 98, 154, 0, 5, 2, 172, 42, 180, 0, 91, 27, 50]
abbrev dktX0_judge_0 : List UInt8 := dkwX0_judge_0 ++ dktX0_judge_1
theorem dksX0_judge_0 : cX0_judge.data.toList.drop 0 = dktX0_judge_0 := by decide +kernel
theorem dksX0_judge_1 : cX0_judge.data.toList.drop 24 = dktX0_judge_1 := dk_seg dksX0_judge_0 24 rfl rfl
theorem dksX0_judge_2 : cX0_judge.data.toList.drop 46 = dktX0_judge_2 := dk_seg dksX0_judge_1 22 rfl rfl
theorem dksX0_judge_3 : cX0_judge.data.toList.drop 70 = dktX0_judge_3 := dk_seg dksX0_judge_2 24 rfl rfl
theorem dX0_judge_0 : decode cX0_judge 0 = .ok (.iload_n 1, 1) := dk_27 (dk_at dksX0_judge_0 0 rfl rfl)
theorem dX0_judge_1 : decode cX0_judge 1 = .ok (.invokestatic 120, 3) := dk_184 0 120 (dk_at dksX0_judge_0 1 rfl rfl)
theorem dX0_judge_4 : decode cX0_judge 4 = .ok (.ifCond .eq 12, 3) := dk_153 0 12 (dk_at dksX0_judge_0 4 rfl rfl)
theorem dX0_judge_7 : decode cX0_judge 7 = .ok (.iload_n 2, 1) := dk_28 (dk_at dksX0_judge_0 7 rfl rfl)
theorem dX0_judge_8 : decode cX0_judge 8 = .ok (.iconst 0, 1) := dk_3 (dk_at dksX0_judge_0 8 rfl rfl)
theorem dX0_judge_9 : decode cX0_judge 9 = .ok (.iconst 1, 1) := dk_4 (dk_at dksX0_judge_0 9 rfl rfl)
theorem dX0_judge_10 : decode cX0_judge 10 = .ok (.invokestatic 98, 3) := dk_184 0 98 (dk_at dksX0_judge_0 10 rfl rfl)
theorem dX0_judge_13 : decode cX0_judge 13 = .ok (.ifCond .ne 5, 3) := dk_154 0 5 (dk_at dksX0_judge_0 13 rfl rfl)
theorem dX0_judge_16 : decode cX0_judge 16 = .ok (.iconst (-1), 1) := dk_2 (dk_at dksX0_judge_0 16 rfl rfl)
theorem dX0_judge_17 : decode cX0_judge 17 = .ok (.ireturn, 1) := dk_172 (dk_at dksX0_judge_0 17 rfl rfl)
theorem dX0_judge_18 : decode cX0_judge 18 = .ok (.aload_n 0, 1) := dk_42 (dk_at dksX0_judge_0 18 rfl rfl)
theorem dX0_judge_19 : decode cX0_judge 19 = .ok (.getfield 91, 3) := dk_180 0 91 (dk_at dksX0_judge_0 19 rfl rfl)
theorem dX0_judge_22 : decode cX0_judge 22 = .ok (.iload_n 1, 1) := dk_27 (dk_at dksX0_judge_0 22 rfl rfl)
theorem dX0_judge_23 : decode cX0_judge 23 = .ok (.aaload, 1) := dk_50 (dk_at dksX0_judge_0 23 rfl rfl)
theorem dX0_judge_24 : decode cX0_judge 24 = .ok (.checkcast 124, 3) := dk_192 0 124 (dk_at dksX0_judge_1 0 rfl rfl)
theorem dX0_judge_27 : decode cX0_judge 27 = .ok (.astore_n 3, 1) := dk_78 (dk_at dksX0_judge_1 3 rfl rfl)
theorem dX0_judge_28 : decode cX0_judge 28 = .ok (.aload_n 3, 1) := dk_45 (dk_at dksX0_judge_1 4 rfl rfl)
theorem dX0_judge_29 : decode cX0_judge 29 = .ok (.invokevirtual 366, 3) := dk_182 1 110 (dk_at dksX0_judge_1 5 rfl rfl)
theorem dX0_judge_32 : decode cX0_judge 32 = .ok (.pop, 1) := dk_87 (dk_at dksX0_judge_1 8 rfl rfl)
theorem dX0_judge_33 : decode cX0_judge 33 = .ok (.aload_n 0, 1) := dk_42 (dk_at dksX0_judge_1 9 rfl rfl)
theorem dX0_judge_34 : decode cX0_judge 34 = .ok (.aload_n 3, 1) := dk_45 (dk_at dksX0_judge_1 10 rfl rfl)
theorem dX0_judge_35 : decode cX0_judge 35 = .ok (.invokevirtual 372, 3) := dk_182 1 116 (dk_at dksX0_judge_1 11 rfl rfl)
theorem dX0_judge_38 : decode cX0_judge 38 = .ok (.iload_n 2, 1) := dk_28 (dk_at dksX0_judge_1 14 rfl rfl)
theorem dX0_judge_39 : decode cX0_judge 39 = .ok (.ifCond .ne 10, 3) := dk_154 0 10 (dk_at dksX0_judge_1 15 rfl rfl)
theorem dX0_judge_42 : decode cX0_judge 42 = .ok (.aload_n 0, 1) := dk_42 (dk_at dksX0_judge_1 18 rfl rfl)
theorem dX0_judge_43 : decode cX0_judge 43 = .ok (.getfield 363, 3) := dk_180 1 107 (dk_at dksX0_judge_1 19 rfl rfl)
theorem dX0_judge_46 : decode cX0_judge 46 = .ok (.goto 19, 3) := dk_167 0 19 (dk_at dksX0_judge_2 0 rfl rfl)
theorem dX0_judge_49 : decode cX0_judge 49 = .ok (.aload_n 0, 1) := dk_42 (dk_at dksX0_judge_2 3 rfl rfl)
theorem dX0_judge_50 : decode cX0_judge 50 = .ok (.getfield 363, 3) := dk_180 1 107 (dk_at dksX0_judge_2 4 rfl rfl)
theorem dX0_judge_53 : decode cX0_judge 53 = .ok (.ifCond .lt 8, 3) := dk_155 0 8 (dk_at dksX0_judge_2 7 rfl rfl)
theorem dX0_judge_56 : decode cX0_judge 56 = .ok (.bipush (-2), 2) := dk_16 254 (dk_at dksX0_judge_2 10 rfl rfl)
theorem dX0_judge_58 : decode cX0_judge 58 = .ok (.goto 7, 3) := dk_167 0 7 (dk_at dksX0_judge_2 12 rfl rfl)
theorem dX0_judge_61 : decode cX0_judge 61 = .ok (.aload_n 0, 1) := dk_42 (dk_at dksX0_judge_2 15 rfl rfl)
theorem dX0_judge_62 : decode cX0_judge 62 = .ok (.getfield 351, 3) := dk_180 1 95 (dk_at dksX0_judge_2 16 rfl rfl)
theorem dX0_judge_65 : decode cX0_judge 65 = .ok (.ireturn, 1) := dk_172 (dk_at dksX0_judge_2 19 rfl rfl)
theorem dX0_judge_66 : decode cX0_judge 66 = .ok (.astore_n 3, 1) := dk_78 (dk_at dksX0_judge_2 20 rfl rfl)
theorem dX0_judge_67 : decode cX0_judge 67 = .ok (.bipush (-12), 2) := dk_16 244 (dk_at dksX0_judge_2 21 rfl rfl)
theorem dX0_judge_69 : decode cX0_judge 69 = .ok (.ireturn, 1) := dk_172 (dk_at dksX0_judge_2 23 rfl rfl)
theorem dX0_judge_70 : decode cX0_judge 70 = .ok (.astore_n 3, 1) := dk_78 (dk_at dksX0_judge_3 0 rfl rfl)
theorem dX0_judge_71 : decode cX0_judge 71 = .ok (.bipush (-11), 2) := dk_16 245 (dk_at dksX0_judge_3 1 rfl rfl)
theorem dX0_judge_73 : decode cX0_judge 73 = .ok (.ireturn, 1) := dk_172 (dk_at dksX0_judge_3 3 rfl rfl)
abbrev cX0_goThrough : ByteArray := prog_1_method_59_code
def yX0_goThrough : MethodName := ⟨RX0, "goThrough", "(LThreeSnowballs$ByteRow;)V"⟩
def dkwX0_goThrough_4 : List UInt8 := [182, 1, 113, 154, 0, 8, 42, 28, 181, 1, 107, 132, 2, 1, 167, 255, 194, 177]
abbrev dktX0_goThrough_4 : List UInt8 := dkwX0_goThrough_4 ++ []
def dkwX0_goThrough_3 : List UInt8 := [162, 0, 28, 42, 43, 5, 28, 104, 182, 0, 126, 136, 43, 5, 28, 104, 4, 96, 182, 0, 126, 136]
abbrev dktX0_goThrough_3 : List UInt8 := dkwX0_goThrough_3 ++ dktX0_goThrough_4
def dkwX0_goThrough_2 : List UInt8 := [104, 43, 182, 1, 110, 162, 0, 58, 42, 180, 1, 107, 156, 0, 51, 5, 28, 104, 4, 96, 43, 182, 1, 110]
abbrev dktX0_goThrough_2 : List UInt8 := dkwX0_goThrough_2 ++ dktX0_goThrough_3
def dkwX0_goThrough_1 : List UInt8 := [181, 1, 98, 42, 10, 181, 1, 101, 42, 16, 254, 181, 1, 107, 42, 16, 254, 181, 1, 95, 3, 61, 5, 28]
abbrev dktX0_goThrough_1 : List UInt8 := dkwX0_goThrough_1 ++ dktX0_goThrough_2
def dkwX0_goThrough_0 : List UInt8 := [42, 182, 1, 23, 42, 42, 182, 0, 102, 181, 1, 86, 42, 3, 181, 1, 89, 42, 3, 181, 1, 92, 42, 10]
abbrev dktX0_goThrough_0 : List UInt8 := dkwX0_goThrough_0 ++ dktX0_goThrough_1
theorem dksX0_goThrough_0 : cX0_goThrough.data.toList.drop 0 = dktX0_goThrough_0 := by decide +kernel
theorem dksX0_goThrough_1 : cX0_goThrough.data.toList.drop 24 = dktX0_goThrough_1 := dk_seg dksX0_goThrough_0 24 rfl rfl
theorem dksX0_goThrough_2 : cX0_goThrough.data.toList.drop 48 = dktX0_goThrough_2 := dk_seg dksX0_goThrough_1 24 rfl rfl
theorem dksX0_goThrough_3 : cX0_goThrough.data.toList.drop 72 = dktX0_goThrough_3 := dk_seg dksX0_goThrough_2 24 rfl rfl
theorem dksX0_goThrough_4 : cX0_goThrough.data.toList.drop 94 = dktX0_goThrough_4 := dk_seg dksX0_goThrough_3 22 rfl rfl
theorem dX0_goThrough_0 : decode cX0_goThrough 0 = .ok (.aload_n 0, 1) := dk_42 (dk_at dksX0_goThrough_0 0 rfl rfl)
theorem dX0_goThrough_1 : decode cX0_goThrough 1 = .ok (.invokevirtual 279, 3) := dk_182 1 23 (dk_at dksX0_goThrough_0 1 rfl rfl)
theorem dX0_goThrough_4 : decode cX0_goThrough 4 = .ok (.aload_n 0, 1) := dk_42 (dk_at dksX0_goThrough_0 4 rfl rfl)
theorem dX0_goThrough_5 : decode cX0_goThrough 5 = .ok (.aload_n 0, 1) := dk_42 (dk_at dksX0_goThrough_0 5 rfl rfl)
theorem dX0_goThrough_6 : decode cX0_goThrough 6 = .ok (.invokevirtual 102, 3) := dk_182 0 102 (dk_at dksX0_goThrough_0 6 rfl rfl)
theorem dX0_goThrough_9 : decode cX0_goThrough 9 = .ok (.putfield 342, 3) := dk_181 1 86 (dk_at dksX0_goThrough_0 9 rfl rfl)
theorem dX0_goThrough_12 : decode cX0_goThrough 12 = .ok (.aload_n 0, 1) := dk_42 (dk_at dksX0_goThrough_0 12 rfl rfl)
theorem dX0_goThrough_13 : decode cX0_goThrough 13 = .ok (.iconst 0, 1) := dk_3 (dk_at dksX0_goThrough_0 13 rfl rfl)
theorem dX0_goThrough_14 : decode cX0_goThrough 14 = .ok (.putfield 345, 3) := dk_181 1 89 (dk_at dksX0_goThrough_0 14 rfl rfl)
theorem dX0_goThrough_17 : decode cX0_goThrough 17 = .ok (.aload_n 0, 1) := dk_42 (dk_at dksX0_goThrough_0 17 rfl rfl)
theorem dX0_goThrough_18 : decode cX0_goThrough 18 = .ok (.iconst 0, 1) := dk_3 (dk_at dksX0_goThrough_0 18 rfl rfl)
theorem dX0_goThrough_19 : decode cX0_goThrough 19 = .ok (.putfield 348, 3) := dk_181 1 92 (dk_at dksX0_goThrough_0 19 rfl rfl)
theorem dX0_goThrough_22 : decode cX0_goThrough 22 = .ok (.aload_n 0, 1) := dk_42 (dk_at dksX0_goThrough_0 22 rfl rfl)
theorem dX0_goThrough_23 : decode cX0_goThrough 23 = .ok (.lconst 1, 1) := dk_10 (dk_at dksX0_goThrough_0 23 rfl rfl)
theorem dX0_goThrough_24 : decode cX0_goThrough 24 = .ok (.putfield 354, 3) := dk_181 1 98 (dk_at dksX0_goThrough_1 0 rfl rfl)
theorem dX0_goThrough_27 : decode cX0_goThrough 27 = .ok (.aload_n 0, 1) := dk_42 (dk_at dksX0_goThrough_1 3 rfl rfl)
theorem dX0_goThrough_28 : decode cX0_goThrough 28 = .ok (.lconst 1, 1) := dk_10 (dk_at dksX0_goThrough_1 4 rfl rfl)
theorem dX0_goThrough_29 : decode cX0_goThrough 29 = .ok (.putfield 357, 3) := dk_181 1 101 (dk_at dksX0_goThrough_1 5 rfl rfl)
theorem dX0_goThrough_32 : decode cX0_goThrough 32 = .ok (.aload_n 0, 1) := dk_42 (dk_at dksX0_goThrough_1 8 rfl rfl)
theorem dX0_goThrough_33 : decode cX0_goThrough 33 = .ok (.bipush (-2), 2) := dk_16 254 (dk_at dksX0_goThrough_1 9 rfl rfl)
theorem dX0_goThrough_35 : decode cX0_goThrough 35 = .ok (.putfield 363, 3) := dk_181 1 107 (dk_at dksX0_goThrough_1 11 rfl rfl)
theorem dX0_goThrough_38 : decode cX0_goThrough 38 = .ok (.aload_n 0, 1) := dk_42 (dk_at dksX0_goThrough_1 14 rfl rfl)
theorem dX0_goThrough_39 : decode cX0_goThrough 39 = .ok (.bipush (-2), 2) := dk_16 254 (dk_at dksX0_goThrough_1 15 rfl rfl)
theorem dX0_goThrough_41 : decode cX0_goThrough 41 = .ok (.putfield 351, 3) := dk_181 1 95 (dk_at dksX0_goThrough_1 17 rfl rfl)
theorem dX0_goThrough_44 : decode cX0_goThrough 44 = .ok (.iconst 0, 1) := dk_3 (dk_at dksX0_goThrough_1 20 rfl rfl)
theorem dX0_goThrough_45 : decode cX0_goThrough 45 = .ok (.istore_n 2, 1) := dk_61 (dk_at dksX0_goThrough_1 21 rfl rfl)
theorem dX0_goThrough_46 : decode cX0_goThrough 46 = .ok (.iconst 2, 1) := dk_5 (dk_at dksX0_goThrough_1 22 rfl rfl)
theorem dX0_goThrough_47 : decode cX0_goThrough 47 = .ok (.iload_n 2, 1) := dk_28 (dk_at dksX0_goThrough_1 23 rfl rfl)
theorem dX0_goThrough_48 : decode cX0_goThrough 48 = .ok (.imul, 1) := dk_104 (dk_at dksX0_goThrough_2 0 rfl rfl)
theorem dX0_goThrough_49 : decode cX0_goThrough 49 = .ok (.aload_n 1, 1) := dk_43 (dk_at dksX0_goThrough_2 1 rfl rfl)
theorem dX0_goThrough_50 : decode cX0_goThrough 50 = .ok (.invokevirtual 366, 3) := dk_182 1 110 (dk_at dksX0_goThrough_2 2 rfl rfl)
theorem dX0_goThrough_53 : decode cX0_goThrough 53 = .ok (.if_icmp .ge 58, 3) := dk_162 0 58 (dk_at dksX0_goThrough_2 5 rfl rfl)
theorem dX0_goThrough_56 : decode cX0_goThrough 56 = .ok (.aload_n 0, 1) := dk_42 (dk_at dksX0_goThrough_2 8 rfl rfl)
theorem dX0_goThrough_57 : decode cX0_goThrough 57 = .ok (.getfield 363, 3) := dk_180 1 107 (dk_at dksX0_goThrough_2 9 rfl rfl)
theorem dX0_goThrough_60 : decode cX0_goThrough 60 = .ok (.ifCond .ge 51, 3) := dk_156 0 51 (dk_at dksX0_goThrough_2 12 rfl rfl)
theorem dX0_goThrough_63 : decode cX0_goThrough 63 = .ok (.iconst 2, 1) := dk_5 (dk_at dksX0_goThrough_2 15 rfl rfl)
theorem dX0_goThrough_64 : decode cX0_goThrough 64 = .ok (.iload_n 2, 1) := dk_28 (dk_at dksX0_goThrough_2 16 rfl rfl)
theorem dX0_goThrough_65 : decode cX0_goThrough 65 = .ok (.imul, 1) := dk_104 (dk_at dksX0_goThrough_2 17 rfl rfl)
theorem dX0_goThrough_66 : decode cX0_goThrough 66 = .ok (.iconst 1, 1) := dk_4 (dk_at dksX0_goThrough_2 18 rfl rfl)
theorem dX0_goThrough_67 : decode cX0_goThrough 67 = .ok (.iadd, 1) := dk_96 (dk_at dksX0_goThrough_2 19 rfl rfl)
theorem dX0_goThrough_68 : decode cX0_goThrough 68 = .ok (.aload_n 1, 1) := dk_43 (dk_at dksX0_goThrough_2 20 rfl rfl)
theorem dX0_goThrough_69 : decode cX0_goThrough 69 = .ok (.invokevirtual 366, 3) := dk_182 1 110 (dk_at dksX0_goThrough_2 21 rfl rfl)
theorem dX0_goThrough_72 : decode cX0_goThrough 72 = .ok (.if_icmp .ge 28, 3) := dk_162 0 28 (dk_at dksX0_goThrough_3 0 rfl rfl)
theorem dX0_goThrough_75 : decode cX0_goThrough 75 = .ok (.aload_n 0, 1) := dk_42 (dk_at dksX0_goThrough_3 3 rfl rfl)
theorem dX0_goThrough_76 : decode cX0_goThrough 76 = .ok (.aload_n 1, 1) := dk_43 (dk_at dksX0_goThrough_3 4 rfl rfl)
theorem dX0_goThrough_77 : decode cX0_goThrough 77 = .ok (.iconst 2, 1) := dk_5 (dk_at dksX0_goThrough_3 5 rfl rfl)
theorem dX0_goThrough_78 : decode cX0_goThrough 78 = .ok (.iload_n 2, 1) := dk_28 (dk_at dksX0_goThrough_3 6 rfl rfl)
theorem dX0_goThrough_79 : decode cX0_goThrough 79 = .ok (.imul, 1) := dk_104 (dk_at dksX0_goThrough_3 7 rfl rfl)
theorem dX0_goThrough_80 : decode cX0_goThrough 80 = .ok (.invokevirtual 126, 3) := dk_182 0 126 (dk_at dksX0_goThrough_3 8 rfl rfl)
theorem dX0_goThrough_83 : decode cX0_goThrough 83 = .ok (.l2i, 1) := dk_136 (dk_at dksX0_goThrough_3 11 rfl rfl)
theorem dX0_goThrough_84 : decode cX0_goThrough 84 = .ok (.aload_n 1, 1) := dk_43 (dk_at dksX0_goThrough_3 12 rfl rfl)
theorem dX0_goThrough_85 : decode cX0_goThrough 85 = .ok (.iconst 2, 1) := dk_5 (dk_at dksX0_goThrough_3 13 rfl rfl)
theorem dX0_goThrough_86 : decode cX0_goThrough 86 = .ok (.iload_n 2, 1) := dk_28 (dk_at dksX0_goThrough_3 14 rfl rfl)
theorem dX0_goThrough_87 : decode cX0_goThrough 87 = .ok (.imul, 1) := dk_104 (dk_at dksX0_goThrough_3 15 rfl rfl)
theorem dX0_goThrough_88 : decode cX0_goThrough 88 = .ok (.iconst 1, 1) := dk_4 (dk_at dksX0_goThrough_3 16 rfl rfl)
theorem dX0_goThrough_89 : decode cX0_goThrough 89 = .ok (.iadd, 1) := dk_96 (dk_at dksX0_goThrough_3 17 rfl rfl)
theorem dX0_goThrough_90 : decode cX0_goThrough 90 = .ok (.invokevirtual 126, 3) := dk_182 0 126 (dk_at dksX0_goThrough_3 18 rfl rfl)
theorem dX0_goThrough_93 : decode cX0_goThrough 93 = .ok (.l2i, 1) := dk_136 (dk_at dksX0_goThrough_3 21 rfl rfl)
theorem dX0_goThrough_94 : decode cX0_goThrough 94 = .ok (.invokevirtual 369, 3) := dk_182 1 113 (dk_at dksX0_goThrough_4 0 rfl rfl)
theorem dX0_goThrough_97 : decode cX0_goThrough 97 = .ok (.ifCond .ne 8, 3) := dk_154 0 8 (dk_at dksX0_goThrough_4 3 rfl rfl)
theorem dX0_goThrough_100 : decode cX0_goThrough 100 = .ok (.aload_n 0, 1) := dk_42 (dk_at dksX0_goThrough_4 6 rfl rfl)
theorem dX0_goThrough_101 : decode cX0_goThrough 101 = .ok (.iload_n 2, 1) := dk_28 (dk_at dksX0_goThrough_4 7 rfl rfl)
theorem dX0_goThrough_102 : decode cX0_goThrough 102 = .ok (.putfield 363, 3) := dk_181 1 107 (dk_at dksX0_goThrough_4 8 rfl rfl)
theorem dX0_goThrough_105 : decode cX0_goThrough 105 = .ok (.iinc 2 1, 3) := dk_132 2 1 (dk_at dksX0_goThrough_4 11 rfl rfl)
theorem dX0_goThrough_108 : decode cX0_goThrough 108 = .ok (.goto (-62), 3) := dk_167 255 194 (dk_at dksX0_goThrough_4 14 rfl rfl)
theorem dX0_goThrough_111 : decode cX0_goThrough 111 = .ok (.return_, 1) := dk_177 (dk_at dksX0_goThrough_4 17 rfl rfl)
abbrev cX0_goes : ByteArray := prog_1_method_58_code
def yX0_goes : MethodName := ⟨RX0, "goes", "(II)Z"⟩
def dkwX0_goes_10 : List UInt8 := [182, 1, 104, 4, 172]
abbrev dktX0_goes_10 : List UInt8 := dkwX0_goes_10 ++ []
def dkwX0_goes_9 : List UInt8 := [160, 0, 16, 42, 180, 1, 86, 4, 27, 120, 2, 130, 126, 167, 0, 7, 42, 180, 1, 86, 42, 180, 1, 89]
abbrev dktX0_goes_9 : List UInt8 := dkwX0_goes_9 ++ dktX0_goes_10
def dkwX0_goes_8 : List UInt8 := [21, 4, 100, 133, 105, 181, 1, 98, 42, 89, 180, 1, 101, 20, 0, 50, 105, 181, 1, 101, 42, 28, 4]
abbrev dktX0_goes_8 : List UInt8 := dkwX0_goes_8 ++ dktX0_goes_9
def dkwX0_goes_7 : List UInt8 := [16, 9, 159, 0, 41, 42, 89, 180, 1, 98, 28, 4, 160, 0, 9, 21, 4, 133, 167, 0, 9, 16, 12]
abbrev dktX0_goes_7 : List UInt8 := dkwX0_goes_7 ++ dktX0_goes_8
def dkwX0_goes_6 : List UInt8 := [184, 0, 253, 51, 159, 0, 18, 42, 180, 1, 95, 156, 0, 11, 42, 42, 180, 1, 92, 181, 1, 95, 27]
abbrev dktX0_goes_6 : List UInt8 := dkwX0_goes_6 ++ dktX0_goes_7
def dkwX0_goes_5 : List UInt8 := [160, 0, 5, 3, 172, 27, 42, 180, 0, 47, 42, 180, 1, 86, 42, 180, 1, 89, 42, 180, 1, 92]
abbrev dktX0_goes_5 : List UInt8 := dkwX0_goes_5 ++ dktX0_goes_6
def dkwX0_goes_4 : List UInt8 := [182, 1, 7, 54, 4, 28, 4, 160, 0, 8, 21, 4, 153, 0, 14, 28, 154, 0, 12, 21, 4, 16, 12]
abbrev dktX0_goes_4 : List UInt8 := dkwX0_goes_4 ++ dktX0_goes_5
def dkwX0_goes_3 : List UInt8 := [3, 172, 27, 16, 9, 160, 0, 7, 3, 167, 0, 17, 42, 29, 27, 42, 180, 1, 86, 42, 180, 1, 92]
abbrev dktX0_goes_3 : List UInt8 := dkwX0_goes_3 ++ dktX0_goes_4
def dkwX0_goes_2 : List UInt8 := [4, 100, 184, 0, 98, 153, 0, 19, 27, 29, 159, 0, 14, 42, 180, 1, 86, 27, 184, 0, 139, 154, 0, 5]
abbrev dktX0_goes_2 : List UInt8 := dkwX0_goes_2 ++ dktX0_goes_3
def dkwX0_goes_1 : List UInt8 := [3, 172, 42, 180, 0, 15, 42, 180, 1, 89, 46, 62, 27, 16, 9, 159, 0, 35, 27, 3, 42, 180, 0, 95]
abbrev dktX0_goes_1 : List UInt8 := dkwX0_goes_1 ++ dktX0_goes_2
def dkwX0_goes_0 : List UInt8 := [42, 42, 180, 1, 86, 42, 180, 1, 92, 182, 0, 246, 154, 0, 12, 28, 3, 4, 184, 0, 98, 154, 0, 5]
abbrev dktX0_goes_0 : List UInt8 := dkwX0_goes_0 ++ dktX0_goes_1
theorem dksX0_goes_0 : cX0_goes.data.toList.drop 0 = dktX0_goes_0 := by decide +kernel
theorem dksX0_goes_1 : cX0_goes.data.toList.drop 24 = dktX0_goes_1 := dk_seg dksX0_goes_0 24 rfl rfl
theorem dksX0_goes_2 : cX0_goes.data.toList.drop 48 = dktX0_goes_2 := dk_seg dksX0_goes_1 24 rfl rfl
theorem dksX0_goes_3 : cX0_goes.data.toList.drop 72 = dktX0_goes_3 := dk_seg dksX0_goes_2 24 rfl rfl
theorem dksX0_goes_4 : cX0_goes.data.toList.drop 95 = dktX0_goes_4 := dk_seg dksX0_goes_3 23 rfl rfl
theorem dksX0_goes_5 : cX0_goes.data.toList.drop 118 = dktX0_goes_5 := dk_seg dksX0_goes_4 23 rfl rfl
theorem dksX0_goes_6 : cX0_goes.data.toList.drop 140 = dktX0_goes_6 := dk_seg dksX0_goes_5 22 rfl rfl
theorem dksX0_goes_7 : cX0_goes.data.toList.drop 163 = dktX0_goes_7 := dk_seg dksX0_goes_6 23 rfl rfl
theorem dksX0_goes_8 : cX0_goes.data.toList.drop 186 = dktX0_goes_8 := dk_seg dksX0_goes_7 23 rfl rfl
theorem dksX0_goes_9 : cX0_goes.data.toList.drop 209 = dktX0_goes_9 := dk_seg dksX0_goes_8 23 rfl rfl
theorem dksX0_goes_10 : cX0_goes.data.toList.drop 233 = dktX0_goes_10 := dk_seg dksX0_goes_9 24 rfl rfl
theorem dX0_goes_0 : decode cX0_goes 0 = .ok (.aload_n 0, 1) := dk_42 (dk_at dksX0_goes_0 0 rfl rfl)
theorem dX0_goes_1 : decode cX0_goes 1 = .ok (.aload_n 0, 1) := dk_42 (dk_at dksX0_goes_0 1 rfl rfl)
theorem dX0_goes_2 : decode cX0_goes 2 = .ok (.getfield 342, 3) := dk_180 1 86 (dk_at dksX0_goes_0 2 rfl rfl)
theorem dX0_goes_5 : decode cX0_goes 5 = .ok (.aload_n 0, 1) := dk_42 (dk_at dksX0_goes_0 5 rfl rfl)
theorem dX0_goes_6 : decode cX0_goes 6 = .ok (.getfield 348, 3) := dk_180 1 92 (dk_at dksX0_goes_0 6 rfl rfl)
theorem dX0_goes_9 : decode cX0_goes 9 = .ok (.invokevirtual 246, 3) := dk_182 0 246 (dk_at dksX0_goes_0 9 rfl rfl)
theorem dX0_goes_12 : decode cX0_goes 12 = .ok (.ifCond .ne 12, 3) := dk_154 0 12 (dk_at dksX0_goes_0 12 rfl rfl)
theorem dX0_goes_15 : decode cX0_goes 15 = .ok (.iload_n 2, 1) := dk_28 (dk_at dksX0_goes_0 15 rfl rfl)
theorem dX0_goes_16 : decode cX0_goes 16 = .ok (.iconst 0, 1) := dk_3 (dk_at dksX0_goes_0 16 rfl rfl)
theorem dX0_goes_17 : decode cX0_goes 17 = .ok (.iconst 1, 1) := dk_4 (dk_at dksX0_goes_0 17 rfl rfl)
theorem dX0_goes_18 : decode cX0_goes 18 = .ok (.invokestatic 98, 3) := dk_184 0 98 (dk_at dksX0_goes_0 18 rfl rfl)
theorem dX0_goes_21 : decode cX0_goes 21 = .ok (.ifCond .ne 5, 3) := dk_154 0 5 (dk_at dksX0_goes_0 21 rfl rfl)
theorem dX0_goes_24 : decode cX0_goes 24 = .ok (.iconst 0, 1) := dk_3 (dk_at dksX0_goes_1 0 rfl rfl)
theorem dX0_goes_25 : decode cX0_goes 25 = .ok (.ireturn, 1) := dk_172 (dk_at dksX0_goes_1 1 rfl rfl)
theorem dX0_goes_26 : decode cX0_goes 26 = .ok (.aload_n 0, 1) := dk_42 (dk_at dksX0_goes_1 2 rfl rfl)
theorem dX0_goes_27 : decode cX0_goes 27 = .ok (.getfield 15, 3) := dk_180 0 15 (dk_at dksX0_goes_1 3 rfl rfl)
theorem dX0_goes_30 : decode cX0_goes 30 = .ok (.aload_n 0, 1) := dk_42 (dk_at dksX0_goes_1 6 rfl rfl)
theorem dX0_goes_31 : decode cX0_goes 31 = .ok (.getfield 345, 3) := dk_180 1 89 (dk_at dksX0_goes_1 7 rfl rfl)
theorem dX0_goes_34 : decode cX0_goes 34 = .ok (.iaload, 1) := dk_46 (dk_at dksX0_goes_1 10 rfl rfl)
theorem dX0_goes_35 : decode cX0_goes 35 = .ok (.istore_n 3, 1) := dk_62 (dk_at dksX0_goes_1 11 rfl rfl)
theorem dX0_goes_36 : decode cX0_goes 36 = .ok (.iload_n 1, 1) := dk_27 (dk_at dksX0_goes_1 12 rfl rfl)
theorem dX0_goes_37 : decode cX0_goes 37 = .ok (.bipush 9, 2) := dk_16 9 (dk_at dksX0_goes_1 13 rfl rfl)
theorem dX0_goes_39 : decode cX0_goes 39 = .ok (.if_icmp .eq 35, 3) := dk_159 0 35 (dk_at dksX0_goes_1 15 rfl rfl)
theorem dX0_goes_42 : decode cX0_goes 42 = .ok (.iload_n 1, 1) := dk_27 (dk_at dksX0_goes_1 18 rfl rfl)
theorem dX0_goes_43 : decode cX0_goes 43 = .ok (.iconst 0, 1) := dk_3 (dk_at dksX0_goes_1 19 rfl rfl)
theorem dX0_goes_44 : decode cX0_goes 44 = .ok (.aload_n 0, 1) := dk_42 (dk_at dksX0_goes_1 20 rfl rfl)
theorem dX0_goes_45 : decode cX0_goes 45 = .ok (.getfield 95, 3) := dk_180 0 95 (dk_at dksX0_goes_1 21 rfl rfl)
theorem dX0_goes_48 : decode cX0_goes 48 = .ok (.iconst 1, 1) := dk_4 (dk_at dksX0_goes_2 0 rfl rfl)
theorem dX0_goes_49 : decode cX0_goes 49 = .ok (.isub, 1) := dk_100 (dk_at dksX0_goes_2 1 rfl rfl)
theorem dX0_goes_50 : decode cX0_goes 50 = .ok (.invokestatic 98, 3) := dk_184 0 98 (dk_at dksX0_goes_2 2 rfl rfl)
theorem dX0_goes_53 : decode cX0_goes 53 = .ok (.ifCond .eq 19, 3) := dk_153 0 19 (dk_at dksX0_goes_2 5 rfl rfl)
theorem dX0_goes_56 : decode cX0_goes 56 = .ok (.iload_n 1, 1) := dk_27 (dk_at dksX0_goes_2 8 rfl rfl)
theorem dX0_goes_57 : decode cX0_goes 57 = .ok (.iload_n 3, 1) := dk_29 (dk_at dksX0_goes_2 9 rfl rfl)
theorem dX0_goes_58 : decode cX0_goes 58 = .ok (.if_icmp .eq 14, 3) := dk_159 0 14 (dk_at dksX0_goes_2 10 rfl rfl)
theorem dX0_goes_61 : decode cX0_goes 61 = .ok (.aload_n 0, 1) := dk_42 (dk_at dksX0_goes_2 13 rfl rfl)
theorem dX0_goes_62 : decode cX0_goes 62 = .ok (.getfield 342, 3) := dk_180 1 86 (dk_at dksX0_goes_2 14 rfl rfl)
theorem dX0_goes_65 : decode cX0_goes 65 = .ok (.iload_n 1, 1) := dk_27 (dk_at dksX0_goes_2 17 rfl rfl)
theorem dX0_goes_66 : decode cX0_goes 66 = .ok (.invokestatic 139, 3) := dk_184 0 139 (dk_at dksX0_goes_2 18 rfl rfl)
theorem dX0_goes_69 : decode cX0_goes 69 = .ok (.ifCond .ne 5, 3) := dk_154 0 5 (dk_at dksX0_goes_2 21 rfl rfl)
theorem dX0_goes_72 : decode cX0_goes 72 = .ok (.iconst 0, 1) := dk_3 (dk_at dksX0_goes_3 0 rfl rfl)
theorem dX0_goes_73 : decode cX0_goes 73 = .ok (.ireturn, 1) := dk_172 (dk_at dksX0_goes_3 1 rfl rfl)
theorem dX0_goes_74 : decode cX0_goes 74 = .ok (.iload_n 1, 1) := dk_27 (dk_at dksX0_goes_3 2 rfl rfl)
theorem dX0_goes_75 : decode cX0_goes 75 = .ok (.bipush 9, 2) := dk_16 9 (dk_at dksX0_goes_3 3 rfl rfl)
theorem dX0_goes_77 : decode cX0_goes 77 = .ok (.if_icmp .ne 7, 3) := dk_160 0 7 (dk_at dksX0_goes_3 5 rfl rfl)
theorem dX0_goes_80 : decode cX0_goes 80 = .ok (.iconst 0, 1) := dk_3 (dk_at dksX0_goes_3 8 rfl rfl)
theorem dX0_goes_81 : decode cX0_goes 81 = .ok (.goto 17, 3) := dk_167 0 17 (dk_at dksX0_goes_3 9 rfl rfl)
theorem dX0_goes_84 : decode cX0_goes 84 = .ok (.aload_n 0, 1) := dk_42 (dk_at dksX0_goes_3 12 rfl rfl)
theorem dX0_goes_85 : decode cX0_goes 85 = .ok (.iload_n 3, 1) := dk_29 (dk_at dksX0_goes_3 13 rfl rfl)
theorem dX0_goes_86 : decode cX0_goes 86 = .ok (.iload_n 1, 1) := dk_27 (dk_at dksX0_goes_3 14 rfl rfl)
theorem dX0_goes_87 : decode cX0_goes 87 = .ok (.aload_n 0, 1) := dk_42 (dk_at dksX0_goes_3 15 rfl rfl)
theorem dX0_goes_88 : decode cX0_goes 88 = .ok (.getfield 342, 3) := dk_180 1 86 (dk_at dksX0_goes_3 16 rfl rfl)
theorem dX0_goes_91 : decode cX0_goes 91 = .ok (.aload_n 0, 1) := dk_42 (dk_at dksX0_goes_3 19 rfl rfl)
theorem dX0_goes_92 : decode cX0_goes 92 = .ok (.getfield 348, 3) := dk_180 1 92 (dk_at dksX0_goes_3 20 rfl rfl)
theorem dX0_goes_95 : decode cX0_goes 95 = .ok (.invokevirtual 263, 3) := dk_182 1 7 (dk_at dksX0_goes_4 0 rfl rfl)
theorem dX0_goes_98 : decode cX0_goes 98 = .ok (.istore 4, 2) := dk_54 4 (dk_at dksX0_goes_4 3 rfl rfl)
theorem dX0_goes_100 : decode cX0_goes 100 = .ok (.iload_n 2, 1) := dk_28 (dk_at dksX0_goes_4 5 rfl rfl)
theorem dX0_goes_101 : decode cX0_goes 101 = .ok (.iconst 1, 1) := dk_4 (dk_at dksX0_goes_4 6 rfl rfl)
theorem dX0_goes_102 : decode cX0_goes 102 = .ok (.if_icmp .ne 8, 3) := dk_160 0 8 (dk_at dksX0_goes_4 7 rfl rfl)
theorem dX0_goes_105 : decode cX0_goes 105 = .ok (.iload 4, 2) := dk_21 4 (dk_at dksX0_goes_4 10 rfl rfl)
theorem dX0_goes_107 : decode cX0_goes 107 = .ok (.ifCond .eq 14, 3) := dk_153 0 14 (dk_at dksX0_goes_4 12 rfl rfl)
theorem dX0_goes_110 : decode cX0_goes 110 = .ok (.iload_n 2, 1) := dk_28 (dk_at dksX0_goes_4 15 rfl rfl)
theorem dX0_goes_111 : decode cX0_goes 111 = .ok (.ifCond .ne 12, 3) := dk_154 0 12 (dk_at dksX0_goes_4 16 rfl rfl)
theorem dX0_goes_114 : decode cX0_goes 114 = .ok (.iload 4, 2) := dk_21 4 (dk_at dksX0_goes_4 19 rfl rfl)
theorem dX0_goes_116 : decode cX0_goes 116 = .ok (.bipush 12, 2) := dk_16 12 (dk_at dksX0_goes_4 21 rfl rfl)
theorem dX0_goes_118 : decode cX0_goes 118 = .ok (.if_icmp .ne 5, 3) := dk_160 0 5 (dk_at dksX0_goes_5 0 rfl rfl)
theorem dX0_goes_121 : decode cX0_goes 121 = .ok (.iconst 0, 1) := dk_3 (dk_at dksX0_goes_5 3 rfl rfl)
theorem dX0_goes_122 : decode cX0_goes 122 = .ok (.ireturn, 1) := dk_172 (dk_at dksX0_goes_5 4 rfl rfl)
theorem dX0_goes_123 : decode cX0_goes 123 = .ok (.iload_n 1, 1) := dk_27 (dk_at dksX0_goes_5 5 rfl rfl)
theorem dX0_goes_124 : decode cX0_goes 124 = .ok (.aload_n 0, 1) := dk_42 (dk_at dksX0_goes_5 6 rfl rfl)
theorem dX0_goes_125 : decode cX0_goes 125 = .ok (.getfield 47, 3) := dk_180 0 47 (dk_at dksX0_goes_5 7 rfl rfl)
theorem dX0_goes_128 : decode cX0_goes 128 = .ok (.aload_n 0, 1) := dk_42 (dk_at dksX0_goes_5 10 rfl rfl)
theorem dX0_goes_129 : decode cX0_goes 129 = .ok (.getfield 342, 3) := dk_180 1 86 (dk_at dksX0_goes_5 11 rfl rfl)
theorem dX0_goes_132 : decode cX0_goes 132 = .ok (.aload_n 0, 1) := dk_42 (dk_at dksX0_goes_5 14 rfl rfl)
theorem dX0_goes_133 : decode cX0_goes 133 = .ok (.getfield 345, 3) := dk_180 1 89 (dk_at dksX0_goes_5 15 rfl rfl)
theorem dX0_goes_136 : decode cX0_goes 136 = .ok (.aload_n 0, 1) := dk_42 (dk_at dksX0_goes_5 18 rfl rfl)
theorem dX0_goes_137 : decode cX0_goes 137 = .ok (.getfield 348, 3) := dk_180 1 92 (dk_at dksX0_goes_5 19 rfl rfl)
theorem dX0_goes_140 : decode cX0_goes 140 = .ok (.invokestatic 253, 3) := dk_184 0 253 (dk_at dksX0_goes_6 0 rfl rfl)
theorem dX0_goes_143 : decode cX0_goes 143 = .ok (.baload, 1) := dk_51 (dk_at dksX0_goes_6 3 rfl rfl)
theorem dX0_goes_144 : decode cX0_goes 144 = .ok (.if_icmp .eq 18, 3) := dk_159 0 18 (dk_at dksX0_goes_6 4 rfl rfl)
theorem dX0_goes_147 : decode cX0_goes 147 = .ok (.aload_n 0, 1) := dk_42 (dk_at dksX0_goes_6 7 rfl rfl)
theorem dX0_goes_148 : decode cX0_goes 148 = .ok (.getfield 351, 3) := dk_180 1 95 (dk_at dksX0_goes_6 8 rfl rfl)
theorem dX0_goes_151 : decode cX0_goes 151 = .ok (.ifCond .ge 11, 3) := dk_156 0 11 (dk_at dksX0_goes_6 11 rfl rfl)
theorem dX0_goes_154 : decode cX0_goes 154 = .ok (.aload_n 0, 1) := dk_42 (dk_at dksX0_goes_6 14 rfl rfl)
theorem dX0_goes_155 : decode cX0_goes 155 = .ok (.aload_n 0, 1) := dk_42 (dk_at dksX0_goes_6 15 rfl rfl)
theorem dX0_goes_156 : decode cX0_goes 156 = .ok (.getfield 348, 3) := dk_180 1 92 (dk_at dksX0_goes_6 16 rfl rfl)
theorem dX0_goes_159 : decode cX0_goes 159 = .ok (.putfield 351, 3) := dk_181 1 95 (dk_at dksX0_goes_6 19 rfl rfl)
theorem dX0_goes_162 : decode cX0_goes 162 = .ok (.iload_n 1, 1) := dk_27 (dk_at dksX0_goes_6 22 rfl rfl)
theorem dX0_goes_163 : decode cX0_goes 163 = .ok (.bipush 9, 2) := dk_16 9 (dk_at dksX0_goes_7 0 rfl rfl)
theorem dX0_goes_165 : decode cX0_goes 165 = .ok (.if_icmp .eq 41, 3) := dk_159 0 41 (dk_at dksX0_goes_7 2 rfl rfl)
theorem dX0_goes_168 : decode cX0_goes 168 = .ok (.aload_n 0, 1) := dk_42 (dk_at dksX0_goes_7 5 rfl rfl)
theorem dX0_goes_169 : decode cX0_goes 169 = .ok (.dup, 1) := dk_89 (dk_at dksX0_goes_7 6 rfl rfl)
theorem dX0_goes_170 : decode cX0_goes 170 = .ok (.getfield 354, 3) := dk_180 1 98 (dk_at dksX0_goes_7 7 rfl rfl)
theorem dX0_goes_173 : decode cX0_goes 173 = .ok (.iload_n 2, 1) := dk_28 (dk_at dksX0_goes_7 10 rfl rfl)
theorem dX0_goes_174 : decode cX0_goes 174 = .ok (.iconst 1, 1) := dk_4 (dk_at dksX0_goes_7 11 rfl rfl)
theorem dX0_goes_175 : decode cX0_goes 175 = .ok (.if_icmp .ne 9, 3) := dk_160 0 9 (dk_at dksX0_goes_7 12 rfl rfl)
theorem dX0_goes_178 : decode cX0_goes 178 = .ok (.iload 4, 2) := dk_21 4 (dk_at dksX0_goes_7 15 rfl rfl)
theorem dX0_goes_180 : decode cX0_goes 180 = .ok (.i2l, 1) := dk_133 (dk_at dksX0_goes_7 17 rfl rfl)
theorem dX0_goes_181 : decode cX0_goes 181 = .ok (.goto 9, 3) := dk_167 0 9 (dk_at dksX0_goes_7 18 rfl rfl)
theorem dX0_goes_184 : decode cX0_goes 184 = .ok (.bipush 12, 2) := dk_16 12 (dk_at dksX0_goes_7 21 rfl rfl)
theorem dX0_goes_186 : decode cX0_goes 186 = .ok (.iload 4, 2) := dk_21 4 (dk_at dksX0_goes_8 0 rfl rfl)
theorem dX0_goes_188 : decode cX0_goes 188 = .ok (.isub, 1) := dk_100 (dk_at dksX0_goes_8 2 rfl rfl)
theorem dX0_goes_189 : decode cX0_goes 189 = .ok (.i2l, 1) := dk_133 (dk_at dksX0_goes_8 3 rfl rfl)
theorem dX0_goes_190 : decode cX0_goes 190 = .ok (.lmul, 1) := dk_105 (dk_at dksX0_goes_8 4 rfl rfl)
theorem dX0_goes_191 : decode cX0_goes 191 = .ok (.putfield 354, 3) := dk_181 1 98 (dk_at dksX0_goes_8 5 rfl rfl)
theorem dX0_goes_194 : decode cX0_goes 194 = .ok (.aload_n 0, 1) := dk_42 (dk_at dksX0_goes_8 8 rfl rfl)
theorem dX0_goes_195 : decode cX0_goes 195 = .ok (.dup, 1) := dk_89 (dk_at dksX0_goes_8 9 rfl rfl)
theorem dX0_goes_196 : decode cX0_goes 196 = .ok (.getfield 357, 3) := dk_180 1 101 (dk_at dksX0_goes_8 10 rfl rfl)
theorem dX0_goes_199 : decode cX0_goes 199 = .ok (.ldc2_w 50, 3) := dk_20 0 50 (dk_at dksX0_goes_8 13 rfl rfl)
theorem dX0_goes_202 : decode cX0_goes 202 = .ok (.lmul, 1) := dk_105 (dk_at dksX0_goes_8 16 rfl rfl)
theorem dX0_goes_203 : decode cX0_goes 203 = .ok (.putfield 357, 3) := dk_181 1 101 (dk_at dksX0_goes_8 17 rfl rfl)
theorem dX0_goes_206 : decode cX0_goes 206 = .ok (.aload_n 0, 1) := dk_42 (dk_at dksX0_goes_8 20 rfl rfl)
theorem dX0_goes_207 : decode cX0_goes 207 = .ok (.iload_n 2, 1) := dk_28 (dk_at dksX0_goes_8 21 rfl rfl)
theorem dX0_goes_208 : decode cX0_goes 208 = .ok (.iconst 1, 1) := dk_4 (dk_at dksX0_goes_8 22 rfl rfl)
theorem dX0_goes_209 : decode cX0_goes 209 = .ok (.if_icmp .ne 16, 3) := dk_160 0 16 (dk_at dksX0_goes_9 0 rfl rfl)
theorem dX0_goes_212 : decode cX0_goes 212 = .ok (.aload_n 0, 1) := dk_42 (dk_at dksX0_goes_9 3 rfl rfl)
theorem dX0_goes_213 : decode cX0_goes 213 = .ok (.getfield 342, 3) := dk_180 1 86 (dk_at dksX0_goes_9 4 rfl rfl)
theorem dX0_goes_216 : decode cX0_goes 216 = .ok (.iconst 1, 1) := dk_4 (dk_at dksX0_goes_9 7 rfl rfl)
theorem dX0_goes_217 : decode cX0_goes 217 = .ok (.iload_n 1, 1) := dk_27 (dk_at dksX0_goes_9 8 rfl rfl)
theorem dX0_goes_218 : decode cX0_goes 218 = .ok (.ishl, 1) := dk_120 (dk_at dksX0_goes_9 9 rfl rfl)
theorem dX0_goes_219 : decode cX0_goes 219 = .ok (.iconst (-1), 1) := dk_2 (dk_at dksX0_goes_9 10 rfl rfl)
theorem dX0_goes_220 : decode cX0_goes 220 = .ok (.ixor, 1) := dk_130 (dk_at dksX0_goes_9 11 rfl rfl)
theorem dX0_goes_221 : decode cX0_goes 221 = .ok (.iand, 1) := dk_126 (dk_at dksX0_goes_9 12 rfl rfl)
theorem dX0_goes_222 : decode cX0_goes 222 = .ok (.goto 7, 3) := dk_167 0 7 (dk_at dksX0_goes_9 13 rfl rfl)
theorem dX0_goes_225 : decode cX0_goes 225 = .ok (.aload_n 0, 1) := dk_42 (dk_at dksX0_goes_9 16 rfl rfl)
theorem dX0_goes_226 : decode cX0_goes 226 = .ok (.getfield 342, 3) := dk_180 1 86 (dk_at dksX0_goes_9 17 rfl rfl)
theorem dX0_goes_229 : decode cX0_goes 229 = .ok (.aload_n 0, 1) := dk_42 (dk_at dksX0_goes_9 20 rfl rfl)
theorem dX0_goes_230 : decode cX0_goes 230 = .ok (.getfield 345, 3) := dk_180 1 89 (dk_at dksX0_goes_9 21 rfl rfl)
theorem dX0_goes_233 : decode cX0_goes 233 = .ok (.invokevirtual 360, 3) := dk_182 1 104 (dk_at dksX0_goes_10 0 rfl rfl)
theorem dX0_goes_236 : decode cX0_goes 236 = .ok (.iconst 1, 1) := dk_4 (dk_at dksX0_goes_10 3 rfl rfl)
theorem dX0_goes_237 : decode cX0_goes 237 = .ok (.ireturn, 1) := dk_172 (dk_at dksX0_goes_10 4 rfl rfl)
abbrev cX0_goTo : ByteArray := prog_1_method_57_code
def yX0_goTo : MethodName := ⟨RX0, "goTo", "(II)V"⟩
def dkwX0_goTo_1 : List UInt8 := [181, 1, 89, 42, 89, 180, 1, 92, 4, 96, 181, 1, 92, 177]
abbrev dktX0_goTo_1 : List UInt8 := dkwX0_goTo_1 ++ []
def dkwX0_goTo_0 : List UInt8 := [42, 27, 181, 1, 86, 42, 42, 180, 0, 95, 154, 0, 7, 3, 167, 0, 9, 42, 27, 28, 182, 1, 0]
abbrev dktX0_goTo_0 : List UInt8 := dkwX0_goTo_0 ++ dktX0_goTo_1
theorem dksX0_goTo_0 : cX0_goTo.data.toList.drop 0 = dktX0_goTo_0 := by decide +kernel
theorem dksX0_goTo_1 : cX0_goTo.data.toList.drop 23 = dktX0_goTo_1 := dk_seg dksX0_goTo_0 23 rfl rfl
theorem dX0_goTo_0 : decode cX0_goTo 0 = .ok (.aload_n 0, 1) := dk_42 (dk_at dksX0_goTo_0 0 rfl rfl)
theorem dX0_goTo_1 : decode cX0_goTo 1 = .ok (.iload_n 1, 1) := dk_27 (dk_at dksX0_goTo_0 1 rfl rfl)
theorem dX0_goTo_2 : decode cX0_goTo 2 = .ok (.putfield 342, 3) := dk_181 1 86 (dk_at dksX0_goTo_0 2 rfl rfl)
theorem dX0_goTo_5 : decode cX0_goTo 5 = .ok (.aload_n 0, 1) := dk_42 (dk_at dksX0_goTo_0 5 rfl rfl)
theorem dX0_goTo_6 : decode cX0_goTo 6 = .ok (.aload_n 0, 1) := dk_42 (dk_at dksX0_goTo_0 6 rfl rfl)
theorem dX0_goTo_7 : decode cX0_goTo 7 = .ok (.getfield 95, 3) := dk_180 0 95 (dk_at dksX0_goTo_0 7 rfl rfl)
theorem dX0_goTo_10 : decode cX0_goTo 10 = .ok (.ifCond .ne 7, 3) := dk_154 0 7 (dk_at dksX0_goTo_0 10 rfl rfl)
theorem dX0_goTo_13 : decode cX0_goTo 13 = .ok (.iconst 0, 1) := dk_3 (dk_at dksX0_goTo_0 13 rfl rfl)
theorem dX0_goTo_14 : decode cX0_goTo 14 = .ok (.goto 9, 3) := dk_167 0 9 (dk_at dksX0_goTo_0 14 rfl rfl)
theorem dX0_goTo_17 : decode cX0_goTo 17 = .ok (.aload_n 0, 1) := dk_42 (dk_at dksX0_goTo_0 17 rfl rfl)
theorem dX0_goTo_18 : decode cX0_goTo 18 = .ok (.iload_n 1, 1) := dk_27 (dk_at dksX0_goTo_0 18 rfl rfl)
theorem dX0_goTo_19 : decode cX0_goTo 19 = .ok (.iload_n 2, 1) := dk_28 (dk_at dksX0_goTo_0 19 rfl rfl)
theorem dX0_goTo_20 : decode cX0_goTo 20 = .ok (.invokevirtual 256, 3) := dk_182 1 0 (dk_at dksX0_goTo_0 20 rfl rfl)
theorem dX0_goTo_23 : decode cX0_goTo 23 = .ok (.putfield 345, 3) := dk_181 1 89 (dk_at dksX0_goTo_1 0 rfl rfl)
theorem dX0_goTo_26 : decode cX0_goTo 26 = .ok (.aload_n 0, 1) := dk_42 (dk_at dksX0_goTo_1 3 rfl rfl)
theorem dX0_goTo_27 : decode cX0_goTo 27 = .ok (.dup, 1) := dk_89 (dk_at dksX0_goTo_1 4 rfl rfl)
theorem dX0_goTo_28 : decode cX0_goTo 28 = .ok (.getfield 348, 3) := dk_180 1 92 (dk_at dksX0_goTo_1 5 rfl rfl)
theorem dX0_goTo_31 : decode cX0_goTo 31 = .ok (.iconst 1, 1) := dk_4 (dk_at dksX0_goTo_1 8 rfl rfl)
theorem dX0_goTo_32 : decode cX0_goTo 32 = .ok (.iadd, 1) := dk_96 (dk_at dksX0_goTo_1 9 rfl rfl)
theorem dX0_goTo_33 : decode cX0_goTo 33 = .ok (.putfield 348, 3) := dk_181 1 92 (dk_at dksX0_goTo_1 10 rfl rfl)
theorem dX0_goTo_36 : decode cX0_goTo 36 = .ok (.return_, 1) := dk_177 (dk_at dksX0_goTo_1 13 rfl rfl)
abbrev cX0_chance : ByteArray := prog_1_method_61_code
def yX0_chance : MethodName := ⟨RX0, "chance", "(II)J"⟩
def dkwX0_chance_3 : List UInt8 := [20, 1, 40, 173]
abbrev dktX0_chance_3 : List UInt8 := dkwX0_chance_3 ++ []
def dkwX0_chance_2 : List UInt8 := [133, 167, 0, 15, 42, 180, 1, 98, 42, 180, 1, 101, 28, 184, 1, 52, 173, 78, 20, 1, 40, 173, 78]
abbrev dktX0_chance_2 : List UInt8 := dkwX0_chance_2 ++ dktX0_chance_3
def dkwX0_chance_1 : List UInt8 := [27, 50, 192, 0, 124, 78, 45, 182, 1, 110, 87, 42, 45, 182, 1, 116, 42, 180, 1, 107, 155, 0, 8, 28]
abbrev dktX0_chance_1 : List UInt8 := dkwX0_chance_1 ++ dktX0_chance_2
def dkwX0_chance_0 : List UInt8 := [27, 184, 0, 120, 153, 0, 12, 28, 3, 4, 184, 0, 98, 154, 0, 7, 20, 1, 40, 173, 42, 180, 0, 91]
abbrev dktX0_chance_0 : List UInt8 := dkwX0_chance_0 ++ dktX0_chance_1
theorem dksX0_chance_0 : cX0_chance.data.toList.drop 0 = dktX0_chance_0 := by decide +kernel
theorem dksX0_chance_1 : cX0_chance.data.toList.drop 24 = dktX0_chance_1 := dk_seg dksX0_chance_0 24 rfl rfl
theorem dksX0_chance_2 : cX0_chance.data.toList.drop 48 = dktX0_chance_2 := dk_seg dksX0_chance_1 24 rfl rfl
theorem dksX0_chance_3 : cX0_chance.data.toList.drop 71 = dktX0_chance_3 := dk_seg dksX0_chance_2 23 rfl rfl
theorem dX0_chance_0 : decode cX0_chance 0 = .ok (.iload_n 1, 1) := dk_27 (dk_at dksX0_chance_0 0 rfl rfl)
theorem dX0_chance_1 : decode cX0_chance 1 = .ok (.invokestatic 120, 3) := dk_184 0 120 (dk_at dksX0_chance_0 1 rfl rfl)
theorem dX0_chance_4 : decode cX0_chance 4 = .ok (.ifCond .eq 12, 3) := dk_153 0 12 (dk_at dksX0_chance_0 4 rfl rfl)
theorem dX0_chance_7 : decode cX0_chance 7 = .ok (.iload_n 2, 1) := dk_28 (dk_at dksX0_chance_0 7 rfl rfl)
theorem dX0_chance_8 : decode cX0_chance 8 = .ok (.iconst 0, 1) := dk_3 (dk_at dksX0_chance_0 8 rfl rfl)
theorem dX0_chance_9 : decode cX0_chance 9 = .ok (.iconst 1, 1) := dk_4 (dk_at dksX0_chance_0 9 rfl rfl)
theorem dX0_chance_10 : decode cX0_chance 10 = .ok (.invokestatic 98, 3) := dk_184 0 98 (dk_at dksX0_chance_0 10 rfl rfl)
theorem dX0_chance_13 : decode cX0_chance 13 = .ok (.ifCond .ne 7, 3) := dk_154 0 7 (dk_at dksX0_chance_0 13 rfl rfl)
theorem dX0_chance_16 : decode cX0_chance 16 = .ok (.ldc2_w 296, 3) := dk_20 1 40 (dk_at dksX0_chance_0 16 rfl rfl)
theorem dX0_chance_19 : decode cX0_chance 19 = .ok (.lreturn, 1) := dk_173 (dk_at dksX0_chance_0 19 rfl rfl)
theorem dX0_chance_20 : decode cX0_chance 20 = .ok (.aload_n 0, 1) := dk_42 (dk_at dksX0_chance_0 20 rfl rfl)
theorem dX0_chance_21 : decode cX0_chance 21 = .ok (.getfield 91, 3) := dk_180 0 91 (dk_at dksX0_chance_0 21 rfl rfl)
theorem dX0_chance_24 : decode cX0_chance 24 = .ok (.iload_n 1, 1) := dk_27 (dk_at dksX0_chance_1 0 rfl rfl)
theorem dX0_chance_25 : decode cX0_chance 25 = .ok (.aaload, 1) := dk_50 (dk_at dksX0_chance_1 1 rfl rfl)
theorem dX0_chance_26 : decode cX0_chance 26 = .ok (.checkcast 124, 3) := dk_192 0 124 (dk_at dksX0_chance_1 2 rfl rfl)
theorem dX0_chance_29 : decode cX0_chance 29 = .ok (.astore_n 3, 1) := dk_78 (dk_at dksX0_chance_1 5 rfl rfl)
theorem dX0_chance_30 : decode cX0_chance 30 = .ok (.aload_n 3, 1) := dk_45 (dk_at dksX0_chance_1 6 rfl rfl)
theorem dX0_chance_31 : decode cX0_chance 31 = .ok (.invokevirtual 366, 3) := dk_182 1 110 (dk_at dksX0_chance_1 7 rfl rfl)
theorem dX0_chance_34 : decode cX0_chance 34 = .ok (.pop, 1) := dk_87 (dk_at dksX0_chance_1 10 rfl rfl)
theorem dX0_chance_35 : decode cX0_chance 35 = .ok (.aload_n 0, 1) := dk_42 (dk_at dksX0_chance_1 11 rfl rfl)
theorem dX0_chance_36 : decode cX0_chance 36 = .ok (.aload_n 3, 1) := dk_45 (dk_at dksX0_chance_1 12 rfl rfl)
theorem dX0_chance_37 : decode cX0_chance 37 = .ok (.invokevirtual 372, 3) := dk_182 1 116 (dk_at dksX0_chance_1 13 rfl rfl)
theorem dX0_chance_40 : decode cX0_chance 40 = .ok (.aload_n 0, 1) := dk_42 (dk_at dksX0_chance_1 16 rfl rfl)
theorem dX0_chance_41 : decode cX0_chance 41 = .ok (.getfield 363, 3) := dk_180 1 107 (dk_at dksX0_chance_1 17 rfl rfl)
theorem dX0_chance_44 : decode cX0_chance 44 = .ok (.ifCond .lt 8, 3) := dk_155 0 8 (dk_at dksX0_chance_1 20 rfl rfl)
theorem dX0_chance_47 : decode cX0_chance 47 = .ok (.iload_n 2, 1) := dk_28 (dk_at dksX0_chance_1 23 rfl rfl)
theorem dX0_chance_48 : decode cX0_chance 48 = .ok (.i2l, 1) := dk_133 (dk_at dksX0_chance_2 0 rfl rfl)
theorem dX0_chance_49 : decode cX0_chance 49 = .ok (.goto 15, 3) := dk_167 0 15 (dk_at dksX0_chance_2 1 rfl rfl)
theorem dX0_chance_52 : decode cX0_chance 52 = .ok (.aload_n 0, 1) := dk_42 (dk_at dksX0_chance_2 4 rfl rfl)
theorem dX0_chance_53 : decode cX0_chance 53 = .ok (.getfield 354, 3) := dk_180 1 98 (dk_at dksX0_chance_2 5 rfl rfl)
theorem dX0_chance_56 : decode cX0_chance 56 = .ok (.aload_n 0, 1) := dk_42 (dk_at dksX0_chance_2 8 rfl rfl)
theorem dX0_chance_57 : decode cX0_chance 57 = .ok (.getfield 357, 3) := dk_180 1 101 (dk_at dksX0_chance_2 9 rfl rfl)
theorem dX0_chance_60 : decode cX0_chance 60 = .ok (.iload_n 2, 1) := dk_28 (dk_at dksX0_chance_2 12 rfl rfl)
theorem dX0_chance_61 : decode cX0_chance 61 = .ok (.invokestatic 308, 3) := dk_184 1 52 (dk_at dksX0_chance_2 13 rfl rfl)
theorem dX0_chance_64 : decode cX0_chance 64 = .ok (.lreturn, 1) := dk_173 (dk_at dksX0_chance_2 16 rfl rfl)
theorem dX0_chance_65 : decode cX0_chance 65 = .ok (.astore_n 3, 1) := dk_78 (dk_at dksX0_chance_2 17 rfl rfl)
theorem dX0_chance_66 : decode cX0_chance 66 = .ok (.ldc2_w 296, 3) := dk_20 1 40 (dk_at dksX0_chance_2 18 rfl rfl)
theorem dX0_chance_69 : decode cX0_chance 69 = .ok (.lreturn, 1) := dk_173 (dk_at dksX0_chance_2 21 rfl rfl)
theorem dX0_chance_70 : decode cX0_chance 70 = .ok (.astore_n 3, 1) := dk_78 (dk_at dksX0_chance_2 22 rfl rfl)
theorem dX0_chance_71 : decode cX0_chance 71 = .ok (.ldc2_w 296, 3) := dk_20 1 40 (dk_at dksX0_chance_3 0 rfl rfl)
theorem dX0_chance_74 : decode cX0_chance 74 = .ok (.lreturn, 1) := dk_173 (dk_at dksX0_chance_3 3 rfl rfl)
abbrev cX0_seen : ByteArray := prog_1_method_63_code
def yX0_seen : MethodName := ⟨RX0, "seen", "(II)I"⟩
def dkwX0_seen_3 : List UInt8 := [21, 4, 62, 132, 4, 1, 167, 255, 205, 29, 172]
abbrev dktX0_seen_3 : List UInt8 := dkwX0_seen_3 ++ []
def dkwX0_seen_2 : List UInt8 := [184, 1, 120, 105, 29, 27, 184, 1, 120, 16, 12, 29, 100, 28, 27, 100, 184, 1, 120, 105, 148, 158, 0, 6]
abbrev dktX0_seen_2 : List UInt8 := dkwX0_seen_2 ++ dktX0_seen_3
def dkwX0_seen_1 : List UInt8 := [54, 4, 21, 4, 16, 12, 163, 0, 50, 21, 4, 27, 184, 1, 120, 16, 12, 21, 4, 100, 28, 27, 100]
abbrev dktX0_seen_1 : List UInt8 := dkwX0_seen_1 ++ dktX0_seen_2
def dkwX0_seen_0 : List UInt8 := [28, 3, 16, 12, 184, 0, 98, 153, 0, 12, 27, 3, 28, 184, 0, 98, 154, 0, 5, 2, 172, 3, 62, 4]
abbrev dktX0_seen_0 : List UInt8 := dkwX0_seen_0 ++ dktX0_seen_1
theorem dksX0_seen_0 : cX0_seen.data.toList.drop 0 = dktX0_seen_0 := by decide +kernel
theorem dksX0_seen_1 : cX0_seen.data.toList.drop 24 = dktX0_seen_1 := dk_seg dksX0_seen_0 24 rfl rfl
theorem dksX0_seen_2 : cX0_seen.data.toList.drop 47 = dktX0_seen_2 := dk_seg dksX0_seen_1 23 rfl rfl
theorem dksX0_seen_3 : cX0_seen.data.toList.drop 71 = dktX0_seen_3 := dk_seg dksX0_seen_2 24 rfl rfl
theorem dX0_seen_0 : decode cX0_seen 0 = .ok (.iload_n 2, 1) := dk_28 (dk_at dksX0_seen_0 0 rfl rfl)
theorem dX0_seen_1 : decode cX0_seen 1 = .ok (.iconst 0, 1) := dk_3 (dk_at dksX0_seen_0 1 rfl rfl)
theorem dX0_seen_2 : decode cX0_seen 2 = .ok (.bipush 12, 2) := dk_16 12 (dk_at dksX0_seen_0 2 rfl rfl)
theorem dX0_seen_4 : decode cX0_seen 4 = .ok (.invokestatic 98, 3) := dk_184 0 98 (dk_at dksX0_seen_0 4 rfl rfl)
theorem dX0_seen_7 : decode cX0_seen 7 = .ok (.ifCond .eq 12, 3) := dk_153 0 12 (dk_at dksX0_seen_0 7 rfl rfl)
theorem dX0_seen_10 : decode cX0_seen 10 = .ok (.iload_n 1, 1) := dk_27 (dk_at dksX0_seen_0 10 rfl rfl)
theorem dX0_seen_11 : decode cX0_seen 11 = .ok (.iconst 0, 1) := dk_3 (dk_at dksX0_seen_0 11 rfl rfl)
theorem dX0_seen_12 : decode cX0_seen 12 = .ok (.iload_n 2, 1) := dk_28 (dk_at dksX0_seen_0 12 rfl rfl)
theorem dX0_seen_13 : decode cX0_seen 13 = .ok (.invokestatic 98, 3) := dk_184 0 98 (dk_at dksX0_seen_0 13 rfl rfl)
theorem dX0_seen_16 : decode cX0_seen 16 = .ok (.ifCond .ne 5, 3) := dk_154 0 5 (dk_at dksX0_seen_0 16 rfl rfl)
theorem dX0_seen_19 : decode cX0_seen 19 = .ok (.iconst (-1), 1) := dk_2 (dk_at dksX0_seen_0 19 rfl rfl)
theorem dX0_seen_20 : decode cX0_seen 20 = .ok (.ireturn, 1) := dk_172 (dk_at dksX0_seen_0 20 rfl rfl)
theorem dX0_seen_21 : decode cX0_seen 21 = .ok (.iconst 0, 1) := dk_3 (dk_at dksX0_seen_0 21 rfl rfl)
theorem dX0_seen_22 : decode cX0_seen 22 = .ok (.istore_n 3, 1) := dk_62 (dk_at dksX0_seen_0 22 rfl rfl)
theorem dX0_seen_23 : decode cX0_seen 23 = .ok (.iconst 1, 1) := dk_4 (dk_at dksX0_seen_0 23 rfl rfl)
theorem dX0_seen_24 : decode cX0_seen 24 = .ok (.istore 4, 2) := dk_54 4 (dk_at dksX0_seen_1 0 rfl rfl)
theorem dX0_seen_26 : decode cX0_seen 26 = .ok (.iload 4, 2) := dk_21 4 (dk_at dksX0_seen_1 2 rfl rfl)
theorem dX0_seen_28 : decode cX0_seen 28 = .ok (.bipush 12, 2) := dk_16 12 (dk_at dksX0_seen_1 4 rfl rfl)
theorem dX0_seen_30 : decode cX0_seen 30 = .ok (.if_icmp .gt 50, 3) := dk_163 0 50 (dk_at dksX0_seen_1 6 rfl rfl)
theorem dX0_seen_33 : decode cX0_seen 33 = .ok (.iload 4, 2) := dk_21 4 (dk_at dksX0_seen_1 9 rfl rfl)
theorem dX0_seen_35 : decode cX0_seen 35 = .ok (.iload_n 1, 1) := dk_27 (dk_at dksX0_seen_1 11 rfl rfl)
theorem dX0_seen_36 : decode cX0_seen 36 = .ok (.invokestatic 376, 3) := dk_184 1 120 (dk_at dksX0_seen_1 12 rfl rfl)
theorem dX0_seen_39 : decode cX0_seen 39 = .ok (.bipush 12, 2) := dk_16 12 (dk_at dksX0_seen_1 15 rfl rfl)
theorem dX0_seen_41 : decode cX0_seen 41 = .ok (.iload 4, 2) := dk_21 4 (dk_at dksX0_seen_1 17 rfl rfl)
theorem dX0_seen_43 : decode cX0_seen 43 = .ok (.isub, 1) := dk_100 (dk_at dksX0_seen_1 19 rfl rfl)
theorem dX0_seen_44 : decode cX0_seen 44 = .ok (.iload_n 2, 1) := dk_28 (dk_at dksX0_seen_1 20 rfl rfl)
theorem dX0_seen_45 : decode cX0_seen 45 = .ok (.iload_n 1, 1) := dk_27 (dk_at dksX0_seen_1 21 rfl rfl)
theorem dX0_seen_46 : decode cX0_seen 46 = .ok (.isub, 1) := dk_100 (dk_at dksX0_seen_1 22 rfl rfl)
theorem dX0_seen_47 : decode cX0_seen 47 = .ok (.invokestatic 376, 3) := dk_184 1 120 (dk_at dksX0_seen_2 0 rfl rfl)
theorem dX0_seen_50 : decode cX0_seen 50 = .ok (.lmul, 1) := dk_105 (dk_at dksX0_seen_2 3 rfl rfl)
theorem dX0_seen_51 : decode cX0_seen 51 = .ok (.iload_n 3, 1) := dk_29 (dk_at dksX0_seen_2 4 rfl rfl)
theorem dX0_seen_52 : decode cX0_seen 52 = .ok (.iload_n 1, 1) := dk_27 (dk_at dksX0_seen_2 5 rfl rfl)
theorem dX0_seen_53 : decode cX0_seen 53 = .ok (.invokestatic 376, 3) := dk_184 1 120 (dk_at dksX0_seen_2 6 rfl rfl)
theorem dX0_seen_56 : decode cX0_seen 56 = .ok (.bipush 12, 2) := dk_16 12 (dk_at dksX0_seen_2 9 rfl rfl)
theorem dX0_seen_58 : decode cX0_seen 58 = .ok (.iload_n 3, 1) := dk_29 (dk_at dksX0_seen_2 11 rfl rfl)
theorem dX0_seen_59 : decode cX0_seen 59 = .ok (.isub, 1) := dk_100 (dk_at dksX0_seen_2 12 rfl rfl)
theorem dX0_seen_60 : decode cX0_seen 60 = .ok (.iload_n 2, 1) := dk_28 (dk_at dksX0_seen_2 13 rfl rfl)
theorem dX0_seen_61 : decode cX0_seen 61 = .ok (.iload_n 1, 1) := dk_27 (dk_at dksX0_seen_2 14 rfl rfl)
theorem dX0_seen_62 : decode cX0_seen 62 = .ok (.isub, 1) := dk_100 (dk_at dksX0_seen_2 15 rfl rfl)
theorem dX0_seen_63 : decode cX0_seen 63 = .ok (.invokestatic 376, 3) := dk_184 1 120 (dk_at dksX0_seen_2 16 rfl rfl)
theorem dX0_seen_66 : decode cX0_seen 66 = .ok (.lmul, 1) := dk_105 (dk_at dksX0_seen_2 19 rfl rfl)
theorem dX0_seen_67 : decode cX0_seen 67 = .ok (.lcmp, 1) := dk_148 (dk_at dksX0_seen_2 20 rfl rfl)
theorem dX0_seen_68 : decode cX0_seen 68 = .ok (.ifCond .le 6, 3) := dk_158 0 6 (dk_at dksX0_seen_2 21 rfl rfl)
theorem dX0_seen_71 : decode cX0_seen 71 = .ok (.iload 4, 2) := dk_21 4 (dk_at dksX0_seen_3 0 rfl rfl)
theorem dX0_seen_73 : decode cX0_seen 73 = .ok (.istore_n 3, 1) := dk_62 (dk_at dksX0_seen_3 2 rfl rfl)
theorem dX0_seen_74 : decode cX0_seen 74 = .ok (.iinc 4 1, 3) := dk_132 4 1 (dk_at dksX0_seen_3 3 rfl rfl)
theorem dX0_seen_77 : decode cX0_seen 77 = .ok (.goto (-51), 3) := dk_167 255 205 (dk_at dksX0_seen_3 6 rfl rfl)
theorem dX0_seen_80 : decode cX0_seen 80 = .ok (.iload_n 3, 1) := dk_29 (dk_at dksX0_seen_3 9 rfl rfl)
theorem dX0_seen_81 : decode cX0_seen 81 = .ok (.ireturn, 1) := dk_172 (dk_at dksX0_seen_3 10 rfl rfl)
abbrev cX0_power : ByteArray := prog_1_method_62_code
def yX0_power : MethodName := ⟨RX0, "power", "(II)J"⟩
def dkwX0_power_0 : List UInt8 := [10, 65, 3, 54, 4, 21, 4, 27, 162, 0, 14, 32, 26, 133, 105, 65, 132, 4, 1, 167, 255, 242, 32, 173]
abbrev dktX0_power_0 : List UInt8 := dkwX0_power_0 ++ []
theorem dksX0_power_0 : cX0_power.data.toList.drop 0 = dktX0_power_0 := by decide +kernel
theorem dX0_power_0 : decode cX0_power 0 = .ok (.lconst 1, 1) := dk_10 (dk_at dksX0_power_0 0 rfl rfl)
theorem dX0_power_1 : decode cX0_power 1 = .ok (.lstore_n 2, 1) := dk_65 (dk_at dksX0_power_0 1 rfl rfl)
theorem dX0_power_2 : decode cX0_power 2 = .ok (.iconst 0, 1) := dk_3 (dk_at dksX0_power_0 2 rfl rfl)
theorem dX0_power_3 : decode cX0_power 3 = .ok (.istore 4, 2) := dk_54 4 (dk_at dksX0_power_0 3 rfl rfl)
theorem dX0_power_5 : decode cX0_power 5 = .ok (.iload 4, 2) := dk_21 4 (dk_at dksX0_power_0 5 rfl rfl)
theorem dX0_power_7 : decode cX0_power 7 = .ok (.iload_n 1, 1) := dk_27 (dk_at dksX0_power_0 7 rfl rfl)
theorem dX0_power_8 : decode cX0_power 8 = .ok (.if_icmp .ge 14, 3) := dk_162 0 14 (dk_at dksX0_power_0 8 rfl rfl)
theorem dX0_power_11 : decode cX0_power 11 = .ok (.lload_n 2, 1) := dk_32 (dk_at dksX0_power_0 11 rfl rfl)
theorem dX0_power_12 : decode cX0_power 12 = .ok (.iload_n 0, 1) := dk_26 (dk_at dksX0_power_0 12 rfl rfl)
theorem dX0_power_13 : decode cX0_power 13 = .ok (.i2l, 1) := dk_133 (dk_at dksX0_power_0 13 rfl rfl)
theorem dX0_power_14 : decode cX0_power 14 = .ok (.lmul, 1) := dk_105 (dk_at dksX0_power_0 14 rfl rfl)
theorem dX0_power_15 : decode cX0_power 15 = .ok (.lstore_n 2, 1) := dk_65 (dk_at dksX0_power_0 15 rfl rfl)
theorem dX0_power_16 : decode cX0_power 16 = .ok (.iinc 4 1, 3) := dk_132 4 1 (dk_at dksX0_power_0 16 rfl rfl)
theorem dX0_power_19 : decode cX0_power 19 = .ok (.goto (-14), 3) := dk_167 255 242 (dk_at dksX0_power_0 19 rfl rfl)
theorem dX0_power_22 : decode cX0_power 22 = .ok (.lload_n 2, 1) := dk_32 (dk_at dksX0_power_0 22 rfl rfl)
theorem dX0_power_23 : decode cX0_power 23 = .ok (.lreturn, 1) := dk_173 (dk_at dksX0_power_0 23 rfl rfl)
abbrev cX0_drawn : ByteArray := prog_1_method_64_code
def yX0_drawn : MethodName := ⟨RX0, "drawn", "(III)I"⟩
def dkwX0_drawn_8 : List UInt8 := [132, 6, 1, 167, 255, 98, 21, 5, 172]
abbrev dktX0_drawn_8 : List UInt8 := dkwX0_drawn_8 ++ []
def dkwX0_drawn_7 : List UInt8 := [180, 1, 89, 182, 1, 104, 167, 255, 141, 21, 5, 42, 180, 1, 86, 29, 122, 4, 126, 96, 54, 5]
abbrev dktX0_drawn_7 : List UInt8 := dkwX0_drawn_7 ++ dktX0_drawn_8
def dkwX0_drawn_6 : List UInt8 := [180, 1, 92, 182, 1, 7, 162, 0, 14, 21, 8, 4, 21, 7, 120, 2, 130, 126, 54, 8, 42, 21, 8, 42]
abbrev dktX0_drawn_6 : List UInt8 := dkwX0_drawn_6 ++ dktX0_drawn_7
def dkwX0_drawn_5 : List UInt8 := [21, 4, 16, 8, 124, 16, 12, 112, 42, 42, 180, 0, 15, 42, 180, 1, 89, 46, 21, 7, 21, 8, 42]
abbrev dktX0_drawn_5 : List UInt8 := dkwX0_drawn_5 ++ dktX0_drawn_6
def dkwX0_drawn_4 : List UInt8 := [180, 1, 86, 54, 8, 21, 7, 16, 9, 159, 0, 58, 21, 4, 19, 1, 123, 104, 17, 48, 57, 96, 54, 4]
abbrev dktX0_drawn_4 : List UInt8 := dkwX0_drawn_4 ++ dktX0_drawn_5
def dkwX0_drawn_3 : List UInt8 := [42, 180, 0, 47, 42, 180, 1, 86, 42, 180, 1, 89, 42, 180, 1, 92, 184, 0, 253, 51, 54, 7, 42]
abbrev dktX0_drawn_3 : List UInt8 := dkwX0_drawn_3 ++ dktX0_drawn_4
def dkwX0_drawn_2 : List UInt8 := [3, 181, 1, 89, 42, 3, 181, 1, 92, 42, 42, 180, 1, 86, 42, 180, 1, 92, 182, 0, 246, 154, 0, 106]
abbrev dktX0_drawn_2 : List UInt8 := dkwX0_drawn_2 ++ dktX0_drawn_3
def dkwX0_drawn_1 : List UInt8 := [27, 54, 4, 3, 54, 5, 3, 54, 6, 21, 6, 28, 162, 0, 158, 42, 42, 182, 0, 102, 181, 1, 86, 42]
abbrev dktX0_drawn_1 : List UInt8 := dkwX0_drawn_1 ++ dktX0_drawn_2
def dkwX0_drawn_0 : List UInt8 := [28, 4, 16, 30, 184, 0, 98, 153, 0, 11, 42, 29, 182, 0, 136, 154, 0, 5, 2, 172, 42, 182, 1, 23]
abbrev dktX0_drawn_0 : List UInt8 := dkwX0_drawn_0 ++ dktX0_drawn_1
theorem dksX0_drawn_0 : cX0_drawn.data.toList.drop 0 = dktX0_drawn_0 := by decide +kernel
theorem dksX0_drawn_1 : cX0_drawn.data.toList.drop 24 = dktX0_drawn_1 := dk_seg dksX0_drawn_0 24 rfl rfl
theorem dksX0_drawn_2 : cX0_drawn.data.toList.drop 48 = dktX0_drawn_2 := dk_seg dksX0_drawn_1 24 rfl rfl
theorem dksX0_drawn_3 : cX0_drawn.data.toList.drop 72 = dktX0_drawn_3 := dk_seg dksX0_drawn_2 24 rfl rfl
theorem dksX0_drawn_4 : cX0_drawn.data.toList.drop 95 = dktX0_drawn_4 := dk_seg dksX0_drawn_3 23 rfl rfl
theorem dksX0_drawn_5 : cX0_drawn.data.toList.drop 119 = dktX0_drawn_5 := dk_seg dksX0_drawn_4 24 rfl rfl
theorem dksX0_drawn_6 : cX0_drawn.data.toList.drop 142 = dktX0_drawn_6 := dk_seg dksX0_drawn_5 23 rfl rfl
theorem dksX0_drawn_7 : cX0_drawn.data.toList.drop 166 = dktX0_drawn_7 := dk_seg dksX0_drawn_6 24 rfl rfl
theorem dksX0_drawn_8 : cX0_drawn.data.toList.drop 188 = dktX0_drawn_8 := dk_seg dksX0_drawn_7 22 rfl rfl
theorem dX0_drawn_0 : decode cX0_drawn 0 = .ok (.iload_n 2, 1) := dk_28 (dk_at dksX0_drawn_0 0 rfl rfl)
theorem dX0_drawn_1 : decode cX0_drawn 1 = .ok (.iconst 1, 1) := dk_4 (dk_at dksX0_drawn_0 1 rfl rfl)
theorem dX0_drawn_2 : decode cX0_drawn 2 = .ok (.bipush 30, 2) := dk_16 30 (dk_at dksX0_drawn_0 2 rfl rfl)
theorem dX0_drawn_4 : decode cX0_drawn 4 = .ok (.invokestatic 98, 3) := dk_184 0 98 (dk_at dksX0_drawn_0 4 rfl rfl)
theorem dX0_drawn_7 : decode cX0_drawn 7 = .ok (.ifCond .eq 11, 3) := dk_153 0 11 (dk_at dksX0_drawn_0 7 rfl rfl)
theorem dX0_drawn_10 : decode cX0_drawn 10 = .ok (.aload_n 0, 1) := dk_42 (dk_at dksX0_drawn_0 10 rfl rfl)
theorem dX0_drawn_11 : decode cX0_drawn 11 = .ok (.iload_n 3, 1) := dk_29 (dk_at dksX0_drawn_0 11 rfl rfl)
theorem dX0_drawn_12 : decode cX0_drawn 12 = .ok (.invokevirtual 136, 3) := dk_182 0 136 (dk_at dksX0_drawn_0 12 rfl rfl)
theorem dX0_drawn_15 : decode cX0_drawn 15 = .ok (.ifCond .ne 5, 3) := dk_154 0 5 (dk_at dksX0_drawn_0 15 rfl rfl)
theorem dX0_drawn_18 : decode cX0_drawn 18 = .ok (.iconst (-1), 1) := dk_2 (dk_at dksX0_drawn_0 18 rfl rfl)
theorem dX0_drawn_19 : decode cX0_drawn 19 = .ok (.ireturn, 1) := dk_172 (dk_at dksX0_drawn_0 19 rfl rfl)
theorem dX0_drawn_20 : decode cX0_drawn 20 = .ok (.aload_n 0, 1) := dk_42 (dk_at dksX0_drawn_0 20 rfl rfl)
theorem dX0_drawn_21 : decode cX0_drawn 21 = .ok (.invokevirtual 279, 3) := dk_182 1 23 (dk_at dksX0_drawn_0 21 rfl rfl)
theorem dX0_drawn_24 : decode cX0_drawn 24 = .ok (.iload_n 1, 1) := dk_27 (dk_at dksX0_drawn_1 0 rfl rfl)
theorem dX0_drawn_25 : decode cX0_drawn 25 = .ok (.istore 4, 2) := dk_54 4 (dk_at dksX0_drawn_1 1 rfl rfl)
theorem dX0_drawn_27 : decode cX0_drawn 27 = .ok (.iconst 0, 1) := dk_3 (dk_at dksX0_drawn_1 3 rfl rfl)
theorem dX0_drawn_28 : decode cX0_drawn 28 = .ok (.istore 5, 2) := dk_54 5 (dk_at dksX0_drawn_1 4 rfl rfl)
theorem dX0_drawn_30 : decode cX0_drawn 30 = .ok (.iconst 0, 1) := dk_3 (dk_at dksX0_drawn_1 6 rfl rfl)
theorem dX0_drawn_31 : decode cX0_drawn 31 = .ok (.istore 6, 2) := dk_54 6 (dk_at dksX0_drawn_1 7 rfl rfl)
theorem dX0_drawn_33 : decode cX0_drawn 33 = .ok (.iload 6, 2) := dk_21 6 (dk_at dksX0_drawn_1 9 rfl rfl)
theorem dX0_drawn_35 : decode cX0_drawn 35 = .ok (.iload_n 2, 1) := dk_28 (dk_at dksX0_drawn_1 11 rfl rfl)
theorem dX0_drawn_36 : decode cX0_drawn 36 = .ok (.if_icmp .ge 158, 3) := dk_162 0 158 (dk_at dksX0_drawn_1 12 rfl rfl)
theorem dX0_drawn_39 : decode cX0_drawn 39 = .ok (.aload_n 0, 1) := dk_42 (dk_at dksX0_drawn_1 15 rfl rfl)
theorem dX0_drawn_40 : decode cX0_drawn 40 = .ok (.aload_n 0, 1) := dk_42 (dk_at dksX0_drawn_1 16 rfl rfl)
theorem dX0_drawn_41 : decode cX0_drawn 41 = .ok (.invokevirtual 102, 3) := dk_182 0 102 (dk_at dksX0_drawn_1 17 rfl rfl)
theorem dX0_drawn_44 : decode cX0_drawn 44 = .ok (.putfield 342, 3) := dk_181 1 86 (dk_at dksX0_drawn_1 20 rfl rfl)
theorem dX0_drawn_47 : decode cX0_drawn 47 = .ok (.aload_n 0, 1) := dk_42 (dk_at dksX0_drawn_1 23 rfl rfl)
theorem dX0_drawn_48 : decode cX0_drawn 48 = .ok (.iconst 0, 1) := dk_3 (dk_at dksX0_drawn_2 0 rfl rfl)
theorem dX0_drawn_49 : decode cX0_drawn 49 = .ok (.putfield 345, 3) := dk_181 1 89 (dk_at dksX0_drawn_2 1 rfl rfl)
theorem dX0_drawn_52 : decode cX0_drawn 52 = .ok (.aload_n 0, 1) := dk_42 (dk_at dksX0_drawn_2 4 rfl rfl)
theorem dX0_drawn_53 : decode cX0_drawn 53 = .ok (.iconst 0, 1) := dk_3 (dk_at dksX0_drawn_2 5 rfl rfl)
theorem dX0_drawn_54 : decode cX0_drawn 54 = .ok (.putfield 348, 3) := dk_181 1 92 (dk_at dksX0_drawn_2 6 rfl rfl)
theorem dX0_drawn_57 : decode cX0_drawn 57 = .ok (.aload_n 0, 1) := dk_42 (dk_at dksX0_drawn_2 9 rfl rfl)
theorem dX0_drawn_58 : decode cX0_drawn 58 = .ok (.aload_n 0, 1) := dk_42 (dk_at dksX0_drawn_2 10 rfl rfl)
theorem dX0_drawn_59 : decode cX0_drawn 59 = .ok (.getfield 342, 3) := dk_180 1 86 (dk_at dksX0_drawn_2 11 rfl rfl)
theorem dX0_drawn_62 : decode cX0_drawn 62 = .ok (.aload_n 0, 1) := dk_42 (dk_at dksX0_drawn_2 14 rfl rfl)
theorem dX0_drawn_63 : decode cX0_drawn 63 = .ok (.getfield 348, 3) := dk_180 1 92 (dk_at dksX0_drawn_2 15 rfl rfl)
theorem dX0_drawn_66 : decode cX0_drawn 66 = .ok (.invokevirtual 246, 3) := dk_182 0 246 (dk_at dksX0_drawn_2 18 rfl rfl)
theorem dX0_drawn_69 : decode cX0_drawn 69 = .ok (.ifCond .ne 106, 3) := dk_154 0 106 (dk_at dksX0_drawn_2 21 rfl rfl)
theorem dX0_drawn_72 : decode cX0_drawn 72 = .ok (.aload_n 0, 1) := dk_42 (dk_at dksX0_drawn_3 0 rfl rfl)
theorem dX0_drawn_73 : decode cX0_drawn 73 = .ok (.getfield 47, 3) := dk_180 0 47 (dk_at dksX0_drawn_3 1 rfl rfl)
theorem dX0_drawn_76 : decode cX0_drawn 76 = .ok (.aload_n 0, 1) := dk_42 (dk_at dksX0_drawn_3 4 rfl rfl)
theorem dX0_drawn_77 : decode cX0_drawn 77 = .ok (.getfield 342, 3) := dk_180 1 86 (dk_at dksX0_drawn_3 5 rfl rfl)
theorem dX0_drawn_80 : decode cX0_drawn 80 = .ok (.aload_n 0, 1) := dk_42 (dk_at dksX0_drawn_3 8 rfl rfl)
theorem dX0_drawn_81 : decode cX0_drawn 81 = .ok (.getfield 345, 3) := dk_180 1 89 (dk_at dksX0_drawn_3 9 rfl rfl)
theorem dX0_drawn_84 : decode cX0_drawn 84 = .ok (.aload_n 0, 1) := dk_42 (dk_at dksX0_drawn_3 12 rfl rfl)
theorem dX0_drawn_85 : decode cX0_drawn 85 = .ok (.getfield 348, 3) := dk_180 1 92 (dk_at dksX0_drawn_3 13 rfl rfl)
theorem dX0_drawn_88 : decode cX0_drawn 88 = .ok (.invokestatic 253, 3) := dk_184 0 253 (dk_at dksX0_drawn_3 16 rfl rfl)
theorem dX0_drawn_91 : decode cX0_drawn 91 = .ok (.baload, 1) := dk_51 (dk_at dksX0_drawn_3 19 rfl rfl)
theorem dX0_drawn_92 : decode cX0_drawn 92 = .ok (.istore 7, 2) := dk_54 7 (dk_at dksX0_drawn_3 20 rfl rfl)
theorem dX0_drawn_94 : decode cX0_drawn 94 = .ok (.aload_n 0, 1) := dk_42 (dk_at dksX0_drawn_3 22 rfl rfl)
theorem dX0_drawn_95 : decode cX0_drawn 95 = .ok (.getfield 342, 3) := dk_180 1 86 (dk_at dksX0_drawn_4 0 rfl rfl)
theorem dX0_drawn_98 : decode cX0_drawn 98 = .ok (.istore 8, 2) := dk_54 8 (dk_at dksX0_drawn_4 3 rfl rfl)
theorem dX0_drawn_100 : decode cX0_drawn 100 = .ok (.iload 7, 2) := dk_21 7 (dk_at dksX0_drawn_4 5 rfl rfl)
theorem dX0_drawn_102 : decode cX0_drawn 102 = .ok (.bipush 9, 2) := dk_16 9 (dk_at dksX0_drawn_4 7 rfl rfl)
theorem dX0_drawn_104 : decode cX0_drawn 104 = .ok (.if_icmp .eq 58, 3) := dk_159 0 58 (dk_at dksX0_drawn_4 9 rfl rfl)
theorem dX0_drawn_107 : decode cX0_drawn 107 = .ok (.iload 4, 2) := dk_21 4 (dk_at dksX0_drawn_4 12 rfl rfl)
theorem dX0_drawn_109 : decode cX0_drawn 109 = .ok (.ldc_w 379, 3) := dk_19 1 123 (dk_at dksX0_drawn_4 14 rfl rfl)
theorem dX0_drawn_112 : decode cX0_drawn 112 = .ok (.imul, 1) := dk_104 (dk_at dksX0_drawn_4 17 rfl rfl)
theorem dX0_drawn_113 : decode cX0_drawn 113 = .ok (.sipush 12345, 3) := dk_17 48 57 (dk_at dksX0_drawn_4 18 rfl rfl)
theorem dX0_drawn_116 : decode cX0_drawn 116 = .ok (.iadd, 1) := dk_96 (dk_at dksX0_drawn_4 21 rfl rfl)
theorem dX0_drawn_117 : decode cX0_drawn 117 = .ok (.istore 4, 2) := dk_54 4 (dk_at dksX0_drawn_4 22 rfl rfl)
theorem dX0_drawn_119 : decode cX0_drawn 119 = .ok (.iload 4, 2) := dk_21 4 (dk_at dksX0_drawn_5 0 rfl rfl)
theorem dX0_drawn_121 : decode cX0_drawn 121 = .ok (.bipush 8, 2) := dk_16 8 (dk_at dksX0_drawn_5 2 rfl rfl)
theorem dX0_drawn_123 : decode cX0_drawn 123 = .ok (.iushr, 1) := dk_124 (dk_at dksX0_drawn_5 4 rfl rfl)
theorem dX0_drawn_124 : decode cX0_drawn 124 = .ok (.bipush 12, 2) := dk_16 12 (dk_at dksX0_drawn_5 5 rfl rfl)
theorem dX0_drawn_126 : decode cX0_drawn 126 = .ok (.irem, 1) := dk_112 (dk_at dksX0_drawn_5 7 rfl rfl)
theorem dX0_drawn_127 : decode cX0_drawn 127 = .ok (.aload_n 0, 1) := dk_42 (dk_at dksX0_drawn_5 8 rfl rfl)
theorem dX0_drawn_128 : decode cX0_drawn 128 = .ok (.aload_n 0, 1) := dk_42 (dk_at dksX0_drawn_5 9 rfl rfl)
theorem dX0_drawn_129 : decode cX0_drawn 129 = .ok (.getfield 15, 3) := dk_180 0 15 (dk_at dksX0_drawn_5 10 rfl rfl)
theorem dX0_drawn_132 : decode cX0_drawn 132 = .ok (.aload_n 0, 1) := dk_42 (dk_at dksX0_drawn_5 13 rfl rfl)
theorem dX0_drawn_133 : decode cX0_drawn 133 = .ok (.getfield 345, 3) := dk_180 1 89 (dk_at dksX0_drawn_5 14 rfl rfl)
theorem dX0_drawn_136 : decode cX0_drawn 136 = .ok (.iaload, 1) := dk_46 (dk_at dksX0_drawn_5 17 rfl rfl)
theorem dX0_drawn_137 : decode cX0_drawn 137 = .ok (.iload 7, 2) := dk_21 7 (dk_at dksX0_drawn_5 18 rfl rfl)
theorem dX0_drawn_139 : decode cX0_drawn 139 = .ok (.iload 8, 2) := dk_21 8 (dk_at dksX0_drawn_5 20 rfl rfl)
theorem dX0_drawn_141 : decode cX0_drawn 141 = .ok (.aload_n 0, 1) := dk_42 (dk_at dksX0_drawn_5 22 rfl rfl)
theorem dX0_drawn_142 : decode cX0_drawn 142 = .ok (.getfield 348, 3) := dk_180 1 92 (dk_at dksX0_drawn_6 0 rfl rfl)
theorem dX0_drawn_145 : decode cX0_drawn 145 = .ok (.invokevirtual 263, 3) := dk_182 1 7 (dk_at dksX0_drawn_6 3 rfl rfl)
theorem dX0_drawn_148 : decode cX0_drawn 148 = .ok (.if_icmp .ge 14, 3) := dk_162 0 14 (dk_at dksX0_drawn_6 6 rfl rfl)
theorem dX0_drawn_151 : decode cX0_drawn 151 = .ok (.iload 8, 2) := dk_21 8 (dk_at dksX0_drawn_6 9 rfl rfl)
theorem dX0_drawn_153 : decode cX0_drawn 153 = .ok (.iconst 1, 1) := dk_4 (dk_at dksX0_drawn_6 11 rfl rfl)
theorem dX0_drawn_154 : decode cX0_drawn 154 = .ok (.iload 7, 2) := dk_21 7 (dk_at dksX0_drawn_6 12 rfl rfl)
theorem dX0_drawn_156 : decode cX0_drawn 156 = .ok (.ishl, 1) := dk_120 (dk_at dksX0_drawn_6 14 rfl rfl)
theorem dX0_drawn_157 : decode cX0_drawn 157 = .ok (.iconst (-1), 1) := dk_2 (dk_at dksX0_drawn_6 15 rfl rfl)
theorem dX0_drawn_158 : decode cX0_drawn 158 = .ok (.ixor, 1) := dk_130 (dk_at dksX0_drawn_6 16 rfl rfl)
theorem dX0_drawn_159 : decode cX0_drawn 159 = .ok (.iand, 1) := dk_126 (dk_at dksX0_drawn_6 17 rfl rfl)
theorem dX0_drawn_160 : decode cX0_drawn 160 = .ok (.istore 8, 2) := dk_54 8 (dk_at dksX0_drawn_6 18 rfl rfl)
theorem dX0_drawn_162 : decode cX0_drawn 162 = .ok (.aload_n 0, 1) := dk_42 (dk_at dksX0_drawn_6 20 rfl rfl)
theorem dX0_drawn_163 : decode cX0_drawn 163 = .ok (.iload 8, 2) := dk_21 8 (dk_at dksX0_drawn_6 21 rfl rfl)
theorem dX0_drawn_165 : decode cX0_drawn 165 = .ok (.aload_n 0, 1) := dk_42 (dk_at dksX0_drawn_6 23 rfl rfl)
theorem dX0_drawn_166 : decode cX0_drawn 166 = .ok (.getfield 345, 3) := dk_180 1 89 (dk_at dksX0_drawn_7 0 rfl rfl)
theorem dX0_drawn_169 : decode cX0_drawn 169 = .ok (.invokevirtual 360, 3) := dk_182 1 104 (dk_at dksX0_drawn_7 3 rfl rfl)
theorem dX0_drawn_172 : decode cX0_drawn 172 = .ok (.goto (-115), 3) := dk_167 255 141 (dk_at dksX0_drawn_7 6 rfl rfl)
theorem dX0_drawn_175 : decode cX0_drawn 175 = .ok (.iload 5, 2) := dk_21 5 (dk_at dksX0_drawn_7 9 rfl rfl)
theorem dX0_drawn_177 : decode cX0_drawn 177 = .ok (.aload_n 0, 1) := dk_42 (dk_at dksX0_drawn_7 11 rfl rfl)
theorem dX0_drawn_178 : decode cX0_drawn 178 = .ok (.getfield 342, 3) := dk_180 1 86 (dk_at dksX0_drawn_7 12 rfl rfl)
theorem dX0_drawn_181 : decode cX0_drawn 181 = .ok (.iload_n 3, 1) := dk_29 (dk_at dksX0_drawn_7 15 rfl rfl)
theorem dX0_drawn_182 : decode cX0_drawn 182 = .ok (.ishr, 1) := dk_122 (dk_at dksX0_drawn_7 16 rfl rfl)
theorem dX0_drawn_183 : decode cX0_drawn 183 = .ok (.iconst 1, 1) := dk_4 (dk_at dksX0_drawn_7 17 rfl rfl)
theorem dX0_drawn_184 : decode cX0_drawn 184 = .ok (.iand, 1) := dk_126 (dk_at dksX0_drawn_7 18 rfl rfl)
theorem dX0_drawn_185 : decode cX0_drawn 185 = .ok (.iadd, 1) := dk_96 (dk_at dksX0_drawn_7 19 rfl rfl)
theorem dX0_drawn_186 : decode cX0_drawn 186 = .ok (.istore 5, 2) := dk_54 5 (dk_at dksX0_drawn_7 20 rfl rfl)
theorem dX0_drawn_188 : decode cX0_drawn 188 = .ok (.iinc 6 1, 3) := dk_132 6 1 (dk_at dksX0_drawn_8 0 rfl rfl)
theorem dX0_drawn_191 : decode cX0_drawn 191 = .ok (.goto (-158), 3) := dk_167 255 98 (dk_at dksX0_drawn_8 3 rfl rfl)
theorem dX0_drawn_194 : decode cX0_drawn 194 = .ok (.iload 5, 2) := dk_21 5 (dk_at dksX0_drawn_8 6 rfl rfl)
theorem dX0_drawn_196 : decode cX0_drawn 196 = .ok (.ireturn, 1) := dk_172 (dk_at dksX0_drawn_8 8 rfl rfl)
abbrev cX0_anew : ByteArray := prog_1_method_66_code
def yX0_anew : MethodName := ⟨RX0, "anew", "()I"⟩
def dkwX0_anew_1 : List UInt8 := [172]
abbrev dktX0_anew_1 : List UInt8 := dkwX0_anew_1 ++ []
def dkwX0_anew_0 : List UInt8 := [42, 180, 1, 131, 60, 42, 42, 182, 0, 102, 181, 0, 155, 42, 3, 181, 1, 128, 42, 3, 181, 1, 131, 27]
abbrev dktX0_anew_0 : List UInt8 := dkwX0_anew_0 ++ dktX0_anew_1
theorem dksX0_anew_0 : cX0_anew.data.toList.drop 0 = dktX0_anew_0 := by decide +kernel
theorem dksX0_anew_1 : cX0_anew.data.toList.drop 24 = dktX0_anew_1 := dk_seg dksX0_anew_0 24 rfl rfl
theorem dX0_anew_0 : decode cX0_anew 0 = .ok (.aload_n 0, 1) := dk_42 (dk_at dksX0_anew_0 0 rfl rfl)
theorem dX0_anew_1 : decode cX0_anew 1 = .ok (.getfield 387, 3) := dk_180 1 131 (dk_at dksX0_anew_0 1 rfl rfl)
theorem dX0_anew_4 : decode cX0_anew 4 = .ok (.istore_n 1, 1) := dk_60 (dk_at dksX0_anew_0 4 rfl rfl)
theorem dX0_anew_5 : decode cX0_anew 5 = .ok (.aload_n 0, 1) := dk_42 (dk_at dksX0_anew_0 5 rfl rfl)
theorem dX0_anew_6 : decode cX0_anew 6 = .ok (.aload_n 0, 1) := dk_42 (dk_at dksX0_anew_0 6 rfl rfl)
theorem dX0_anew_7 : decode cX0_anew 7 = .ok (.invokevirtual 102, 3) := dk_182 0 102 (dk_at dksX0_anew_0 7 rfl rfl)
theorem dX0_anew_10 : decode cX0_anew 10 = .ok (.putfield 155, 3) := dk_181 0 155 (dk_at dksX0_anew_0 10 rfl rfl)
theorem dX0_anew_13 : decode cX0_anew 13 = .ok (.aload_n 0, 1) := dk_42 (dk_at dksX0_anew_0 13 rfl rfl)
theorem dX0_anew_14 : decode cX0_anew 14 = .ok (.iconst 0, 1) := dk_3 (dk_at dksX0_anew_0 14 rfl rfl)
theorem dX0_anew_15 : decode cX0_anew 15 = .ok (.putfield 384, 3) := dk_181 1 128 (dk_at dksX0_anew_0 15 rfl rfl)
theorem dX0_anew_18 : decode cX0_anew 18 = .ok (.aload_n 0, 1) := dk_42 (dk_at dksX0_anew_0 18 rfl rfl)
theorem dX0_anew_19 : decode cX0_anew 19 = .ok (.iconst 0, 1) := dk_3 (dk_at dksX0_anew_0 19 rfl rfl)
theorem dX0_anew_20 : decode cX0_anew 20 = .ok (.putfield 387, 3) := dk_181 1 131 (dk_at dksX0_anew_0 20 rfl rfl)
theorem dX0_anew_23 : decode cX0_anew 23 = .ok (.iload_n 1, 1) := dk_27 (dk_at dksX0_anew_0 23 rfl rfl)
theorem dX0_anew_24 : decode cX0_anew 24 = .ok (.ireturn, 1) := dk_172 (dk_at dksX0_anew_1 0 rfl rfl)
abbrev cX0_step : ByteArray := prog_1_method_67_code
def yX0_step : MethodName := ⟨RX0, "step", "(I)I"⟩
def dkwX0_step_6 : List UInt8 := [16, 100, 28, 104, 16, 10, 29, 104, 96, 21, 4, 96, 172]
abbrev dktX0_step_6 : List UInt8 := dkwX0_step_6 ++ []
def dkwX0_step_5 : List UInt8 := [180, 0, 155, 42, 180, 1, 128, 182, 1, 0, 181, 1, 128, 42, 89, 180, 1, 131, 4, 96, 181, 1, 131]
abbrev dktX0_step_5 : List UInt8 := dkwX0_step_5 ++ dktX0_step_6
def dkwX0_step_4 : List UInt8 := [21, 4, 4, 160, 0, 17, 42, 89, 180, 0, 155, 4, 29, 120, 2, 130, 126, 181, 0, 155, 42, 42, 42]
abbrev dktX0_step_4 : List UInt8 := dkwX0_step_4 ++ dktX0_step_5
def dkwX0_step_3 : List UInt8 := [42, 28, 29, 42, 180, 0, 155, 42, 180, 1, 131, 182, 1, 7, 162, 0, 7, 4, 167, 0, 4, 3, 54, 4]
abbrev dktX0_step_3 : List UInt8 := dkwX0_step_3 ++ dktX0_step_4
def dkwX0_step_2 : List UInt8 := [42, 180, 0, 155, 42, 180, 1, 128, 42, 180, 1, 131, 184, 0, 253, 51, 62, 29, 16, 9, 159, 0, 25, 27]
abbrev dktX0_step_2 : List UInt8 := dkwX0_step_2 ++ dktX0_step_3
def dkwX0_step_1 : List UInt8 := [153, 0, 6, 16, 251, 172, 42, 182, 1, 23, 42, 180, 0, 15, 42, 180, 1, 128, 46, 61, 42, 180, 0, 47]
abbrev dktX0_step_1 : List UInt8 := dkwX0_step_1 ++ dktX0_step_2
def dkwX0_step_0 : List UInt8 := [27, 3, 16, 11, 184, 0, 98, 154, 0, 5, 2, 172, 42, 42, 180, 0, 155, 42, 180, 1, 131, 182, 0, 246]
abbrev dktX0_step_0 : List UInt8 := dkwX0_step_0 ++ dktX0_step_1
theorem dksX0_step_0 : cX0_step.data.toList.drop 0 = dktX0_step_0 := by decide +kernel
theorem dksX0_step_1 : cX0_step.data.toList.drop 24 = dktX0_step_1 := dk_seg dksX0_step_0 24 rfl rfl
theorem dksX0_step_2 : cX0_step.data.toList.drop 48 = dktX0_step_2 := dk_seg dksX0_step_1 24 rfl rfl
theorem dksX0_step_3 : cX0_step.data.toList.drop 72 = dktX0_step_3 := dk_seg dksX0_step_2 24 rfl rfl
theorem dksX0_step_4 : cX0_step.data.toList.drop 96 = dktX0_step_4 := dk_seg dksX0_step_3 24 rfl rfl
theorem dksX0_step_5 : cX0_step.data.toList.drop 119 = dktX0_step_5 := dk_seg dksX0_step_4 23 rfl rfl
theorem dksX0_step_6 : cX0_step.data.toList.drop 142 = dktX0_step_6 := dk_seg dksX0_step_5 23 rfl rfl
theorem dX0_step_0 : decode cX0_step 0 = .ok (.iload_n 1, 1) := dk_27 (dk_at dksX0_step_0 0 rfl rfl)
theorem dX0_step_1 : decode cX0_step 1 = .ok (.iconst 0, 1) := dk_3 (dk_at dksX0_step_0 1 rfl rfl)
theorem dX0_step_2 : decode cX0_step 2 = .ok (.bipush 11, 2) := dk_16 11 (dk_at dksX0_step_0 2 rfl rfl)
theorem dX0_step_4 : decode cX0_step 4 = .ok (.invokestatic 98, 3) := dk_184 0 98 (dk_at dksX0_step_0 4 rfl rfl)
theorem dX0_step_7 : decode cX0_step 7 = .ok (.ifCond .ne 5, 3) := dk_154 0 5 (dk_at dksX0_step_0 7 rfl rfl)
theorem dX0_step_10 : decode cX0_step 10 = .ok (.iconst (-1), 1) := dk_2 (dk_at dksX0_step_0 10 rfl rfl)
theorem dX0_step_11 : decode cX0_step 11 = .ok (.ireturn, 1) := dk_172 (dk_at dksX0_step_0 11 rfl rfl)
theorem dX0_step_12 : decode cX0_step 12 = .ok (.aload_n 0, 1) := dk_42 (dk_at dksX0_step_0 12 rfl rfl)
theorem dX0_step_13 : decode cX0_step 13 = .ok (.aload_n 0, 1) := dk_42 (dk_at dksX0_step_0 13 rfl rfl)
theorem dX0_step_14 : decode cX0_step 14 = .ok (.getfield 155, 3) := dk_180 0 155 (dk_at dksX0_step_0 14 rfl rfl)
theorem dX0_step_17 : decode cX0_step 17 = .ok (.aload_n 0, 1) := dk_42 (dk_at dksX0_step_0 17 rfl rfl)
theorem dX0_step_18 : decode cX0_step 18 = .ok (.getfield 387, 3) := dk_180 1 131 (dk_at dksX0_step_0 18 rfl rfl)
theorem dX0_step_21 : decode cX0_step 21 = .ok (.invokevirtual 246, 3) := dk_182 0 246 (dk_at dksX0_step_0 21 rfl rfl)
theorem dX0_step_24 : decode cX0_step 24 = .ok (.ifCond .eq 6, 3) := dk_153 0 6 (dk_at dksX0_step_1 0 rfl rfl)
theorem dX0_step_27 : decode cX0_step 27 = .ok (.bipush (-5), 2) := dk_16 251 (dk_at dksX0_step_1 3 rfl rfl)
theorem dX0_step_29 : decode cX0_step 29 = .ok (.ireturn, 1) := dk_172 (dk_at dksX0_step_1 5 rfl rfl)
theorem dX0_step_30 : decode cX0_step 30 = .ok (.aload_n 0, 1) := dk_42 (dk_at dksX0_step_1 6 rfl rfl)
theorem dX0_step_31 : decode cX0_step 31 = .ok (.invokevirtual 279, 3) := dk_182 1 23 (dk_at dksX0_step_1 7 rfl rfl)
theorem dX0_step_34 : decode cX0_step 34 = .ok (.aload_n 0, 1) := dk_42 (dk_at dksX0_step_1 10 rfl rfl)
theorem dX0_step_35 : decode cX0_step 35 = .ok (.getfield 15, 3) := dk_180 0 15 (dk_at dksX0_step_1 11 rfl rfl)
theorem dX0_step_38 : decode cX0_step 38 = .ok (.aload_n 0, 1) := dk_42 (dk_at dksX0_step_1 14 rfl rfl)
theorem dX0_step_39 : decode cX0_step 39 = .ok (.getfield 384, 3) := dk_180 1 128 (dk_at dksX0_step_1 15 rfl rfl)
theorem dX0_step_42 : decode cX0_step 42 = .ok (.iaload, 1) := dk_46 (dk_at dksX0_step_1 18 rfl rfl)
theorem dX0_step_43 : decode cX0_step 43 = .ok (.istore_n 2, 1) := dk_61 (dk_at dksX0_step_1 19 rfl rfl)
theorem dX0_step_44 : decode cX0_step 44 = .ok (.aload_n 0, 1) := dk_42 (dk_at dksX0_step_1 20 rfl rfl)
theorem dX0_step_45 : decode cX0_step 45 = .ok (.getfield 47, 3) := dk_180 0 47 (dk_at dksX0_step_1 21 rfl rfl)
theorem dX0_step_48 : decode cX0_step 48 = .ok (.aload_n 0, 1) := dk_42 (dk_at dksX0_step_2 0 rfl rfl)
theorem dX0_step_49 : decode cX0_step 49 = .ok (.getfield 155, 3) := dk_180 0 155 (dk_at dksX0_step_2 1 rfl rfl)
theorem dX0_step_52 : decode cX0_step 52 = .ok (.aload_n 0, 1) := dk_42 (dk_at dksX0_step_2 4 rfl rfl)
theorem dX0_step_53 : decode cX0_step 53 = .ok (.getfield 384, 3) := dk_180 1 128 (dk_at dksX0_step_2 5 rfl rfl)
theorem dX0_step_56 : decode cX0_step 56 = .ok (.aload_n 0, 1) := dk_42 (dk_at dksX0_step_2 8 rfl rfl)
theorem dX0_step_57 : decode cX0_step 57 = .ok (.getfield 387, 3) := dk_180 1 131 (dk_at dksX0_step_2 9 rfl rfl)
theorem dX0_step_60 : decode cX0_step 60 = .ok (.invokestatic 253, 3) := dk_184 0 253 (dk_at dksX0_step_2 12 rfl rfl)
theorem dX0_step_63 : decode cX0_step 63 = .ok (.baload, 1) := dk_51 (dk_at dksX0_step_2 15 rfl rfl)
theorem dX0_step_64 : decode cX0_step 64 = .ok (.istore_n 3, 1) := dk_62 (dk_at dksX0_step_2 16 rfl rfl)
theorem dX0_step_65 : decode cX0_step 65 = .ok (.iload_n 3, 1) := dk_29 (dk_at dksX0_step_2 17 rfl rfl)
theorem dX0_step_66 : decode cX0_step 66 = .ok (.bipush 9, 2) := dk_16 9 (dk_at dksX0_step_2 18 rfl rfl)
theorem dX0_step_68 : decode cX0_step 68 = .ok (.if_icmp .eq 25, 3) := dk_159 0 25 (dk_at dksX0_step_2 20 rfl rfl)
theorem dX0_step_71 : decode cX0_step 71 = .ok (.iload_n 1, 1) := dk_27 (dk_at dksX0_step_2 23 rfl rfl)
theorem dX0_step_72 : decode cX0_step 72 = .ok (.aload_n 0, 1) := dk_42 (dk_at dksX0_step_3 0 rfl rfl)
theorem dX0_step_73 : decode cX0_step 73 = .ok (.iload_n 2, 1) := dk_28 (dk_at dksX0_step_3 1 rfl rfl)
theorem dX0_step_74 : decode cX0_step 74 = .ok (.iload_n 3, 1) := dk_29 (dk_at dksX0_step_3 2 rfl rfl)
theorem dX0_step_75 : decode cX0_step 75 = .ok (.aload_n 0, 1) := dk_42 (dk_at dksX0_step_3 3 rfl rfl)
theorem dX0_step_76 : decode cX0_step 76 = .ok (.getfield 155, 3) := dk_180 0 155 (dk_at dksX0_step_3 4 rfl rfl)
theorem dX0_step_79 : decode cX0_step 79 = .ok (.aload_n 0, 1) := dk_42 (dk_at dksX0_step_3 7 rfl rfl)
theorem dX0_step_80 : decode cX0_step 80 = .ok (.getfield 387, 3) := dk_180 1 131 (dk_at dksX0_step_3 8 rfl rfl)
theorem dX0_step_83 : decode cX0_step 83 = .ok (.invokevirtual 263, 3) := dk_182 1 7 (dk_at dksX0_step_3 11 rfl rfl)
theorem dX0_step_86 : decode cX0_step 86 = .ok (.if_icmp .ge 7, 3) := dk_162 0 7 (dk_at dksX0_step_3 14 rfl rfl)
theorem dX0_step_89 : decode cX0_step 89 = .ok (.iconst 1, 1) := dk_4 (dk_at dksX0_step_3 17 rfl rfl)
theorem dX0_step_90 : decode cX0_step 90 = .ok (.goto 4, 3) := dk_167 0 4 (dk_at dksX0_step_3 18 rfl rfl)
theorem dX0_step_93 : decode cX0_step 93 = .ok (.iconst 0, 1) := dk_3 (dk_at dksX0_step_3 21 rfl rfl)
theorem dX0_step_94 : decode cX0_step 94 = .ok (.istore 4, 2) := dk_54 4 (dk_at dksX0_step_3 22 rfl rfl)
theorem dX0_step_96 : decode cX0_step 96 = .ok (.iload 4, 2) := dk_21 4 (dk_at dksX0_step_4 0 rfl rfl)
theorem dX0_step_98 : decode cX0_step 98 = .ok (.iconst 1, 1) := dk_4 (dk_at dksX0_step_4 2 rfl rfl)
theorem dX0_step_99 : decode cX0_step 99 = .ok (.if_icmp .ne 17, 3) := dk_160 0 17 (dk_at dksX0_step_4 3 rfl rfl)
theorem dX0_step_102 : decode cX0_step 102 = .ok (.aload_n 0, 1) := dk_42 (dk_at dksX0_step_4 6 rfl rfl)
theorem dX0_step_103 : decode cX0_step 103 = .ok (.dup, 1) := dk_89 (dk_at dksX0_step_4 7 rfl rfl)
theorem dX0_step_104 : decode cX0_step 104 = .ok (.getfield 155, 3) := dk_180 0 155 (dk_at dksX0_step_4 8 rfl rfl)
theorem dX0_step_107 : decode cX0_step 107 = .ok (.iconst 1, 1) := dk_4 (dk_at dksX0_step_4 11 rfl rfl)
theorem dX0_step_108 : decode cX0_step 108 = .ok (.iload_n 3, 1) := dk_29 (dk_at dksX0_step_4 12 rfl rfl)
theorem dX0_step_109 : decode cX0_step 109 = .ok (.ishl, 1) := dk_120 (dk_at dksX0_step_4 13 rfl rfl)
theorem dX0_step_110 : decode cX0_step 110 = .ok (.iconst (-1), 1) := dk_2 (dk_at dksX0_step_4 14 rfl rfl)
theorem dX0_step_111 : decode cX0_step 111 = .ok (.ixor, 1) := dk_130 (dk_at dksX0_step_4 15 rfl rfl)
theorem dX0_step_112 : decode cX0_step 112 = .ok (.iand, 1) := dk_126 (dk_at dksX0_step_4 16 rfl rfl)
theorem dX0_step_113 : decode cX0_step 113 = .ok (.putfield 155, 3) := dk_181 0 155 (dk_at dksX0_step_4 17 rfl rfl)
theorem dX0_step_116 : decode cX0_step 116 = .ok (.aload_n 0, 1) := dk_42 (dk_at dksX0_step_4 20 rfl rfl)
theorem dX0_step_117 : decode cX0_step 117 = .ok (.aload_n 0, 1) := dk_42 (dk_at dksX0_step_4 21 rfl rfl)
theorem dX0_step_118 : decode cX0_step 118 = .ok (.aload_n 0, 1) := dk_42 (dk_at dksX0_step_4 22 rfl rfl)
theorem dX0_step_119 : decode cX0_step 119 = .ok (.getfield 155, 3) := dk_180 0 155 (dk_at dksX0_step_5 0 rfl rfl)
theorem dX0_step_122 : decode cX0_step 122 = .ok (.aload_n 0, 1) := dk_42 (dk_at dksX0_step_5 3 rfl rfl)
theorem dX0_step_123 : decode cX0_step 123 = .ok (.getfield 384, 3) := dk_180 1 128 (dk_at dksX0_step_5 4 rfl rfl)
theorem dX0_step_126 : decode cX0_step 126 = .ok (.invokevirtual 256, 3) := dk_182 1 0 (dk_at dksX0_step_5 7 rfl rfl)
theorem dX0_step_129 : decode cX0_step 129 = .ok (.putfield 384, 3) := dk_181 1 128 (dk_at dksX0_step_5 10 rfl rfl)
theorem dX0_step_132 : decode cX0_step 132 = .ok (.aload_n 0, 1) := dk_42 (dk_at dksX0_step_5 13 rfl rfl)
theorem dX0_step_133 : decode cX0_step 133 = .ok (.dup, 1) := dk_89 (dk_at dksX0_step_5 14 rfl rfl)
theorem dX0_step_134 : decode cX0_step 134 = .ok (.getfield 387, 3) := dk_180 1 131 (dk_at dksX0_step_5 15 rfl rfl)
theorem dX0_step_137 : decode cX0_step 137 = .ok (.iconst 1, 1) := dk_4 (dk_at dksX0_step_5 18 rfl rfl)
theorem dX0_step_138 : decode cX0_step 138 = .ok (.iadd, 1) := dk_96 (dk_at dksX0_step_5 19 rfl rfl)
theorem dX0_step_139 : decode cX0_step 139 = .ok (.putfield 387, 3) := dk_181 1 131 (dk_at dksX0_step_5 20 rfl rfl)
theorem dX0_step_142 : decode cX0_step 142 = .ok (.bipush 100, 2) := dk_16 100 (dk_at dksX0_step_6 0 rfl rfl)
theorem dX0_step_144 : decode cX0_step 144 = .ok (.iload_n 2, 1) := dk_28 (dk_at dksX0_step_6 2 rfl rfl)
theorem dX0_step_145 : decode cX0_step 145 = .ok (.imul, 1) := dk_104 (dk_at dksX0_step_6 3 rfl rfl)
theorem dX0_step_146 : decode cX0_step 146 = .ok (.bipush 10, 2) := dk_16 10 (dk_at dksX0_step_6 4 rfl rfl)
theorem dX0_step_148 : decode cX0_step 148 = .ok (.iload_n 3, 1) := dk_29 (dk_at dksX0_step_6 6 rfl rfl)
theorem dX0_step_149 : decode cX0_step 149 = .ok (.imul, 1) := dk_104 (dk_at dksX0_step_6 7 rfl rfl)
theorem dX0_step_150 : decode cX0_step 150 = .ok (.iadd, 1) := dk_96 (dk_at dksX0_step_6 8 rfl rfl)
theorem dX0_step_151 : decode cX0_step 151 = .ok (.iload 4, 2) := dk_21 4 (dk_at dksX0_step_6 9 rfl rfl)
theorem dX0_step_153 : decode cX0_step 153 = .ok (.iadd, 1) := dk_96 (dk_at dksX0_step_6 11 rfl rfl)
theorem dX0_step_154 : decode cX0_step 154 = .ok (.ireturn, 1) := dk_172 (dk_at dksX0_step_6 12 rfl rfl)
abbrev cX0_image : ByteArray := prog_1_method_68_code
def yX0_image : MethodName := ⟨RX0, "image", "()I"⟩
def dkwX0_image_1 : List UInt8 := [180, 1, 131, 181, 1, 140, 42, 180, 1, 131, 172]
abbrev dktX0_image_1 : List UInt8 := dkwX0_image_1 ++ []
def dkwX0_image_0 : List UInt8 := [42, 4, 181, 1, 124, 42, 42, 180, 0, 155, 181, 1, 134, 42, 42, 180, 1, 128, 181, 1, 137, 42, 42]
abbrev dktX0_image_0 : List UInt8 := dkwX0_image_0 ++ dktX0_image_1
theorem dksX0_image_0 : cX0_image.data.toList.drop 0 = dktX0_image_0 := by decide +kernel
theorem dksX0_image_1 : cX0_image.data.toList.drop 23 = dktX0_image_1 := dk_seg dksX0_image_0 23 rfl rfl
theorem dX0_image_0 : decode cX0_image 0 = .ok (.aload_n 0, 1) := dk_42 (dk_at dksX0_image_0 0 rfl rfl)
theorem dX0_image_1 : decode cX0_image 1 = .ok (.iconst 1, 1) := dk_4 (dk_at dksX0_image_0 1 rfl rfl)
theorem dX0_image_2 : decode cX0_image 2 = .ok (.putfield 380, 3) := dk_181 1 124 (dk_at dksX0_image_0 2 rfl rfl)
theorem dX0_image_5 : decode cX0_image 5 = .ok (.aload_n 0, 1) := dk_42 (dk_at dksX0_image_0 5 rfl rfl)
theorem dX0_image_6 : decode cX0_image 6 = .ok (.aload_n 0, 1) := dk_42 (dk_at dksX0_image_0 6 rfl rfl)
theorem dX0_image_7 : decode cX0_image 7 = .ok (.getfield 155, 3) := dk_180 0 155 (dk_at dksX0_image_0 7 rfl rfl)
theorem dX0_image_10 : decode cX0_image 10 = .ok (.putfield 390, 3) := dk_181 1 134 (dk_at dksX0_image_0 10 rfl rfl)
theorem dX0_image_13 : decode cX0_image 13 = .ok (.aload_n 0, 1) := dk_42 (dk_at dksX0_image_0 13 rfl rfl)
theorem dX0_image_14 : decode cX0_image 14 = .ok (.aload_n 0, 1) := dk_42 (dk_at dksX0_image_0 14 rfl rfl)
theorem dX0_image_15 : decode cX0_image 15 = .ok (.getfield 384, 3) := dk_180 1 128 (dk_at dksX0_image_0 15 rfl rfl)
theorem dX0_image_18 : decode cX0_image 18 = .ok (.putfield 393, 3) := dk_181 1 137 (dk_at dksX0_image_0 18 rfl rfl)
theorem dX0_image_21 : decode cX0_image 21 = .ok (.aload_n 0, 1) := dk_42 (dk_at dksX0_image_0 21 rfl rfl)
theorem dX0_image_22 : decode cX0_image 22 = .ok (.aload_n 0, 1) := dk_42 (dk_at dksX0_image_0 22 rfl rfl)
theorem dX0_image_23 : decode cX0_image 23 = .ok (.getfield 387, 3) := dk_180 1 131 (dk_at dksX0_image_1 0 rfl rfl)
theorem dX0_image_26 : decode cX0_image 26 = .ok (.putfield 396, 3) := dk_181 1 140 (dk_at dksX0_image_1 3 rfl rfl)
theorem dX0_image_29 : decode cX0_image 29 = .ok (.aload_n 0, 1) := dk_42 (dk_at dksX0_image_1 6 rfl rfl)
theorem dX0_image_30 : decode cX0_image 30 = .ok (.getfield 387, 3) := dk_180 1 131 (dk_at dksX0_image_1 7 rfl rfl)
theorem dX0_image_33 : decode cX0_image 33 = .ok (.ireturn, 1) := dk_172 (dk_at dksX0_image_1 10 rfl rfl)
abbrev cX0_back : ByteArray := prog_1_method_69_code
def yX0_back : MethodName := ⟨RX0, "back", "()I"⟩
def dkwX0_back_1 : List UInt8 := [181, 1, 128, 42, 42, 180, 1, 140, 181, 1, 131, 42, 180, 1, 131, 172]
abbrev dktX0_back_1 : List UInt8 := dkwX0_back_1 ++ []
def dkwX0_back_0 : List UInt8 := [42, 180, 1, 124, 154, 0, 6, 16, 251, 172, 42, 42, 180, 1, 134, 181, 0, 155, 42, 42, 180, 1, 137]
abbrev dktX0_back_0 : List UInt8 := dkwX0_back_0 ++ dktX0_back_1
theorem dksX0_back_0 : cX0_back.data.toList.drop 0 = dktX0_back_0 := by decide +kernel
theorem dksX0_back_1 : cX0_back.data.toList.drop 23 = dktX0_back_1 := dk_seg dksX0_back_0 23 rfl rfl
theorem dX0_back_0 : decode cX0_back 0 = .ok (.aload_n 0, 1) := dk_42 (dk_at dksX0_back_0 0 rfl rfl)
theorem dX0_back_1 : decode cX0_back 1 = .ok (.getfield 380, 3) := dk_180 1 124 (dk_at dksX0_back_0 1 rfl rfl)
theorem dX0_back_4 : decode cX0_back 4 = .ok (.ifCond .ne 6, 3) := dk_154 0 6 (dk_at dksX0_back_0 4 rfl rfl)
theorem dX0_back_7 : decode cX0_back 7 = .ok (.bipush (-5), 2) := dk_16 251 (dk_at dksX0_back_0 7 rfl rfl)
theorem dX0_back_9 : decode cX0_back 9 = .ok (.ireturn, 1) := dk_172 (dk_at dksX0_back_0 9 rfl rfl)
theorem dX0_back_10 : decode cX0_back 10 = .ok (.aload_n 0, 1) := dk_42 (dk_at dksX0_back_0 10 rfl rfl)
theorem dX0_back_11 : decode cX0_back 11 = .ok (.aload_n 0, 1) := dk_42 (dk_at dksX0_back_0 11 rfl rfl)
theorem dX0_back_12 : decode cX0_back 12 = .ok (.getfield 390, 3) := dk_180 1 134 (dk_at dksX0_back_0 12 rfl rfl)
theorem dX0_back_15 : decode cX0_back 15 = .ok (.putfield 155, 3) := dk_181 0 155 (dk_at dksX0_back_0 15 rfl rfl)
theorem dX0_back_18 : decode cX0_back 18 = .ok (.aload_n 0, 1) := dk_42 (dk_at dksX0_back_0 18 rfl rfl)
theorem dX0_back_19 : decode cX0_back 19 = .ok (.aload_n 0, 1) := dk_42 (dk_at dksX0_back_0 19 rfl rfl)
theorem dX0_back_20 : decode cX0_back 20 = .ok (.getfield 393, 3) := dk_180 1 137 (dk_at dksX0_back_0 20 rfl rfl)
theorem dX0_back_23 : decode cX0_back 23 = .ok (.putfield 384, 3) := dk_181 1 128 (dk_at dksX0_back_1 0 rfl rfl)
theorem dX0_back_26 : decode cX0_back 26 = .ok (.aload_n 0, 1) := dk_42 (dk_at dksX0_back_1 3 rfl rfl)
theorem dX0_back_27 : decode cX0_back 27 = .ok (.aload_n 0, 1) := dk_42 (dk_at dksX0_back_1 4 rfl rfl)
theorem dX0_back_28 : decode cX0_back 28 = .ok (.getfield 396, 3) := dk_180 1 140 (dk_at dksX0_back_1 5 rfl rfl)
theorem dX0_back_31 : decode cX0_back 31 = .ok (.putfield 387, 3) := dk_181 1 131 (dk_at dksX0_back_1 8 rfl rfl)
theorem dX0_back_34 : decode cX0_back 34 = .ok (.aload_n 0, 1) := dk_42 (dk_at dksX0_back_1 11 rfl rfl)
theorem dX0_back_35 : decode cX0_back 35 = .ok (.getfield 387, 3) := dk_180 1 131 (dk_at dksX0_back_1 12 rfl rfl)
theorem dX0_back_38 : decode cX0_back 38 = .ok (.ireturn, 1) := dk_172 (dk_at dksX0_back_1 15 rfl rfl)
abbrev cX0_body : ByteArray := prog_1_method_73_code
def yX0_body : MethodName := ⟨RX0, "body", "(I)I"⟩
def dkwX0_body_2 : List UInt8 := [42, 180, 1, 146, 4, 100, 172]
abbrev dktX0_body_2 : List UInt8 := dkwX0_body_2 ++ []
def dkwX0_body_1 : List UInt8 := [42, 180, 0, 85, 42, 180, 1, 146, 42, 27, 182, 1, 173, 83, 42, 89, 180, 1, 146, 4, 96, 181, 1, 146]
abbrev dktX0_body_1 : List UInt8 := dkwX0_body_1 ++ dktX0_body_2
def dkwX0_body_0 : List UInt8 := [27, 3, 16, 7, 184, 0, 98, 154, 0, 5, 2, 172, 42, 180, 1, 146, 16, 50, 160, 0, 6, 16, 253, 172]
abbrev dktX0_body_0 : List UInt8 := dkwX0_body_0 ++ dktX0_body_1
theorem dksX0_body_0 : cX0_body.data.toList.drop 0 = dktX0_body_0 := by decide +kernel
theorem dksX0_body_1 : cX0_body.data.toList.drop 24 = dktX0_body_1 := dk_seg dksX0_body_0 24 rfl rfl
theorem dksX0_body_2 : cX0_body.data.toList.drop 48 = dktX0_body_2 := dk_seg dksX0_body_1 24 rfl rfl
theorem dX0_body_0 : decode cX0_body 0 = .ok (.iload_n 1, 1) := dk_27 (dk_at dksX0_body_0 0 rfl rfl)
theorem dX0_body_1 : decode cX0_body 1 = .ok (.iconst 0, 1) := dk_3 (dk_at dksX0_body_0 1 rfl rfl)
theorem dX0_body_2 : decode cX0_body 2 = .ok (.bipush 7, 2) := dk_16 7 (dk_at dksX0_body_0 2 rfl rfl)
theorem dX0_body_4 : decode cX0_body 4 = .ok (.invokestatic 98, 3) := dk_184 0 98 (dk_at dksX0_body_0 4 rfl rfl)
theorem dX0_body_7 : decode cX0_body 7 = .ok (.ifCond .ne 5, 3) := dk_154 0 5 (dk_at dksX0_body_0 7 rfl rfl)
theorem dX0_body_10 : decode cX0_body 10 = .ok (.iconst (-1), 1) := dk_2 (dk_at dksX0_body_0 10 rfl rfl)
theorem dX0_body_11 : decode cX0_body 11 = .ok (.ireturn, 1) := dk_172 (dk_at dksX0_body_0 11 rfl rfl)
theorem dX0_body_12 : decode cX0_body 12 = .ok (.aload_n 0, 1) := dk_42 (dk_at dksX0_body_0 12 rfl rfl)
theorem dX0_body_13 : decode cX0_body 13 = .ok (.getfield 402, 3) := dk_180 1 146 (dk_at dksX0_body_0 13 rfl rfl)
theorem dX0_body_16 : decode cX0_body 16 = .ok (.bipush 50, 2) := dk_16 50 (dk_at dksX0_body_0 16 rfl rfl)
theorem dX0_body_18 : decode cX0_body 18 = .ok (.if_icmp .ne 6, 3) := dk_160 0 6 (dk_at dksX0_body_0 18 rfl rfl)
theorem dX0_body_21 : decode cX0_body 21 = .ok (.bipush (-3), 2) := dk_16 253 (dk_at dksX0_body_0 21 rfl rfl)
theorem dX0_body_23 : decode cX0_body 23 = .ok (.ireturn, 1) := dk_172 (dk_at dksX0_body_0 23 rfl rfl)
theorem dX0_body_24 : decode cX0_body 24 = .ok (.aload_n 0, 1) := dk_42 (dk_at dksX0_body_1 0 rfl rfl)
theorem dX0_body_25 : decode cX0_body 25 = .ok (.getfield 85, 3) := dk_180 0 85 (dk_at dksX0_body_1 1 rfl rfl)
theorem dX0_body_28 : decode cX0_body 28 = .ok (.aload_n 0, 1) := dk_42 (dk_at dksX0_body_1 4 rfl rfl)
theorem dX0_body_29 : decode cX0_body 29 = .ok (.getfield 402, 3) := dk_180 1 146 (dk_at dksX0_body_1 5 rfl rfl)
theorem dX0_body_32 : decode cX0_body 32 = .ok (.aload_n 0, 1) := dk_42 (dk_at dksX0_body_1 8 rfl rfl)
theorem dX0_body_33 : decode cX0_body 33 = .ok (.iload_n 1, 1) := dk_27 (dk_at dksX0_body_1 9 rfl rfl)
theorem dX0_body_34 : decode cX0_body 34 = .ok (.invokevirtual 429, 3) := dk_182 1 173 (dk_at dksX0_body_1 10 rfl rfl)
theorem dX0_body_37 : decode cX0_body 37 = .ok (.aastore, 1) := dk_83 (dk_at dksX0_body_1 13 rfl rfl)
theorem dX0_body_38 : decode cX0_body 38 = .ok (.aload_n 0, 1) := dk_42 (dk_at dksX0_body_1 14 rfl rfl)
theorem dX0_body_39 : decode cX0_body 39 = .ok (.dup, 1) := dk_89 (dk_at dksX0_body_1 15 rfl rfl)
theorem dX0_body_40 : decode cX0_body 40 = .ok (.getfield 402, 3) := dk_180 1 146 (dk_at dksX0_body_1 16 rfl rfl)
theorem dX0_body_43 : decode cX0_body 43 = .ok (.iconst 1, 1) := dk_4 (dk_at dksX0_body_1 19 rfl rfl)
theorem dX0_body_44 : decode cX0_body 44 = .ok (.iadd, 1) := dk_96 (dk_at dksX0_body_1 20 rfl rfl)
theorem dX0_body_45 : decode cX0_body 45 = .ok (.putfield 402, 3) := dk_181 1 146 (dk_at dksX0_body_1 21 rfl rfl)
theorem dX0_body_48 : decode cX0_body 48 = .ok (.aload_n 0, 1) := dk_42 (dk_at dksX0_body_2 0 rfl rfl)
theorem dX0_body_49 : decode cX0_body 49 = .ok (.getfield 402, 3) := dk_180 1 146 (dk_at dksX0_body_2 1 rfl rfl)
theorem dX0_body_52 : decode cX0_body 52 = .ok (.iconst 1, 1) := dk_4 (dk_at dksX0_body_2 4 rfl rfl)
theorem dX0_body_53 : decode cX0_body 53 = .ok (.isub, 1) := dk_100 (dk_at dksX0_body_2 5 rfl rfl)
theorem dX0_body_54 : decode cX0_body 54 = .ok (.ireturn, 1) := dk_172 (dk_at dksX0_body_2 6 rfl rfl)
abbrev cX0_made : ByteArray := prog_1_method_72_code
def yX0_made : MethodName := ⟨RX0, "made", "(I)LThreeSnowballs$Thrower;"⟩
def dkwX0_made_6 : List UInt8 := [187, 0, 83, 89, 42, 42, 180, 1, 146, 183, 1, 172, 176]
abbrev dktX0_made_6 : List UInt8 := dkwX0_made_6 ++ []
def dkwX0_made_5 : List UInt8 := [42, 42, 180, 1, 146, 183, 1, 168, 176, 187, 1, 169, 89, 42, 42, 180, 1, 146, 183, 1, 171, 176]
abbrev dktX0_made_5 : List UInt8 := dkwX0_made_5 ++ dktX0_made_6
def dkwX0_made_4 : List UInt8 := [180, 1, 146, 183, 1, 162, 176, 187, 1, 163, 89, 42, 42, 180, 1, 146, 183, 1, 165, 176, 187, 1, 166, 89]
abbrev dktX0_made_4 : List UInt8 := dkwX0_made_4 ++ dktX0_made_5
def dkwX0_made_3 : List UInt8 := [183, 1, 156, 176, 187, 1, 157, 89, 42, 42, 180, 1, 146, 183, 1, 159, 176, 187, 1, 160, 89, 42, 42]
abbrev dktX0_made_3 : List UInt8 := dkwX0_made_3 ++ dktX0_made_4
def dkwX0_made_2 : List UInt8 := [187, 1, 149, 89, 42, 42, 180, 1, 146, 183, 1, 151, 176, 187, 1, 154, 89, 42, 42, 180, 1, 146]
abbrev dktX0_made_2 : List UInt8 := dkwX0_made_2 ++ dktX0_made_3
def dkwX0_made_1 : List UInt8 := [170, 0, 0, 0, 0, 0, 134, 0, 0, 0, 1, 0, 0, 0, 7, 0, 0, 0, 43, 0, 0, 0, 56, 0, 0, 0, 69, 0, 0, 0, 82, 0, 0, 0, 95, 0, 0, 0, 108, 0, 0, 0, 121]
abbrev dktX0_made_1 : List UInt8 := dkwX0_made_1 ++ dktX0_made_2
def dkwX0_made_0 : List UInt8 := [27]
abbrev dktX0_made_0 : List UInt8 := dkwX0_made_0 ++ dktX0_made_1
theorem dksX0_made_0 : cX0_made.data.toList.drop 0 = dktX0_made_0 := by decide +kernel
theorem dksX0_made_1 : cX0_made.data.toList.drop 1 = dktX0_made_1 := dk_seg dksX0_made_0 1 rfl rfl
theorem dksX0_made_2 : cX0_made.data.toList.drop 44 = dktX0_made_2 := dk_seg dksX0_made_1 43 rfl rfl
theorem dksX0_made_3 : cX0_made.data.toList.drop 66 = dktX0_made_3 := dk_seg dksX0_made_2 22 rfl rfl
theorem dksX0_made_4 : cX0_made.data.toList.drop 89 = dktX0_made_4 := dk_seg dksX0_made_3 23 rfl rfl
theorem dksX0_made_5 : cX0_made.data.toList.drop 113 = dktX0_made_5 := dk_seg dksX0_made_4 24 rfl rfl
theorem dksX0_made_6 : cX0_made.data.toList.drop 135 = dktX0_made_6 := dk_seg dksX0_made_5 22 rfl rfl
theorem dX0_made_0 : decode cX0_made 0 = .ok (.iload_n 1, 1) := dk_27 (dk_at dksX0_made_0 0 rfl rfl)
theorem dX0_made_1 : decode cX0_made 1 = .ok (.tableswitch 134 1 7 #[43, 56, 69, 82, 95, 108, 121], 43) := by decide +kernel
theorem dX0_made_44 : decode cX0_made 44 = .ok (.new 405, 3) := dk_187 1 149 (dk_at dksX0_made_2 0 rfl rfl)
theorem dX0_made_47 : decode cX0_made 47 = .ok (.dup, 1) := dk_89 (dk_at dksX0_made_2 3 rfl rfl)
theorem dX0_made_48 : decode cX0_made 48 = .ok (.aload_n 0, 1) := dk_42 (dk_at dksX0_made_2 4 rfl rfl)
theorem dX0_made_49 : decode cX0_made 49 = .ok (.aload_n 0, 1) := dk_42 (dk_at dksX0_made_2 5 rfl rfl)
theorem dX0_made_50 : decode cX0_made 50 = .ok (.getfield 402, 3) := dk_180 1 146 (dk_at dksX0_made_2 6 rfl rfl)
theorem dX0_made_53 : decode cX0_made 53 = .ok (.invokespecial 407, 3) := dk_183 1 151 (dk_at dksX0_made_2 9 rfl rfl)
theorem dX0_made_56 : decode cX0_made 56 = .ok (.areturn, 1) := dk_176 (dk_at dksX0_made_2 12 rfl rfl)
theorem dX0_made_57 : decode cX0_made 57 = .ok (.new 410, 3) := dk_187 1 154 (dk_at dksX0_made_2 13 rfl rfl)
theorem dX0_made_60 : decode cX0_made 60 = .ok (.dup, 1) := dk_89 (dk_at dksX0_made_2 16 rfl rfl)
theorem dX0_made_61 : decode cX0_made 61 = .ok (.aload_n 0, 1) := dk_42 (dk_at dksX0_made_2 17 rfl rfl)
theorem dX0_made_62 : decode cX0_made 62 = .ok (.aload_n 0, 1) := dk_42 (dk_at dksX0_made_2 18 rfl rfl)
theorem dX0_made_63 : decode cX0_made 63 = .ok (.getfield 402, 3) := dk_180 1 146 (dk_at dksX0_made_2 19 rfl rfl)
theorem dX0_made_66 : decode cX0_made 66 = .ok (.invokespecial 412, 3) := dk_183 1 156 (dk_at dksX0_made_3 0 rfl rfl)
theorem dX0_made_69 : decode cX0_made 69 = .ok (.areturn, 1) := dk_176 (dk_at dksX0_made_3 3 rfl rfl)
theorem dX0_made_70 : decode cX0_made 70 = .ok (.new 413, 3) := dk_187 1 157 (dk_at dksX0_made_3 4 rfl rfl)
theorem dX0_made_73 : decode cX0_made 73 = .ok (.dup, 1) := dk_89 (dk_at dksX0_made_3 7 rfl rfl)
theorem dX0_made_74 : decode cX0_made 74 = .ok (.aload_n 0, 1) := dk_42 (dk_at dksX0_made_3 8 rfl rfl)
theorem dX0_made_75 : decode cX0_made 75 = .ok (.aload_n 0, 1) := dk_42 (dk_at dksX0_made_3 9 rfl rfl)
theorem dX0_made_76 : decode cX0_made 76 = .ok (.getfield 402, 3) := dk_180 1 146 (dk_at dksX0_made_3 10 rfl rfl)
theorem dX0_made_79 : decode cX0_made 79 = .ok (.invokespecial 415, 3) := dk_183 1 159 (dk_at dksX0_made_3 13 rfl rfl)
theorem dX0_made_82 : decode cX0_made 82 = .ok (.areturn, 1) := dk_176 (dk_at dksX0_made_3 16 rfl rfl)
theorem dX0_made_83 : decode cX0_made 83 = .ok (.new 416, 3) := dk_187 1 160 (dk_at dksX0_made_3 17 rfl rfl)
theorem dX0_made_86 : decode cX0_made 86 = .ok (.dup, 1) := dk_89 (dk_at dksX0_made_3 20 rfl rfl)
theorem dX0_made_87 : decode cX0_made 87 = .ok (.aload_n 0, 1) := dk_42 (dk_at dksX0_made_3 21 rfl rfl)
theorem dX0_made_88 : decode cX0_made 88 = .ok (.aload_n 0, 1) := dk_42 (dk_at dksX0_made_3 22 rfl rfl)
theorem dX0_made_89 : decode cX0_made 89 = .ok (.getfield 402, 3) := dk_180 1 146 (dk_at dksX0_made_4 0 rfl rfl)
theorem dX0_made_92 : decode cX0_made 92 = .ok (.invokespecial 418, 3) := dk_183 1 162 (dk_at dksX0_made_4 3 rfl rfl)
theorem dX0_made_95 : decode cX0_made 95 = .ok (.areturn, 1) := dk_176 (dk_at dksX0_made_4 6 rfl rfl)
theorem dX0_made_96 : decode cX0_made 96 = .ok (.new 419, 3) := dk_187 1 163 (dk_at dksX0_made_4 7 rfl rfl)
theorem dX0_made_99 : decode cX0_made 99 = .ok (.dup, 1) := dk_89 (dk_at dksX0_made_4 10 rfl rfl)
theorem dX0_made_100 : decode cX0_made 100 = .ok (.aload_n 0, 1) := dk_42 (dk_at dksX0_made_4 11 rfl rfl)
theorem dX0_made_101 : decode cX0_made 101 = .ok (.aload_n 0, 1) := dk_42 (dk_at dksX0_made_4 12 rfl rfl)
theorem dX0_made_102 : decode cX0_made 102 = .ok (.getfield 402, 3) := dk_180 1 146 (dk_at dksX0_made_4 13 rfl rfl)
theorem dX0_made_105 : decode cX0_made 105 = .ok (.invokespecial 421, 3) := dk_183 1 165 (dk_at dksX0_made_4 16 rfl rfl)
theorem dX0_made_108 : decode cX0_made 108 = .ok (.areturn, 1) := dk_176 (dk_at dksX0_made_4 19 rfl rfl)
theorem dX0_made_109 : decode cX0_made 109 = .ok (.new 422, 3) := dk_187 1 166 (dk_at dksX0_made_4 20 rfl rfl)
theorem dX0_made_112 : decode cX0_made 112 = .ok (.dup, 1) := dk_89 (dk_at dksX0_made_4 23 rfl rfl)
theorem dX0_made_113 : decode cX0_made 113 = .ok (.aload_n 0, 1) := dk_42 (dk_at dksX0_made_5 0 rfl rfl)
theorem dX0_made_114 : decode cX0_made 114 = .ok (.aload_n 0, 1) := dk_42 (dk_at dksX0_made_5 1 rfl rfl)
theorem dX0_made_115 : decode cX0_made 115 = .ok (.getfield 402, 3) := dk_180 1 146 (dk_at dksX0_made_5 2 rfl rfl)
theorem dX0_made_118 : decode cX0_made 118 = .ok (.invokespecial 424, 3) := dk_183 1 168 (dk_at dksX0_made_5 5 rfl rfl)
theorem dX0_made_121 : decode cX0_made 121 = .ok (.areturn, 1) := dk_176 (dk_at dksX0_made_5 8 rfl rfl)
theorem dX0_made_122 : decode cX0_made 122 = .ok (.new 425, 3) := dk_187 1 169 (dk_at dksX0_made_5 9 rfl rfl)
theorem dX0_made_125 : decode cX0_made 125 = .ok (.dup, 1) := dk_89 (dk_at dksX0_made_5 12 rfl rfl)
theorem dX0_made_126 : decode cX0_made 126 = .ok (.aload_n 0, 1) := dk_42 (dk_at dksX0_made_5 13 rfl rfl)
theorem dX0_made_127 : decode cX0_made 127 = .ok (.aload_n 0, 1) := dk_42 (dk_at dksX0_made_5 14 rfl rfl)
theorem dX0_made_128 : decode cX0_made 128 = .ok (.getfield 402, 3) := dk_180 1 146 (dk_at dksX0_made_5 15 rfl rfl)
theorem dX0_made_131 : decode cX0_made 131 = .ok (.invokespecial 427, 3) := dk_183 1 171 (dk_at dksX0_made_5 18 rfl rfl)
theorem dX0_made_134 : decode cX0_made 134 = .ok (.areturn, 1) := dk_176 (dk_at dksX0_made_5 21 rfl rfl)
theorem dX0_made_135 : decode cX0_made 135 = .ok (.new 83, 3) := dk_187 0 83 (dk_at dksX0_made_6 0 rfl rfl)
theorem dX0_made_138 : decode cX0_made 138 = .ok (.dup, 1) := dk_89 (dk_at dksX0_made_6 3 rfl rfl)
theorem dX0_made_139 : decode cX0_made 139 = .ok (.aload_n 0, 1) := dk_42 (dk_at dksX0_made_6 4 rfl rfl)
theorem dX0_made_140 : decode cX0_made 140 = .ok (.aload_n 0, 1) := dk_42 (dk_at dksX0_made_6 5 rfl rfl)
theorem dX0_made_141 : decode cX0_made 141 = .ok (.getfield 402, 3) := dk_180 1 146 (dk_at dksX0_made_6 6 rfl rfl)
theorem dX0_made_144 : decode cX0_made 144 = .ok (.invokespecial 428, 3) := dk_183 1 172 (dk_at dksX0_made_6 9 rfl rfl)
theorem dX0_made_147 : decode cX0_made 147 = .ok (.areturn, 1) := dk_176 (dk_at dksX0_made_6 12 rfl rfl)
abbrev cX0_act : ByteArray := prog_1_method_75_code
def yX0_act : MethodName := ⟨RX0, "act", "(III)I"⟩
def dkwX0_act_3 : List UInt8 := [25, 4, 29, 182, 1, 190, 167, 0, 9, 25, 4, 29, 182, 1, 193, 172]
abbrev dktX0_act_3 : List UInt8 := dkwX0_act_3 ++ []
def dkwX0_act_2 : List UInt8 := [172, 28, 6, 160, 0, 16, 25, 4, 58, 5, 25, 5, 29, 185, 1, 185, 2, 0, 172, 28, 4, 160, 0, 12]
abbrev dktX0_act_2 : List UInt8 := dkwX0_act_2 ++ dktX0_act_3
def dkwX0_act_1 : List UInt8 := [42, 180, 0, 85, 27, 50, 58, 4, 28, 154, 0, 16, 25, 4, 58, 5, 25, 5, 29, 185, 1, 180, 2, 0]
abbrev dktX0_act_1 : List UInt8 := dkwX0_act_1 ++ dktX0_act_2
def dkwX0_act_0 : List UInt8 := [42, 3, 181, 1, 143, 42, 27, 182, 1, 177, 153, 0, 12, 28, 3, 6, 184, 0, 98, 154, 0, 5, 3, 172]
abbrev dktX0_act_0 : List UInt8 := dkwX0_act_0 ++ dktX0_act_1
theorem dksX0_act_0 : cX0_act.data.toList.drop 0 = dktX0_act_0 := by decide +kernel
theorem dksX0_act_1 : cX0_act.data.toList.drop 24 = dktX0_act_1 := dk_seg dksX0_act_0 24 rfl rfl
theorem dksX0_act_2 : cX0_act.data.toList.drop 48 = dktX0_act_2 := dk_seg dksX0_act_1 24 rfl rfl
theorem dksX0_act_3 : cX0_act.data.toList.drop 72 = dktX0_act_3 := dk_seg dksX0_act_2 24 rfl rfl
theorem dX0_act_0 : decode cX0_act 0 = .ok (.aload_n 0, 1) := dk_42 (dk_at dksX0_act_0 0 rfl rfl)
theorem dX0_act_1 : decode cX0_act 1 = .ok (.iconst 0, 1) := dk_3 (dk_at dksX0_act_0 1 rfl rfl)
theorem dX0_act_2 : decode cX0_act 2 = .ok (.putfield 399, 3) := dk_181 1 143 (dk_at dksX0_act_0 2 rfl rfl)
theorem dX0_act_5 : decode cX0_act 5 = .ok (.aload_n 0, 1) := dk_42 (dk_at dksX0_act_0 5 rfl rfl)
theorem dX0_act_6 : decode cX0_act 6 = .ok (.iload_n 1, 1) := dk_27 (dk_at dksX0_act_0 6 rfl rfl)
theorem dX0_act_7 : decode cX0_act 7 = .ok (.invokevirtual 433, 3) := dk_182 1 177 (dk_at dksX0_act_0 7 rfl rfl)
theorem dX0_act_10 : decode cX0_act 10 = .ok (.ifCond .eq 12, 3) := dk_153 0 12 (dk_at dksX0_act_0 10 rfl rfl)
theorem dX0_act_13 : decode cX0_act 13 = .ok (.iload_n 2, 1) := dk_28 (dk_at dksX0_act_0 13 rfl rfl)
theorem dX0_act_14 : decode cX0_act 14 = .ok (.iconst 0, 1) := dk_3 (dk_at dksX0_act_0 14 rfl rfl)
theorem dX0_act_15 : decode cX0_act 15 = .ok (.iconst 3, 1) := dk_6 (dk_at dksX0_act_0 15 rfl rfl)
theorem dX0_act_16 : decode cX0_act 16 = .ok (.invokestatic 98, 3) := dk_184 0 98 (dk_at dksX0_act_0 16 rfl rfl)
theorem dX0_act_19 : decode cX0_act 19 = .ok (.ifCond .ne 5, 3) := dk_154 0 5 (dk_at dksX0_act_0 19 rfl rfl)
theorem dX0_act_22 : decode cX0_act 22 = .ok (.iconst 0, 1) := dk_3 (dk_at dksX0_act_0 22 rfl rfl)
theorem dX0_act_23 : decode cX0_act 23 = .ok (.ireturn, 1) := dk_172 (dk_at dksX0_act_0 23 rfl rfl)
theorem dX0_act_24 : decode cX0_act 24 = .ok (.aload_n 0, 1) := dk_42 (dk_at dksX0_act_1 0 rfl rfl)
theorem dX0_act_25 : decode cX0_act 25 = .ok (.getfield 85, 3) := dk_180 0 85 (dk_at dksX0_act_1 1 rfl rfl)
theorem dX0_act_28 : decode cX0_act 28 = .ok (.iload_n 1, 1) := dk_27 (dk_at dksX0_act_1 4 rfl rfl)
theorem dX0_act_29 : decode cX0_act 29 = .ok (.aaload, 1) := dk_50 (dk_at dksX0_act_1 5 rfl rfl)
theorem dX0_act_30 : decode cX0_act 30 = .ok (.astore 4, 2) := dk_58 4 (dk_at dksX0_act_1 6 rfl rfl)
theorem dX0_act_32 : decode cX0_act 32 = .ok (.iload_n 2, 1) := dk_28 (dk_at dksX0_act_1 8 rfl rfl)
theorem dX0_act_33 : decode cX0_act 33 = .ok (.ifCond .ne 16, 3) := dk_154 0 16 (dk_at dksX0_act_1 9 rfl rfl)
theorem dX0_act_36 : decode cX0_act 36 = .ok (.aload 4, 2) := dk_25 4 (dk_at dksX0_act_1 12 rfl rfl)
theorem dX0_act_38 : decode cX0_act 38 = .ok (.astore 5, 2) := dk_58 5 (dk_at dksX0_act_1 14 rfl rfl)
theorem dX0_act_40 : decode cX0_act 40 = .ok (.aload 5, 2) := dk_25 5 (dk_at dksX0_act_1 16 rfl rfl)
theorem dX0_act_42 : decode cX0_act 42 = .ok (.iload_n 3, 1) := dk_29 (dk_at dksX0_act_1 18 rfl rfl)
theorem dX0_act_43 : decode cX0_act 43 = .ok (.invokeinterface 436 2, 5) := by decide +kernel
theorem dX0_act_48 : decode cX0_act 48 = .ok (.ireturn, 1) := dk_172 (dk_at dksX0_act_2 0 rfl rfl)
theorem dX0_act_49 : decode cX0_act 49 = .ok (.iload_n 2, 1) := dk_28 (dk_at dksX0_act_2 1 rfl rfl)
theorem dX0_act_50 : decode cX0_act 50 = .ok (.iconst 3, 1) := dk_6 (dk_at dksX0_act_2 2 rfl rfl)
theorem dX0_act_51 : decode cX0_act 51 = .ok (.if_icmp .ne 16, 3) := dk_160 0 16 (dk_at dksX0_act_2 3 rfl rfl)
theorem dX0_act_54 : decode cX0_act 54 = .ok (.aload 4, 2) := dk_25 4 (dk_at dksX0_act_2 6 rfl rfl)
theorem dX0_act_56 : decode cX0_act 56 = .ok (.astore 5, 2) := dk_58 5 (dk_at dksX0_act_2 8 rfl rfl)
theorem dX0_act_58 : decode cX0_act 58 = .ok (.aload 5, 2) := dk_25 5 (dk_at dksX0_act_2 10 rfl rfl)
theorem dX0_act_60 : decode cX0_act 60 = .ok (.iload_n 3, 1) := dk_29 (dk_at dksX0_act_2 12 rfl rfl)
theorem dX0_act_61 : decode cX0_act 61 = .ok (.invokeinterface 441 2, 5) := by decide +kernel
theorem dX0_act_66 : decode cX0_act 66 = .ok (.ireturn, 1) := dk_172 (dk_at dksX0_act_2 18 rfl rfl)
theorem dX0_act_67 : decode cX0_act 67 = .ok (.iload_n 2, 1) := dk_28 (dk_at dksX0_act_2 19 rfl rfl)
theorem dX0_act_68 : decode cX0_act 68 = .ok (.iconst 1, 1) := dk_4 (dk_at dksX0_act_2 20 rfl rfl)
theorem dX0_act_69 : decode cX0_act 69 = .ok (.if_icmp .ne 12, 3) := dk_160 0 12 (dk_at dksX0_act_2 21 rfl rfl)
theorem dX0_act_72 : decode cX0_act 72 = .ok (.aload 4, 2) := dk_25 4 (dk_at dksX0_act_3 0 rfl rfl)
theorem dX0_act_74 : decode cX0_act 74 = .ok (.iload_n 3, 1) := dk_29 (dk_at dksX0_act_3 2 rfl rfl)
theorem dX0_act_75 : decode cX0_act 75 = .ok (.invokevirtual 446, 3) := dk_182 1 190 (dk_at dksX0_act_3 3 rfl rfl)
theorem dX0_act_78 : decode cX0_act 78 = .ok (.goto 9, 3) := dk_167 0 9 (dk_at dksX0_act_3 6 rfl rfl)
theorem dX0_act_81 : decode cX0_act 81 = .ok (.aload 4, 2) := dk_25 4 (dk_at dksX0_act_3 9 rfl rfl)
theorem dX0_act_83 : decode cX0_act 83 = .ok (.iload_n 3, 1) := dk_29 (dk_at dksX0_act_3 11 rfl rfl)
theorem dX0_act_84 : decode cX0_act 84 = .ok (.invokevirtual 449, 3) := dk_182 1 193 (dk_at dksX0_act_3 12 rfl rfl)
theorem dX0_act_87 : decode cX0_act 87 = .ok (.ireturn, 1) := dk_172 (dk_at dksX0_act_3 15 rfl rfl)
abbrev cX0_isBody : ByteArray := prog_1_method_71_code
def yX0_isBody : MethodName := ⟨RX0, "isBody", "(I)Z"⟩
def dkwX0_isBody_0 : List UInt8 := [27, 3, 42, 180, 1, 146, 4, 100, 184, 0, 98, 172]
abbrev dktX0_isBody_0 : List UInt8 := dkwX0_isBody_0 ++ []
theorem dksX0_isBody_0 : cX0_isBody.data.toList.drop 0 = dktX0_isBody_0 := by decide +kernel
theorem dX0_isBody_0 : decode cX0_isBody 0 = .ok (.iload_n 1, 1) := dk_27 (dk_at dksX0_isBody_0 0 rfl rfl)
theorem dX0_isBody_1 : decode cX0_isBody 1 = .ok (.iconst 0, 1) := dk_3 (dk_at dksX0_isBody_0 1 rfl rfl)
theorem dX0_isBody_2 : decode cX0_isBody 2 = .ok (.aload_n 0, 1) := dk_42 (dk_at dksX0_isBody_0 2 rfl rfl)
theorem dX0_isBody_3 : decode cX0_isBody 3 = .ok (.getfield 402, 3) := dk_180 1 146 (dk_at dksX0_isBody_0 3 rfl rfl)
theorem dX0_isBody_6 : decode cX0_isBody 6 = .ok (.iconst 1, 1) := dk_4 (dk_at dksX0_isBody_0 6 rfl rfl)
theorem dX0_isBody_7 : decode cX0_isBody 7 = .ok (.isub, 1) := dk_100 (dk_at dksX0_isBody_0 7 rfl rfl)
theorem dX0_isBody_8 : decode cX0_isBody 8 = .ok (.invokestatic 98, 3) := dk_184 0 98 (dk_at dksX0_isBody_0 8 rfl rfl)
theorem dX0_isBody_11 : decode cX0_isBody 11 = .ok (.ireturn, 1) := dk_172 (dk_at dksX0_isBody_0 11 rfl rfl)
abbrev cX0_ran : ByteArray := prog_1_method_70_code
def yX0_ran : MethodName := ⟨RX0, "ran", "(I)V"⟩
def dkwX0_ran_1 : List UInt8 := [180, 1, 143, 4, 96, 181, 1, 143, 177]
abbrev dktX0_ran_1 : List UInt8 := dkwX0_ran_1 ++ []
def dkwX0_ran_0 : List UInt8 := [42, 180, 1, 143, 16, 24, 162, 0, 14, 42, 180, 0, 80, 42, 180, 1, 143, 27, 145, 84, 42, 89]
abbrev dktX0_ran_0 : List UInt8 := dkwX0_ran_0 ++ dktX0_ran_1
theorem dksX0_ran_0 : cX0_ran.data.toList.drop 0 = dktX0_ran_0 := by decide +kernel
theorem dksX0_ran_1 : cX0_ran.data.toList.drop 22 = dktX0_ran_1 := dk_seg dksX0_ran_0 22 rfl rfl
theorem dX0_ran_0 : decode cX0_ran 0 = .ok (.aload_n 0, 1) := dk_42 (dk_at dksX0_ran_0 0 rfl rfl)
theorem dX0_ran_1 : decode cX0_ran 1 = .ok (.getfield 399, 3) := dk_180 1 143 (dk_at dksX0_ran_0 1 rfl rfl)
theorem dX0_ran_4 : decode cX0_ran 4 = .ok (.bipush 24, 2) := dk_16 24 (dk_at dksX0_ran_0 4 rfl rfl)
theorem dX0_ran_6 : decode cX0_ran 6 = .ok (.if_icmp .ge 14, 3) := dk_162 0 14 (dk_at dksX0_ran_0 6 rfl rfl)
theorem dX0_ran_9 : decode cX0_ran 9 = .ok (.aload_n 0, 1) := dk_42 (dk_at dksX0_ran_0 9 rfl rfl)
theorem dX0_ran_10 : decode cX0_ran 10 = .ok (.getfield 80, 3) := dk_180 0 80 (dk_at dksX0_ran_0 10 rfl rfl)
theorem dX0_ran_13 : decode cX0_ran 13 = .ok (.aload_n 0, 1) := dk_42 (dk_at dksX0_ran_0 13 rfl rfl)
theorem dX0_ran_14 : decode cX0_ran 14 = .ok (.getfield 399, 3) := dk_180 1 143 (dk_at dksX0_ran_0 14 rfl rfl)
theorem dX0_ran_17 : decode cX0_ran 17 = .ok (.iload_n 1, 1) := dk_27 (dk_at dksX0_ran_0 17 rfl rfl)
theorem dX0_ran_18 : decode cX0_ran 18 = .ok (.i2b, 1) := dk_145 (dk_at dksX0_ran_0 18 rfl rfl)
theorem dX0_ran_19 : decode cX0_ran 19 = .ok (.bastore, 1) := dk_84 (dk_at dksX0_ran_0 19 rfl rfl)
theorem dX0_ran_20 : decode cX0_ran 20 = .ok (.aload_n 0, 1) := dk_42 (dk_at dksX0_ran_0 20 rfl rfl)
theorem dX0_ran_21 : decode cX0_ran 21 = .ok (.dup, 1) := dk_89 (dk_at dksX0_ran_0 21 rfl rfl)
theorem dX0_ran_22 : decode cX0_ran 22 = .ok (.getfield 399, 3) := dk_180 1 143 (dk_at dksX0_ran_1 0 rfl rfl)
theorem dX0_ran_25 : decode cX0_ran 25 = .ok (.iconst 1, 1) := dk_4 (dk_at dksX0_ran_1 3 rfl rfl)
theorem dX0_ran_26 : decode cX0_ran 26 = .ok (.iadd, 1) := dk_96 (dk_at dksX0_ran_1 4 rfl rfl)
theorem dX0_ran_27 : decode cX0_ran 27 = .ok (.putfield 399, 3) := dk_181 1 143 (dk_at dksX0_ran_1 5 rfl rfl)
theorem dX0_ran_30 : decode cX0_ran 30 = .ok (.return_, 1) := dk_177 (dk_at dksX0_ran_1 8 rfl rfl)
abbrev cX0_trace : ByteArray := prog_1_method_76_code
def yX0_trace : MethodName := ⟨RX0, "trace", "(I)I"⟩
def dkwX0_trace_1 : List UInt8 := [167, 0, 4, 2, 172]
abbrev dktX0_trace_1 : List UInt8 := dkwX0_trace_1 ++ []
def dkwX0_trace_0 : List UInt8 := [27, 155, 0, 26, 27, 42, 180, 1, 143, 162, 0, 18, 27, 16, 24, 162, 0, 12, 42, 180, 0, 80, 27, 51]
abbrev dktX0_trace_0 : List UInt8 := dkwX0_trace_0 ++ dktX0_trace_1
theorem dksX0_trace_0 : cX0_trace.data.toList.drop 0 = dktX0_trace_0 := by decide +kernel
theorem dksX0_trace_1 : cX0_trace.data.toList.drop 24 = dktX0_trace_1 := dk_seg dksX0_trace_0 24 rfl rfl
theorem dX0_trace_0 : decode cX0_trace 0 = .ok (.iload_n 1, 1) := dk_27 (dk_at dksX0_trace_0 0 rfl rfl)
theorem dX0_trace_1 : decode cX0_trace 1 = .ok (.ifCond .lt 26, 3) := dk_155 0 26 (dk_at dksX0_trace_0 1 rfl rfl)
theorem dX0_trace_4 : decode cX0_trace 4 = .ok (.iload_n 1, 1) := dk_27 (dk_at dksX0_trace_0 4 rfl rfl)
theorem dX0_trace_5 : decode cX0_trace 5 = .ok (.aload_n 0, 1) := dk_42 (dk_at dksX0_trace_0 5 rfl rfl)
theorem dX0_trace_6 : decode cX0_trace 6 = .ok (.getfield 399, 3) := dk_180 1 143 (dk_at dksX0_trace_0 6 rfl rfl)
theorem dX0_trace_9 : decode cX0_trace 9 = .ok (.if_icmp .ge 18, 3) := dk_162 0 18 (dk_at dksX0_trace_0 9 rfl rfl)
theorem dX0_trace_12 : decode cX0_trace 12 = .ok (.iload_n 1, 1) := dk_27 (dk_at dksX0_trace_0 12 rfl rfl)
theorem dX0_trace_13 : decode cX0_trace 13 = .ok (.bipush 24, 2) := dk_16 24 (dk_at dksX0_trace_0 13 rfl rfl)
theorem dX0_trace_15 : decode cX0_trace 15 = .ok (.if_icmp .ge 12, 3) := dk_162 0 12 (dk_at dksX0_trace_0 15 rfl rfl)
theorem dX0_trace_18 : decode cX0_trace 18 = .ok (.aload_n 0, 1) := dk_42 (dk_at dksX0_trace_0 18 rfl rfl)
theorem dX0_trace_19 : decode cX0_trace 19 = .ok (.getfield 80, 3) := dk_180 0 80 (dk_at dksX0_trace_0 19 rfl rfl)
theorem dX0_trace_22 : decode cX0_trace 22 = .ok (.iload_n 1, 1) := dk_27 (dk_at dksX0_trace_0 22 rfl rfl)
theorem dX0_trace_23 : decode cX0_trace 23 = .ok (.baload, 1) := dk_51 (dk_at dksX0_trace_0 23 rfl rfl)
theorem dX0_trace_24 : decode cX0_trace 24 = .ok (.goto 4, 3) := dk_167 0 4 (dk_at dksX0_trace_1 0 rfl rfl)
theorem dX0_trace_27 : decode cX0_trace 27 = .ok (.iconst (-1), 1) := dk_2 (dk_at dksX0_trace_1 3 rfl rfl)
theorem dX0_trace_28 : decode cX0_trace 28 = .ok (.ireturn, 1) := dk_172 (dk_at dksX0_trace_1 4 rfl rfl)
abbrev cX0_keep : ByteArray := prog_1_method_77_code
def yX0_keep : MethodName := ⟨RX0, "keep", "(II)I"⟩
def dkwX0_keep_1 : List UInt8 := [180, 0, 91, 27, 28, 156, 0, 7, 1, 167, 0, 9, 42, 180, 0, 85, 28, 50, 83, 4, 172]
abbrev dktX0_keep_1 : List UInt8 := dkwX0_keep_1 ++ []
def dkwX0_keep_0 : List UInt8 := [27, 184, 0, 120, 153, 0, 16, 28, 2, 159, 0, 13, 42, 28, 182, 1, 177, 154, 0, 5, 2, 172, 42]
abbrev dktX0_keep_0 : List UInt8 := dkwX0_keep_0 ++ dktX0_keep_1
theorem dksX0_keep_0 : cX0_keep.data.toList.drop 0 = dktX0_keep_0 := by decide +kernel
theorem dksX0_keep_1 : cX0_keep.data.toList.drop 23 = dktX0_keep_1 := dk_seg dksX0_keep_0 23 rfl rfl
theorem dX0_keep_0 : decode cX0_keep 0 = .ok (.iload_n 1, 1) := dk_27 (dk_at dksX0_keep_0 0 rfl rfl)
theorem dX0_keep_1 : decode cX0_keep 1 = .ok (.invokestatic 120, 3) := dk_184 0 120 (dk_at dksX0_keep_0 1 rfl rfl)
theorem dX0_keep_4 : decode cX0_keep 4 = .ok (.ifCond .eq 16, 3) := dk_153 0 16 (dk_at dksX0_keep_0 4 rfl rfl)
theorem dX0_keep_7 : decode cX0_keep 7 = .ok (.iload_n 2, 1) := dk_28 (dk_at dksX0_keep_0 7 rfl rfl)
theorem dX0_keep_8 : decode cX0_keep 8 = .ok (.iconst (-1), 1) := dk_2 (dk_at dksX0_keep_0 8 rfl rfl)
theorem dX0_keep_9 : decode cX0_keep 9 = .ok (.if_icmp .eq 13, 3) := dk_159 0 13 (dk_at dksX0_keep_0 9 rfl rfl)
theorem dX0_keep_12 : decode cX0_keep 12 = .ok (.aload_n 0, 1) := dk_42 (dk_at dksX0_keep_0 12 rfl rfl)
theorem dX0_keep_13 : decode cX0_keep 13 = .ok (.iload_n 2, 1) := dk_28 (dk_at dksX0_keep_0 13 rfl rfl)
theorem dX0_keep_14 : decode cX0_keep 14 = .ok (.invokevirtual 433, 3) := dk_182 1 177 (dk_at dksX0_keep_0 14 rfl rfl)
theorem dX0_keep_17 : decode cX0_keep 17 = .ok (.ifCond .ne 5, 3) := dk_154 0 5 (dk_at dksX0_keep_0 17 rfl rfl)
theorem dX0_keep_20 : decode cX0_keep 20 = .ok (.iconst (-1), 1) := dk_2 (dk_at dksX0_keep_0 20 rfl rfl)
theorem dX0_keep_21 : decode cX0_keep 21 = .ok (.ireturn, 1) := dk_172 (dk_at dksX0_keep_0 21 rfl rfl)
theorem dX0_keep_22 : decode cX0_keep 22 = .ok (.aload_n 0, 1) := dk_42 (dk_at dksX0_keep_0 22 rfl rfl)
theorem dX0_keep_23 : decode cX0_keep 23 = .ok (.getfield 91, 3) := dk_180 0 91 (dk_at dksX0_keep_1 0 rfl rfl)
theorem dX0_keep_26 : decode cX0_keep 26 = .ok (.iload_n 1, 1) := dk_27 (dk_at dksX0_keep_1 3 rfl rfl)
theorem dX0_keep_27 : decode cX0_keep 27 = .ok (.iload_n 2, 1) := dk_28 (dk_at dksX0_keep_1 4 rfl rfl)
theorem dX0_keep_28 : decode cX0_keep 28 = .ok (.ifCond .ge 7, 3) := dk_156 0 7 (dk_at dksX0_keep_1 5 rfl rfl)
theorem dX0_keep_31 : decode cX0_keep 31 = .ok (.aconst_null, 1) := dk_1 (dk_at dksX0_keep_1 8 rfl rfl)
theorem dX0_keep_32 : decode cX0_keep 32 = .ok (.goto 9, 3) := dk_167 0 9 (dk_at dksX0_keep_1 9 rfl rfl)
theorem dX0_keep_35 : decode cX0_keep 35 = .ok (.aload_n 0, 1) := dk_42 (dk_at dksX0_keep_1 12 rfl rfl)
theorem dX0_keep_36 : decode cX0_keep 36 = .ok (.getfield 85, 3) := dk_180 0 85 (dk_at dksX0_keep_1 13 rfl rfl)
theorem dX0_keep_39 : decode cX0_keep 39 = .ok (.iload_n 2, 1) := dk_28 (dk_at dksX0_keep_1 16 rfl rfl)
theorem dX0_keep_40 : decode cX0_keep 40 = .ok (.aaload, 1) := dk_50 (dk_at dksX0_keep_1 17 rfl rfl)
theorem dX0_keep_41 : decode cX0_keep 41 = .ok (.aastore, 1) := dk_83 (dk_at dksX0_keep_1 18 rfl rfl)
theorem dX0_keep_42 : decode cX0_keep 42 = .ok (.iconst 1, 1) := dk_4 (dk_at dksX0_keep_1 19 rfl rfl)
theorem dX0_keep_43 : decode cX0_keep 43 = .ok (.ireturn, 1) := dk_172 (dk_at dksX0_keep_1 20 rfl rfl)
abbrev cX0_row : ByteArray := prog_1_method_79_code
def yX0_row : MethodName := ⟨RX0, "row", "(III)I"⟩
def dkwX0_row_1 : List UInt8 := [42, 180, 0, 91, 27, 28, 29, 184, 1, 211, 83, 167, 0, 8, 58, 4, 16, 242, 172, 4, 172]
abbrev dktX0_row_1 : List UInt8 := dkwX0_row_1 ++ []
def dkwX0_row_0 : List UInt8 := [27, 184, 0, 120, 153, 0, 18, 28, 3, 7, 184, 0, 98, 153, 0, 9, 29, 16, 60, 164, 0, 5, 2, 172]
abbrev dktX0_row_0 : List UInt8 := dkwX0_row_0 ++ dktX0_row_1
theorem dksX0_row_0 : cX0_row.data.toList.drop 0 = dktX0_row_0 := by decide +kernel
theorem dksX0_row_1 : cX0_row.data.toList.drop 24 = dktX0_row_1 := dk_seg dksX0_row_0 24 rfl rfl
theorem dX0_row_0 : decode cX0_row 0 = .ok (.iload_n 1, 1) := dk_27 (dk_at dksX0_row_0 0 rfl rfl)
theorem dX0_row_1 : decode cX0_row 1 = .ok (.invokestatic 120, 3) := dk_184 0 120 (dk_at dksX0_row_0 1 rfl rfl)
theorem dX0_row_4 : decode cX0_row 4 = .ok (.ifCond .eq 18, 3) := dk_153 0 18 (dk_at dksX0_row_0 4 rfl rfl)
theorem dX0_row_7 : decode cX0_row 7 = .ok (.iload_n 2, 1) := dk_28 (dk_at dksX0_row_0 7 rfl rfl)
theorem dX0_row_8 : decode cX0_row 8 = .ok (.iconst 0, 1) := dk_3 (dk_at dksX0_row_0 8 rfl rfl)
theorem dX0_row_9 : decode cX0_row 9 = .ok (.iconst 4, 1) := dk_7 (dk_at dksX0_row_0 9 rfl rfl)
theorem dX0_row_10 : decode cX0_row 10 = .ok (.invokestatic 98, 3) := dk_184 0 98 (dk_at dksX0_row_0 10 rfl rfl)
theorem dX0_row_13 : decode cX0_row 13 = .ok (.ifCond .eq 9, 3) := dk_153 0 9 (dk_at dksX0_row_0 13 rfl rfl)
theorem dX0_row_16 : decode cX0_row 16 = .ok (.iload_n 3, 1) := dk_29 (dk_at dksX0_row_0 16 rfl rfl)
theorem dX0_row_17 : decode cX0_row 17 = .ok (.bipush 60, 2) := dk_16 60 (dk_at dksX0_row_0 17 rfl rfl)
theorem dX0_row_19 : decode cX0_row 19 = .ok (.if_icmp .le 5, 3) := dk_164 0 5 (dk_at dksX0_row_0 19 rfl rfl)
theorem dX0_row_22 : decode cX0_row 22 = .ok (.iconst (-1), 1) := dk_2 (dk_at dksX0_row_0 22 rfl rfl)
theorem dX0_row_23 : decode cX0_row 23 = .ok (.ireturn, 1) := dk_172 (dk_at dksX0_row_0 23 rfl rfl)
theorem dX0_row_24 : decode cX0_row 24 = .ok (.aload_n 0, 1) := dk_42 (dk_at dksX0_row_1 0 rfl rfl)
theorem dX0_row_25 : decode cX0_row 25 = .ok (.getfield 91, 3) := dk_180 0 91 (dk_at dksX0_row_1 1 rfl rfl)
theorem dX0_row_28 : decode cX0_row 28 = .ok (.iload_n 1, 1) := dk_27 (dk_at dksX0_row_1 4 rfl rfl)
theorem dX0_row_29 : decode cX0_row 29 = .ok (.iload_n 2, 1) := dk_28 (dk_at dksX0_row_1 5 rfl rfl)
theorem dX0_row_30 : decode cX0_row 30 = .ok (.iload_n 3, 1) := dk_29 (dk_at dksX0_row_1 6 rfl rfl)
theorem dX0_row_31 : decode cX0_row 31 = .ok (.invokestatic 467, 3) := dk_184 1 211 (dk_at dksX0_row_1 7 rfl rfl)
theorem dX0_row_34 : decode cX0_row 34 = .ok (.aastore, 1) := dk_83 (dk_at dksX0_row_1 10 rfl rfl)
theorem dX0_row_35 : decode cX0_row 35 = .ok (.goto 8, 3) := dk_167 0 8 (dk_at dksX0_row_1 11 rfl rfl)
theorem dX0_row_38 : decode cX0_row 38 = .ok (.astore 4, 2) := dk_58 4 (dk_at dksX0_row_1 14 rfl rfl)
theorem dX0_row_40 : decode cX0_row 40 = .ok (.bipush (-14), 2) := dk_16 242 (dk_at dksX0_row_1 16 rfl rfl)
theorem dX0_row_42 : decode cX0_row 42 = .ok (.ireturn, 1) := dk_172 (dk_at dksX0_row_1 18 rfl rfl)
theorem dX0_row_43 : decode cX0_row 43 = .ok (.iconst 1, 1) := dk_4 (dk_at dksX0_row_1 19 rfl rfl)
theorem dX0_row_44 : decode cX0_row 44 = .ok (.ireturn, 1) := dk_172 (dk_at dksX0_row_1 20 rfl rfl)
abbrev cX0_newRow : ByteArray := prog_1_method_78_code
def yX0_newRow : MethodName := ⟨RX0, "newRow", "(II)LThreeSnowballs$Row;"⟩
def dkwX0_newRow_3 : List UInt8 := [183, 1, 204, 176, 187, 1, 205, 89, 27, 183, 1, 207, 176, 187, 1, 208, 89, 27, 183, 1, 210, 176]
abbrev dktX0_newRow_3 : List UInt8 := dkwX0_newRow_3 ++ []
def dkwX0_newRow_2 : List UInt8 := [187, 0, 124, 89, 27, 183, 1, 196, 176, 187, 1, 199, 89, 27, 183, 1, 201, 176, 187, 1, 202, 89, 27]
abbrev dktX0_newRow_2 : List UInt8 := dkwX0_newRow_2 ++ dktX0_newRow_3
def dkwX0_newRow_1 : List UInt8 := [170, 0, 0, 0, 0, 0, 67, 0, 0, 0, 0, 0, 0, 0, 3, 0, 0, 0, 31, 0, 0, 0, 40, 0, 0, 0, 49, 0, 0, 0, 58]
abbrev dktX0_newRow_1 : List UInt8 := dkwX0_newRow_1 ++ dktX0_newRow_2
def dkwX0_newRow_0 : List UInt8 := [26]
abbrev dktX0_newRow_0 : List UInt8 := dkwX0_newRow_0 ++ dktX0_newRow_1
theorem dksX0_newRow_0 : cX0_newRow.data.toList.drop 0 = dktX0_newRow_0 := by decide +kernel
theorem dksX0_newRow_1 : cX0_newRow.data.toList.drop 1 = dktX0_newRow_1 := dk_seg dksX0_newRow_0 1 rfl rfl
theorem dksX0_newRow_2 : cX0_newRow.data.toList.drop 32 = dktX0_newRow_2 := dk_seg dksX0_newRow_1 31 rfl rfl
theorem dksX0_newRow_3 : cX0_newRow.data.toList.drop 55 = dktX0_newRow_3 := dk_seg dksX0_newRow_2 23 rfl rfl
theorem dX0_newRow_0 : decode cX0_newRow 0 = .ok (.iload_n 0, 1) := dk_26 (dk_at dksX0_newRow_0 0 rfl rfl)
theorem dX0_newRow_1 : decode cX0_newRow 1 = .ok (.tableswitch 67 0 3 #[31, 40, 49, 58], 31) := by decide +kernel
theorem dX0_newRow_32 : decode cX0_newRow 32 = .ok (.new 124, 3) := dk_187 0 124 (dk_at dksX0_newRow_2 0 rfl rfl)
theorem dX0_newRow_35 : decode cX0_newRow 35 = .ok (.dup, 1) := dk_89 (dk_at dksX0_newRow_2 3 rfl rfl)
theorem dX0_newRow_36 : decode cX0_newRow 36 = .ok (.iload_n 1, 1) := dk_27 (dk_at dksX0_newRow_2 4 rfl rfl)
theorem dX0_newRow_37 : decode cX0_newRow 37 = .ok (.invokespecial 452, 3) := dk_183 1 196 (dk_at dksX0_newRow_2 5 rfl rfl)
theorem dX0_newRow_40 : decode cX0_newRow 40 = .ok (.areturn, 1) := dk_176 (dk_at dksX0_newRow_2 8 rfl rfl)
theorem dX0_newRow_41 : decode cX0_newRow 41 = .ok (.new 455, 3) := dk_187 1 199 (dk_at dksX0_newRow_2 9 rfl rfl)
theorem dX0_newRow_44 : decode cX0_newRow 44 = .ok (.dup, 1) := dk_89 (dk_at dksX0_newRow_2 12 rfl rfl)
theorem dX0_newRow_45 : decode cX0_newRow 45 = .ok (.iload_n 1, 1) := dk_27 (dk_at dksX0_newRow_2 13 rfl rfl)
theorem dX0_newRow_46 : decode cX0_newRow 46 = .ok (.invokespecial 457, 3) := dk_183 1 201 (dk_at dksX0_newRow_2 14 rfl rfl)
theorem dX0_newRow_49 : decode cX0_newRow 49 = .ok (.areturn, 1) := dk_176 (dk_at dksX0_newRow_2 17 rfl rfl)
theorem dX0_newRow_50 : decode cX0_newRow 50 = .ok (.new 458, 3) := dk_187 1 202 (dk_at dksX0_newRow_2 18 rfl rfl)
theorem dX0_newRow_53 : decode cX0_newRow 53 = .ok (.dup, 1) := dk_89 (dk_at dksX0_newRow_2 21 rfl rfl)
theorem dX0_newRow_54 : decode cX0_newRow 54 = .ok (.iload_n 1, 1) := dk_27 (dk_at dksX0_newRow_2 22 rfl rfl)
theorem dX0_newRow_55 : decode cX0_newRow 55 = .ok (.invokespecial 460, 3) := dk_183 1 204 (dk_at dksX0_newRow_3 0 rfl rfl)
theorem dX0_newRow_58 : decode cX0_newRow 58 = .ok (.areturn, 1) := dk_176 (dk_at dksX0_newRow_3 3 rfl rfl)
theorem dX0_newRow_59 : decode cX0_newRow 59 = .ok (.new 461, 3) := dk_187 1 205 (dk_at dksX0_newRow_3 4 rfl rfl)
theorem dX0_newRow_62 : decode cX0_newRow 62 = .ok (.dup, 1) := dk_89 (dk_at dksX0_newRow_3 7 rfl rfl)
theorem dX0_newRow_63 : decode cX0_newRow 63 = .ok (.iload_n 1, 1) := dk_27 (dk_at dksX0_newRow_3 8 rfl rfl)
theorem dX0_newRow_64 : decode cX0_newRow 64 = .ok (.invokespecial 463, 3) := dk_183 1 207 (dk_at dksX0_newRow_3 9 rfl rfl)
theorem dX0_newRow_67 : decode cX0_newRow 67 = .ok (.areturn, 1) := dk_176 (dk_at dksX0_newRow_3 12 rfl rfl)
theorem dX0_newRow_68 : decode cX0_newRow 68 = .ok (.new 464, 3) := dk_187 1 208 (dk_at dksX0_newRow_3 13 rfl rfl)
theorem dX0_newRow_71 : decode cX0_newRow 71 = .ok (.dup, 1) := dk_89 (dk_at dksX0_newRow_3 16 rfl rfl)
theorem dX0_newRow_72 : decode cX0_newRow 72 = .ok (.iload_n 1, 1) := dk_27 (dk_at dksX0_newRow_3 17 rfl rfl)
theorem dX0_newRow_73 : decode cX0_newRow 73 = .ok (.invokespecial 466, 3) := dk_183 1 210 (dk_at dksX0_newRow_3 18 rfl rfl)
theorem dX0_newRow_76 : decode cX0_newRow 76 = .ok (.areturn, 1) := dk_176 (dk_at dksX0_newRow_3 21 rfl rfl)
abbrev cX0_put : ByteArray := prog_1_method_80_code
def yX0_put : MethodName := ⟨RX0, "put", "(IIJ)I"⟩
def dkwX0_put_1 : List UInt8 := [153, 0, 7, 4, 167, 0, 4, 2, 172, 58, 5, 16, 245, 172, 58, 5, 16, 244, 172, 58, 5, 16, 243, 172]
abbrev dktX0_put_1 : List UInt8 := dkwX0_put_1 ++ []
def dkwX0_put_0 : List UInt8 := [27, 184, 0, 120, 154, 0, 5, 2, 172, 42, 180, 0, 91, 27, 50, 192, 1, 217, 28, 33, 182, 1, 219]
abbrev dktX0_put_0 : List UInt8 := dkwX0_put_0 ++ dktX0_put_1
theorem dksX0_put_0 : cX0_put.data.toList.drop 0 = dktX0_put_0 := by decide +kernel
theorem dksX0_put_1 : cX0_put.data.toList.drop 23 = dktX0_put_1 := dk_seg dksX0_put_0 23 rfl rfl
theorem dX0_put_0 : decode cX0_put 0 = .ok (.iload_n 1, 1) := dk_27 (dk_at dksX0_put_0 0 rfl rfl)
theorem dX0_put_1 : decode cX0_put 1 = .ok (.invokestatic 120, 3) := dk_184 0 120 (dk_at dksX0_put_0 1 rfl rfl)
theorem dX0_put_4 : decode cX0_put 4 = .ok (.ifCond .ne 5, 3) := dk_154 0 5 (dk_at dksX0_put_0 4 rfl rfl)
theorem dX0_put_7 : decode cX0_put 7 = .ok (.iconst (-1), 1) := dk_2 (dk_at dksX0_put_0 7 rfl rfl)
theorem dX0_put_8 : decode cX0_put 8 = .ok (.ireturn, 1) := dk_172 (dk_at dksX0_put_0 8 rfl rfl)
theorem dX0_put_9 : decode cX0_put 9 = .ok (.aload_n 0, 1) := dk_42 (dk_at dksX0_put_0 9 rfl rfl)
theorem dX0_put_10 : decode cX0_put 10 = .ok (.getfield 91, 3) := dk_180 0 91 (dk_at dksX0_put_0 10 rfl rfl)
theorem dX0_put_13 : decode cX0_put 13 = .ok (.iload_n 1, 1) := dk_27 (dk_at dksX0_put_0 13 rfl rfl)
theorem dX0_put_14 : decode cX0_put 14 = .ok (.aaload, 1) := dk_50 (dk_at dksX0_put_0 14 rfl rfl)
theorem dX0_put_15 : decode cX0_put 15 = .ok (.checkcast 473, 3) := dk_192 1 217 (dk_at dksX0_put_0 15 rfl rfl)
theorem dX0_put_18 : decode cX0_put 18 = .ok (.iload_n 2, 1) := dk_28 (dk_at dksX0_put_0 18 rfl rfl)
theorem dX0_put_19 : decode cX0_put 19 = .ok (.lload_n 3, 1) := dk_33 (dk_at dksX0_put_0 19 rfl rfl)
theorem dX0_put_20 : decode cX0_put 20 = .ok (.invokevirtual 475, 3) := dk_182 1 219 (dk_at dksX0_put_0 20 rfl rfl)
theorem dX0_put_23 : decode cX0_put 23 = .ok (.ifCond .eq 7, 3) := dk_153 0 7 (dk_at dksX0_put_1 0 rfl rfl)
theorem dX0_put_26 : decode cX0_put 26 = .ok (.iconst 1, 1) := dk_4 (dk_at dksX0_put_1 3 rfl rfl)
theorem dX0_put_27 : decode cX0_put 27 = .ok (.goto 4, 3) := dk_167 0 4 (dk_at dksX0_put_1 4 rfl rfl)
theorem dX0_put_30 : decode cX0_put 30 = .ok (.iconst (-1), 1) := dk_2 (dk_at dksX0_put_1 7 rfl rfl)
theorem dX0_put_31 : decode cX0_put 31 = .ok (.ireturn, 1) := dk_172 (dk_at dksX0_put_1 8 rfl rfl)
theorem dX0_put_32 : decode cX0_put 32 = .ok (.astore 5, 2) := dk_58 5 (dk_at dksX0_put_1 9 rfl rfl)
theorem dX0_put_34 : decode cX0_put 34 = .ok (.bipush (-11), 2) := dk_16 245 (dk_at dksX0_put_1 11 rfl rfl)
theorem dX0_put_36 : decode cX0_put 36 = .ok (.ireturn, 1) := dk_172 (dk_at dksX0_put_1 13 rfl rfl)
theorem dX0_put_37 : decode cX0_put 37 = .ok (.astore 5, 2) := dk_58 5 (dk_at dksX0_put_1 14 rfl rfl)
theorem dX0_put_39 : decode cX0_put 39 = .ok (.bipush (-12), 2) := dk_16 244 (dk_at dksX0_put_1 16 rfl rfl)
theorem dX0_put_41 : decode cX0_put 41 = .ok (.ireturn, 1) := dk_172 (dk_at dksX0_put_1 18 rfl rfl)
theorem dX0_put_42 : decode cX0_put 42 = .ok (.astore 5, 2) := dk_58 5 (dk_at dksX0_put_1 19 rfl rfl)
theorem dX0_put_44 : decode cX0_put 44 = .ok (.bipush (-13), 2) := dk_16 243 (dk_at dksX0_put_1 21 rfl rfl)
theorem dX0_put_46 : decode cX0_put 46 = .ok (.ireturn, 1) := dk_172 (dk_at dksX0_put_1 23 rfl rfl)
abbrev cX0_element : ByteArray := prog_1_method_81_code
def yX0_element : MethodName := ⟨RX0, "element", "(II)J"⟩
def dkwX0_element_1 : List UInt8 := [173, 78, 20, 1, 40, 173, 78, 20, 1, 40, 173, 78, 20, 1, 40, 173]
abbrev dktX0_element_1 : List UInt8 := dkwX0_element_1 ++ []
def dkwX0_element_0 : List UInt8 := [27, 184, 0, 120, 154, 0, 7, 20, 1, 40, 173, 42, 180, 0, 91, 27, 50, 192, 1, 217, 28, 182, 1, 223]
abbrev dktX0_element_0 : List UInt8 := dkwX0_element_0 ++ dktX0_element_1
theorem dksX0_element_0 : cX0_element.data.toList.drop 0 = dktX0_element_0 := by decide +kernel
theorem dksX0_element_1 : cX0_element.data.toList.drop 24 = dktX0_element_1 := dk_seg dksX0_element_0 24 rfl rfl
theorem dX0_element_0 : decode cX0_element 0 = .ok (.iload_n 1, 1) := dk_27 (dk_at dksX0_element_0 0 rfl rfl)
theorem dX0_element_1 : decode cX0_element 1 = .ok (.invokestatic 120, 3) := dk_184 0 120 (dk_at dksX0_element_0 1 rfl rfl)
theorem dX0_element_4 : decode cX0_element 4 = .ok (.ifCond .ne 7, 3) := dk_154 0 7 (dk_at dksX0_element_0 4 rfl rfl)
theorem dX0_element_7 : decode cX0_element 7 = .ok (.ldc2_w 296, 3) := dk_20 1 40 (dk_at dksX0_element_0 7 rfl rfl)
theorem dX0_element_10 : decode cX0_element 10 = .ok (.lreturn, 1) := dk_173 (dk_at dksX0_element_0 10 rfl rfl)
theorem dX0_element_11 : decode cX0_element 11 = .ok (.aload_n 0, 1) := dk_42 (dk_at dksX0_element_0 11 rfl rfl)
theorem dX0_element_12 : decode cX0_element 12 = .ok (.getfield 91, 3) := dk_180 0 91 (dk_at dksX0_element_0 12 rfl rfl)
theorem dX0_element_15 : decode cX0_element 15 = .ok (.iload_n 1, 1) := dk_27 (dk_at dksX0_element_0 15 rfl rfl)
theorem dX0_element_16 : decode cX0_element 16 = .ok (.aaload, 1) := dk_50 (dk_at dksX0_element_0 16 rfl rfl)
theorem dX0_element_17 : decode cX0_element 17 = .ok (.checkcast 473, 3) := dk_192 1 217 (dk_at dksX0_element_0 17 rfl rfl)
theorem dX0_element_20 : decode cX0_element 20 = .ok (.iload_n 2, 1) := dk_28 (dk_at dksX0_element_0 20 rfl rfl)
theorem dX0_element_21 : decode cX0_element 21 = .ok (.invokevirtual 479, 3) := dk_182 1 223 (dk_at dksX0_element_0 21 rfl rfl)
theorem dX0_element_24 : decode cX0_element 24 = .ok (.lreturn, 1) := dk_173 (dk_at dksX0_element_1 0 rfl rfl)
theorem dX0_element_25 : decode cX0_element 25 = .ok (.astore_n 3, 1) := dk_78 (dk_at dksX0_element_1 1 rfl rfl)
theorem dX0_element_26 : decode cX0_element 26 = .ok (.ldc2_w 296, 3) := dk_20 1 40 (dk_at dksX0_element_1 2 rfl rfl)
theorem dX0_element_29 : decode cX0_element 29 = .ok (.lreturn, 1) := dk_173 (dk_at dksX0_element_1 5 rfl rfl)
theorem dX0_element_30 : decode cX0_element 30 = .ok (.astore_n 3, 1) := dk_78 (dk_at dksX0_element_1 6 rfl rfl)
theorem dX0_element_31 : decode cX0_element 31 = .ok (.ldc2_w 296, 3) := dk_20 1 40 (dk_at dksX0_element_1 7 rfl rfl)
theorem dX0_element_34 : decode cX0_element 34 = .ok (.lreturn, 1) := dk_173 (dk_at dksX0_element_1 10 rfl rfl)
theorem dX0_element_35 : decode cX0_element 35 = .ok (.astore_n 3, 1) := dk_78 (dk_at dksX0_element_1 11 rfl rfl)
theorem dX0_element_36 : decode cX0_element 36 = .ok (.ldc2_w 296, 3) := dk_20 1 40 (dk_at dksX0_element_1 12 rfl rfl)
theorem dX0_element_39 : decode cX0_element 39 = .ok (.lreturn, 1) := dk_173 (dk_at dksX0_element_1 15 rfl rfl)
abbrev cX0_shift : ByteArray := prog_1_method_82_code
def yX0_shift : MethodName := ⟨RX0, "shift", "(IIIII)I"⟩
def dkwX0_shift_3 : List UInt8 := [172, 58, 6, 16, 243, 172, 21, 5, 172]
abbrev dktX0_shift_3 : List UInt8 := dkwX0_shift_3 ++ []
def dkwX0_shift_2 : List UInt8 := [28, 42, 180, 0, 91, 29, 50, 192, 1, 217, 21, 4, 21, 5, 182, 1, 224, 167, 0, 13, 58, 6, 16, 244]
abbrev dktX0_shift_2 : List UInt8 := dkwX0_shift_2 ++ dktX0_shift_3
def dkwX0_shift_1 : List UInt8 := [198, 0, 12, 42, 180, 0, 91, 29, 50, 199, 0, 6, 16, 245, 172, 42, 180, 0, 91, 27, 50, 192, 1, 217]
abbrev dktX0_shift_1 : List UInt8 := dkwX0_shift_1 ++ dktX0_shift_2
def dkwX0_shift_0 : List UInt8 := [27, 184, 0, 120, 153, 0, 10, 29, 184, 0, 120, 154, 0, 5, 2, 172, 42, 180, 0, 91, 27, 50]
abbrev dktX0_shift_0 : List UInt8 := dkwX0_shift_0 ++ dktX0_shift_1
theorem dksX0_shift_0 : cX0_shift.data.toList.drop 0 = dktX0_shift_0 := by decide +kernel
theorem dksX0_shift_1 : cX0_shift.data.toList.drop 22 = dktX0_shift_1 := dk_seg dksX0_shift_0 22 rfl rfl
theorem dksX0_shift_2 : cX0_shift.data.toList.drop 46 = dktX0_shift_2 := dk_seg dksX0_shift_1 24 rfl rfl
theorem dksX0_shift_3 : cX0_shift.data.toList.drop 70 = dktX0_shift_3 := dk_seg dksX0_shift_2 24 rfl rfl
theorem dX0_shift_0 : decode cX0_shift 0 = .ok (.iload_n 1, 1) := dk_27 (dk_at dksX0_shift_0 0 rfl rfl)
theorem dX0_shift_1 : decode cX0_shift 1 = .ok (.invokestatic 120, 3) := dk_184 0 120 (dk_at dksX0_shift_0 1 rfl rfl)
theorem dX0_shift_4 : decode cX0_shift 4 = .ok (.ifCond .eq 10, 3) := dk_153 0 10 (dk_at dksX0_shift_0 4 rfl rfl)
theorem dX0_shift_7 : decode cX0_shift 7 = .ok (.iload_n 3, 1) := dk_29 (dk_at dksX0_shift_0 7 rfl rfl)
theorem dX0_shift_8 : decode cX0_shift 8 = .ok (.invokestatic 120, 3) := dk_184 0 120 (dk_at dksX0_shift_0 8 rfl rfl)
theorem dX0_shift_11 : decode cX0_shift 11 = .ok (.ifCond .ne 5, 3) := dk_154 0 5 (dk_at dksX0_shift_0 11 rfl rfl)
theorem dX0_shift_14 : decode cX0_shift 14 = .ok (.iconst (-1), 1) := dk_2 (dk_at dksX0_shift_0 14 rfl rfl)
theorem dX0_shift_15 : decode cX0_shift 15 = .ok (.ireturn, 1) := dk_172 (dk_at dksX0_shift_0 15 rfl rfl)
theorem dX0_shift_16 : decode cX0_shift 16 = .ok (.aload_n 0, 1) := dk_42 (dk_at dksX0_shift_0 16 rfl rfl)
theorem dX0_shift_17 : decode cX0_shift 17 = .ok (.getfield 91, 3) := dk_180 0 91 (dk_at dksX0_shift_0 17 rfl rfl)
theorem dX0_shift_20 : decode cX0_shift 20 = .ok (.iload_n 1, 1) := dk_27 (dk_at dksX0_shift_0 20 rfl rfl)
theorem dX0_shift_21 : decode cX0_shift 21 = .ok (.aaload, 1) := dk_50 (dk_at dksX0_shift_0 21 rfl rfl)
theorem dX0_shift_22 : decode cX0_shift 22 = .ok (.ifnull 12, 3) := dk_198 0 12 (dk_at dksX0_shift_1 0 rfl rfl)
theorem dX0_shift_25 : decode cX0_shift 25 = .ok (.aload_n 0, 1) := dk_42 (dk_at dksX0_shift_1 3 rfl rfl)
theorem dX0_shift_26 : decode cX0_shift 26 = .ok (.getfield 91, 3) := dk_180 0 91 (dk_at dksX0_shift_1 4 rfl rfl)
theorem dX0_shift_29 : decode cX0_shift 29 = .ok (.iload_n 3, 1) := dk_29 (dk_at dksX0_shift_1 7 rfl rfl)
theorem dX0_shift_30 : decode cX0_shift 30 = .ok (.aaload, 1) := dk_50 (dk_at dksX0_shift_1 8 rfl rfl)
theorem dX0_shift_31 : decode cX0_shift 31 = .ok (.ifnonnull 6, 3) := dk_199 0 6 (dk_at dksX0_shift_1 9 rfl rfl)
theorem dX0_shift_34 : decode cX0_shift 34 = .ok (.bipush (-11), 2) := dk_16 245 (dk_at dksX0_shift_1 12 rfl rfl)
theorem dX0_shift_36 : decode cX0_shift 36 = .ok (.ireturn, 1) := dk_172 (dk_at dksX0_shift_1 14 rfl rfl)
theorem dX0_shift_37 : decode cX0_shift 37 = .ok (.aload_n 0, 1) := dk_42 (dk_at dksX0_shift_1 15 rfl rfl)
theorem dX0_shift_38 : decode cX0_shift 38 = .ok (.getfield 91, 3) := dk_180 0 91 (dk_at dksX0_shift_1 16 rfl rfl)
theorem dX0_shift_41 : decode cX0_shift 41 = .ok (.iload_n 1, 1) := dk_27 (dk_at dksX0_shift_1 19 rfl rfl)
theorem dX0_shift_42 : decode cX0_shift 42 = .ok (.aaload, 1) := dk_50 (dk_at dksX0_shift_1 20 rfl rfl)
theorem dX0_shift_43 : decode cX0_shift 43 = .ok (.checkcast 473, 3) := dk_192 1 217 (dk_at dksX0_shift_1 21 rfl rfl)
theorem dX0_shift_46 : decode cX0_shift 46 = .ok (.iload_n 2, 1) := dk_28 (dk_at dksX0_shift_2 0 rfl rfl)
theorem dX0_shift_47 : decode cX0_shift 47 = .ok (.aload_n 0, 1) := dk_42 (dk_at dksX0_shift_2 1 rfl rfl)
theorem dX0_shift_48 : decode cX0_shift 48 = .ok (.getfield 91, 3) := dk_180 0 91 (dk_at dksX0_shift_2 2 rfl rfl)
theorem dX0_shift_51 : decode cX0_shift 51 = .ok (.iload_n 3, 1) := dk_29 (dk_at dksX0_shift_2 5 rfl rfl)
theorem dX0_shift_52 : decode cX0_shift 52 = .ok (.aaload, 1) := dk_50 (dk_at dksX0_shift_2 6 rfl rfl)
theorem dX0_shift_53 : decode cX0_shift 53 = .ok (.checkcast 473, 3) := dk_192 1 217 (dk_at dksX0_shift_2 7 rfl rfl)
theorem dX0_shift_56 : decode cX0_shift 56 = .ok (.iload 4, 2) := dk_21 4 (dk_at dksX0_shift_2 10 rfl rfl)
theorem dX0_shift_58 : decode cX0_shift 58 = .ok (.iload 5, 2) := dk_21 5 (dk_at dksX0_shift_2 12 rfl rfl)
theorem dX0_shift_60 : decode cX0_shift 60 = .ok (.invokevirtual 480, 3) := dk_182 1 224 (dk_at dksX0_shift_2 14 rfl rfl)
theorem dX0_shift_63 : decode cX0_shift 63 = .ok (.goto 13, 3) := dk_167 0 13 (dk_at dksX0_shift_2 17 rfl rfl)
theorem dX0_shift_66 : decode cX0_shift 66 = .ok (.astore 6, 2) := dk_58 6 (dk_at dksX0_shift_2 20 rfl rfl)
theorem dX0_shift_68 : decode cX0_shift 68 = .ok (.bipush (-12), 2) := dk_16 244 (dk_at dksX0_shift_2 22 rfl rfl)
theorem dX0_shift_70 : decode cX0_shift 70 = .ok (.ireturn, 1) := dk_172 (dk_at dksX0_shift_3 0 rfl rfl)
theorem dX0_shift_71 : decode cX0_shift 71 = .ok (.astore 6, 2) := dk_58 6 (dk_at dksX0_shift_3 1 rfl rfl)
theorem dX0_shift_73 : decode cX0_shift 73 = .ok (.bipush (-13), 2) := dk_16 243 (dk_at dksX0_shift_3 3 rfl rfl)
theorem dX0_shift_75 : decode cX0_shift 75 = .ok (.ireturn, 1) := dk_172 (dk_at dksX0_shift_3 5 rfl rfl)
theorem dX0_shift_76 : decode cX0_shift 76 = .ok (.iload 5, 2) := dk_21 5 (dk_at dksX0_shift_3 6 rfl rfl)
theorem dX0_shift_78 : decode cX0_shift 78 = .ok (.ireturn, 1) := dk_172 (dk_at dksX0_shift_3 8 rfl rfl)
abbrev cX0_taken : ByteArray := prog_1_method_83_code
def yX0_taken : MethodName := ⟨RX0, "taken", "(II)I"⟩
def dkwX0_taken_2 : List UInt8 := [16, 245, 172, 78, 16, 244, 172]
abbrev dktX0_taken_2 : List UInt8 := dkwX0_taken_2 ++ []
def dkwX0_taken_1 : List UInt8 := [50, 192, 0, 83, 78, 45, 28, 182, 1, 228, 153, 0, 10, 45, 182, 1, 231, 167, 0, 5, 16, 244, 172, 78]
abbrev dktX0_taken_1 : List UInt8 := dkwX0_taken_1 ++ dktX0_taken_2
def dkwX0_taken_0 : List UInt8 := [27, 184, 0, 120, 153, 0, 13, 28, 3, 16, 7, 184, 0, 98, 154, 0, 5, 2, 172, 42, 180, 0, 91, 27]
abbrev dktX0_taken_0 : List UInt8 := dkwX0_taken_0 ++ dktX0_taken_1
theorem dksX0_taken_0 : cX0_taken.data.toList.drop 0 = dktX0_taken_0 := by decide +kernel
theorem dksX0_taken_1 : cX0_taken.data.toList.drop 24 = dktX0_taken_1 := dk_seg dksX0_taken_0 24 rfl rfl
theorem dksX0_taken_2 : cX0_taken.data.toList.drop 48 = dktX0_taken_2 := dk_seg dksX0_taken_1 24 rfl rfl
theorem dX0_taken_0 : decode cX0_taken 0 = .ok (.iload_n 1, 1) := dk_27 (dk_at dksX0_taken_0 0 rfl rfl)
theorem dX0_taken_1 : decode cX0_taken 1 = .ok (.invokestatic 120, 3) := dk_184 0 120 (dk_at dksX0_taken_0 1 rfl rfl)
theorem dX0_taken_4 : decode cX0_taken 4 = .ok (.ifCond .eq 13, 3) := dk_153 0 13 (dk_at dksX0_taken_0 4 rfl rfl)
theorem dX0_taken_7 : decode cX0_taken 7 = .ok (.iload_n 2, 1) := dk_28 (dk_at dksX0_taken_0 7 rfl rfl)
theorem dX0_taken_8 : decode cX0_taken 8 = .ok (.iconst 0, 1) := dk_3 (dk_at dksX0_taken_0 8 rfl rfl)
theorem dX0_taken_9 : decode cX0_taken 9 = .ok (.bipush 7, 2) := dk_16 7 (dk_at dksX0_taken_0 9 rfl rfl)
theorem dX0_taken_11 : decode cX0_taken 11 = .ok (.invokestatic 98, 3) := dk_184 0 98 (dk_at dksX0_taken_0 11 rfl rfl)
theorem dX0_taken_14 : decode cX0_taken 14 = .ok (.ifCond .ne 5, 3) := dk_154 0 5 (dk_at dksX0_taken_0 14 rfl rfl)
theorem dX0_taken_17 : decode cX0_taken 17 = .ok (.iconst (-1), 1) := dk_2 (dk_at dksX0_taken_0 17 rfl rfl)
theorem dX0_taken_18 : decode cX0_taken 18 = .ok (.ireturn, 1) := dk_172 (dk_at dksX0_taken_0 18 rfl rfl)
theorem dX0_taken_19 : decode cX0_taken 19 = .ok (.aload_n 0, 1) := dk_42 (dk_at dksX0_taken_0 19 rfl rfl)
theorem dX0_taken_20 : decode cX0_taken 20 = .ok (.getfield 91, 3) := dk_180 0 91 (dk_at dksX0_taken_0 20 rfl rfl)
theorem dX0_taken_23 : decode cX0_taken 23 = .ok (.iload_n 1, 1) := dk_27 (dk_at dksX0_taken_0 23 rfl rfl)
theorem dX0_taken_24 : decode cX0_taken 24 = .ok (.aaload, 1) := dk_50 (dk_at dksX0_taken_1 0 rfl rfl)
theorem dX0_taken_25 : decode cX0_taken 25 = .ok (.checkcast 83, 3) := dk_192 0 83 (dk_at dksX0_taken_1 1 rfl rfl)
theorem dX0_taken_28 : decode cX0_taken 28 = .ok (.astore_n 3, 1) := dk_78 (dk_at dksX0_taken_1 4 rfl rfl)
theorem dX0_taken_29 : decode cX0_taken 29 = .ok (.aload_n 3, 1) := dk_45 (dk_at dksX0_taken_1 5 rfl rfl)
theorem dX0_taken_30 : decode cX0_taken 30 = .ok (.iload_n 2, 1) := dk_28 (dk_at dksX0_taken_1 6 rfl rfl)
theorem dX0_taken_31 : decode cX0_taken 31 = .ok (.invokevirtual 484, 3) := dk_182 1 228 (dk_at dksX0_taken_1 7 rfl rfl)
theorem dX0_taken_34 : decode cX0_taken 34 = .ok (.ifCond .eq 10, 3) := dk_153 0 10 (dk_at dksX0_taken_1 10 rfl rfl)
theorem dX0_taken_37 : decode cX0_taken 37 = .ok (.aload_n 3, 1) := dk_45 (dk_at dksX0_taken_1 13 rfl rfl)
theorem dX0_taken_38 : decode cX0_taken 38 = .ok (.invokevirtual 487, 3) := dk_182 1 231 (dk_at dksX0_taken_1 14 rfl rfl)
theorem dX0_taken_41 : decode cX0_taken 41 = .ok (.goto 5, 3) := dk_167 0 5 (dk_at dksX0_taken_1 17 rfl rfl)
theorem dX0_taken_44 : decode cX0_taken 44 = .ok (.bipush (-12), 2) := dk_16 244 (dk_at dksX0_taken_1 20 rfl rfl)
theorem dX0_taken_46 : decode cX0_taken 46 = .ok (.ireturn, 1) := dk_172 (dk_at dksX0_taken_1 22 rfl rfl)
theorem dX0_taken_47 : decode cX0_taken 47 = .ok (.astore_n 3, 1) := dk_78 (dk_at dksX0_taken_1 23 rfl rfl)
theorem dX0_taken_48 : decode cX0_taken 48 = .ok (.bipush (-11), 2) := dk_16 245 (dk_at dksX0_taken_2 0 rfl rfl)
theorem dX0_taken_50 : decode cX0_taken 50 = .ok (.ireturn, 1) := dk_172 (dk_at dksX0_taken_2 2 rfl rfl)
theorem dX0_taken_51 : decode cX0_taken 51 = .ok (.astore_n 3, 1) := dk_78 (dk_at dksX0_taken_2 3 rfl rfl)
theorem dX0_taken_52 : decode cX0_taken 52 = .ok (.bipush (-12), 2) := dk_16 244 (dk_at dksX0_taken_2 4 rfl rfl)
theorem dX0_taken_54 : decode cX0_taken 54 = .ok (.ireturn, 1) := dk_172 (dk_at dksX0_taken_2 6 rfl rfl)
abbrev cX0_count : ByteArray := prog_1_method_84_code
def yX0_count : MethodName := ⟨RX0, "count", "(I)I"⟩
def dkwX0_count_3 : List UInt8 := [172, 42, 180, 1, 146, 172, 42, 180, 1, 143, 172, 2, 172]
abbrev dktX0_count_3 : List UInt8 := dkwX0_count_3 ++ []
def dkwX0_count_2 : List UInt8 := [42, 180, 0, 95, 172, 42, 180, 0, 155, 172, 42, 180, 1, 131, 172, 42, 180, 0, 188, 172, 42, 180, 0, 161]
abbrev dktX0_count_2 : List UInt8 := dkwX0_count_2 ++ dktX0_count_3
def dkwX0_count_1 : List UInt8 := [170, 0, 0, 0, 0, 0, 78, 0, 0, 0, 0, 0, 0, 0, 6, 0, 0, 0, 43, 0, 0, 0, 48, 0, 0, 0, 53, 0, 0, 0, 58, 0, 0, 0, 63, 0, 0, 0, 68, 0, 0, 0, 73]
abbrev dktX0_count_1 : List UInt8 := dkwX0_count_1 ++ dktX0_count_2
def dkwX0_count_0 : List UInt8 := [27]
abbrev dktX0_count_0 : List UInt8 := dkwX0_count_0 ++ dktX0_count_1
theorem dksX0_count_0 : cX0_count.data.toList.drop 0 = dktX0_count_0 := by decide +kernel
theorem dksX0_count_1 : cX0_count.data.toList.drop 1 = dktX0_count_1 := dk_seg dksX0_count_0 1 rfl rfl
theorem dksX0_count_2 : cX0_count.data.toList.drop 44 = dktX0_count_2 := dk_seg dksX0_count_1 43 rfl rfl
theorem dksX0_count_3 : cX0_count.data.toList.drop 68 = dktX0_count_3 := dk_seg dksX0_count_2 24 rfl rfl
theorem dX0_count_0 : decode cX0_count 0 = .ok (.iload_n 1, 1) := dk_27 (dk_at dksX0_count_0 0 rfl rfl)
theorem dX0_count_1 : decode cX0_count 1 = .ok (.tableswitch 78 0 6 #[43, 48, 53, 58, 63, 68, 73], 43) := by decide +kernel
theorem dX0_count_44 : decode cX0_count 44 = .ok (.aload_n 0, 1) := dk_42 (dk_at dksX0_count_2 0 rfl rfl)
theorem dX0_count_45 : decode cX0_count 45 = .ok (.getfield 95, 3) := dk_180 0 95 (dk_at dksX0_count_2 1 rfl rfl)
theorem dX0_count_48 : decode cX0_count 48 = .ok (.ireturn, 1) := dk_172 (dk_at dksX0_count_2 4 rfl rfl)
theorem dX0_count_49 : decode cX0_count 49 = .ok (.aload_n 0, 1) := dk_42 (dk_at dksX0_count_2 5 rfl rfl)
theorem dX0_count_50 : decode cX0_count 50 = .ok (.getfield 155, 3) := dk_180 0 155 (dk_at dksX0_count_2 6 rfl rfl)
theorem dX0_count_53 : decode cX0_count 53 = .ok (.ireturn, 1) := dk_172 (dk_at dksX0_count_2 9 rfl rfl)
theorem dX0_count_54 : decode cX0_count 54 = .ok (.aload_n 0, 1) := dk_42 (dk_at dksX0_count_2 10 rfl rfl)
theorem dX0_count_55 : decode cX0_count 55 = .ok (.getfield 387, 3) := dk_180 1 131 (dk_at dksX0_count_2 11 rfl rfl)
theorem dX0_count_58 : decode cX0_count 58 = .ok (.ireturn, 1) := dk_172 (dk_at dksX0_count_2 14 rfl rfl)
theorem dX0_count_59 : decode cX0_count 59 = .ok (.aload_n 0, 1) := dk_42 (dk_at dksX0_count_2 15 rfl rfl)
theorem dX0_count_60 : decode cX0_count 60 = .ok (.getfield 188, 3) := dk_180 0 188 (dk_at dksX0_count_2 16 rfl rfl)
theorem dX0_count_63 : decode cX0_count 63 = .ok (.ireturn, 1) := dk_172 (dk_at dksX0_count_2 19 rfl rfl)
theorem dX0_count_64 : decode cX0_count 64 = .ok (.aload_n 0, 1) := dk_42 (dk_at dksX0_count_2 20 rfl rfl)
theorem dX0_count_65 : decode cX0_count 65 = .ok (.getfield 161, 3) := dk_180 0 161 (dk_at dksX0_count_2 21 rfl rfl)
theorem dX0_count_68 : decode cX0_count 68 = .ok (.ireturn, 1) := dk_172 (dk_at dksX0_count_3 0 rfl rfl)
theorem dX0_count_69 : decode cX0_count 69 = .ok (.aload_n 0, 1) := dk_42 (dk_at dksX0_count_3 1 rfl rfl)
theorem dX0_count_70 : decode cX0_count 70 = .ok (.getfield 402, 3) := dk_180 1 146 (dk_at dksX0_count_3 2 rfl rfl)
theorem dX0_count_73 : decode cX0_count 73 = .ok (.ireturn, 1) := dk_172 (dk_at dksX0_count_3 5 rfl rfl)
theorem dX0_count_74 : decode cX0_count 74 = .ok (.aload_n 0, 1) := dk_42 (dk_at dksX0_count_3 6 rfl rfl)
theorem dX0_count_75 : decode cX0_count 75 = .ok (.getfield 399, 3) := dk_180 1 143 (dk_at dksX0_count_3 7 rfl rfl)
theorem dX0_count_78 : decode cX0_count 78 = .ok (.ireturn, 1) := dk_172 (dk_at dksX0_count_3 10 rfl rfl)
theorem dX0_count_79 : decode cX0_count 79 = .ok (.iconst (-1), 1) := dk_2 (dk_at dksX0_count_3 11 rfl rfl)
theorem dX0_count_80 : decode cX0_count 80 = .ok (.ireturn, 1) := dk_172 (dk_at dksX0_count_3 12 rfl rfl)
theorem q92 : (Jvm.Cond.initialized "ThreeSnowballs") ∈ lw_all := lw_g (lw_at lw_m1 1 rfl) rfl
theorem q137 : (Jvm.Cond.instantiable "ThreeSnowballs" (38 : Nat)) ∈ lw_all := lw_g (lw_at lw_m1 46 rfl) rfl
theorem q139 : (Jvm.Cond.instanceMethod ({ cls := "ThreeSnowballs", name := "<init>", desc := "()V" } : Jvm.MethodName)) ∈ lw_all := lw_g (lw_at lw_m1 48 rfl) rfl
theorem q140 : (Jvm.Cond.code ({ cls := "ThreeSnowballs", name := "<init>", desc := "()V" } : Jvm.MethodName) prog_1_method_1_code (1 : Nat) (Option.none : Option Jvm.ClassFile.FieldType)) ∈ lw_all := lw_g (lw_at lw_m1 49 rfl) rfl
theorem q141 : (Jvm.Cond.methodLink "ThreeSnowballs" (1 : Nat) ({ cls := "java/lang/Object", name := "<init>", desc := "()V" } : Jvm.MethodName)) ∈ lw_all := lw_g (lw_at lw_m1 50 rfl) rfl
theorem q144 : (Jvm.Cond.classLink "ThreeSnowballs" (9 : Nat) "ThreeSnowballs$Player") ∈ lw_all := lw_g (lw_at lw_m1 53 rfl) rfl
theorem q146 : (Jvm.Cond.classLink "ThreeSnowballs" (26 : Nat) "ThreeSnowballs$Change") ∈ lw_all := lw_g (lw_at lw_m1 55 rfl) rfl
theorem q148 : (Jvm.Cond.classLink "ThreeSnowballs" (36 : Nat) "ThreeSnowballs$Facts") ∈ lw_all := lw_g (lw_at lw_m1 57 rfl) rfl
theorem q150 : (Jvm.Cond.methodLinkNest "ThreeSnowballs" (38 : Nat) ({ cls := "ThreeSnowballs$Facts", name := "<init>", desc := "()V" } : Jvm.MethodName) "ThreeSnowballs") ∈ lw_tbl := lw_at lw_m1 59 rfl
theorem q156 : (Jvm.Cond.fieldLinkNest "ThreeSnowballs" (228 : Nat) "ThreeSnowballs$Facts" "named" "[I" "ThreeSnowballs") ∈ lw_tbl := lw_at lw_m1 65 rfl
theorem q162 : (Jvm.Cond.constantLong "ThreeSnowballs" (50 : Nat) (12 : Int64)) ∈ lw_all := lw_g (lw_at lw_m1 71 rfl) rfl
theorem q163 : (Jvm.Cond.constantLong "ThreeSnowballs" (52 : Nat) (144 : Int64)) ∈ lw_all := lw_g (lw_at lw_m1 72 rfl) rfl
theorem q164 : (Jvm.Cond.constantLong "ThreeSnowballs" (54 : Nat) (1728 : Int64)) ∈ lw_all := lw_g (lw_at lw_m1 73 rfl) rfl
theorem q165 : (Jvm.Cond.constantLong "ThreeSnowballs" (56 : Nat) (20736 : Int64)) ∈ lw_all := lw_g (lw_at lw_m1 74 rfl) rfl
theorem q166 : (Jvm.Cond.constantLong "ThreeSnowballs" (58 : Nat) (248832 : Int64)) ∈ lw_all := lw_g (lw_at lw_m1 75 rfl) rfl
theorem q167 : (Jvm.Cond.constantLong "ThreeSnowballs" (60 : Nat) (2985984 : Int64)) ∈ lw_all := lw_g (lw_at lw_m1 76 rfl) rfl
theorem q168 : (Jvm.Cond.constantLong "ThreeSnowballs" (62 : Nat) (35831808 : Int64)) ∈ lw_all := lw_g (lw_at lw_m1 77 rfl) rfl
theorem q169 : (Jvm.Cond.constantLong "ThreeSnowballs" (64 : Nat) (429981696 : Int64)) ∈ lw_all := lw_g (lw_at lw_m1 78 rfl) rfl
theorem q170 : (Jvm.Cond.constantLong "ThreeSnowballs" (66 : Nat) (5159780352 : Int64)) ∈ lw_all := lw_g (lw_at lw_m1 79 rfl) rfl
theorem q171 : (Jvm.Cond.classLink "ThreeSnowballs" (83 : Nat) "ThreeSnowballs$Thrower") ∈ lw_all := lw_g (lw_at lw_m1 80 rfl) rfl
theorem q173 : (Jvm.Cond.classLink "ThreeSnowballs" (89 : Nat) "ThreeSnowballs$Held") ∈ lw_all := lw_g (lw_at lw_m1 82 rfl) rfl
theorem q175 : (Jvm.Cond.fieldLink "ThreeSnowballs" (11 : Nat) "ThreeSnowballs" "players" "[LThreeSnowballs$Player;") ∈ lw_all := lw_g (lw_at lw_m1 84 rfl) rfl
theorem q176 : (Jvm.Cond.fieldLink "ThreeSnowballs" (15 : Nat) "ThreeSnowballs" "order" "[I") ∈ lw_all := lw_g (lw_at lw_m1 85 rfl) rfl
theorem q177 : (Jvm.Cond.fieldLink "ThreeSnowballs" (19 : Nat) "ThreeSnowballs" "prizes" "[I") ∈ lw_all := lw_g (lw_at lw_m1 86 rfl) rfl
theorem q178 : (Jvm.Cond.fieldLink "ThreeSnowballs" (95 : Nat) "ThreeSnowballs" "playerMany" "I") ∈ lw_all := lw_g (lw_at lw_m1 87 rfl) rfl
theorem q179 : (Jvm.Cond.fieldLink "ThreeSnowballs" (22 : Nat) "ThreeSnowballs" "bell" "I") ∈ lw_all := lw_g (lw_at lw_m1 88 rfl) rfl
theorem q180 : (Jvm.Cond.fieldLink "ThreeSnowballs" (28 : Nat) "ThreeSnowballs" "changes" "[LThreeSnowballs$Change;") ∈ lw_all := lw_g (lw_at lw_m1 89 rfl) rfl
theorem q181 : (Jvm.Cond.fieldLink "ThreeSnowballs" (161 : Nat) "ThreeSnowballs" "doneMany" "I") ∈ lw_all := lw_g (lw_at lw_m1 90 rfl) rfl
theorem q182 : (Jvm.Cond.fieldLink "ThreeSnowballs" (158 : Nat) "ThreeSnowballs" "undoneMany" "I") ∈ lw_all := lw_g (lw_at lw_m1 91 rfl) rfl
theorem q183 : (Jvm.Cond.fieldLink "ThreeSnowballs" (32 : Nat) "ThreeSnowballs" "tape" "[B") ∈ lw_all := lw_g (lw_at lw_m1 92 rfl) rfl
theorem q186 : (Jvm.Cond.fieldLink "ThreeSnowballs" (188 : Nat) "ThreeSnowballs" "taped" "I") ∈ lw_all := lw_g (lw_at lw_m1 95 rfl) rfl
theorem q187 : (Jvm.Cond.fieldLink "ThreeSnowballs" (203 : Nat) "ThreeSnowballs" "law" "LThreeSnowballs$Line;") ∈ lw_all := lw_g (lw_at lw_m1 96 rfl) rfl
theorem q188 : (Jvm.Cond.fieldLink "ThreeSnowballs" (39 : Nat) "ThreeSnowballs" "facts" "LThreeSnowballs$Facts;") ∈ lw_all := lw_g (lw_at lw_m1 97 rfl) rfl
theorem q189 : (Jvm.Cond.fieldLink "ThreeSnowballs" (43 : Nat) "ThreeSnowballs" "values" "[J") ∈ lw_all := lw_g (lw_at lw_m1 98 rfl) rfl
theorem q190 : (Jvm.Cond.fieldLink "ThreeSnowballs" (47 : Nat) "ThreeSnowballs" "aims" "[B") ∈ lw_all := lw_g (lw_at lw_m1 99 rfl) rfl
theorem q191 : (Jvm.Cond.fieldLink "ThreeSnowballs" (68 : Nat) "ThreeSnowballs" "twelves" "[J") ∈ lw_all := lw_g (lw_at lw_m1 100 rfl) rfl
theorem q192 : (Jvm.Cond.fieldLink "ThreeSnowballs" (71 : Nat) "ThreeSnowballs" "likely" "[J") ∈ lw_all := lw_g (lw_at lw_m1 101 rfl) rfl
theorem q193 : (Jvm.Cond.fieldLink "ThreeSnowballs" (74 : Nat) "ThreeSnowballs" "ending" "[J") ∈ lw_all := lw_g (lw_at lw_m1 102 rfl) rfl
theorem q194 : (Jvm.Cond.fieldLink "ThreeSnowballs" (282 : Nat) "ThreeSnowballs" "throwsAll" "J") ∈ lw_all := lw_g (lw_at lw_m1 103 rfl) rfl
theorem q195 : (Jvm.Cond.fieldLink "ThreeSnowballs" (77 : Nat) "ThreeSnowballs" "wasWay" "[I") ∈ lw_all := lw_g (lw_at lw_m1 104 rfl) rfl
theorem q196 : (Jvm.Cond.fieldLink "ThreeSnowballs" (342 : Nat) "ThreeSnowballs" "toldSet" "I") ∈ lw_all := lw_g (lw_at lw_m1 105 rfl) rfl
theorem q197 : (Jvm.Cond.fieldLink "ThreeSnowballs" (345 : Nat) "ThreeSnowballs" "toldPlace" "I") ∈ lw_all := lw_g (lw_at lw_m1 106 rfl) rfl
theorem q198 : (Jvm.Cond.fieldLink "ThreeSnowballs" (348 : Nat) "ThreeSnowballs" "toldMany" "I") ∈ lw_all := lw_g (lw_at lw_m1 107 rfl) rfl
theorem q199 : (Jvm.Cond.fieldLink "ThreeSnowballs" (363 : Nat) "ThreeSnowballs" "cannot" "I") ∈ lw_all := lw_g (lw_at lw_m1 108 rfl) rfl
theorem q200 : (Jvm.Cond.fieldLink "ThreeSnowballs" (351 : Nat) "ThreeSnowballs" "against" "I") ∈ lw_all := lw_g (lw_at lw_m1 109 rfl) rfl
theorem q201 : (Jvm.Cond.fieldLink "ThreeSnowballs" (354 : Nat) "ThreeSnowballs" "toldAbove" "J") ∈ lw_all := lw_g (lw_at lw_m1 110 rfl) rfl
theorem q202 : (Jvm.Cond.fieldLink "ThreeSnowballs" (357 : Nat) "ThreeSnowballs" "toldBelow" "J") ∈ lw_all := lw_g (lw_at lw_m1 111 rfl) rfl
theorem q203 : (Jvm.Cond.fieldLink "ThreeSnowballs" (155 : Nat) "ThreeSnowballs" "deedSet" "I") ∈ lw_all := lw_g (lw_at lw_m1 112 rfl) rfl
theorem q204 : (Jvm.Cond.fieldLink "ThreeSnowballs" (384 : Nat) "ThreeSnowballs" "deedPlace" "I") ∈ lw_all := lw_g (lw_at lw_m1 113 rfl) rfl
theorem q205 : (Jvm.Cond.fieldLink "ThreeSnowballs" (387 : Nat) "ThreeSnowballs" "deedMany" "I") ∈ lw_all := lw_g (lw_at lw_m1 114 rfl) rfl
theorem q206 : (Jvm.Cond.fieldLink "ThreeSnowballs" (390 : Nat) "ThreeSnowballs" "keptSet" "I") ∈ lw_all := lw_g (lw_at lw_m1 115 rfl) rfl
theorem q207 : (Jvm.Cond.fieldLink "ThreeSnowballs" (393 : Nat) "ThreeSnowballs" "keptPlace" "I") ∈ lw_all := lw_g (lw_at lw_m1 116 rfl) rfl
theorem q208 : (Jvm.Cond.fieldLink "ThreeSnowballs" (396 : Nat) "ThreeSnowballs" "keptMany" "I") ∈ lw_all := lw_g (lw_at lw_m1 117 rfl) rfl
theorem q209 : (Jvm.Cond.fieldLink "ThreeSnowballs" (380 : Nat) "ThreeSnowballs" "hasImage" "Z") ∈ lw_all := lw_g (lw_at lw_m1 118 rfl) rfl
theorem q210 : (Jvm.Cond.fieldLink "ThreeSnowballs" (399 : Nat) "ThreeSnowballs" "traces" "I") ∈ lw_all := lw_g (lw_at lw_m1 119 rfl) rfl
theorem q211 : (Jvm.Cond.fieldLink "ThreeSnowballs" (80 : Nat) "ThreeSnowballs" "traced" "[B") ∈ lw_all := lw_g (lw_at lw_m1 120 rfl) rfl
theorem q212 : (Jvm.Cond.fieldLink "ThreeSnowballs" (85 : Nat) "ThreeSnowballs" "bodies" "[LThreeSnowballs$Thrower;") ∈ lw_all := lw_g (lw_at lw_m1 121 rfl) rfl
theorem q213 : (Jvm.Cond.fieldLink "ThreeSnowballs" (402 : Nat) "ThreeSnowballs" "bodyMany" "I") ∈ lw_all := lw_g (lw_at lw_m1 122 rfl) rfl
theorem q214 : (Jvm.Cond.fieldLink "ThreeSnowballs" (91 : Nat) "ThreeSnowballs" "shelves" "[LThreeSnowballs$Held;") ∈ lw_all := lw_g (lw_at lw_m1 123 rfl) rfl
theorem q215 : (Jvm.Cond.laysFinal "ThreeSnowballs" "ThreeSnowballs" "players" "[LThreeSnowballs$Player;") ∈ lw_all := lw_g (lw_at lw_m1 124 rfl) rfl
theorem q216 : (Jvm.Cond.soleField "ThreeSnowballs" "players") ∈ lw_all := lw_g (lw_at lw_m1 125 rfl) rfl
theorem q217 : (Jvm.Cond.laysFinal "ThreeSnowballs" "ThreeSnowballs" "order" "[I") ∈ lw_all := lw_g (lw_at lw_m1 126 rfl) rfl
theorem q218 : (Jvm.Cond.soleField "ThreeSnowballs" "order") ∈ lw_all := lw_g (lw_at lw_m1 127 rfl) rfl
theorem q219 : (Jvm.Cond.laysFinal "ThreeSnowballs" "ThreeSnowballs" "prizes" "[I") ∈ lw_all := lw_g (lw_at lw_m1 128 rfl) rfl
theorem q220 : (Jvm.Cond.soleField "ThreeSnowballs" "prizes") ∈ lw_all := lw_g (lw_at lw_m1 129 rfl) rfl
theorem q221 : (Jvm.Cond.lays "ThreeSnowballs" "ThreeSnowballs" "playerMany" "I") ∈ lw_all := lw_g (lw_at lw_m1 130 rfl) rfl
theorem q222 : (Jvm.Cond.soleField "ThreeSnowballs" "playerMany") ∈ lw_all := lw_g (lw_at lw_m1 131 rfl) rfl
theorem q223 : (Jvm.Cond.lays "ThreeSnowballs" "ThreeSnowballs" "bell" "I") ∈ lw_all := lw_g (lw_at lw_m1 132 rfl) rfl
theorem q224 : (Jvm.Cond.soleField "ThreeSnowballs" "bell") ∈ lw_all := lw_g (lw_at lw_m1 133 rfl) rfl
theorem q225 : (Jvm.Cond.laysFinal "ThreeSnowballs" "ThreeSnowballs" "changes" "[LThreeSnowballs$Change;") ∈ lw_all := lw_g (lw_at lw_m1 134 rfl) rfl
theorem q226 : (Jvm.Cond.soleField "ThreeSnowballs" "changes") ∈ lw_all := lw_g (lw_at lw_m1 135 rfl) rfl
theorem q227 : (Jvm.Cond.lays "ThreeSnowballs" "ThreeSnowballs" "doneMany" "I") ∈ lw_all := lw_g (lw_at lw_m1 136 rfl) rfl
theorem q228 : (Jvm.Cond.soleField "ThreeSnowballs" "doneMany") ∈ lw_all := lw_g (lw_at lw_m1 137 rfl) rfl
theorem q229 : (Jvm.Cond.lays "ThreeSnowballs" "ThreeSnowballs" "undoneMany" "I") ∈ lw_all := lw_g (lw_at lw_m1 138 rfl) rfl
theorem q230 : (Jvm.Cond.soleField "ThreeSnowballs" "undoneMany") ∈ lw_all := lw_g (lw_at lw_m1 139 rfl) rfl
theorem q231 : (Jvm.Cond.laysFinal "ThreeSnowballs" "ThreeSnowballs" "tape" "[B") ∈ lw_all := lw_g (lw_at lw_m1 140 rfl) rfl
theorem q232 : (Jvm.Cond.soleField "ThreeSnowballs" "tape") ∈ lw_all := lw_g (lw_at lw_m1 141 rfl) rfl
theorem q233 : (Jvm.Cond.lays "ThreeSnowballs" "ThreeSnowballs" "taped" "I") ∈ lw_all := lw_g (lw_at lw_m1 142 rfl) rfl
theorem q234 : (Jvm.Cond.soleField "ThreeSnowballs" "taped") ∈ lw_all := lw_g (lw_at lw_m1 143 rfl) rfl
theorem q235 : (Jvm.Cond.lays "ThreeSnowballs" "ThreeSnowballs" "law" "LThreeSnowballs$Line;") ∈ lw_all := lw_g (lw_at lw_m1 144 rfl) rfl
theorem q236 : (Jvm.Cond.soleField "ThreeSnowballs" "law") ∈ lw_all := lw_g (lw_at lw_m1 145 rfl) rfl
theorem q237 : (Jvm.Cond.laysFinal "ThreeSnowballs" "ThreeSnowballs" "facts" "LThreeSnowballs$Facts;") ∈ lw_all := lw_g (lw_at lw_m1 146 rfl) rfl
theorem q238 : (Jvm.Cond.soleField "ThreeSnowballs" "facts") ∈ lw_all := lw_g (lw_at lw_m1 147 rfl) rfl
theorem q239 : (Jvm.Cond.laysFinal "ThreeSnowballs" "ThreeSnowballs" "values" "[J") ∈ lw_all := lw_g (lw_at lw_m1 148 rfl) rfl
theorem q240 : (Jvm.Cond.soleField "ThreeSnowballs" "values") ∈ lw_all := lw_g (lw_at lw_m1 149 rfl) rfl
theorem q241 : (Jvm.Cond.laysFinal "ThreeSnowballs" "ThreeSnowballs" "aims" "[B") ∈ lw_all := lw_g (lw_at lw_m1 150 rfl) rfl
theorem q242 : (Jvm.Cond.soleField "ThreeSnowballs" "aims") ∈ lw_all := lw_g (lw_at lw_m1 151 rfl) rfl
theorem q243 : (Jvm.Cond.laysFinal "ThreeSnowballs" "ThreeSnowballs" "twelves" "[J") ∈ lw_all := lw_g (lw_at lw_m1 152 rfl) rfl
theorem q244 : (Jvm.Cond.soleField "ThreeSnowballs" "twelves") ∈ lw_all := lw_g (lw_at lw_m1 153 rfl) rfl
theorem q245 : (Jvm.Cond.laysFinal "ThreeSnowballs" "ThreeSnowballs" "likely" "[J") ∈ lw_all := lw_g (lw_at lw_m1 154 rfl) rfl
theorem q246 : (Jvm.Cond.soleField "ThreeSnowballs" "likely") ∈ lw_all := lw_g (lw_at lw_m1 155 rfl) rfl
theorem q247 : (Jvm.Cond.laysFinal "ThreeSnowballs" "ThreeSnowballs" "ending" "[J") ∈ lw_all := lw_g (lw_at lw_m1 156 rfl) rfl
theorem q248 : (Jvm.Cond.soleField "ThreeSnowballs" "ending") ∈ lw_all := lw_g (lw_at lw_m1 157 rfl) rfl
theorem q249 : (Jvm.Cond.lays "ThreeSnowballs" "ThreeSnowballs" "throwsAll" "J") ∈ lw_all := lw_g (lw_at lw_m1 158 rfl) rfl
theorem q250 : (Jvm.Cond.soleField "ThreeSnowballs" "throwsAll") ∈ lw_all := lw_g (lw_at lw_m1 159 rfl) rfl
theorem q251 : (Jvm.Cond.laysFinal "ThreeSnowballs" "ThreeSnowballs" "wasWay" "[I") ∈ lw_all := lw_g (lw_at lw_m1 160 rfl) rfl
theorem q252 : (Jvm.Cond.soleField "ThreeSnowballs" "wasWay") ∈ lw_all := lw_g (lw_at lw_m1 161 rfl) rfl
theorem q253 : (Jvm.Cond.lays "ThreeSnowballs" "ThreeSnowballs" "toldSet" "I") ∈ lw_all := lw_g (lw_at lw_m1 162 rfl) rfl
theorem q254 : (Jvm.Cond.soleField "ThreeSnowballs" "toldSet") ∈ lw_all := lw_g (lw_at lw_m1 163 rfl) rfl
theorem q255 : (Jvm.Cond.lays "ThreeSnowballs" "ThreeSnowballs" "toldPlace" "I") ∈ lw_all := lw_g (lw_at lw_m1 164 rfl) rfl
theorem q256 : (Jvm.Cond.soleField "ThreeSnowballs" "toldPlace") ∈ lw_all := lw_g (lw_at lw_m1 165 rfl) rfl
theorem q257 : (Jvm.Cond.lays "ThreeSnowballs" "ThreeSnowballs" "toldMany" "I") ∈ lw_all := lw_g (lw_at lw_m1 166 rfl) rfl
theorem q258 : (Jvm.Cond.soleField "ThreeSnowballs" "toldMany") ∈ lw_all := lw_g (lw_at lw_m1 167 rfl) rfl
theorem q259 : (Jvm.Cond.lays "ThreeSnowballs" "ThreeSnowballs" "cannot" "I") ∈ lw_all := lw_g (lw_at lw_m1 168 rfl) rfl
theorem q260 : (Jvm.Cond.soleField "ThreeSnowballs" "cannot") ∈ lw_all := lw_g (lw_at lw_m1 169 rfl) rfl
theorem q261 : (Jvm.Cond.lays "ThreeSnowballs" "ThreeSnowballs" "against" "I") ∈ lw_all := lw_g (lw_at lw_m1 170 rfl) rfl
theorem q262 : (Jvm.Cond.soleField "ThreeSnowballs" "against") ∈ lw_all := lw_g (lw_at lw_m1 171 rfl) rfl
theorem q263 : (Jvm.Cond.lays "ThreeSnowballs" "ThreeSnowballs" "toldAbove" "J") ∈ lw_all := lw_g (lw_at lw_m1 172 rfl) rfl
theorem q264 : (Jvm.Cond.soleField "ThreeSnowballs" "toldAbove") ∈ lw_all := lw_g (lw_at lw_m1 173 rfl) rfl
theorem q265 : (Jvm.Cond.lays "ThreeSnowballs" "ThreeSnowballs" "toldBelow" "J") ∈ lw_all := lw_g (lw_at lw_m1 174 rfl) rfl
theorem q266 : (Jvm.Cond.soleField "ThreeSnowballs" "toldBelow") ∈ lw_all := lw_g (lw_at lw_m1 175 rfl) rfl
theorem q267 : (Jvm.Cond.lays "ThreeSnowballs" "ThreeSnowballs" "deedSet" "I") ∈ lw_all := lw_g (lw_at lw_m1 176 rfl) rfl
theorem q268 : (Jvm.Cond.soleField "ThreeSnowballs" "deedSet") ∈ lw_all := lw_g (lw_at lw_m1 177 rfl) rfl
theorem q269 : (Jvm.Cond.lays "ThreeSnowballs" "ThreeSnowballs" "deedPlace" "I") ∈ lw_all := lw_g (lw_at lw_m1 178 rfl) rfl
theorem q270 : (Jvm.Cond.soleField "ThreeSnowballs" "deedPlace") ∈ lw_all := lw_g (lw_at lw_m1 179 rfl) rfl
theorem q271 : (Jvm.Cond.lays "ThreeSnowballs" "ThreeSnowballs" "deedMany" "I") ∈ lw_all := lw_g (lw_at lw_m1 180 rfl) rfl
theorem q272 : (Jvm.Cond.soleField "ThreeSnowballs" "deedMany") ∈ lw_all := lw_g (lw_at lw_m1 181 rfl) rfl
theorem q273 : (Jvm.Cond.lays "ThreeSnowballs" "ThreeSnowballs" "keptSet" "I") ∈ lw_all := lw_g (lw_at lw_m1 182 rfl) rfl
theorem q274 : (Jvm.Cond.soleField "ThreeSnowballs" "keptSet") ∈ lw_all := lw_g (lw_at lw_m1 183 rfl) rfl
theorem q275 : (Jvm.Cond.lays "ThreeSnowballs" "ThreeSnowballs" "keptPlace" "I") ∈ lw_all := lw_g (lw_at lw_m1 184 rfl) rfl
theorem q276 : (Jvm.Cond.soleField "ThreeSnowballs" "keptPlace") ∈ lw_all := lw_g (lw_at lw_m1 185 rfl) rfl
theorem q277 : (Jvm.Cond.lays "ThreeSnowballs" "ThreeSnowballs" "keptMany" "I") ∈ lw_all := lw_g (lw_at lw_m1 186 rfl) rfl
theorem q278 : (Jvm.Cond.soleField "ThreeSnowballs" "keptMany") ∈ lw_all := lw_g (lw_at lw_m1 187 rfl) rfl
theorem q279 : (Jvm.Cond.lays "ThreeSnowballs" "ThreeSnowballs" "hasImage" "Z") ∈ lw_all := lw_g (lw_at lw_m1 188 rfl) rfl
theorem q280 : (Jvm.Cond.soleField "ThreeSnowballs" "hasImage") ∈ lw_all := lw_g (lw_at lw_m1 189 rfl) rfl
theorem q281 : (Jvm.Cond.lays "ThreeSnowballs" "ThreeSnowballs" "traces" "I") ∈ lw_all := lw_g (lw_at lw_m1 190 rfl) rfl
theorem q282 : (Jvm.Cond.soleField "ThreeSnowballs" "traces") ∈ lw_all := lw_g (lw_at lw_m1 191 rfl) rfl
theorem q283 : (Jvm.Cond.laysFinal "ThreeSnowballs" "ThreeSnowballs" "traced" "[B") ∈ lw_all := lw_g (lw_at lw_m1 192 rfl) rfl
theorem q284 : (Jvm.Cond.soleField "ThreeSnowballs" "traced") ∈ lw_all := lw_g (lw_at lw_m1 193 rfl) rfl
theorem q285 : (Jvm.Cond.laysFinal "ThreeSnowballs" "ThreeSnowballs" "bodies" "[LThreeSnowballs$Thrower;") ∈ lw_all := lw_g (lw_at lw_m1 194 rfl) rfl
theorem q286 : (Jvm.Cond.soleField "ThreeSnowballs" "bodies") ∈ lw_all := lw_g (lw_at lw_m1 195 rfl) rfl
theorem q287 : (Jvm.Cond.lays "ThreeSnowballs" "ThreeSnowballs" "bodyMany" "I") ∈ lw_all := lw_g (lw_at lw_m1 196 rfl) rfl
theorem q288 : (Jvm.Cond.soleField "ThreeSnowballs" "bodyMany") ∈ lw_all := lw_g (lw_at lw_m1 197 rfl) rfl
theorem q289 : (Jvm.Cond.laysFinal "ThreeSnowballs" "ThreeSnowballs" "shelves" "[LThreeSnowballs$Held;") ∈ lw_all := lw_g (lw_at lw_m1 198 rfl) rfl
theorem q290 : (Jvm.Cond.soleField "ThreeSnowballs" "shelves") ∈ lw_all := lw_g (lw_at lw_m1 199 rfl) rfl
theorem q291 : (Jvm.Cond.superclass "ThreeSnowballs" "java/lang/Object") ∈ lw_all := lw_g (lw_at lw_m1 200 rfl) rfl
theorem q294 : (Jvm.Cond.instanceMethod ({ cls := "ThreeSnowballs", name := "player", desc := "(II)I" } : Jvm.MethodName)) ∈ lw_all := lw_g (lw_at lw_m1 203 rfl) rfl
theorem q295 : (Jvm.Cond.selects "ThreeSnowballs" ({ cls := "ThreeSnowballs", name := "player", desc := "(II)I" } : Jvm.MethodName) ({ cls := "ThreeSnowballs", name := "player", desc := "(II)I" } : Jvm.MethodName)) ∈ lw_all := lw_g (lw_at lw_m1 204 rfl) rfl
theorem q296 : (Jvm.Cond.code ({ cls := "ThreeSnowballs", name := "player", desc := "(II)I" } : Jvm.MethodName) prog_1_method_10_code (3 : Nat) (Option.some Jvm.ClassFile.FieldType.int)) ∈ lw_all := lw_g (lw_at lw_m1 205 rfl) rfl
theorem q297 : (Jvm.Cond.methodLink "ThreeSnowballs" (112 : Nat) ({ cls := "ThreeSnowballs", name := "isPlayerSo", desc := "(II)Z" } : Jvm.MethodName)) ∈ lw_all := lw_g (lw_at lw_m1 206 rfl) rfl
theorem q298 : (Jvm.Cond.static ({ cls := "ThreeSnowballs", name := "isPlayerSo", desc := "(II)Z" } : Jvm.MethodName)) ∈ lw_all := lw_g (lw_at lw_m1 207 rfl) rfl
theorem q299 : (Jvm.Cond.code ({ cls := "ThreeSnowballs", name := "isPlayerSo", desc := "(II)Z" } : Jvm.MethodName) prog_1_method_8_code (2 : Nat) (Option.some Jvm.ClassFile.FieldType.boolean)) ∈ lw_all := lw_g (lw_at lw_m1 208 rfl) rfl
theorem q300 : (Jvm.Cond.methodLink "ThreeSnowballs" (98 : Nat) ({ cls := "ThreeSnowballs", name := "in", desc := "(III)Z" } : Jvm.MethodName)) ∈ lw_all := lw_g (lw_at lw_m1 209 rfl) rfl
theorem q301 : (Jvm.Cond.static ({ cls := "ThreeSnowballs", name := "in", desc := "(III)Z" } : Jvm.MethodName)) ∈ lw_all := lw_g (lw_at lw_m1 210 rfl) rfl
theorem q302 : (Jvm.Cond.code ({ cls := "ThreeSnowballs", name := "in", desc := "(III)Z" } : Jvm.MethodName) prog_1_method_2_code (3 : Nat) (Option.some Jvm.ClassFile.FieldType.boolean)) ∈ lw_all := lw_g (lw_at lw_m1 211 rfl) rfl
theorem q303 : (Jvm.Cond.methodLink "ThreeSnowballs" (116 : Nat) ({ cls := "ThreeSnowballs", name := "addPlayer", desc := "(II)I" } : Jvm.MethodName)) ∈ lw_all := lw_g (lw_at lw_m1 212 rfl) rfl
theorem q304 : (Jvm.Cond.privateMethod ({ cls := "ThreeSnowballs", name := "addPlayer", desc := "(II)I" } : Jvm.MethodName)) ∈ lw_tbl := lw_at lw_m1 213 rfl
theorem q305 : (Jvm.Cond.instanceMethod ({ cls := "ThreeSnowballs", name := "addPlayer", desc := "(II)I" } : Jvm.MethodName)) ∈ lw_all := lw_g (lw_at lw_m1 214 rfl) rfl
theorem q306 : (Jvm.Cond.code ({ cls := "ThreeSnowballs", name := "addPlayer", desc := "(II)I" } : Jvm.MethodName) prog_1_method_9_code (3 : Nat) (Option.some Jvm.ClassFile.FieldType.int)) ∈ lw_all := lw_g (lw_at lw_m1 215 rfl) rfl
theorem q308 : (Jvm.Cond.methodLink "ThreeSnowballs" (106 : Nat) ({ cls := "ThreeSnowballs$Player", name := "<init>", desc := "(II)V" } : Jvm.MethodName)) ∈ lw_all := lw_g (lw_at lw_m1 217 rfl) rfl
theorem q313 : (Jvm.Cond.fieldLinkNest "ThreeSnowballs" (142 : Nat) "ThreeSnowballs$Player" "hits" "I" "ThreeSnowballs") ∈ lw_tbl := lw_at lw_m1 222 rfl
theorem q315 : (Jvm.Cond.fieldLinkNest "ThreeSnowballs" (145 : Nat) "ThreeSnowballs$Player" "way" "I" "ThreeSnowballs") ∈ lw_tbl := lw_at lw_m1 224 rfl
theorem q316 : (Jvm.Cond.fieldLinkNest "ThreeSnowballs" (148 : Nat) "ThreeSnowballs$Player" "told" "I" "ThreeSnowballs") ∈ lw_tbl := lw_at lw_m1 225 rfl
theorem q324 : (Jvm.Cond.methodLink "ThreeSnowballs" (109 : Nat) ({ cls := "ThreeSnowballs", name := "beginAnew", desc := "()V" } : Jvm.MethodName)) ∈ lw_all := lw_g (lw_at lw_m1 233 rfl) rfl
theorem q325 : (Jvm.Cond.privateMethod ({ cls := "ThreeSnowballs", name := "beginAnew", desc := "()V" } : Jvm.MethodName)) ∈ lw_tbl := lw_at lw_m1 234 rfl
theorem q326 : (Jvm.Cond.instanceMethod ({ cls := "ThreeSnowballs", name := "beginAnew", desc := "()V" } : Jvm.MethodName)) ∈ lw_all := lw_g (lw_at lw_m1 235 rfl) rfl
theorem q327 : (Jvm.Cond.code ({ cls := "ThreeSnowballs", name := "beginAnew", desc := "()V" } : Jvm.MethodName) prog_1_method_65_code (1 : Nat) (Option.none : Option Jvm.ClassFile.FieldType)) ∈ lw_all := lw_g (lw_at lw_m1 236 rfl) rfl
theorem q328 : (Jvm.Cond.methodLink "ThreeSnowballs" (102 : Nat) ({ cls := "ThreeSnowballs", name := "everybody", desc := "()I" } : Jvm.MethodName)) ∈ lw_all := lw_g (lw_at lw_m1 237 rfl) rfl
theorem q329 : (Jvm.Cond.privateMethod ({ cls := "ThreeSnowballs", name := "everybody", desc := "()I" } : Jvm.MethodName)) ∈ lw_tbl := lw_at lw_m1 238 rfl
theorem q330 : (Jvm.Cond.instanceMethod ({ cls := "ThreeSnowballs", name := "everybody", desc := "()I" } : Jvm.MethodName)) ∈ lw_all := lw_g (lw_at lw_m1 239 rfl) rfl
theorem q331 : (Jvm.Cond.code ({ cls := "ThreeSnowballs", name := "everybody", desc := "()I" } : Jvm.MethodName) prog_1_method_5_code (1 : Nat) (Option.some Jvm.ClassFile.FieldType.int)) ∈ lw_all := lw_g (lw_at lw_m2 0 rfl) rfl
theorem q333 : (Jvm.Cond.instanceMethod ({ cls := "ThreeSnowballs", name := "players", desc := "(III)I" } : Jvm.MethodName)) ∈ lw_all := lw_g (lw_at lw_m2 2 rfl) rfl
theorem q334 : (Jvm.Cond.selects "ThreeSnowballs" ({ cls := "ThreeSnowballs", name := "players", desc := "(III)I" } : Jvm.MethodName) ({ cls := "ThreeSnowballs", name := "players", desc := "(III)I" } : Jvm.MethodName)) ∈ lw_all := lw_g (lw_at lw_m2 3 rfl) rfl
theorem q335 : (Jvm.Cond.codeWith ({ cls := "ThreeSnowballs", name := "players", desc := "(III)I" } : Jvm.MethodName) prog_1_method_11_code (9 : Nat) (Option.some Jvm.ClassFile.FieldType.int) [((21 : Nat), (91 : Nat), (113 : Nat), (130 : Nat)), ((92 : Nat), (110 : Nat), (113 : Nat), (130 : Nat)), ((21 : Nat), (91 : Nat), (118 : Nat), (132 : Nat)), ((92 : Nat), (110 : Nat), (118 : Nat), (132 : Nat)), ((21 : Nat), (91 : Nat), (123 : Nat), (134 : Nat)), ((92 : Nat), (110 : Nat), (123 : Nat), (134 : Nat))]) ∈ lw_all := lw_g (lw_at lw_m2 4 rfl) rfl
theorem q336 : (Jvm.Cond.classLink "ThreeSnowballs" (130 : Nat) "java/lang/ClassCastException") ∈ lw_all := lw_g (lw_at lw_m2 5 rfl) rfl
theorem q420 : (Jvm.Cond.classLink "ThreeSnowballs" (132 : Nat) "java/lang/NullPointerException") ∈ lw_all := lw_g (lw_at lw_m2 89 rfl) rfl
theorem q445 : (Jvm.Cond.classLink "ThreeSnowballs" (134 : Nat) "java/lang/IndexOutOfBoundsException") ∈ lw_all := lw_g (lw_at lw_m2 114 rfl) rfl
theorem q464 : (Jvm.Cond.methodLink "ThreeSnowballs" (120 : Nat) ({ cls := "ThreeSnowballs", name := "isShelf", desc := "(I)Z" } : Jvm.MethodName)) ∈ lw_all := lw_g (lw_at lw_m2 133 rfl) rfl
theorem q465 : (Jvm.Cond.static ({ cls := "ThreeSnowballs", name := "isShelf", desc := "(I)Z" } : Jvm.MethodName)) ∈ lw_all := lw_g (lw_at lw_m2 134 rfl) rfl
theorem q466 : (Jvm.Cond.code ({ cls := "ThreeSnowballs", name := "isShelf", desc := "(I)Z" } : Jvm.MethodName) prog_1_method_74_code (1 : Nat) (Option.some Jvm.ClassFile.FieldType.boolean)) ∈ lw_all := lw_g (lw_at lw_m2 135 rfl) rfl
theorem q467 : (Jvm.Cond.classLink "ThreeSnowballs" (124 : Nat) "ThreeSnowballs$ByteRow") ∈ lw_all := lw_g (lw_at lw_m2 136 rfl) rfl
theorem q468 : (Jvm.Cond.methodLink "ThreeSnowballs" (126 : Nat) ({ cls := "ThreeSnowballs$ByteRow", name := "at", desc := "(I)J" } : Jvm.MethodName)) ∈ lw_all := lw_g (lw_at lw_m2 137 rfl) rfl
theorem q473 : (Jvm.Cond.instanceMethod ({ cls := "ThreeSnowballs", name := "order", desc := "(I)I" } : Jvm.MethodName)) ∈ lw_all := lw_g (lw_at lw_m2 142 rfl) rfl
theorem q474 : (Jvm.Cond.selects "ThreeSnowballs" ({ cls := "ThreeSnowballs", name := "order", desc := "(I)I" } : Jvm.MethodName) ({ cls := "ThreeSnowballs", name := "order", desc := "(I)I" } : Jvm.MethodName)) ∈ lw_all := lw_g (lw_at lw_m2 143 rfl) rfl
theorem q475 : (Jvm.Cond.code ({ cls := "ThreeSnowballs", name := "order", desc := "(I)I" } : Jvm.MethodName) prog_1_method_12_code (6 : Nat) (Option.some Jvm.ClassFile.FieldType.int)) ∈ lw_all := lw_g (lw_at lw_m2 144 rfl) rfl
theorem q476 : (Jvm.Cond.methodLink "ThreeSnowballs" (136 : Nat) ({ cls := "ThreeSnowballs", name := "isPlayer", desc := "(I)Z" } : Jvm.MethodName)) ∈ lw_all := lw_g (lw_at lw_m2 145 rfl) rfl
theorem q477 : (Jvm.Cond.privateMethod ({ cls := "ThreeSnowballs", name := "isPlayer", desc := "(I)Z" } : Jvm.MethodName)) ∈ lw_tbl := lw_at lw_m2 146 rfl
theorem q478 : (Jvm.Cond.instanceMethod ({ cls := "ThreeSnowballs", name := "isPlayer", desc := "(I)Z" } : Jvm.MethodName)) ∈ lw_all := lw_g (lw_at lw_m2 147 rfl) rfl
theorem q479 : (Jvm.Cond.code ({ cls := "ThreeSnowballs", name := "isPlayer", desc := "(I)Z" } : Jvm.MethodName) prog_1_method_4_code (2 : Nat) (Option.some Jvm.ClassFile.FieldType.boolean)) ∈ lw_all := lw_g (lw_at lw_m2 148 rfl) rfl
theorem q480 : (Jvm.Cond.methodLink "ThreeSnowballs" (139 : Nat) ({ cls := "ThreeSnowballs", name := "has", desc := "(II)Z" } : Jvm.MethodName)) ∈ lw_all := lw_g (lw_at lw_m2 149 rfl) rfl
theorem q481 : (Jvm.Cond.static ({ cls := "ThreeSnowballs", name := "has", desc := "(II)Z" } : Jvm.MethodName)) ∈ lw_all := lw_g (lw_at lw_m2 150 rfl) rfl
theorem q482 : (Jvm.Cond.code ({ cls := "ThreeSnowballs", name := "has", desc := "(II)Z" } : Jvm.MethodName) prog_1_method_3_code (2 : Nat) (Option.some Jvm.ClassFile.FieldType.boolean)) ∈ lw_all := lw_g (lw_at lw_m2 151 rfl) rfl
theorem q484 : (Jvm.Cond.instanceMethod ({ cls := "ThreeSnowballs", name := "bell", desc := "(I)I" } : Jvm.MethodName)) ∈ lw_all := lw_g (lw_at lw_m2 153 rfl) rfl
theorem q485 : (Jvm.Cond.selects "ThreeSnowballs" ({ cls := "ThreeSnowballs", name := "bell", desc := "(I)I" } : Jvm.MethodName) ({ cls := "ThreeSnowballs", name := "bell", desc := "(I)I" } : Jvm.MethodName)) ∈ lw_all := lw_g (lw_at lw_m2 154 rfl) rfl
theorem q486 : (Jvm.Cond.code ({ cls := "ThreeSnowballs", name := "bell", desc := "(I)I" } : Jvm.MethodName) prog_1_method_13_code (3 : Nat) (Option.some Jvm.ClassFile.FieldType.int)) ∈ lw_all := lw_g (lw_at lw_m2 155 rfl) rfl
theorem q488 : (Jvm.Cond.instanceMethod ({ cls := "ThreeSnowballs", name := "prize", desc := "(II)I" } : Jvm.MethodName)) ∈ lw_all := lw_g (lw_at lw_m2 157 rfl) rfl
theorem q489 : (Jvm.Cond.selects "ThreeSnowballs" ({ cls := "ThreeSnowballs", name := "prize", desc := "(II)I" } : Jvm.MethodName) ({ cls := "ThreeSnowballs", name := "prize", desc := "(II)I" } : Jvm.MethodName)) ∈ lw_all := lw_g (lw_at lw_m2 158 rfl) rfl
theorem q490 : (Jvm.Cond.code ({ cls := "ThreeSnowballs", name := "prize", desc := "(II)I" } : Jvm.MethodName) prog_1_method_14_code (4 : Nat) (Option.some Jvm.ClassFile.FieldType.int)) ∈ lw_all := lw_g (lw_at lw_m2 159 rfl) rfl
theorem q492 : (Jvm.Cond.instanceMethod ({ cls := "ThreeSnowballs", name := "of", desc := "(II)I" } : Jvm.MethodName)) ∈ lw_all := lw_g (lw_at lw_m2 161 rfl) rfl
theorem q493 : (Jvm.Cond.selects "ThreeSnowballs" ({ cls := "ThreeSnowballs", name := "of", desc := "(II)I" } : Jvm.MethodName) ({ cls := "ThreeSnowballs", name := "of", desc := "(II)I" } : Jvm.MethodName)) ∈ lw_all := lw_g (lw_at lw_m2 162 rfl) rfl
theorem q494 : (Jvm.Cond.code ({ cls := "ThreeSnowballs", name := "of", desc := "(II)I" } : Jvm.MethodName) prog_1_method_15_code (4 : Nat) (Option.some Jvm.ClassFile.FieldType.int)) ∈ lw_all := lw_g (lw_at lw_m2 163 rfl) rfl
theorem q495 : (Jvm.Cond.methodLink "ThreeSnowballs" (151 : Nat) ({ cls := "ThreeSnowballs", name := "placeOf", desc := "(I)I" } : Jvm.MethodName)) ∈ lw_all := lw_g (lw_at lw_m2 164 rfl) rfl
theorem q496 : (Jvm.Cond.privateMethod ({ cls := "ThreeSnowballs", name := "placeOf", desc := "(I)I" } : Jvm.MethodName)) ∈ lw_tbl := lw_at lw_m2 165 rfl
theorem q497 : (Jvm.Cond.instanceMethod ({ cls := "ThreeSnowballs", name := "placeOf", desc := "(I)I" } : Jvm.MethodName)) ∈ lw_all := lw_g (lw_at lw_m2 166 rfl) rfl
theorem q498 : (Jvm.Cond.code ({ cls := "ThreeSnowballs", name := "placeOf", desc := "(I)I" } : Jvm.MethodName) prog_1_method_7_code (3 : Nat) (Option.some Jvm.ClassFile.FieldType.int)) ∈ lw_all := lw_g (lw_at lw_m2 167 rfl) rfl
theorem q500 : (Jvm.Cond.instanceMethod ({ cls := "ThreeSnowballs", name := "undo", desc := "()I" } : Jvm.MethodName)) ∈ lw_all := lw_g (lw_at lw_m2 169 rfl) rfl
theorem q501 : (Jvm.Cond.selects "ThreeSnowballs" ({ cls := "ThreeSnowballs", name := "undo", desc := "()I" } : Jvm.MethodName) ({ cls := "ThreeSnowballs", name := "undo", desc := "()I" } : Jvm.MethodName)) ∈ lw_all := lw_g (lw_at lw_m2 170 rfl) rfl
theorem q502 : (Jvm.Cond.code ({ cls := "ThreeSnowballs", name := "undo", desc := "()I" } : Jvm.MethodName) prog_1_method_18_code (1 : Nat) (Option.some Jvm.ClassFile.FieldType.int)) ∈ lw_all := lw_g (lw_at lw_m2 171 rfl) rfl
theorem q503 : (Jvm.Cond.methodLink "ThreeSnowballs" (167 : Nat) ({ cls := "ThreeSnowballs", name := "setTo", desc := "(III)V" } : Jvm.MethodName)) ∈ lw_all := lw_g (lw_at lw_m2 172 rfl) rfl
theorem q504 : (Jvm.Cond.privateMethod ({ cls := "ThreeSnowballs", name := "setTo", desc := "(III)V" } : Jvm.MethodName)) ∈ lw_tbl := lw_at lw_m2 173 rfl
theorem q505 : (Jvm.Cond.instanceMethod ({ cls := "ThreeSnowballs", name := "setTo", desc := "(III)V" } : Jvm.MethodName)) ∈ lw_all := lw_g (lw_at lw_m2 174 rfl) rfl
theorem q506 : (Jvm.Cond.code ({ cls := "ThreeSnowballs", name := "setTo", desc := "(III)V" } : Jvm.MethodName) prog_1_method_16_code (4 : Nat) (Option.none : Option Jvm.ClassFile.FieldType)) ∈ lw_all := lw_g (lw_at lw_m2 175 rfl) rfl
theorem q508 : (Jvm.Cond.instanceMethod ({ cls := "ThreeSnowballs", name := "redo", desc := "()I" } : Jvm.MethodName)) ∈ lw_all := lw_g (lw_at lw_m2 177 rfl) rfl
theorem q509 : (Jvm.Cond.selects "ThreeSnowballs" ({ cls := "ThreeSnowballs", name := "redo", desc := "()I" } : Jvm.MethodName) ({ cls := "ThreeSnowballs", name := "redo", desc := "()I" } : Jvm.MethodName)) ∈ lw_all := lw_g (lw_at lw_m2 178 rfl) rfl
theorem q510 : (Jvm.Cond.code ({ cls := "ThreeSnowballs", name := "redo", desc := "()I" } : Jvm.MethodName) prog_1_method_19_code (1 : Nat) (Option.some Jvm.ClassFile.FieldType.int)) ∈ lw_all := lw_g (lw_at lw_m2 179 rfl) rfl
theorem q512 : (Jvm.Cond.instanceMethod ({ cls := "ThreeSnowballs", name := "mend", desc := "(III)I" } : Jvm.MethodName)) ∈ lw_all := lw_g (lw_at lw_m2 181 rfl) rfl
theorem q513 : (Jvm.Cond.selects "ThreeSnowballs" ({ cls := "ThreeSnowballs", name := "mend", desc := "(III)I" } : Jvm.MethodName) ({ cls := "ThreeSnowballs", name := "mend", desc := "(III)I" } : Jvm.MethodName)) ∈ lw_all := lw_g (lw_at lw_m2 182 rfl) rfl
theorem q514 : (Jvm.Cond.code ({ cls := "ThreeSnowballs", name := "mend", desc := "(III)I" } : Jvm.MethodName) prog_1_method_20_code (4 : Nat) (Option.some Jvm.ClassFile.FieldType.int)) ∈ lw_all := lw_g (lw_at lw_m2 183 rfl) rfl
theorem q515 : (Jvm.Cond.methodLink "ThreeSnowballs" (182 : Nat) ({ cls := "ThreeSnowballs", name := "of", desc := "(II)I" } : Jvm.MethodName)) ∈ lw_all := lw_g (lw_at lw_m2 184 rfl) rfl
theorem q516 : (Jvm.Cond.methodLink "ThreeSnowballs" (184 : Nat) ({ cls := "ThreeSnowballs", name := "become", desc := "(IIII)I" } : Jvm.MethodName)) ∈ lw_all := lw_g (lw_at lw_m2 185 rfl) rfl
theorem q517 : (Jvm.Cond.privateMethod ({ cls := "ThreeSnowballs", name := "become", desc := "(IIII)I" } : Jvm.MethodName)) ∈ lw_tbl := lw_at lw_m2 186 rfl
theorem q518 : (Jvm.Cond.instanceMethod ({ cls := "ThreeSnowballs", name := "become", desc := "(IIII)I" } : Jvm.MethodName)) ∈ lw_all := lw_g (lw_at lw_m2 187 rfl) rfl
theorem q519 : (Jvm.Cond.code ({ cls := "ThreeSnowballs", name := "become", desc := "(IIII)I" } : Jvm.MethodName) prog_1_method_17_code (6 : Nat) (Option.some Jvm.ClassFile.FieldType.int)) ∈ lw_all := lw_g (lw_at lw_m2 188 rfl) rfl
theorem q521 : (Jvm.Cond.methodLink "ThreeSnowballs" (164 : Nat) ({ cls := "ThreeSnowballs$Change", name := "<init>", desc := "(IIII)V" } : Jvm.MethodName)) ∈ lw_all := lw_g (lw_at lw_m2 190 rfl) rfl
theorem q526 : (Jvm.Cond.fieldLinkNest "ThreeSnowballs" (171 : Nat) "ThreeSnowballs$Change" "of" "I" "ThreeSnowballs") ∈ lw_tbl := lw_at lw_m2 195 rfl
theorem q528 : (Jvm.Cond.fieldLinkNest "ThreeSnowballs" (174 : Nat) "ThreeSnowballs$Change" "at" "I" "ThreeSnowballs") ∈ lw_tbl := lw_at lw_m2 197 rfl
theorem q530 : (Jvm.Cond.fieldLinkNest "ThreeSnowballs" (176 : Nat) "ThreeSnowballs$Change" "before" "I" "ThreeSnowballs") ∈ lw_tbl := lw_at lw_m2 199 rfl
theorem q532 : (Jvm.Cond.fieldLinkNest "ThreeSnowballs" (179 : Nat) "ThreeSnowballs$Change" "behind" "I" "ThreeSnowballs") ∈ lw_tbl := lw_at lw_m2 201 rfl
theorem q543 : (Jvm.Cond.instanceMethod ({ cls := "ThreeSnowballs", name := "feed", desc := "(I)I" } : Jvm.MethodName)) ∈ lw_all := lw_g (lw_at lw_m2 212 rfl) rfl
theorem q544 : (Jvm.Cond.selects "ThreeSnowballs" ({ cls := "ThreeSnowballs", name := "feed", desc := "(I)I" } : Jvm.MethodName) ({ cls := "ThreeSnowballs", name := "feed", desc := "(I)I" } : Jvm.MethodName)) ∈ lw_all := lw_g (lw_at lw_m2 213 rfl) rfl
theorem q545 : (Jvm.Cond.code ({ cls := "ThreeSnowballs", name := "feed", desc := "(I)I" } : Jvm.MethodName) prog_1_method_21_code (2 : Nat) (Option.some Jvm.ClassFile.FieldType.int)) ∈ lw_all := lw_g (lw_at lw_m2 214 rfl) rfl
theorem q547 : (Jvm.Cond.instanceMethod ({ cls := "ThreeSnowballs", name := "law", desc := "()I" } : Jvm.MethodName)) ∈ lw_all := lw_g (lw_at lw_m2 216 rfl) rfl
theorem q548 : (Jvm.Cond.selects "ThreeSnowballs" ({ cls := "ThreeSnowballs", name := "law", desc := "()I" } : Jvm.MethodName) ({ cls := "ThreeSnowballs", name := "law", desc := "()I" } : Jvm.MethodName)) ∈ lw_all := lw_g (lw_at lw_m2 217 rfl) rfl
theorem q549 : (Jvm.Cond.code ({ cls := "ThreeSnowballs", name := "law", desc := "()I" } : Jvm.MethodName) prog_1_method_22_code (3 : Nat) (Option.some Jvm.ClassFile.FieldType.int)) ∈ lw_all := lw_g (lw_at lw_m2 218 rfl) rfl
theorem q550 : (Jvm.Cond.classLink "ThreeSnowballs" (191 : Nat) "ThreeSnowballs$Reader") ∈ lw_all := lw_g (lw_at lw_m2 219 rfl) rfl
theorem q552 : (Jvm.Cond.methodLinkNest "ThreeSnowballs" (193 : Nat) ({ cls := "ThreeSnowballs$Reader", name := "<init>", desc := "(LThreeSnowballs;)V" } : Jvm.MethodName) "ThreeSnowballs") ∈ lw_tbl := lw_at lw_m2 221 rfl
theorem q558 : (Jvm.Cond.fieldLinkNest "ThreeSnowballs" (200 : Nat) "ThreeSnowballs$Reader" "fault" "I" "ThreeSnowballs") ∈ lw_tbl := lw_at lw_m2 227 rfl
theorem q570 : (Jvm.Cond.methodLink "ThreeSnowballs" (196 : Nat) ({ cls := "ThreeSnowballs$Reader", name := "lines", desc := "()LThreeSnowballs$Line;" } : Jvm.MethodName)) ∈ lw_all := lw_g (lw_at lw_m2 239 rfl) rfl
theorem q585 : (Jvm.Cond.fieldLinkNest "ThreeSnowballs" (207 : Nat) "ThreeSnowballs$Line" "test" "LThreeSnowballs$Node;" "ThreeSnowballs") ∈ lw_tbl := lw_at lw_m3 14 rfl
theorem q587 : (Jvm.Cond.fieldLinkNest "ThreeSnowballs" (219 : Nat) "ThreeSnowballs$Line" "gives" "LThreeSnowballs$Node;" "ThreeSnowballs") ∈ lw_tbl := lw_at lw_m3 16 rfl
theorem q589 : (Jvm.Cond.fieldLinkNest "ThreeSnowballs" (222 : Nat) "ThreeSnowballs$Line" "next" "LThreeSnowballs$Line;" "ThreeSnowballs") ∈ lw_tbl := lw_at lw_m3 18 rfl
theorem q792 : (Jvm.Cond.instanceMethod ({ cls := "ThreeSnowballs", name := "worth", desc := "(III)J" } : Jvm.MethodName)) ∈ lw_all := lw_g (lw_at lw_m3 221 rfl) rfl
theorem q793 : (Jvm.Cond.selects "ThreeSnowballs" ({ cls := "ThreeSnowballs", name := "worth", desc := "(III)J" } : Jvm.MethodName) ({ cls := "ThreeSnowballs", name := "worth", desc := "(III)J" } : Jvm.MethodName)) ∈ lw_all := lw_g (lw_at lw_m3 222 rfl) rfl
theorem q794 : (Jvm.Cond.code ({ cls := "ThreeSnowballs", name := "worth", desc := "(III)J" } : Jvm.MethodName) prog_1_method_42_code (4 : Nat) (Option.some Jvm.ClassFile.FieldType.long)) ∈ lw_all := lw_g (lw_at lw_m3 223 rfl) rfl
theorem q795 : (Jvm.Cond.constantLong "ThreeSnowballs" (296 : Nat) (-9223372036854775808 : Int64)) ∈ lw_all := lw_g (lw_at lw_m3 224 rfl) rfl
theorem q796 : (Jvm.Cond.methodLink "ThreeSnowballs" (298 : Nat) ({ cls := "ThreeSnowballs", name := "findEnds", desc := "()V" } : Jvm.MethodName)) ∈ lw_all := lw_g (lw_at lw_m3 225 rfl) rfl
theorem q797 : (Jvm.Cond.privateMethod ({ cls := "ThreeSnowballs", name := "findEnds", desc := "()V" } : Jvm.MethodName)) ∈ lw_tbl := lw_at lw_m3 226 rfl
theorem q798 : (Jvm.Cond.instanceMethod ({ cls := "ThreeSnowballs", name := "findEnds", desc := "()V" } : Jvm.MethodName)) ∈ lw_all := lw_g (lw_at lw_m3 227 rfl) rfl
theorem q799 : (Jvm.Cond.code ({ cls := "ThreeSnowballs", name := "findEnds", desc := "()V" } : Jvm.MethodName) prog_1_method_38_code (9 : Nat) (Option.none : Option Jvm.ClassFile.FieldType)) ∈ lw_all := lw_g (lw_at lw_m3 228 rfl) rfl
theorem q800 : (Jvm.Cond.methodLink "ThreeSnowballs" (279 : Nat) ({ cls := "ThreeSnowballs", name := "findValues", desc := "()V" } : Jvm.MethodName)) ∈ lw_all := lw_g (lw_at lw_m3 229 rfl) rfl
theorem q801 : (Jvm.Cond.privateMethod ({ cls := "ThreeSnowballs", name := "findValues", desc := "()V" } : Jvm.MethodName)) ∈ lw_tbl := lw_at lw_m3 230 rfl
theorem q802 : (Jvm.Cond.instanceMethod ({ cls := "ThreeSnowballs", name := "findValues", desc := "()V" } : Jvm.MethodName)) ∈ lw_all := lw_g (lw_at lw_m3 231 rfl) rfl
theorem q803 : (Jvm.Cond.code ({ cls := "ThreeSnowballs", name := "findValues", desc := "()V" } : Jvm.MethodName) prog_1_method_34_code (6 : Nat) (Option.none : Option Jvm.ClassFile.FieldType)) ∈ lw_all := lw_g (lw_at lw_m3 232 rfl) rfl
theorem q804 : (Jvm.Cond.methodLink "ThreeSnowballs" (246 : Nat) ({ cls := "ThreeSnowballs", name := "isOver", desc := "(II)Z" } : Jvm.MethodName)) ∈ lw_all := lw_g (lw_at lw_m3 233 rfl) rfl
theorem q805 : (Jvm.Cond.privateMethod ({ cls := "ThreeSnowballs", name := "isOver", desc := "(II)Z" } : Jvm.MethodName)) ∈ lw_tbl := lw_at lw_m3 234 rfl
theorem q806 : (Jvm.Cond.instanceMethod ({ cls := "ThreeSnowballs", name := "isOver", desc := "(II)Z" } : Jvm.MethodName)) ∈ lw_all := lw_g (lw_at lw_m3 235 rfl) rfl
theorem q807 : (Jvm.Cond.code ({ cls := "ThreeSnowballs", name := "isOver", desc := "(II)Z" } : Jvm.MethodName) prog_1_method_26_code (3 : Nat) (Option.some Jvm.ClassFile.FieldType.boolean)) ∈ lw_all := lw_g (lw_at lw_m3 236 rfl) rfl
theorem q808 : (Jvm.Cond.methodLink "ThreeSnowballs" (231 : Nat) ({ cls := "java/lang/Integer", name := "bitCount", desc := "(I)I" } : Jvm.MethodName)) ∈ lw_all := lw_g (lw_at lw_m3 237 rfl) rfl
theorem q814 : (Jvm.Cond.methodLink "ThreeSnowballs" (276 : Nat) ({ cls := "ThreeSnowballs", name := "aimOf", desc := "(III)I" } : Jvm.MethodName)) ∈ lw_all := lw_g (lw_at lw_m4 3 rfl) rfl
theorem q815 : (Jvm.Cond.privateMethod ({ cls := "ThreeSnowballs", name := "aimOf", desc := "(III)I" } : Jvm.MethodName)) ∈ lw_tbl := lw_at lw_m4 4 rfl
theorem q816 : (Jvm.Cond.instanceMethod ({ cls := "ThreeSnowballs", name := "aimOf", desc := "(III)I" } : Jvm.MethodName)) ∈ lw_all := lw_g (lw_at lw_m4 5 rfl) rfl
theorem q817 : (Jvm.Cond.code ({ cls := "ThreeSnowballs", name := "aimOf", desc := "(III)I" } : Jvm.MethodName) prog_1_method_33_code (5 : Nat) (Option.some Jvm.ClassFile.FieldType.int)) ∈ lw_all := lw_g (lw_at lw_m4 6 rfl) rfl
theorem q818 : (Jvm.Cond.methodLink "ThreeSnowballs" (270 : Nat) ({ cls := "ThreeSnowballs", name := "byHits", desc := "(III)I" } : Jvm.MethodName)) ∈ lw_all := lw_g (lw_at lw_m4 7 rfl) rfl
theorem q819 : (Jvm.Cond.privateMethod ({ cls := "ThreeSnowballs", name := "byHits", desc := "(III)I" } : Jvm.MethodName)) ∈ lw_tbl := lw_at lw_m4 8 rfl
theorem q820 : (Jvm.Cond.instanceMethod ({ cls := "ThreeSnowballs", name := "byHits", desc := "(III)I" } : Jvm.MethodName)) ∈ lw_all := lw_g (lw_at lw_m4 9 rfl) rfl
theorem q821 : (Jvm.Cond.code ({ cls := "ThreeSnowballs", name := "byHits", desc := "(III)I" } : Jvm.MethodName) prog_1_method_31_code (6 : Nat) (Option.some Jvm.ClassFile.FieldType.int)) ∈ lw_all := lw_g (lw_at lw_m4 10 rfl) rfl
theorem q822 : (Jvm.Cond.methodLink "ThreeSnowballs" (256 : Nat) ({ cls := "ThreeSnowballs", name := "nextPlace", desc := "(II)I" } : Jvm.MethodName)) ∈ lw_all := lw_g (lw_at lw_m4 11 rfl) rfl
theorem q823 : (Jvm.Cond.privateMethod ({ cls := "ThreeSnowballs", name := "nextPlace", desc := "(II)I" } : Jvm.MethodName)) ∈ lw_tbl := lw_at lw_m4 12 rfl
theorem q824 : (Jvm.Cond.instanceMethod ({ cls := "ThreeSnowballs", name := "nextPlace", desc := "(II)I" } : Jvm.MethodName)) ∈ lw_all := lw_g (lw_at lw_m4 13 rfl) rfl
theorem q825 : (Jvm.Cond.code ({ cls := "ThreeSnowballs", name := "nextPlace", desc := "(II)I" } : Jvm.MethodName) prog_1_method_27_code (4 : Nat) (Option.some Jvm.ClassFile.FieldType.int)) ∈ lw_all := lw_g (lw_at lw_m4 14 rfl) rfl
theorem q826 : (Jvm.Cond.methodLink "ThreeSnowballs" (273 : Nat) ({ cls := "ThreeSnowballs", name := "bestAim", desc := "(III)I" } : Jvm.MethodName)) ∈ lw_all := lw_g (lw_at lw_m4 15 rfl) rfl
theorem q827 : (Jvm.Cond.privateMethod ({ cls := "ThreeSnowballs", name := "bestAim", desc := "(III)I" } : Jvm.MethodName)) ∈ lw_tbl := lw_at lw_m4 16 rfl
theorem q828 : (Jvm.Cond.instanceMethod ({ cls := "ThreeSnowballs", name := "bestAim", desc := "(III)I" } : Jvm.MethodName)) ∈ lw_all := lw_g (lw_at lw_m4 17 rfl) rfl
theorem q829 : (Jvm.Cond.code ({ cls := "ThreeSnowballs", name := "bestAim", desc := "(III)I" } : Jvm.MethodName) prog_1_method_32_code (11 : Nat) (Option.some Jvm.ClassFile.FieldType.int)) ∈ lw_all := lw_g (lw_at lw_m4 18 rfl) rfl
theorem q830 : (Jvm.Cond.methodLink "ThreeSnowballs" (266 : Nat) ({ cls := "ThreeSnowballs", name := "throwing", desc := "(IIIII)J" } : Jvm.MethodName)) ∈ lw_all := lw_g (lw_at lw_m4 19 rfl) rfl
theorem q831 : (Jvm.Cond.privateMethod ({ cls := "ThreeSnowballs", name := "throwing", desc := "(IIIII)J" } : Jvm.MethodName)) ∈ lw_tbl := lw_at lw_m4 20 rfl
theorem q832 : (Jvm.Cond.instanceMethod ({ cls := "ThreeSnowballs", name := "throwing", desc := "(IIIII)J" } : Jvm.MethodName)) ∈ lw_all := lw_g (lw_at lw_m4 21 rfl) rfl
theorem q833 : (Jvm.Cond.code ({ cls := "ThreeSnowballs", name := "throwing", desc := "(IIIII)J" } : Jvm.MethodName) prog_1_method_30_code (8 : Nat) (Option.some Jvm.ClassFile.FieldType.long)) ∈ lw_all := lw_g (lw_at lw_m4 22 rfl) rfl
theorem q834 : (Jvm.Cond.methodLink "ThreeSnowballs" (259 : Nat) ({ cls := "ThreeSnowballs", name := "valueAt", desc := "(IIII)J" } : Jvm.MethodName)) ∈ lw_all := lw_g (lw_at lw_m4 23 rfl) rfl
theorem q835 : (Jvm.Cond.privateMethod ({ cls := "ThreeSnowballs", name := "valueAt", desc := "(IIII)J" } : Jvm.MethodName)) ∈ lw_tbl := lw_at lw_m4 24 rfl
theorem q836 : (Jvm.Cond.instanceMethod ({ cls := "ThreeSnowballs", name := "valueAt", desc := "(IIII)J" } : Jvm.MethodName)) ∈ lw_all := lw_g (lw_at lw_m4 25 rfl) rfl
theorem q837 : (Jvm.Cond.code ({ cls := "ThreeSnowballs", name := "valueAt", desc := "(IIII)J" } : Jvm.MethodName) prog_1_method_29_code (5 : Nat) (Option.some Jvm.ClassFile.FieldType.long)) ∈ lw_all := lw_g (lw_at lw_m4 26 rfl) rfl
theorem q838 : (Jvm.Cond.methodLink "ThreeSnowballs" (249 : Nat) ({ cls := "ThreeSnowballs", name := "ends", desc := "(II)J" } : Jvm.MethodName)) ∈ lw_all := lw_g (lw_at lw_m4 27 rfl) rfl
theorem q839 : (Jvm.Cond.privateMethod ({ cls := "ThreeSnowballs", name := "ends", desc := "(II)J" } : Jvm.MethodName)) ∈ lw_tbl := lw_at lw_m4 28 rfl
theorem q840 : (Jvm.Cond.instanceMethod ({ cls := "ThreeSnowballs", name := "ends", desc := "(II)J" } : Jvm.MethodName)) ∈ lw_all := lw_g (lw_at lw_m4 29 rfl) rfl
theorem q841 : (Jvm.Cond.code ({ cls := "ThreeSnowballs", name := "ends", desc := "(II)J" } : Jvm.MethodName) prog_1_method_28_code (3 : Nat) (Option.some Jvm.ClassFile.FieldType.long)) ∈ lw_all := lw_g (lw_at lw_m4 30 rfl) rfl
theorem q842 : (Jvm.Cond.methodLink "ThreeSnowballs" (253 : Nat) ({ cls := "ThreeSnowballs", name := "at", desc := "(III)I" } : Jvm.MethodName)) ∈ lw_all := lw_g (lw_at lw_m4 31 rfl) rfl
theorem q843 : (Jvm.Cond.static ({ cls := "ThreeSnowballs", name := "at", desc := "(III)I" } : Jvm.MethodName)) ∈ lw_all := lw_g (lw_at lw_m4 32 rfl) rfl
theorem q844 : (Jvm.Cond.code ({ cls := "ThreeSnowballs", name := "at", desc := "(III)I" } : Jvm.MethodName) prog_1_method_25_code (3 : Nat) (Option.some Jvm.ClassFile.FieldType.int)) ∈ lw_all := lw_g (lw_at lw_m4 33 rfl) rfl
theorem q845 : (Jvm.Cond.methodLink "ThreeSnowballs" (263 : Nat) ({ cls := "ThreeSnowballs", name := "hitsOf", desc := "(IIII)I" } : Jvm.MethodName)) ∈ lw_all := lw_g (lw_at lw_m4 34 rfl) rfl
theorem q846 : (Jvm.Cond.privateMethod ({ cls := "ThreeSnowballs", name := "hitsOf", desc := "(IIII)I" } : Jvm.MethodName)) ∈ lw_tbl := lw_at lw_m4 35 rfl
theorem q847 : (Jvm.Cond.instanceMethod ({ cls := "ThreeSnowballs", name := "hitsOf", desc := "(IIII)I" } : Jvm.MethodName)) ∈ lw_all := lw_g (lw_at lw_m4 36 rfl) rfl
theorem q848 : (Jvm.Cond.code ({ cls := "ThreeSnowballs", name := "hitsOf", desc := "(IIII)I" } : Jvm.MethodName) prog_1_method_24_code (6 : Nat) (Option.some Jvm.ClassFile.FieldType.int)) ∈ lw_all := lw_g (lw_at lw_m4 37 rfl) rfl
theorem q849 : (Jvm.Cond.methodLink "ThreeSnowballs" (225 : Nat) ({ cls := "ThreeSnowballs$Facts", name := "clear", desc := "()V" } : Jvm.MethodName)) ∈ lw_all := lw_g (lw_at lw_m4 38 rfl) rfl
theorem q853 : (Jvm.Cond.methodLink "ThreeSnowballs" (236 : Nat) ({ cls := "ThreeSnowballs", name := "gives", desc := "()I" } : Jvm.MethodName)) ∈ lw_all := lw_g (lw_at lw_m4 42 rfl) rfl
theorem q854 : (Jvm.Cond.privateMethod ({ cls := "ThreeSnowballs", name := "gives", desc := "()I" } : Jvm.MethodName)) ∈ lw_tbl := lw_at lw_m4 43 rfl
theorem q855 : (Jvm.Cond.instanceMethod ({ cls := "ThreeSnowballs", name := "gives", desc := "()I" } : Jvm.MethodName)) ∈ lw_all := lw_g (lw_at lw_m4 44 rfl) rfl
theorem q856 : (Jvm.Cond.code ({ cls := "ThreeSnowballs", name := "gives", desc := "()I" } : Jvm.MethodName) prog_1_method_23_code (2 : Nat) (Option.some Jvm.ClassFile.FieldType.int)) ∈ lw_all := lw_g (lw_at lw_m4 45 rfl) rfl
theorem q857 : (Jvm.Cond.methodLink "ThreeSnowballs" (213 : Nat) ({ cls := "ThreeSnowballs$Node", name := "value", desc := "(LThreeSnowballs$Facts;)I" } : Jvm.MethodName)) ∈ lw_all := lw_g (lw_at lw_m4 46 rfl) rfl
theorem q881 : (Jvm.Cond.methodLink "ThreeSnowballs" (238 : Nat) ({ cls := "java/lang/Math", name := "min", desc := "(II)I" } : Jvm.MethodName)) ∈ lw_all := lw_g (lw_at lw_m4 70 rfl) rfl
theorem q882 : (Jvm.Cond.methodLink "ThreeSnowballs" (243 : Nat) ({ cls := "java/lang/Math", name := "max", desc := "(II)I" } : Jvm.MethodName)) ∈ lw_all := lw_g (lw_at lw_m4 71 rfl) rfl
theorem q883 : (Jvm.Cond.methodLink "ThreeSnowballs" (286 : Nat) ({ cls := "ThreeSnowballs", name := "reach", desc := "(IIIJ)V" } : Jvm.MethodName)) ∈ lw_all := lw_g (lw_at lw_m4 72 rfl) rfl
theorem q884 : (Jvm.Cond.privateMethod ({ cls := "ThreeSnowballs", name := "reach", desc := "(IIIJ)V" } : Jvm.MethodName)) ∈ lw_tbl := lw_at lw_m4 73 rfl
theorem q885 : (Jvm.Cond.instanceMethod ({ cls := "ThreeSnowballs", name := "reach", desc := "(IIIJ)V" } : Jvm.MethodName)) ∈ lw_all := lw_g (lw_at lw_m4 74 rfl) rfl
theorem q886 : (Jvm.Cond.code ({ cls := "ThreeSnowballs", name := "reach", desc := "(IIIJ)V" } : Jvm.MethodName) prog_1_method_37_code (6 : Nat) (Option.none : Option Jvm.ClassFile.FieldType)) ∈ lw_all := lw_g (lw_at lw_m4 75 rfl) rfl
theorem q887 : (Jvm.Cond.methodLink "ThreeSnowballs" (301 : Nat) ({ cls := "ThreeSnowballs", name := "worthOf", desc := "(I)J" } : Jvm.MethodName)) ∈ lw_all := lw_g (lw_at lw_m4 76 rfl) rfl
theorem q888 : (Jvm.Cond.privateMethod ({ cls := "ThreeSnowballs", name := "worthOf", desc := "(I)J" } : Jvm.MethodName)) ∈ lw_tbl := lw_at lw_m4 77 rfl
theorem q889 : (Jvm.Cond.instanceMethod ({ cls := "ThreeSnowballs", name := "worthOf", desc := "(I)J" } : Jvm.MethodName)) ∈ lw_all := lw_g (lw_at lw_m4 78 rfl) rfl
theorem q890 : (Jvm.Cond.code ({ cls := "ThreeSnowballs", name := "worthOf", desc := "(I)J" } : Jvm.MethodName) prog_1_method_36_code (2 : Nat) (Option.some Jvm.ClassFile.FieldType.long)) ∈ lw_all := lw_g (lw_at lw_m4 79 rfl) rfl
theorem q891 : (Jvm.Cond.methodLink "ThreeSnowballs" (304 : Nat) ({ cls := "ThreeSnowballs", name := "leftOf", desc := "(IZ)J" } : Jvm.MethodName)) ∈ lw_all := lw_g (lw_at lw_m4 80 rfl) rfl
theorem q892 : (Jvm.Cond.privateMethod ({ cls := "ThreeSnowballs", name := "leftOf", desc := "(IZ)J" } : Jvm.MethodName)) ∈ lw_tbl := lw_at lw_m4 81 rfl
theorem q893 : (Jvm.Cond.instanceMethod ({ cls := "ThreeSnowballs", name := "leftOf", desc := "(IZ)J" } : Jvm.MethodName)) ∈ lw_all := lw_g (lw_at lw_m4 82 rfl) rfl
theorem q894 : (Jvm.Cond.code ({ cls := "ThreeSnowballs", name := "leftOf", desc := "(IZ)J" } : Jvm.MethodName) prog_1_method_41_code (6 : Nat) (Option.some Jvm.ClassFile.FieldType.long)) ∈ lw_all := lw_g (lw_at lw_m4 83 rfl) rfl
theorem q895 : (Jvm.Cond.methodLink "ThreeSnowballs" (308 : Nat) ({ cls := "ThreeSnowballs", name := "part", desc := "(JJI)J" } : Jvm.MethodName)) ∈ lw_all := lw_g (lw_at lw_m4 84 rfl) rfl
theorem q896 : (Jvm.Cond.static ({ cls := "ThreeSnowballs", name := "part", desc := "(JJI)J" } : Jvm.MethodName)) ∈ lw_all := lw_g (lw_at lw_m4 85 rfl) rfl
theorem q897 : (Jvm.Cond.code ({ cls := "ThreeSnowballs", name := "part", desc := "(JJI)J" } : Jvm.MethodName) prog_1_method_40_code (7 : Nat) (Option.some Jvm.ClassFile.FieldType.long)) ∈ lw_all := lw_g (lw_at lw_m4 86 rfl) rfl
theorem q898 : (Jvm.Cond.methodLink "ThreeSnowballs" (290 : Nat) ({ cls := "ThreeSnowballs", name := "common", desc := "(JJ)J" } : Jvm.MethodName)) ∈ lw_all := lw_g (lw_at lw_m4 87 rfl) rfl
theorem q899 : (Jvm.Cond.static ({ cls := "ThreeSnowballs", name := "common", desc := "(JJ)J" } : Jvm.MethodName)) ∈ lw_all := lw_g (lw_at lw_m4 88 rfl) rfl
theorem q900 : (Jvm.Cond.code ({ cls := "ThreeSnowballs", name := "common", desc := "(JJ)J" } : Jvm.MethodName) prog_1_method_39_code (10 : Nat) (Option.some Jvm.ClassFile.FieldType.long)) ∈ lw_all := lw_g (lw_at lw_m4 89 rfl) rfl
theorem q902 : (Jvm.Cond.instanceMethod ({ cls := "ThreeSnowballs", name := "just", desc := "(II)J" } : Jvm.MethodName)) ∈ lw_all := lw_g (lw_at lw_m4 91 rfl) rfl
theorem q903 : (Jvm.Cond.selects "ThreeSnowballs" ({ cls := "ThreeSnowballs", name := "just", desc := "(II)J" } : Jvm.MethodName) ({ cls := "ThreeSnowballs", name := "just", desc := "(II)J" } : Jvm.MethodName)) ∈ lw_all := lw_g (lw_at lw_m4 92 rfl) rfl
theorem q904 : (Jvm.Cond.code ({ cls := "ThreeSnowballs", name := "just", desc := "(II)J" } : Jvm.MethodName) prog_1_method_43_code (3 : Nat) (Option.some Jvm.ClassFile.FieldType.long)) ∈ lw_all := lw_g (lw_at lw_m4 93 rfl) rfl
theorem q905 : (Jvm.Cond.methodLink "ThreeSnowballs" (312 : Nat) ({ cls := "ThreeSnowballs", name := "isSet", desc := "(I)Z" } : Jvm.MethodName)) ∈ lw_all := lw_g (lw_at lw_m4 94 rfl) rfl
theorem q906 : (Jvm.Cond.privateMethod ({ cls := "ThreeSnowballs", name := "isSet", desc := "(I)Z" } : Jvm.MethodName)) ∈ lw_tbl := lw_at lw_m4 95 rfl
theorem q907 : (Jvm.Cond.instanceMethod ({ cls := "ThreeSnowballs", name := "isSet", desc := "(I)Z" } : Jvm.MethodName)) ∈ lw_all := lw_g (lw_at lw_m4 96 rfl) rfl
theorem q908 : (Jvm.Cond.code ({ cls := "ThreeSnowballs", name := "isSet", desc := "(I)Z" } : Jvm.MethodName) prog_1_method_6_code (2 : Nat) (Option.some Jvm.ClassFile.FieldType.boolean)) ∈ lw_all := lw_g (lw_at lw_m4 97 rfl) rfl
theorem q910 : (Jvm.Cond.instanceMethod ({ cls := "ThreeSnowballs", name := "aims", desc := "(III)I" } : Jvm.MethodName)) ∈ lw_all := lw_g (lw_at lw_m4 99 rfl) rfl
theorem q911 : (Jvm.Cond.selects "ThreeSnowballs" ({ cls := "ThreeSnowballs", name := "aims", desc := "(III)I" } : Jvm.MethodName) ({ cls := "ThreeSnowballs", name := "aims", desc := "(III)I" } : Jvm.MethodName)) ∈ lw_all := lw_g (lw_at lw_m4 100 rfl) rfl
theorem q912 : (Jvm.Cond.code ({ cls := "ThreeSnowballs", name := "aims", desc := "(III)I" } : Jvm.MethodName) prog_1_method_44_code (5 : Nat) (Option.some Jvm.ClassFile.FieldType.int)) ∈ lw_all := lw_g (lw_at lw_m4 101 rfl) rfl
theorem q914 : (Jvm.Cond.instanceMethod ({ cls := "ThreeSnowballs", name := "begin", desc := "(I)I" } : Jvm.MethodName)) ∈ lw_all := lw_g (lw_at lw_m4 103 rfl) rfl
theorem q915 : (Jvm.Cond.selects "ThreeSnowballs" ({ cls := "ThreeSnowballs", name := "begin", desc := "(I)I" } : Jvm.MethodName) ({ cls := "ThreeSnowballs", name := "begin", desc := "(I)I" } : Jvm.MethodName)) ∈ lw_all := lw_g (lw_at lw_m4 104 rfl) rfl
theorem q916 : (Jvm.Cond.code ({ cls := "ThreeSnowballs", name := "begin", desc := "(I)I" } : Jvm.MethodName) prog_1_method_45_code (4 : Nat) (Option.some Jvm.ClassFile.FieldType.int)) ∈ lw_all := lw_g (lw_at lw_m4 105 rfl) rfl
theorem q918 : (Jvm.Cond.instanceMethod ({ cls := "ThreeSnowballs", name := "fair", desc := "()I" } : Jvm.MethodName)) ∈ lw_all := lw_g (lw_at lw_m4 107 rfl) rfl
theorem q919 : (Jvm.Cond.selects "ThreeSnowballs" ({ cls := "ThreeSnowballs", name := "fair", desc := "()I" } : Jvm.MethodName) ({ cls := "ThreeSnowballs", name := "fair", desc := "()I" } : Jvm.MethodName)) ∈ lw_all := lw_g (lw_at lw_m4 108 rfl) rfl
theorem q920 : (Jvm.Cond.code ({ cls := "ThreeSnowballs", name := "fair", desc := "()I" } : Jvm.MethodName) prog_1_method_47_code (3 : Nat) (Option.some Jvm.ClassFile.FieldType.int)) ∈ lw_all := lw_g (lw_at lw_m4 109 rfl) rfl
theorem q921 : (Jvm.Cond.methodLink "ThreeSnowballs" (321 : Nat) ({ cls := "ThreeSnowballs", name := "apart", desc := "(I)J" } : Jvm.MethodName)) ∈ lw_all := lw_g (lw_at lw_m4 110 rfl) rfl
theorem q922 : (Jvm.Cond.privateMethod ({ cls := "ThreeSnowballs", name := "apart", desc := "(I)J" } : Jvm.MethodName)) ∈ lw_tbl := lw_at lw_m4 111 rfl
theorem q923 : (Jvm.Cond.instanceMethod ({ cls := "ThreeSnowballs", name := "apart", desc := "(I)J" } : Jvm.MethodName)) ∈ lw_all := lw_g (lw_at lw_m4 112 rfl) rfl
theorem q924 : (Jvm.Cond.code ({ cls := "ThreeSnowballs", name := "apart", desc := "(I)J" } : Jvm.MethodName) prog_1_method_46_code (9 : Nat) (Option.some Jvm.ClassFile.FieldType.long)) ∈ lw_all := lw_g (lw_at lw_m4 113 rfl) rfl
theorem q925 : (Jvm.Cond.constantLong "ThreeSnowballs" (315 : Nat) (9223372036854775807 : Int64)) ∈ lw_all := lw_g (lw_at lw_m4 114 rfl) rfl
theorem q926 : (Jvm.Cond.methodLink "ThreeSnowballs" (317 : Nat) ({ cls := "java/lang/Math", name := "max", desc := "(JJ)J" } : Jvm.MethodName)) ∈ lw_all := lw_g (lw_at lw_m4 115 rfl) rfl
theorem q929 : (Jvm.Cond.methodLink "ThreeSnowballs" (319 : Nat) ({ cls := "java/lang/Math", name := "min", desc := "(JJ)J" } : Jvm.MethodName)) ∈ lw_all := lw_g (lw_at lw_m4 118 rfl) rfl
theorem q933 : (Jvm.Cond.instanceMethod ({ cls := "ThreeSnowballs", name := "would", desc := "(I)I" } : Jvm.MethodName)) ∈ lw_all := lw_g (lw_at lw_m4 122 rfl) rfl
theorem q934 : (Jvm.Cond.selects "ThreeSnowballs" ({ cls := "ThreeSnowballs", name := "would", desc := "(I)I" } : Jvm.MethodName) ({ cls := "ThreeSnowballs", name := "would", desc := "(I)I" } : Jvm.MethodName)) ∈ lw_all := lw_g (lw_at lw_m4 123 rfl) rfl
theorem q935 : (Jvm.Cond.code ({ cls := "ThreeSnowballs", name := "would", desc := "(I)I" } : Jvm.MethodName) prog_1_method_49_code (2 : Nat) (Option.some Jvm.ClassFile.FieldType.int)) ∈ lw_all := lw_g (lw_at lw_m4 124 rfl) rfl
theorem q936 : (Jvm.Cond.methodLink "ThreeSnowballs" (324 : Nat) ({ cls := "ThreeSnowballs", name := "wouldOf", desc := "(I)I" } : Jvm.MethodName)) ∈ lw_all := lw_g (lw_at lw_m4 125 rfl) rfl
theorem q937 : (Jvm.Cond.privateMethod ({ cls := "ThreeSnowballs", name := "wouldOf", desc := "(I)I" } : Jvm.MethodName)) ∈ lw_tbl := lw_at lw_m4 126 rfl
theorem q938 : (Jvm.Cond.instanceMethod ({ cls := "ThreeSnowballs", name := "wouldOf", desc := "(I)I" } : Jvm.MethodName)) ∈ lw_all := lw_g (lw_at lw_m4 127 rfl) rfl
theorem q939 : (Jvm.Cond.code ({ cls := "ThreeSnowballs", name := "wouldOf", desc := "(I)I" } : Jvm.MethodName) prog_1_method_48_code (7 : Nat) (Option.some Jvm.ClassFile.FieldType.int)) ∈ lw_all := lw_g (lw_at lw_m4 128 rfl) rfl
theorem q941 : (Jvm.Cond.instanceMethod ({ cls := "ThreeSnowballs", name := "rest", desc := "()I" } : Jvm.MethodName)) ∈ lw_all := lw_g (lw_at lw_m4 130 rfl) rfl
theorem q942 : (Jvm.Cond.selects "ThreeSnowballs" ({ cls := "ThreeSnowballs", name := "rest", desc := "()I" } : Jvm.MethodName) ({ cls := "ThreeSnowballs", name := "rest", desc := "()I" } : Jvm.MethodName)) ∈ lw_all := lw_g (lw_at lw_m4 131 rfl) rfl
theorem q943 : (Jvm.Cond.code ({ cls := "ThreeSnowballs", name := "rest", desc := "()I" } : Jvm.MethodName) prog_1_method_51_code (2 : Nat) (Option.some Jvm.ClassFile.FieldType.int)) ∈ lw_all := lw_g (lw_at lw_m4 132 rfl) rfl
theorem q944 : (Jvm.Cond.methodLink "ThreeSnowballs" (327 : Nat) ({ cls := "ThreeSnowballs", name := "restless", desc := "()I" } : Jvm.MethodName)) ∈ lw_all := lw_g (lw_at lw_m4 133 rfl) rfl
theorem q945 : (Jvm.Cond.privateMethod ({ cls := "ThreeSnowballs", name := "restless", desc := "()I" } : Jvm.MethodName)) ∈ lw_tbl := lw_at lw_m4 134 rfl
theorem q946 : (Jvm.Cond.instanceMethod ({ cls := "ThreeSnowballs", name := "restless", desc := "()I" } : Jvm.MethodName)) ∈ lw_all := lw_g (lw_at lw_m4 135 rfl) rfl
theorem q947 : (Jvm.Cond.code ({ cls := "ThreeSnowballs", name := "restless", desc := "()I" } : Jvm.MethodName) prog_1_method_50_code (2 : Nat) (Option.some Jvm.ClassFile.FieldType.int)) ∈ lw_all := lw_g (lw_at lw_m4 136 rfl) rfl
theorem q949 : (Jvm.Cond.instanceMethod ({ cls := "ThreeSnowballs", name := "settle", desc := "(I)I" } : Jvm.MethodName)) ∈ lw_all := lw_g (lw_at lw_m4 138 rfl) rfl
theorem q950 : (Jvm.Cond.selects "ThreeSnowballs" ({ cls := "ThreeSnowballs", name := "settle", desc := "(I)I" } : Jvm.MethodName) ({ cls := "ThreeSnowballs", name := "settle", desc := "(I)I" } : Jvm.MethodName)) ∈ lw_all := lw_g (lw_at lw_m4 139 rfl) rfl
theorem q951 : (Jvm.Cond.code ({ cls := "ThreeSnowballs", name := "settle", desc := "(I)I" } : Jvm.MethodName) prog_1_method_52_code (6 : Nat) (Option.some Jvm.ClassFile.FieldType.int)) ∈ lw_all := lw_g (lw_at lw_m4 140 rfl) rfl
theorem q953 : (Jvm.Cond.instanceMethod ({ cls := "ThreeSnowballs", name := "even", desc := "(I)I" } : Jvm.MethodName)) ∈ lw_all := lw_g (lw_at lw_m4 142 rfl) rfl
theorem q954 : (Jvm.Cond.selects "ThreeSnowballs" ({ cls := "ThreeSnowballs", name := "even", desc := "(I)I" } : Jvm.MethodName) ({ cls := "ThreeSnowballs", name := "even", desc := "(I)I" } : Jvm.MethodName)) ∈ lw_all := lw_g (lw_at lw_m4 143 rfl) rfl
theorem q955 : (Jvm.Cond.code ({ cls := "ThreeSnowballs", name := "even", desc := "(I)I" } : Jvm.MethodName) prog_1_method_53_code (10 : Nat) (Option.some Jvm.ClassFile.FieldType.int)) ∈ lw_all := lw_g (lw_at lw_m4 144 rfl) rfl
theorem q956 : (Jvm.Cond.constantLong "ThreeSnowballs" (330 : Nat) (-1 : Int64)) ∈ lw_all := lw_g (lw_at lw_m4 145 rfl) rfl
theorem q957 : (Jvm.Cond.methodLink "ThreeSnowballs" (332 : Nat) ({ cls := "java/lang/Math", name := "abs", desc := "(J)J" } : Jvm.MethodName)) ∈ lw_all := lw_g (lw_at lw_m4 146 rfl) rfl
theorem q961 : (Jvm.Cond.instanceMethod ({ cls := "ThreeSnowballs", name := "league", desc := "(I)I" } : Jvm.MethodName)) ∈ lw_all := lw_g (lw_at lw_m4 150 rfl) rfl
theorem q962 : (Jvm.Cond.selects "ThreeSnowballs" ({ cls := "ThreeSnowballs", name := "league", desc := "(I)I" } : Jvm.MethodName) ({ cls := "ThreeSnowballs", name := "league", desc := "(I)I" } : Jvm.MethodName)) ∈ lw_all := lw_g (lw_at lw_m4 151 rfl) rfl
theorem q963 : (Jvm.Cond.code ({ cls := "ThreeSnowballs", name := "league", desc := "(I)I" } : Jvm.MethodName) prog_1_method_55_code (2 : Nat) (Option.some Jvm.ClassFile.FieldType.int)) ∈ lw_all := lw_g (lw_at lw_m4 152 rfl) rfl
theorem q964 : (Jvm.Cond.methodLink "ThreeSnowballs" (339 : Nat) ({ cls := "ThreeSnowballs", name := "better", desc := "(II)I" } : Jvm.MethodName)) ∈ lw_all := lw_g (lw_at lw_m4 153 rfl) rfl
theorem q965 : (Jvm.Cond.privateMethod ({ cls := "ThreeSnowballs", name := "better", desc := "(II)I" } : Jvm.MethodName)) ∈ lw_tbl := lw_at lw_m4 154 rfl
theorem q966 : (Jvm.Cond.instanceMethod ({ cls := "ThreeSnowballs", name := "better", desc := "(II)I" } : Jvm.MethodName)) ∈ lw_all := lw_g (lw_at lw_m4 155 rfl) rfl
theorem q967 : (Jvm.Cond.code ({ cls := "ThreeSnowballs", name := "better", desc := "(II)I" } : Jvm.MethodName) prog_1_method_54_code (8 : Nat) (Option.some Jvm.ClassFile.FieldType.int)) ∈ lw_all := lw_g (lw_at lw_m4 156 rfl) rfl
theorem q968 : (Jvm.Cond.methodLink "ThreeSnowballs" (336 : Nat) ({ cls := "ThreeSnowballs", name := "firstPlace", desc := "(I)I" } : Jvm.MethodName)) ∈ lw_all := lw_g (lw_at lw_m4 157 rfl) rfl
theorem q969 : (Jvm.Cond.privateMethod ({ cls := "ThreeSnowballs", name := "firstPlace", desc := "(I)I" } : Jvm.MethodName)) ∈ lw_tbl := lw_at lw_m4 158 rfl
theorem q970 : (Jvm.Cond.instanceMethod ({ cls := "ThreeSnowballs", name := "firstPlace", desc := "(I)I" } : Jvm.MethodName)) ∈ lw_all := lw_g (lw_at lw_m4 159 rfl) rfl
theorem q971 : (Jvm.Cond.code ({ cls := "ThreeSnowballs", name := "firstPlace", desc := "(I)I" } : Jvm.MethodName) prog_1_method_35_code (3 : Nat) (Option.some Jvm.ClassFile.FieldType.int)) ∈ lw_all := lw_g (lw_at lw_m4 160 rfl) rfl
theorem q973 : (Jvm.Cond.instanceMethod ({ cls := "ThreeSnowballs", name := "points", desc := "(I)I" } : Jvm.MethodName)) ∈ lw_all := lw_g (lw_at lw_m4 162 rfl) rfl
theorem q974 : (Jvm.Cond.selects "ThreeSnowballs" ({ cls := "ThreeSnowballs", name := "points", desc := "(I)I" } : Jvm.MethodName) ({ cls := "ThreeSnowballs", name := "points", desc := "(I)I" } : Jvm.MethodName)) ∈ lw_all := lw_g (lw_at lw_m4 163 rfl) rfl
theorem q975 : (Jvm.Cond.code ({ cls := "ThreeSnowballs", name := "points", desc := "(I)I" } : Jvm.MethodName) prog_1_method_56_code (5 : Nat) (Option.some Jvm.ClassFile.FieldType.int)) ∈ lw_all := lw_g (lw_at lw_m4 164 rfl) rfl
theorem q977 : (Jvm.Cond.instanceMethod ({ cls := "ThreeSnowballs", name := "judge", desc := "(II)I" } : Jvm.MethodName)) ∈ lw_all := lw_g (lw_at lw_m4 166 rfl) rfl
theorem q978 : (Jvm.Cond.selects "ThreeSnowballs" ({ cls := "ThreeSnowballs", name := "judge", desc := "(II)I" } : Jvm.MethodName) ({ cls := "ThreeSnowballs", name := "judge", desc := "(II)I" } : Jvm.MethodName)) ∈ lw_all := lw_g (lw_at lw_m4 167 rfl) rfl
theorem q979 : (Jvm.Cond.codeWith ({ cls := "ThreeSnowballs", name := "judge", desc := "(II)I" } : Jvm.MethodName) prog_1_method_60_code (4 : Nat) (Option.some Jvm.ClassFile.FieldType.int) [((18 : Nat), (65 : Nat), (66 : Nat), (130 : Nat)), ((18 : Nat), (65 : Nat), (70 : Nat), (132 : Nat))]) ∈ lw_all := lw_g (lw_at lw_m4 168 rfl) rfl
theorem q980 : (Jvm.Cond.methodLink "ThreeSnowballs" (366 : Nat) ({ cls := "ThreeSnowballs$ByteRow", name := "size", desc := "()I" } : Jvm.MethodName)) ∈ lw_all := lw_g (lw_at lw_m4 169 rfl) rfl
theorem q984 : (Jvm.Cond.methodLink "ThreeSnowballs" (372 : Nat) ({ cls := "ThreeSnowballs", name := "goThrough", desc := "(LThreeSnowballs$ByteRow;)V" } : Jvm.MethodName)) ∈ lw_all := lw_g (lw_at lw_m4 173 rfl) rfl
theorem q985 : (Jvm.Cond.privateMethod ({ cls := "ThreeSnowballs", name := "goThrough", desc := "(LThreeSnowballs$ByteRow;)V" } : Jvm.MethodName)) ∈ lw_tbl := lw_at lw_m4 174 rfl
theorem q986 : (Jvm.Cond.instanceMethod ({ cls := "ThreeSnowballs", name := "goThrough", desc := "(LThreeSnowballs$ByteRow;)V" } : Jvm.MethodName)) ∈ lw_all := lw_g (lw_at lw_m4 175 rfl) rfl
theorem q987 : (Jvm.Cond.code ({ cls := "ThreeSnowballs", name := "goThrough", desc := "(LThreeSnowballs$ByteRow;)V" } : Jvm.MethodName) prog_1_method_59_code (3 : Nat) (Option.none : Option Jvm.ClassFile.FieldType)) ∈ lw_all := lw_g (lw_at lw_m4 176 rfl) rfl
theorem q988 : (Jvm.Cond.methodLink "ThreeSnowballs" (369 : Nat) ({ cls := "ThreeSnowballs", name := "goes", desc := "(II)Z" } : Jvm.MethodName)) ∈ lw_all := lw_g (lw_at lw_m4 177 rfl) rfl
theorem q989 : (Jvm.Cond.privateMethod ({ cls := "ThreeSnowballs", name := "goes", desc := "(II)Z" } : Jvm.MethodName)) ∈ lw_tbl := lw_at lw_m4 178 rfl
theorem q990 : (Jvm.Cond.instanceMethod ({ cls := "ThreeSnowballs", name := "goes", desc := "(II)Z" } : Jvm.MethodName)) ∈ lw_all := lw_g (lw_at lw_m4 179 rfl) rfl
theorem q991 : (Jvm.Cond.code ({ cls := "ThreeSnowballs", name := "goes", desc := "(II)Z" } : Jvm.MethodName) prog_1_method_58_code (5 : Nat) (Option.some Jvm.ClassFile.FieldType.boolean)) ∈ lw_all := lw_g (lw_at lw_m4 180 rfl) rfl
theorem q992 : (Jvm.Cond.methodLink "ThreeSnowballs" (360 : Nat) ({ cls := "ThreeSnowballs", name := "goTo", desc := "(II)V" } : Jvm.MethodName)) ∈ lw_all := lw_g (lw_at lw_m4 181 rfl) rfl
theorem q993 : (Jvm.Cond.privateMethod ({ cls := "ThreeSnowballs", name := "goTo", desc := "(II)V" } : Jvm.MethodName)) ∈ lw_tbl := lw_at lw_m4 182 rfl
theorem q994 : (Jvm.Cond.instanceMethod ({ cls := "ThreeSnowballs", name := "goTo", desc := "(II)V" } : Jvm.MethodName)) ∈ lw_all := lw_g (lw_at lw_m4 183 rfl) rfl
theorem q995 : (Jvm.Cond.code ({ cls := "ThreeSnowballs", name := "goTo", desc := "(II)V" } : Jvm.MethodName) prog_1_method_57_code (3 : Nat) (Option.none : Option Jvm.ClassFile.FieldType)) ∈ lw_all := lw_g (lw_at lw_m4 184 rfl) rfl
theorem q997 : (Jvm.Cond.instanceMethod ({ cls := "ThreeSnowballs", name := "chance", desc := "(II)J" } : Jvm.MethodName)) ∈ lw_all := lw_g (lw_at lw_m4 186 rfl) rfl
theorem q998 : (Jvm.Cond.selects "ThreeSnowballs" ({ cls := "ThreeSnowballs", name := "chance", desc := "(II)J" } : Jvm.MethodName) ({ cls := "ThreeSnowballs", name := "chance", desc := "(II)J" } : Jvm.MethodName)) ∈ lw_all := lw_g (lw_at lw_m4 187 rfl) rfl
theorem q999 : (Jvm.Cond.codeWith ({ cls := "ThreeSnowballs", name := "chance", desc := "(II)J" } : Jvm.MethodName) prog_1_method_61_code (4 : Nat) (Option.some Jvm.ClassFile.FieldType.long) [((20 : Nat), (64 : Nat), (65 : Nat), (130 : Nat)), ((20 : Nat), (64 : Nat), (70 : Nat), (132 : Nat))]) ∈ lw_all := lw_g (lw_at lw_m4 188 rfl) rfl
theorem q1001 : (Jvm.Cond.instanceMethod ({ cls := "ThreeSnowballs", name := "seen", desc := "(II)I" } : Jvm.MethodName)) ∈ lw_all := lw_g (lw_at lw_m4 190 rfl) rfl
theorem q1002 : (Jvm.Cond.selects "ThreeSnowballs" ({ cls := "ThreeSnowballs", name := "seen", desc := "(II)I" } : Jvm.MethodName) ({ cls := "ThreeSnowballs", name := "seen", desc := "(II)I" } : Jvm.MethodName)) ∈ lw_all := lw_g (lw_at lw_m4 191 rfl) rfl
theorem q1003 : (Jvm.Cond.code ({ cls := "ThreeSnowballs", name := "seen", desc := "(II)I" } : Jvm.MethodName) prog_1_method_63_code (5 : Nat) (Option.some Jvm.ClassFile.FieldType.int)) ∈ lw_all := lw_g (lw_at lw_m4 192 rfl) rfl
theorem q1004 : (Jvm.Cond.methodLink "ThreeSnowballs" (376 : Nat) ({ cls := "ThreeSnowballs", name := "power", desc := "(II)J" } : Jvm.MethodName)) ∈ lw_all := lw_g (lw_at lw_m4 193 rfl) rfl
theorem q1005 : (Jvm.Cond.static ({ cls := "ThreeSnowballs", name := "power", desc := "(II)J" } : Jvm.MethodName)) ∈ lw_all := lw_g (lw_at lw_m4 194 rfl) rfl
theorem q1006 : (Jvm.Cond.code ({ cls := "ThreeSnowballs", name := "power", desc := "(II)J" } : Jvm.MethodName) prog_1_method_62_code (5 : Nat) (Option.some Jvm.ClassFile.FieldType.long)) ∈ lw_all := lw_g (lw_at lw_m4 195 rfl) rfl
theorem q1008 : (Jvm.Cond.instanceMethod ({ cls := "ThreeSnowballs", name := "drawn", desc := "(III)I" } : Jvm.MethodName)) ∈ lw_all := lw_g (lw_at lw_m4 197 rfl) rfl
theorem q1009 : (Jvm.Cond.selects "ThreeSnowballs" ({ cls := "ThreeSnowballs", name := "drawn", desc := "(III)I" } : Jvm.MethodName) ({ cls := "ThreeSnowballs", name := "drawn", desc := "(III)I" } : Jvm.MethodName)) ∈ lw_all := lw_g (lw_at lw_m4 198 rfl) rfl
theorem q1010 : (Jvm.Cond.code ({ cls := "ThreeSnowballs", name := "drawn", desc := "(III)I" } : Jvm.MethodName) prog_1_method_64_code (9 : Nat) (Option.some Jvm.ClassFile.FieldType.int)) ∈ lw_all := lw_g (lw_at lw_m4 199 rfl) rfl
theorem q1011 : (Jvm.Cond.constant "ThreeSnowballs" (379 : Nat) (1103515245 : Int32)) ∈ lw_all := lw_g (lw_at lw_m4 200 rfl) rfl
theorem q1013 : (Jvm.Cond.instanceMethod ({ cls := "ThreeSnowballs", name := "anew", desc := "()I" } : Jvm.MethodName)) ∈ lw_all := lw_g (lw_at lw_m4 202 rfl) rfl
theorem q1014 : (Jvm.Cond.selects "ThreeSnowballs" ({ cls := "ThreeSnowballs", name := "anew", desc := "()I" } : Jvm.MethodName) ({ cls := "ThreeSnowballs", name := "anew", desc := "()I" } : Jvm.MethodName)) ∈ lw_all := lw_g (lw_at lw_m4 203 rfl) rfl
theorem q1015 : (Jvm.Cond.code ({ cls := "ThreeSnowballs", name := "anew", desc := "()I" } : Jvm.MethodName) prog_1_method_66_code (2 : Nat) (Option.some Jvm.ClassFile.FieldType.int)) ∈ lw_all := lw_g (lw_at lw_m4 204 rfl) rfl
theorem q1017 : (Jvm.Cond.instanceMethod ({ cls := "ThreeSnowballs", name := "step", desc := "(I)I" } : Jvm.MethodName)) ∈ lw_all := lw_g (lw_at lw_m4 206 rfl) rfl
theorem q1018 : (Jvm.Cond.selects "ThreeSnowballs" ({ cls := "ThreeSnowballs", name := "step", desc := "(I)I" } : Jvm.MethodName) ({ cls := "ThreeSnowballs", name := "step", desc := "(I)I" } : Jvm.MethodName)) ∈ lw_all := lw_g (lw_at lw_m4 207 rfl) rfl
theorem q1019 : (Jvm.Cond.code ({ cls := "ThreeSnowballs", name := "step", desc := "(I)I" } : Jvm.MethodName) prog_1_method_67_code (5 : Nat) (Option.some Jvm.ClassFile.FieldType.int)) ∈ lw_all := lw_g (lw_at lw_m4 208 rfl) rfl
theorem q1021 : (Jvm.Cond.instanceMethod ({ cls := "ThreeSnowballs", name := "image", desc := "()I" } : Jvm.MethodName)) ∈ lw_all := lw_g (lw_at lw_m4 210 rfl) rfl
theorem q1022 : (Jvm.Cond.selects "ThreeSnowballs" ({ cls := "ThreeSnowballs", name := "image", desc := "()I" } : Jvm.MethodName) ({ cls := "ThreeSnowballs", name := "image", desc := "()I" } : Jvm.MethodName)) ∈ lw_all := lw_g (lw_at lw_m4 211 rfl) rfl
theorem q1023 : (Jvm.Cond.code ({ cls := "ThreeSnowballs", name := "image", desc := "()I" } : Jvm.MethodName) prog_1_method_68_code (1 : Nat) (Option.some Jvm.ClassFile.FieldType.int)) ∈ lw_all := lw_g (lw_at lw_m4 212 rfl) rfl
theorem q1025 : (Jvm.Cond.instanceMethod ({ cls := "ThreeSnowballs", name := "back", desc := "()I" } : Jvm.MethodName)) ∈ lw_all := lw_g (lw_at lw_m4 214 rfl) rfl
theorem q1026 : (Jvm.Cond.selects "ThreeSnowballs" ({ cls := "ThreeSnowballs", name := "back", desc := "()I" } : Jvm.MethodName) ({ cls := "ThreeSnowballs", name := "back", desc := "()I" } : Jvm.MethodName)) ∈ lw_all := lw_g (lw_at lw_m4 215 rfl) rfl
theorem q1027 : (Jvm.Cond.code ({ cls := "ThreeSnowballs", name := "back", desc := "()I" } : Jvm.MethodName) prog_1_method_69_code (1 : Nat) (Option.some Jvm.ClassFile.FieldType.int)) ∈ lw_all := lw_g (lw_at lw_m4 216 rfl) rfl
theorem q1029 : (Jvm.Cond.instanceMethod ({ cls := "ThreeSnowballs", name := "body", desc := "(I)I" } : Jvm.MethodName)) ∈ lw_all := lw_g (lw_at lw_m4 218 rfl) rfl
theorem q1030 : (Jvm.Cond.selects "ThreeSnowballs" ({ cls := "ThreeSnowballs", name := "body", desc := "(I)I" } : Jvm.MethodName) ({ cls := "ThreeSnowballs", name := "body", desc := "(I)I" } : Jvm.MethodName)) ∈ lw_all := lw_g (lw_at lw_m4 219 rfl) rfl
theorem q1031 : (Jvm.Cond.code ({ cls := "ThreeSnowballs", name := "body", desc := "(I)I" } : Jvm.MethodName) prog_1_method_73_code (2 : Nat) (Option.some Jvm.ClassFile.FieldType.int)) ∈ lw_all := lw_g (lw_at lw_m4 220 rfl) rfl
theorem q1032 : (Jvm.Cond.methodLink "ThreeSnowballs" (429 : Nat) ({ cls := "ThreeSnowballs", name := "made", desc := "(I)LThreeSnowballs$Thrower;" } : Jvm.MethodName)) ∈ lw_all := lw_g (lw_at lw_m4 221 rfl) rfl
theorem q1033 : (Jvm.Cond.privateMethod ({ cls := "ThreeSnowballs", name := "made", desc := "(I)LThreeSnowballs$Thrower;" } : Jvm.MethodName)) ∈ lw_tbl := lw_at lw_m4 222 rfl
theorem q1034 : (Jvm.Cond.instanceMethod ({ cls := "ThreeSnowballs", name := "made", desc := "(I)LThreeSnowballs$Thrower;" } : Jvm.MethodName)) ∈ lw_all := lw_g (lw_at lw_m4 223 rfl) rfl
theorem q1035 : (Jvm.Cond.code ({ cls := "ThreeSnowballs", name := "made", desc := "(I)LThreeSnowballs$Thrower;" } : Jvm.MethodName) prog_1_method_72_code (2 : Nat) (Option.some (Jvm.ClassFile.FieldType.object "ThreeSnowballs$Thrower"))) ∈ lw_all := lw_g (lw_at lw_m4 224 rfl) rfl
theorem q1036 : (Jvm.Cond.classLink "ThreeSnowballs" (405 : Nat) "ThreeSnowballs$Strong") ∈ lw_all := lw_g (lw_at lw_m4 225 rfl) rfl
theorem q1038 : (Jvm.Cond.methodLink "ThreeSnowballs" (407 : Nat) ({ cls := "ThreeSnowballs$Strong", name := "<init>", desc := "(LThreeSnowballs;I)V" } : Jvm.MethodName)) ∈ lw_all := lw_g (lw_at lw_m4 227 rfl) rfl
theorem q1058 : (Jvm.Cond.classLink "ThreeSnowballs" (410 : Nat) "ThreeSnowballs$InAir") ∈ lw_all := lw_g (lw_at lw_m5 7 rfl) rfl
theorem q1060 : (Jvm.Cond.methodLink "ThreeSnowballs" (412 : Nat) ({ cls := "ThreeSnowballs$InAir", name := "<init>", desc := "(LThreeSnowballs;I)V" } : Jvm.MethodName)) ∈ lw_all := lw_g (lw_at lw_m5 9 rfl) rfl
theorem q1070 : (Jvm.Cond.classLink "ThreeSnowballs" (413 : Nat) "ThreeSnowballs$Weak") ∈ lw_all := lw_g (lw_at lw_m5 19 rfl) rfl
theorem q1072 : (Jvm.Cond.methodLink "ThreeSnowballs" (415 : Nat) ({ cls := "ThreeSnowballs$Weak", name := "<init>", desc := "(LThreeSnowballs;I)V" } : Jvm.MethodName)) ∈ lw_all := lw_g (lw_at lw_m5 21 rfl) rfl
theorem q1083 : (Jvm.Cond.classLink "ThreeSnowballs" (416 : Nat) "ThreeSnowballs$Best") ∈ lw_all := lw_g (lw_at lw_m5 32 rfl) rfl
theorem q1085 : (Jvm.Cond.methodLink "ThreeSnowballs" (418 : Nat) ({ cls := "ThreeSnowballs$Best", name := "<init>", desc := "(LThreeSnowballs;I)V" } : Jvm.MethodName)) ∈ lw_all := lw_g (lw_at lw_m5 34 rfl) rfl
theorem q1096 : (Jvm.Cond.classLink "ThreeSnowballs" (419 : Nat) "ThreeSnowballs$League") ∈ lw_all := lw_g (lw_at lw_m5 45 rfl) rfl
theorem q1098 : (Jvm.Cond.methodLink "ThreeSnowballs" (421 : Nat) ({ cls := "ThreeSnowballs$League", name := "<init>", desc := "(LThreeSnowballs;I)V" } : Jvm.MethodName)) ∈ lw_all := lw_g (lw_at lw_m5 47 rfl) rfl
theorem q1110 : (Jvm.Cond.classLink "ThreeSnowballs" (422 : Nat) "ThreeSnowballs$Told") ∈ lw_all := lw_g (lw_at lw_m5 59 rfl) rfl
theorem q1112 : (Jvm.Cond.methodLink "ThreeSnowballs" (424 : Nat) ({ cls := "ThreeSnowballs$Told", name := "<init>", desc := "(LThreeSnowballs;I)V" } : Jvm.MethodName)) ∈ lw_all := lw_g (lw_at lw_m5 61 rfl) rfl
theorem q1122 : (Jvm.Cond.classLink "ThreeSnowballs" (425 : Nat) "ThreeSnowballs$Last") ∈ lw_all := lw_g (lw_at lw_m5 71 rfl) rfl
theorem q1124 : (Jvm.Cond.methodLink "ThreeSnowballs" (427 : Nat) ({ cls := "ThreeSnowballs$Last", name := "<init>", desc := "(LThreeSnowballs;I)V" } : Jvm.MethodName)) ∈ lw_all := lw_g (lw_at lw_m5 73 rfl) rfl
theorem q1137 : (Jvm.Cond.methodLink "ThreeSnowballs" (428 : Nat) ({ cls := "ThreeSnowballs$Thrower", name := "<init>", desc := "(LThreeSnowballs;I)V" } : Jvm.MethodName)) ∈ lw_all := lw_g (lw_at lw_m5 86 rfl) rfl
theorem q1142 : (Jvm.Cond.instanceMethod ({ cls := "ThreeSnowballs", name := "act", desc := "(III)I" } : Jvm.MethodName)) ∈ lw_all := lw_g (lw_at lw_m5 91 rfl) rfl
theorem q1143 : (Jvm.Cond.selects "ThreeSnowballs" ({ cls := "ThreeSnowballs", name := "act", desc := "(III)I" } : Jvm.MethodName) ({ cls := "ThreeSnowballs", name := "act", desc := "(III)I" } : Jvm.MethodName)) ∈ lw_all := lw_g (lw_at lw_m5 92 rfl) rfl
theorem q1144 : (Jvm.Cond.code ({ cls := "ThreeSnowballs", name := "act", desc := "(III)I" } : Jvm.MethodName) prog_1_method_75_code (6 : Nat) (Option.some Jvm.ClassFile.FieldType.int)) ∈ lw_all := lw_g (lw_at lw_m5 93 rfl) rfl
theorem q1145 : (Jvm.Cond.methodLink "ThreeSnowballs" (433 : Nat) ({ cls := "ThreeSnowballs", name := "isBody", desc := "(I)Z" } : Jvm.MethodName)) ∈ lw_all := lw_g (lw_at lw_m5 94 rfl) rfl
theorem q1146 : (Jvm.Cond.privateMethod ({ cls := "ThreeSnowballs", name := "isBody", desc := "(I)Z" } : Jvm.MethodName)) ∈ lw_tbl := lw_at lw_m5 95 rfl
theorem q1147 : (Jvm.Cond.instanceMethod ({ cls := "ThreeSnowballs", name := "isBody", desc := "(I)Z" } : Jvm.MethodName)) ∈ lw_all := lw_g (lw_at lw_m5 96 rfl) rfl
theorem q1148 : (Jvm.Cond.code ({ cls := "ThreeSnowballs", name := "isBody", desc := "(I)Z" } : Jvm.MethodName) prog_1_method_71_code (2 : Nat) (Option.some Jvm.ClassFile.FieldType.boolean)) ∈ lw_all := lw_g (lw_at lw_m5 97 rfl) rfl
theorem q1149 : (Jvm.Cond.interfaceEntry "ThreeSnowballs" (436 : Nat)) ∈ lw_tbl := lw_at lw_m5 98 rfl
theorem q1150 : (Jvm.Cond.methodLink "ThreeSnowballs" (436 : Nat) ({ cls := "ThreeSnowballs$Aims", name := "aiming", desc := "(I)I" } : Jvm.MethodName)) ∈ lw_all := lw_g (lw_at lw_m5 99 rfl) rfl
theorem q1160 : (Jvm.Cond.privateMethod ({ cls := "ThreeSnowballs", name := "ran", desc := "(I)V" } : Jvm.MethodName)) ∈ lw_tbl := lw_at lw_m5 109 rfl
theorem q1161 : (Jvm.Cond.instanceMethod ({ cls := "ThreeSnowballs", name := "ran", desc := "(I)V" } : Jvm.MethodName)) ∈ lw_all := lw_g (lw_at lw_m5 110 rfl) rfl
theorem q1162 : (Jvm.Cond.code ({ cls := "ThreeSnowballs", name := "ran", desc := "(I)V" } : Jvm.MethodName) prog_1_method_70_code (2 : Nat) (Option.none : Option Jvm.ClassFile.FieldType)) ∈ lw_all := lw_g (lw_at lw_m5 111 rfl) rfl
theorem q1194 : (Jvm.Cond.interfaceEntry "ThreeSnowballs" (441 : Nat)) ∈ lw_tbl := lw_at lw_m5 143 rfl
theorem q1195 : (Jvm.Cond.methodLink "ThreeSnowballs" (441 : Nat) ({ cls := "ThreeSnowballs$Tells", name := "tells", desc := "(I)I" } : Jvm.MethodName)) ∈ lw_all := lw_g (lw_at lw_m5 144 rfl) rfl
theorem q1286 : (Jvm.Cond.methodLink "ThreeSnowballs" (446 : Nat) ({ cls := "ThreeSnowballs$Thrower", name := "throwsBy", desc := "(I)I" } : Jvm.MethodName)) ∈ lw_all := lw_g (lw_at lw_m5 235 rfl) rfl
theorem q1287 : (Jvm.Cond.methodLink "ThreeSnowballs" (449 : Nat) ({ cls := "ThreeSnowballs$Thrower", name := "hitting", desc := "(I)I" } : Jvm.MethodName)) ∈ lw_all := lw_g (lw_at lw_m5 236 rfl) rfl
theorem q1289 : (Jvm.Cond.instanceMethod ({ cls := "ThreeSnowballs", name := "trace", desc := "(I)I" } : Jvm.MethodName)) ∈ lw_all := lw_g (lw_at lw_m5 238 rfl) rfl
theorem q1290 : (Jvm.Cond.selects "ThreeSnowballs" ({ cls := "ThreeSnowballs", name := "trace", desc := "(I)I" } : Jvm.MethodName) ({ cls := "ThreeSnowballs", name := "trace", desc := "(I)I" } : Jvm.MethodName)) ∈ lw_all := lw_g (lw_at lw_m5 239 rfl) rfl
theorem q1291 : (Jvm.Cond.code ({ cls := "ThreeSnowballs", name := "trace", desc := "(I)I" } : Jvm.MethodName) prog_1_method_76_code (2 : Nat) (Option.some Jvm.ClassFile.FieldType.int)) ∈ lw_all := lw_g (lw_at lw_m6 0 rfl) rfl
theorem q1293 : (Jvm.Cond.instanceMethod ({ cls := "ThreeSnowballs", name := "keep", desc := "(II)I" } : Jvm.MethodName)) ∈ lw_all := lw_g (lw_at lw_m6 2 rfl) rfl
theorem q1294 : (Jvm.Cond.selects "ThreeSnowballs" ({ cls := "ThreeSnowballs", name := "keep", desc := "(II)I" } : Jvm.MethodName) ({ cls := "ThreeSnowballs", name := "keep", desc := "(II)I" } : Jvm.MethodName)) ∈ lw_all := lw_g (lw_at lw_m6 3 rfl) rfl
theorem q1295 : (Jvm.Cond.code ({ cls := "ThreeSnowballs", name := "keep", desc := "(II)I" } : Jvm.MethodName) prog_1_method_77_code (3 : Nat) (Option.some Jvm.ClassFile.FieldType.int)) ∈ lw_all := lw_g (lw_at lw_m6 4 rfl) rfl
theorem q1297 : (Jvm.Cond.instanceMethod ({ cls := "ThreeSnowballs", name := "row", desc := "(III)I" } : Jvm.MethodName)) ∈ lw_all := lw_g (lw_at lw_m6 6 rfl) rfl
theorem q1298 : (Jvm.Cond.selects "ThreeSnowballs" ({ cls := "ThreeSnowballs", name := "row", desc := "(III)I" } : Jvm.MethodName) ({ cls := "ThreeSnowballs", name := "row", desc := "(III)I" } : Jvm.MethodName)) ∈ lw_all := lw_g (lw_at lw_m6 7 rfl) rfl
theorem q1299 : (Jvm.Cond.codeWith ({ cls := "ThreeSnowballs", name := "row", desc := "(III)I" } : Jvm.MethodName) prog_1_method_79_code (5 : Nat) (Option.some Jvm.ClassFile.FieldType.int) [((24 : Nat), (35 : Nat), (38 : Nat), (471 : Nat))]) ∈ lw_all := lw_g (lw_at lw_m6 8 rfl) rfl
theorem q1300 : (Jvm.Cond.classLink "ThreeSnowballs" (471 : Nat) "java/lang/NegativeArraySizeException") ∈ lw_all := lw_g (lw_at lw_m6 9 rfl) rfl
theorem q1314 : (Jvm.Cond.methodLink "ThreeSnowballs" (467 : Nat) ({ cls := "ThreeSnowballs", name := "newRow", desc := "(II)LThreeSnowballs$Row;" } : Jvm.MethodName)) ∈ lw_all := lw_g (lw_at lw_m6 23 rfl) rfl
theorem q1315 : (Jvm.Cond.static ({ cls := "ThreeSnowballs", name := "newRow", desc := "(II)LThreeSnowballs$Row;" } : Jvm.MethodName)) ∈ lw_all := lw_g (lw_at lw_m6 24 rfl) rfl
theorem q1316 : (Jvm.Cond.code ({ cls := "ThreeSnowballs", name := "newRow", desc := "(II)LThreeSnowballs$Row;" } : Jvm.MethodName) prog_1_method_78_code (2 : Nat) (Option.some (Jvm.ClassFile.FieldType.object "ThreeSnowballs$Row"))) ∈ lw_all := lw_g (lw_at lw_m6 25 rfl) rfl
theorem q1318 : (Jvm.Cond.methodLink "ThreeSnowballs" (452 : Nat) ({ cls := "ThreeSnowballs$ByteRow", name := "<init>", desc := "(I)V" } : Jvm.MethodName)) ∈ lw_all := lw_g (lw_at lw_m6 27 rfl) rfl
theorem q1329 : (Jvm.Cond.classLink "ThreeSnowballs" (455 : Nat) "ThreeSnowballs$ShortRow") ∈ lw_all := lw_g (lw_at lw_m6 38 rfl) rfl
theorem q1331 : (Jvm.Cond.methodLink "ThreeSnowballs" (457 : Nat) ({ cls := "ThreeSnowballs$ShortRow", name := "<init>", desc := "(I)V" } : Jvm.MethodName)) ∈ lw_all := lw_g (lw_at lw_m6 40 rfl) rfl
theorem q1340 : (Jvm.Cond.classLink "ThreeSnowballs" (458 : Nat) "ThreeSnowballs$IntRow") ∈ lw_all := lw_g (lw_at lw_m6 49 rfl) rfl
theorem q1342 : (Jvm.Cond.methodLink "ThreeSnowballs" (460 : Nat) ({ cls := "ThreeSnowballs$IntRow", name := "<init>", desc := "(I)V" } : Jvm.MethodName)) ∈ lw_all := lw_g (lw_at lw_m6 51 rfl) rfl
theorem q1350 : (Jvm.Cond.classLink "ThreeSnowballs" (461 : Nat) "ThreeSnowballs$LongRow") ∈ lw_all := lw_g (lw_at lw_m6 59 rfl) rfl
theorem q1352 : (Jvm.Cond.methodLink "ThreeSnowballs" (463 : Nat) ({ cls := "ThreeSnowballs$LongRow", name := "<init>", desc := "(I)V" } : Jvm.MethodName)) ∈ lw_all := lw_g (lw_at lw_m6 61 rfl) rfl
theorem q1360 : (Jvm.Cond.classLink "ThreeSnowballs" (464 : Nat) "ThreeSnowballs$BooleanRow") ∈ lw_all := lw_g (lw_at lw_m6 69 rfl) rfl
theorem q1362 : (Jvm.Cond.methodLink "ThreeSnowballs" (466 : Nat) ({ cls := "ThreeSnowballs$BooleanRow", name := "<init>", desc := "(I)V" } : Jvm.MethodName)) ∈ lw_all := lw_g (lw_at lw_m6 71 rfl) rfl
theorem q1372 : (Jvm.Cond.instanceMethod ({ cls := "ThreeSnowballs", name := "put", desc := "(IIJ)I" } : Jvm.MethodName)) ∈ lw_all := lw_g (lw_at lw_m6 81 rfl) rfl
theorem q1373 : (Jvm.Cond.selects "ThreeSnowballs" ({ cls := "ThreeSnowballs", name := "put", desc := "(IIJ)I" } : Jvm.MethodName) ({ cls := "ThreeSnowballs", name := "put", desc := "(IIJ)I" } : Jvm.MethodName)) ∈ lw_all := lw_g (lw_at lw_m6 82 rfl) rfl
theorem q1374 : (Jvm.Cond.codeWith ({ cls := "ThreeSnowballs", name := "put", desc := "(IIJ)I" } : Jvm.MethodName) prog_1_method_80_code (6 : Nat) (Option.some Jvm.ClassFile.FieldType.int) [((9 : Nat), (31 : Nat), (32 : Nat), (132 : Nat)), ((9 : Nat), (31 : Nat), (37 : Nat), (130 : Nat)), ((9 : Nat), (31 : Nat), (42 : Nat), (134 : Nat))]) ∈ lw_all := lw_g (lw_at lw_m6 83 rfl) rfl
theorem q1375 : (Jvm.Cond.classLink "ThreeSnowballs" (473 : Nat) "ThreeSnowballs$Row") ∈ lw_all := lw_g (lw_at lw_m6 84 rfl) rfl
theorem q1376 : (Jvm.Cond.methodLink "ThreeSnowballs" (475 : Nat) ({ cls := "ThreeSnowballs$Row", name := "put", desc := "(IJ)Z" } : Jvm.MethodName)) ∈ lw_all := lw_g (lw_at lw_m6 85 rfl) rfl
theorem q1395 : (Jvm.Cond.instanceMethod ({ cls := "ThreeSnowballs", name := "element", desc := "(II)J" } : Jvm.MethodName)) ∈ lw_all := lw_g (lw_at lw_m6 104 rfl) rfl
theorem q1396 : (Jvm.Cond.selects "ThreeSnowballs" ({ cls := "ThreeSnowballs", name := "element", desc := "(II)J" } : Jvm.MethodName) ({ cls := "ThreeSnowballs", name := "element", desc := "(II)J" } : Jvm.MethodName)) ∈ lw_all := lw_g (lw_at lw_m6 105 rfl) rfl
theorem q1397 : (Jvm.Cond.codeWith ({ cls := "ThreeSnowballs", name := "element", desc := "(II)J" } : Jvm.MethodName) prog_1_method_81_code (4 : Nat) (Option.some Jvm.ClassFile.FieldType.long) [((11 : Nat), (24 : Nat), (25 : Nat), (132 : Nat)), ((11 : Nat), (24 : Nat), (30 : Nat), (130 : Nat)), ((11 : Nat), (24 : Nat), (35 : Nat), (134 : Nat))]) ∈ lw_all := lw_g (lw_at lw_m6 106 rfl) rfl
theorem q1398 : (Jvm.Cond.methodLink "ThreeSnowballs" (479 : Nat) ({ cls := "ThreeSnowballs$Row", name := "at", desc := "(I)J" } : Jvm.MethodName)) ∈ lw_all := lw_g (lw_at lw_m6 107 rfl) rfl
theorem q1415 : (Jvm.Cond.instanceMethod ({ cls := "ThreeSnowballs", name := "shift", desc := "(IIIII)I" } : Jvm.MethodName)) ∈ lw_all := lw_g (lw_at lw_m6 124 rfl) rfl
theorem q1416 : (Jvm.Cond.selects "ThreeSnowballs" ({ cls := "ThreeSnowballs", name := "shift", desc := "(IIIII)I" } : Jvm.MethodName) ({ cls := "ThreeSnowballs", name := "shift", desc := "(IIIII)I" } : Jvm.MethodName)) ∈ lw_all := lw_g (lw_at lw_m6 125 rfl) rfl
theorem q1417 : (Jvm.Cond.codeWith ({ cls := "ThreeSnowballs", name := "shift", desc := "(IIIII)I" } : Jvm.MethodName) prog_1_method_82_code (7 : Nat) (Option.some Jvm.ClassFile.FieldType.int) [((37 : Nat), (63 : Nat), (66 : Nat), (130 : Nat)), ((37 : Nat), (63 : Nat), (71 : Nat), (134 : Nat))]) ∈ lw_all := lw_g (lw_at lw_m6 126 rfl) rfl
theorem q1418 : (Jvm.Cond.methodLink "ThreeSnowballs" (480 : Nat) ({ cls := "ThreeSnowballs$Row", name := "copy", desc := "(ILThreeSnowballs$Row;II)V" } : Jvm.MethodName)) ∈ lw_all := lw_g (lw_at lw_m6 127 rfl) rfl
theorem q1449 : (Jvm.Cond.instanceMethod ({ cls := "ThreeSnowballs", name := "taken", desc := "(II)I" } : Jvm.MethodName)) ∈ lw_all := lw_g (lw_at lw_m6 158 rfl) rfl
theorem q1450 : (Jvm.Cond.selects "ThreeSnowballs" ({ cls := "ThreeSnowballs", name := "taken", desc := "(II)I" } : Jvm.MethodName) ({ cls := "ThreeSnowballs", name := "taken", desc := "(II)I" } : Jvm.MethodName)) ∈ lw_all := lw_g (lw_at lw_m6 159 rfl) rfl
theorem q1451 : (Jvm.Cond.codeWith ({ cls := "ThreeSnowballs", name := "taken", desc := "(II)I" } : Jvm.MethodName) prog_1_method_83_code (4 : Nat) (Option.some Jvm.ClassFile.FieldType.int) [((19 : Nat), (46 : Nat), (47 : Nat), (132 : Nat)), ((19 : Nat), (46 : Nat), (51 : Nat), (130 : Nat))]) ∈ lw_all := lw_g (lw_at lw_m6 160 rfl) rfl
theorem q1452 : (Jvm.Cond.methodLink "ThreeSnowballs" (484 : Nat) ({ cls := "ThreeSnowballs$Thrower", name := "isUnder", desc := "(I)Z" } : Jvm.MethodName)) ∈ lw_all := lw_g (lw_at lw_m6 161 rfl) rfl
theorem q1502 : (Jvm.Cond.methodLink "ThreeSnowballs" (487 : Nat) ({ cls := "ThreeSnowballs$Thrower", name := "kind", desc := "()I" } : Jvm.MethodName)) ∈ lw_all := lw_g (lw_at lw_m6 211 rfl) rfl
theorem q1504 : (Jvm.Cond.instanceMethod ({ cls := "ThreeSnowballs", name := "count", desc := "(I)I" } : Jvm.MethodName)) ∈ lw_all := lw_g (lw_at lw_m6 213 rfl) rfl
theorem q1505 : (Jvm.Cond.selects "ThreeSnowballs" ({ cls := "ThreeSnowballs", name := "count", desc := "(I)I" } : Jvm.MethodName) ({ cls := "ThreeSnowballs", name := "count", desc := "(I)I" } : Jvm.MethodName)) ∈ lw_all := lw_g (lw_at lw_m6 214 rfl) rfl
theorem q1506 : (Jvm.Cond.code ({ cls := "ThreeSnowballs", name := "count", desc := "(I)I" } : Jvm.MethodName) prog_1_method_84_code (2 : Nat) (Option.some Jvm.ClassFile.FieldType.int)) ∈ lw_all := lw_g (lw_at lw_m6 215 rfl) rfl
theorem in_X0 : ∀ w ∈ wsX00, w ∈ lw_all := lw_in wsX00 [215, 217, 219, 221, 223, 225, 227, 229, 231, 233, 235, 237, 239, 241, 243, 245, 247, 249, 251, 253, 255, 257, 259, 261, 263, 265, 267, 269, 271, 273, 275, 277, 279, 281, 283, 285, 287, 289] (by decide +kernel) (by decide +kernel)
