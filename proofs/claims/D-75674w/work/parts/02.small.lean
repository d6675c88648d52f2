/-! DECODE ROWS BY BYTES: one lemma an opcode; a method's code is cut into short pieces once, and a row reads its own piece alone. -/
set_option maxRecDepth 100000
/-- the code has just these bytes from pc on -/
def DkAt (code : ByteArray) (pc : Nat) (bs : List UInt8) : Prop := ∀ (j : Nat) (b : UInt8), bs[j]? = some b → code.data.toList[pc + j]? = some b
/-- the piece W has the bytes bs from its place j on -/
def dkIn (W : List UInt8) (j : Nat) (bs : List UInt8) : Bool := decide ((W.drop j).take bs.length = bs)
theorem dk_seg {l W T : List UInt8} {o o2 : Nat} (h : l.drop o = W ++ T) (n : Nat) (hn : W.length = n) (ho : o + n = o2) : l.drop o2 = T := by
  subst ho
  rw [← List.drop_drop, h, List.drop_left' hn]
theorem dk_at {code : ByteArray} {W T bs : List UInt8} {o pc : Nat} (h : code.data.toList.drop o = W ++ T) (j : Nat) (hp : o + j = pc) (hw : dkIn W j bs = true) : DkAt code pc bs := by
  subst hp
  intro i b e
  have h1 := of_decide_eq_true hw
  have h2 : i < bs.length := (List.getElem?_eq_some_iff.mp e).1
  have h3 : W[j + i]? = some b := by
    rw [← h1, List.getElem?_take, if_pos h2, List.getElem?_drop] at e
    exact e
  have h4 : j + i < W.length := (List.getElem?_eq_some_iff.mp h3).1
  have h5 : (code.data.toList.drop o)[j + i]? = some b := by
    rw [h, List.getElem?_append_left h4]
    exact h3
  rw [List.getElem?_drop, ← Nat.add_assoc] at h5
  exact h5
theorem dk_u1 {A : ByteArray} {p : Nat} {b : UInt8} (h : A.data.toList[p]? = some b) : (Reader.u1 : Reader DecodeError Nat) A p = .ok (b.toNat, p + 1) := by
  obtain ⟨h1, h2⟩ := List.getElem?_eq_some_iff.mp h
  have h3 : p < A.size := by simpa using h1
  have h4 : A[p]'h3 = b := h2
  have e : (Reader.u1 : Reader DecodeError Nat) A p = (if h : p < A.size then .ok (A[p].toNat, p + 1) else .error (HasTruncated.truncated p)) := by
    show (do if h : p < A.size then do set (p + 1); Pure.pure A[p].toNat else MonadExcept.throw (HasTruncated.truncated p) : Reader DecodeError Nat) A p = _
    by_cases hi : p < A.size
    · rw [dif_pos hi, dif_pos hi]; rfl
    · rw [dif_neg hi, dif_neg hi]; rfl
  rw [e, dif_pos h3, h4]
theorem dk_bind {α β : Type} {r : Reader DecodeError α} {f : α → Reader DecodeError β} {A : ByteArray} {p s : Nat} {a : α} (h : r A p = .ok (a, s)) : (r >>= f) A p = f a A s := by
  show (do let (a, s) ← r A p; f a A s : Except DecodeError (β × Nat)) = _
  rw [h]
  rfl
theorem dk_map {α β : Type} {r : Reader DecodeError α} {g : α → β} {A : ByteArray} {p s : Nat} {a : α} (h : r A p = .ok (a, s)) : (g <$> r) A p = .ok (g a, s) := by
  show (do let (a, s) ← r A p; .ok (g a, s) : Except DecodeError (β × Nat)) = _
  rw [h]
  rfl
theorem dk_u2 {A : ByteArray} {p : Nat} {a b : UInt8} (h : A.data.toList[p]? = some a) (h2 : A.data.toList[p + 1]? = some b) : (Reader.u2 : Reader DecodeError Nat) A p = .ok (a.toNat * 256 + b.toNat, p + 2) := by
  show (Reader.u1 >>= fun hi => Reader.u1 >>= fun lo => Pure.pure (hi * 256 + lo) : Reader DecodeError Nat) A p = _
  rw [dk_bind (dk_u1 h), dk_bind (dk_u1 h2)]
  rfl
theorem dk_of {code : ByteArray} {pc n : Nat} {i : Instr} (h : Decoder.instr pc code pc = .ok (i, pc + n)) : decode code pc = .ok (i, n) := by
  have e : decode code pc = (match Decoder.instr pc code pc with | .error x => .error x | .ok (j, s) => .ok (j, s - pc)) := by
    show (do let (j, s) ← Decoder.instr pc code pc; Pure.pure (j, s - pc) : Except DecodeError (Instr × Nat)) = _
    cases Decoder.instr pc code pc <;> rfl
  rw [e, h]
  show Except.ok (i, pc + n - pc) = _
  rw [Nat.add_sub_cancel_left]
theorem dk_1 {code : ByteArray} {pc : Nat} (h : DkAt code pc [1]) : decode code pc = .ok (.aconst_null, 1) := dk_of ((dk_bind (dk_u1 (h 0 _ rfl))).trans rfl)
theorem dk_2 {code : ByteArray} {pc : Nat} (h : DkAt code pc [2]) : decode code pc = .ok (.iconst (-1), 1) := dk_of ((dk_bind (dk_u1 (h 0 _ rfl))).trans rfl)
theorem dk_3 {code : ByteArray} {pc : Nat} (h : DkAt code pc [3]) : decode code pc = .ok (.iconst 0, 1) := dk_of ((dk_bind (dk_u1 (h 0 _ rfl))).trans rfl)
theorem dk_4 {code : ByteArray} {pc : Nat} (h : DkAt code pc [4]) : decode code pc = .ok (.iconst 1, 1) := dk_of ((dk_bind (dk_u1 (h 0 _ rfl))).trans rfl)
theorem dk_5 {code : ByteArray} {pc : Nat} (h : DkAt code pc [5]) : decode code pc = .ok (.iconst 2, 1) := dk_of ((dk_bind (dk_u1 (h 0 _ rfl))).trans rfl)
theorem dk_6 {code : ByteArray} {pc : Nat} (h : DkAt code pc [6]) : decode code pc = .ok (.iconst 3, 1) := dk_of ((dk_bind (dk_u1 (h 0 _ rfl))).trans rfl)
theorem dk_7 {code : ByteArray} {pc : Nat} (h : DkAt code pc [7]) : decode code pc = .ok (.iconst 4, 1) := dk_of ((dk_bind (dk_u1 (h 0 _ rfl))).trans rfl)
theorem dk_8 {code : ByteArray} {pc : Nat} (h : DkAt code pc [8]) : decode code pc = .ok (.iconst 5, 1) := dk_of ((dk_bind (dk_u1 (h 0 _ rfl))).trans rfl)
theorem dk_9 {code : ByteArray} {pc : Nat} (h : DkAt code pc [9]) : decode code pc = .ok (.lconst 0, 1) := dk_of ((dk_bind (dk_u1 (h 0 _ rfl))).trans rfl)
theorem dk_10 {code : ByteArray} {pc : Nat} (h : DkAt code pc [10]) : decode code pc = .ok (.lconst 1, 1) := dk_of ((dk_bind (dk_u1 (h 0 _ rfl))).trans rfl)
theorem dk_16 {code : ByteArray} {pc : Nat} (a : UInt8) (h : DkAt code pc [16, a]) : decode code pc = .ok (.bipush (Reader.signed 8 a.toNat), 2) := dk_of ((dk_bind (dk_u1 (h 0 _ rfl))).trans ((dk_bind (dk_map (dk_u1 (h 1 _ rfl)))).trans rfl))
theorem dk_17 {code : ByteArray} {pc : Nat} (a b : UInt8) (h : DkAt code pc [17, a, b]) : decode code pc = .ok (.sipush (Reader.signed 16 (a.toNat * 256 + b.toNat)), 3) := dk_of ((dk_bind (dk_u1 (h 0 _ rfl))).trans ((dk_bind (dk_map (dk_u2 (h 1 _ rfl) (h 2 _ rfl)))).trans rfl))
theorem dk_18 {code : ByteArray} {pc : Nat} (a : UInt8) (h : DkAt code pc [18, a]) : decode code pc = .ok (.ldc a.toNat, 2) := dk_of ((dk_bind (dk_u1 (h 0 _ rfl))).trans ((dk_bind (dk_u1 (h 1 _ rfl))).trans rfl))
theorem dk_19 {code : ByteArray} {pc : Nat} (a b : UInt8) (h : DkAt code pc [19, a, b]) : decode code pc = .ok (.ldc_w (a.toNat * 256 + b.toNat), 3) := dk_of ((dk_bind (dk_u1 (h 0 _ rfl))).trans ((dk_bind (dk_u2 (h 1 _ rfl) (h 2 _ rfl))).trans rfl))
theorem dk_20 {code : ByteArray} {pc : Nat} (a b : UInt8) (h : DkAt code pc [20, a, b]) : decode code pc = .ok (.ldc2_w (a.toNat * 256 + b.toNat), 3) := dk_of ((dk_bind (dk_u1 (h 0 _ rfl))).trans ((dk_bind (dk_u2 (h 1 _ rfl) (h 2 _ rfl))).trans rfl))
theorem dk_21 {code : ByteArray} {pc : Nat} (a : UInt8) (h : DkAt code pc [21, a]) : decode code pc = .ok (.iload a.toNat, 2) := dk_of ((dk_bind (dk_u1 (h 0 _ rfl))).trans ((dk_bind (dk_u1 (h 1 _ rfl))).trans rfl))
theorem dk_22 {code : ByteArray} {pc : Nat} (a : UInt8) (h : DkAt code pc [22, a]) : decode code pc = .ok (.lload a.toNat, 2) := dk_of ((dk_bind (dk_u1 (h 0 _ rfl))).trans ((dk_bind (dk_u1 (h 1 _ rfl))).trans rfl))
theorem dk_26 {code : ByteArray} {pc : Nat} (h : DkAt code pc [26]) : decode code pc = .ok (.iload_n 0, 1) := dk_of ((dk_bind (dk_u1 (h 0 _ rfl))).trans rfl)
theorem dk_27 {code : ByteArray} {pc : Nat} (h : DkAt code pc [27]) : decode code pc = .ok (.iload_n 1, 1) := dk_of ((dk_bind (dk_u1 (h 0 _ rfl))).trans rfl)
theorem dk_28 {code : ByteArray} {pc : Nat} (h : DkAt code pc [28]) : decode code pc = .ok (.iload_n 2, 1) := dk_of ((dk_bind (dk_u1 (h 0 _ rfl))).trans rfl)
theorem dk_29 {code : ByteArray} {pc : Nat} (h : DkAt code pc [29]) : decode code pc = .ok (.iload_n 3, 1) := dk_of ((dk_bind (dk_u1 (h 0 _ rfl))).trans rfl)
theorem dk_30 {code : ByteArray} {pc : Nat} (h : DkAt code pc [30]) : decode code pc = .ok (.lload_n 0, 1) := dk_of ((dk_bind (dk_u1 (h 0 _ rfl))).trans rfl)
theorem dk_31 {code : ByteArray} {pc : Nat} (h : DkAt code pc [31]) : decode code pc = .ok (.lload_n 1, 1) := dk_of ((dk_bind (dk_u1 (h 0 _ rfl))).trans rfl)
theorem dk_32 {code : ByteArray} {pc : Nat} (h : DkAt code pc [32]) : decode code pc = .ok (.lload_n 2, 1) := dk_of ((dk_bind (dk_u1 (h 0 _ rfl))).trans rfl)
theorem dk_33 {code : ByteArray} {pc : Nat} (h : DkAt code pc [33]) : decode code pc = .ok (.lload_n 3, 1) := dk_of ((dk_bind (dk_u1 (h 0 _ rfl))).trans rfl)
theorem dk_42 {code : ByteArray} {pc : Nat} (h : DkAt code pc [42]) : decode code pc = .ok (.aload_n 0, 1) := dk_of ((dk_bind (dk_u1 (h 0 _ rfl))).trans rfl)
theorem dk_43 {code : ByteArray} {pc : Nat} (h : DkAt code pc [43]) : decode code pc = .ok (.aload_n 1, 1) := dk_of ((dk_bind (dk_u1 (h 0 _ rfl))).trans rfl)
theorem dk_44 {code : ByteArray} {pc : Nat} (h : DkAt code pc [44]) : decode code pc = .ok (.aload_n 2, 1) := dk_of ((dk_bind (dk_u1 (h 0 _ rfl))).trans rfl)
theorem dk_45 {code : ByteArray} {pc : Nat} (h : DkAt code pc [45]) : decode code pc = .ok (.aload_n 3, 1) := dk_of ((dk_bind (dk_u1 (h 0 _ rfl))).trans rfl)
theorem dk_46 {code : ByteArray} {pc : Nat} (h : DkAt code pc [46]) : decode code pc = .ok (.iaload, 1) := dk_of ((dk_bind (dk_u1 (h 0 _ rfl))).trans rfl)
theorem dk_47 {code : ByteArray} {pc : Nat} (h : DkAt code pc [47]) : decode code pc = .ok (.laload, 1) := dk_of ((dk_bind (dk_u1 (h 0 _ rfl))).trans rfl)
theorem dk_50 {code : ByteArray} {pc : Nat} (h : DkAt code pc [50]) : decode code pc = .ok (.aaload, 1) := dk_of ((dk_bind (dk_u1 (h 0 _ rfl))).trans rfl)
theorem dk_51 {code : ByteArray} {pc : Nat} (h : DkAt code pc [51]) : decode code pc = .ok (.baload, 1) := dk_of ((dk_bind (dk_u1 (h 0 _ rfl))).trans rfl)
theorem dk_53 {code : ByteArray} {pc : Nat} (h : DkAt code pc [53]) : decode code pc = .ok (.saload, 1) := dk_of ((dk_bind (dk_u1 (h 0 _ rfl))).trans rfl)
theorem dk_54 {code : ByteArray} {pc : Nat} (a : UInt8) (h : DkAt code pc [54, a]) : decode code pc = .ok (.istore a.toNat, 2) := dk_of ((dk_bind (dk_u1 (h 0 _ rfl))).trans ((dk_bind (dk_u1 (h 1 _ rfl))).trans rfl))
theorem dk_55 {code : ByteArray} {pc : Nat} (a : UInt8) (h : DkAt code pc [55, a]) : decode code pc = .ok (.lstore a.toNat, 2) := dk_of ((dk_bind (dk_u1 (h 0 _ rfl))).trans ((dk_bind (dk_u1 (h 1 _ rfl))).trans rfl))
theorem dk_58 {code : ByteArray} {pc : Nat} (a : UInt8) (h : DkAt code pc [58, a]) : decode code pc = .ok (.astore a.toNat, 2) := dk_of ((dk_bind (dk_u1 (h 0 _ rfl))).trans ((dk_bind (dk_u1 (h 1 _ rfl))).trans rfl))
theorem dk_59 {code : ByteArray} {pc : Nat} (h : DkAt code pc [59]) : decode code pc = .ok (.istore_n 0, 1) := dk_of ((dk_bind (dk_u1 (h 0 _ rfl))).trans rfl)
theorem dk_60 {code : ByteArray} {pc : Nat} (h : DkAt code pc [60]) : decode code pc = .ok (.istore_n 1, 1) := dk_of ((dk_bind (dk_u1 (h 0 _ rfl))).trans rfl)
theorem dk_61 {code : ByteArray} {pc : Nat} (h : DkAt code pc [61]) : decode code pc = .ok (.istore_n 2, 1) := dk_of ((dk_bind (dk_u1 (h 0 _ rfl))).trans rfl)
theorem dk_62 {code : ByteArray} {pc : Nat} (h : DkAt code pc [62]) : decode code pc = .ok (.istore_n 3, 1) := dk_of ((dk_bind (dk_u1 (h 0 _ rfl))).trans rfl)
theorem dk_64 {code : ByteArray} {pc : Nat} (h : DkAt code pc [64]) : decode code pc = .ok (.lstore_n 1, 1) := dk_of ((dk_bind (dk_u1 (h 0 _ rfl))).trans rfl)
theorem dk_66 {code : ByteArray} {pc : Nat} (h : DkAt code pc [66]) : decode code pc = .ok (.lstore_n 3, 1) := dk_of ((dk_bind (dk_u1 (h 0 _ rfl))).trans rfl)
theorem dk_76 {code : ByteArray} {pc : Nat} (h : DkAt code pc [76]) : decode code pc = .ok (.astore_n 1, 1) := dk_of ((dk_bind (dk_u1 (h 0 _ rfl))).trans rfl)
theorem dk_77 {code : ByteArray} {pc : Nat} (h : DkAt code pc [77]) : decode code pc = .ok (.astore_n 2, 1) := dk_of ((dk_bind (dk_u1 (h 0 _ rfl))).trans rfl)
theorem dk_78 {code : ByteArray} {pc : Nat} (h : DkAt code pc [78]) : decode code pc = .ok (.astore_n 3, 1) := dk_of ((dk_bind (dk_u1 (h 0 _ rfl))).trans rfl)
theorem dk_79 {code : ByteArray} {pc : Nat} (h : DkAt code pc [79]) : decode code pc = .ok (.iastore, 1) := dk_of ((dk_bind (dk_u1 (h 0 _ rfl))).trans rfl)
theorem dk_80 {code : ByteArray} {pc : Nat} (h : DkAt code pc [80]) : decode code pc = .ok (.lastore, 1) := dk_of ((dk_bind (dk_u1 (h 0 _ rfl))).trans rfl)
theorem dk_83 {code : ByteArray} {pc : Nat} (h : DkAt code pc [83]) : decode code pc = .ok (.aastore, 1) := dk_of ((dk_bind (dk_u1 (h 0 _ rfl))).trans rfl)
theorem dk_84 {code : ByteArray} {pc : Nat} (h : DkAt code pc [84]) : decode code pc = .ok (.bastore, 1) := dk_of ((dk_bind (dk_u1 (h 0 _ rfl))).trans rfl)
theorem dk_86 {code : ByteArray} {pc : Nat} (h : DkAt code pc [86]) : decode code pc = .ok (.sastore, 1) := dk_of ((dk_bind (dk_u1 (h 0 _ rfl))).trans rfl)
theorem dk_87 {code : ByteArray} {pc : Nat} (h : DkAt code pc [87]) : decode code pc = .ok (.pop, 1) := dk_of ((dk_bind (dk_u1 (h 0 _ rfl))).trans rfl)
theorem dk_89 {code : ByteArray} {pc : Nat} (h : DkAt code pc [89]) : decode code pc = .ok (.dup, 1) := dk_of ((dk_bind (dk_u1 (h 0 _ rfl))).trans rfl)
theorem dk_90 {code : ByteArray} {pc : Nat} (h : DkAt code pc [90]) : decode code pc = .ok (.dup_x1, 1) := dk_of ((dk_bind (dk_u1 (h 0 _ rfl))).trans rfl)
theorem dk_92 {code : ByteArray} {pc : Nat} (h : DkAt code pc [92]) : decode code pc = .ok (.dup2, 1) := dk_of ((dk_bind (dk_u1 (h 0 _ rfl))).trans rfl)
theorem dk_96 {code : ByteArray} {pc : Nat} (h : DkAt code pc [96]) : decode code pc = .ok (.iadd, 1) := dk_of ((dk_bind (dk_u1 (h 0 _ rfl))).trans rfl)
theorem dk_97 {code : ByteArray} {pc : Nat} (h : DkAt code pc [97]) : decode code pc = .ok (.ladd, 1) := dk_of ((dk_bind (dk_u1 (h 0 _ rfl))).trans rfl)
theorem dk_100 {code : ByteArray} {pc : Nat} (h : DkAt code pc [100]) : decode code pc = .ok (.isub, 1) := dk_of ((dk_bind (dk_u1 (h 0 _ rfl))).trans rfl)
theorem dk_101 {code : ByteArray} {pc : Nat} (h : DkAt code pc [101]) : decode code pc = .ok (.lsub, 1) := dk_of ((dk_bind (dk_u1 (h 0 _ rfl))).trans rfl)
theorem dk_104 {code : ByteArray} {pc : Nat} (h : DkAt code pc [104]) : decode code pc = .ok (.imul, 1) := dk_of ((dk_bind (dk_u1 (h 0 _ rfl))).trans rfl)
theorem dk_105 {code : ByteArray} {pc : Nat} (h : DkAt code pc [105]) : decode code pc = .ok (.lmul, 1) := dk_of ((dk_bind (dk_u1 (h 0 _ rfl))).trans rfl)
theorem dk_108 {code : ByteArray} {pc : Nat} (h : DkAt code pc [108]) : decode code pc = .ok (.idiv, 1) := dk_of ((dk_bind (dk_u1 (h 0 _ rfl))).trans rfl)
theorem dk_109 {code : ByteArray} {pc : Nat} (h : DkAt code pc [109]) : decode code pc = .ok (.ldiv, 1) := dk_of ((dk_bind (dk_u1 (h 0 _ rfl))).trans rfl)
theorem dk_112 {code : ByteArray} {pc : Nat} (h : DkAt code pc [112]) : decode code pc = .ok (.irem, 1) := dk_of ((dk_bind (dk_u1 (h 0 _ rfl))).trans rfl)
theorem dk_113 {code : ByteArray} {pc : Nat} (h : DkAt code pc [113]) : decode code pc = .ok (.lrem, 1) := dk_of ((dk_bind (dk_u1 (h 0 _ rfl))).trans rfl)
theorem dk_116 {code : ByteArray} {pc : Nat} (h : DkAt code pc [116]) : decode code pc = .ok (.ineg, 1) := dk_of ((dk_bind (dk_u1 (h 0 _ rfl))).trans rfl)
theorem dk_117 {code : ByteArray} {pc : Nat} (h : DkAt code pc [117]) : decode code pc = .ok (.lneg, 1) := dk_of ((dk_bind (dk_u1 (h 0 _ rfl))).trans rfl)
theorem dk_120 {code : ByteArray} {pc : Nat} (h : DkAt code pc [120]) : decode code pc = .ok (.ishl, 1) := dk_of ((dk_bind (dk_u1 (h 0 _ rfl))).trans rfl)
theorem dk_121 {code : ByteArray} {pc : Nat} (h : DkAt code pc [121]) : decode code pc = .ok (.lshl, 1) := dk_of ((dk_bind (dk_u1 (h 0 _ rfl))).trans rfl)
theorem dk_122 {code : ByteArray} {pc : Nat} (h : DkAt code pc [122]) : decode code pc = .ok (.ishr, 1) := dk_of ((dk_bind (dk_u1 (h 0 _ rfl))).trans rfl)
theorem dk_124 {code : ByteArray} {pc : Nat} (h : DkAt code pc [124]) : decode code pc = .ok (.iushr, 1) := dk_of ((dk_bind (dk_u1 (h 0 _ rfl))).trans rfl)
theorem dk_126 {code : ByteArray} {pc : Nat} (h : DkAt code pc [126]) : decode code pc = .ok (.iand, 1) := dk_of ((dk_bind (dk_u1 (h 0 _ rfl))).trans rfl)
theorem dk_127 {code : ByteArray} {pc : Nat} (h : DkAt code pc [127]) : decode code pc = .ok (.land, 1) := dk_of ((dk_bind (dk_u1 (h 0 _ rfl))).trans rfl)
theorem dk_128 {code : ByteArray} {pc : Nat} (h : DkAt code pc [128]) : decode code pc = .ok (.ior, 1) := dk_of ((dk_bind (dk_u1 (h 0 _ rfl))).trans rfl)
theorem dk_129 {code : ByteArray} {pc : Nat} (h : DkAt code pc [129]) : decode code pc = .ok (.lor, 1) := dk_of ((dk_bind (dk_u1 (h 0 _ rfl))).trans rfl)
theorem dk_130 {code : ByteArray} {pc : Nat} (h : DkAt code pc [130]) : decode code pc = .ok (.ixor, 1) := dk_of ((dk_bind (dk_u1 (h 0 _ rfl))).trans rfl)
theorem dk_132 {code : ByteArray} {pc : Nat} (a b : UInt8) (h : DkAt code pc [132, a, b]) : decode code pc = .ok (.iinc a.toNat (Reader.signed 8 b.toNat), 3) := dk_of ((dk_bind (dk_u1 (h 0 _ rfl))).trans ((dk_bind (dk_u1 (h 1 _ rfl))).trans ((dk_bind (dk_map (dk_u1 (h 2 _ rfl)))).trans rfl)))
theorem dk_133 {code : ByteArray} {pc : Nat} (h : DkAt code pc [133]) : decode code pc = .ok (.i2l, 1) := dk_of ((dk_bind (dk_u1 (h 0 _ rfl))).trans rfl)
theorem dk_136 {code : ByteArray} {pc : Nat} (h : DkAt code pc [136]) : decode code pc = .ok (.l2i, 1) := dk_of ((dk_bind (dk_u1 (h 0 _ rfl))).trans rfl)
theorem dk_145 {code : ByteArray} {pc : Nat} (h : DkAt code pc [145]) : decode code pc = .ok (.i2b, 1) := dk_of ((dk_bind (dk_u1 (h 0 _ rfl))).trans rfl)
theorem dk_146 {code : ByteArray} {pc : Nat} (h : DkAt code pc [146]) : decode code pc = .ok (.i2c, 1) := dk_of ((dk_bind (dk_u1 (h 0 _ rfl))).trans rfl)
theorem dk_147 {code : ByteArray} {pc : Nat} (h : DkAt code pc [147]) : decode code pc = .ok (.i2s, 1) := dk_of ((dk_bind (dk_u1 (h 0 _ rfl))).trans rfl)
theorem dk_148 {code : ByteArray} {pc : Nat} (h : DkAt code pc [148]) : decode code pc = .ok (.lcmp, 1) := dk_of ((dk_bind (dk_u1 (h 0 _ rfl))).trans rfl)
theorem dk_153 {code : ByteArray} {pc : Nat} (a b : UInt8) (h : DkAt code pc [153, a, b]) : decode code pc = .ok (.ifCond .eq (Reader.signed 16 (a.toNat * 256 + b.toNat)), 3) := dk_of ((dk_bind (dk_u1 (h 0 _ rfl))).trans ((dk_bind (dk_map (dk_u2 (h 1 _ rfl) (h 2 _ rfl)))).trans rfl))
theorem dk_154 {code : ByteArray} {pc : Nat} (a b : UInt8) (h : DkAt code pc [154, a, b]) : decode code pc = .ok (.ifCond .ne (Reader.signed 16 (a.toNat * 256 + b.toNat)), 3) := dk_of ((dk_bind (dk_u1 (h 0 _ rfl))).trans ((dk_bind (dk_map (dk_u2 (h 1 _ rfl) (h 2 _ rfl)))).trans rfl))
theorem dk_155 {code : ByteArray} {pc : Nat} (a b : UInt8) (h : DkAt code pc [155, a, b]) : decode code pc = .ok (.ifCond .lt (Reader.signed 16 (a.toNat * 256 + b.toNat)), 3) := dk_of ((dk_bind (dk_u1 (h 0 _ rfl))).trans ((dk_bind (dk_map (dk_u2 (h 1 _ rfl) (h 2 _ rfl)))).trans rfl))
theorem dk_156 {code : ByteArray} {pc : Nat} (a b : UInt8) (h : DkAt code pc [156, a, b]) : decode code pc = .ok (.ifCond .ge (Reader.signed 16 (a.toNat * 256 + b.toNat)), 3) := dk_of ((dk_bind (dk_u1 (h 0 _ rfl))).trans ((dk_bind (dk_map (dk_u2 (h 1 _ rfl) (h 2 _ rfl)))).trans rfl))
theorem dk_157 {code : ByteArray} {pc : Nat} (a b : UInt8) (h : DkAt code pc [157, a, b]) : decode code pc = .ok (.ifCond .gt (Reader.signed 16 (a.toNat * 256 + b.toNat)), 3) := dk_of ((dk_bind (dk_u1 (h 0 _ rfl))).trans ((dk_bind (dk_map (dk_u2 (h 1 _ rfl) (h 2 _ rfl)))).trans rfl))
theorem dk_158 {code : ByteArray} {pc : Nat} (a b : UInt8) (h : DkAt code pc [158, a, b]) : decode code pc = .ok (.ifCond .le (Reader.signed 16 (a.toNat * 256 + b.toNat)), 3) := dk_of ((dk_bind (dk_u1 (h 0 _ rfl))).trans ((dk_bind (dk_map (dk_u2 (h 1 _ rfl) (h 2 _ rfl)))).trans rfl))
theorem dk_159 {code : ByteArray} {pc : Nat} (a b : UInt8) (h : DkAt code pc [159, a, b]) : decode code pc = .ok (.if_icmp .eq (Reader.signed 16 (a.toNat * 256 + b.toNat)), 3) := dk_of ((dk_bind (dk_u1 (h 0 _ rfl))).trans ((dk_bind (dk_map (dk_u2 (h 1 _ rfl) (h 2 _ rfl)))).trans rfl))
theorem dk_160 {code : ByteArray} {pc : Nat} (a b : UInt8) (h : DkAt code pc [160, a, b]) : decode code pc = .ok (.if_icmp .ne (Reader.signed 16 (a.toNat * 256 + b.toNat)), 3) := dk_of ((dk_bind (dk_u1 (h 0 _ rfl))).trans ((dk_bind (dk_map (dk_u2 (h 1 _ rfl) (h 2 _ rfl)))).trans rfl))
theorem dk_161 {code : ByteArray} {pc : Nat} (a b : UInt8) (h : DkAt code pc [161, a, b]) : decode code pc = .ok (.if_icmp .lt (Reader.signed 16 (a.toNat * 256 + b.toNat)), 3) := dk_of ((dk_bind (dk_u1 (h 0 _ rfl))).trans ((dk_bind (dk_map (dk_u2 (h 1 _ rfl) (h 2 _ rfl)))).trans rfl))
theorem dk_162 {code : ByteArray} {pc : Nat} (a b : UInt8) (h : DkAt code pc [162, a, b]) : decode code pc = .ok (.if_icmp .ge (Reader.signed 16 (a.toNat * 256 + b.toNat)), 3) := dk_of ((dk_bind (dk_u1 (h 0 _ rfl))).trans ((dk_bind (dk_map (dk_u2 (h 1 _ rfl) (h 2 _ rfl)))).trans rfl))
theorem dk_163 {code : ByteArray} {pc : Nat} (a b : UInt8) (h : DkAt code pc [163, a, b]) : decode code pc = .ok (.if_icmp .gt (Reader.signed 16 (a.toNat * 256 + b.toNat)), 3) := dk_of ((dk_bind (dk_u1 (h 0 _ rfl))).trans ((dk_bind (dk_map (dk_u2 (h 1 _ rfl) (h 2 _ rfl)))).trans rfl))
theorem dk_164 {code : ByteArray} {pc : Nat} (a b : UInt8) (h : DkAt code pc [164, a, b]) : decode code pc = .ok (.if_icmp .le (Reader.signed 16 (a.toNat * 256 + b.toNat)), 3) := dk_of ((dk_bind (dk_u1 (h 0 _ rfl))).trans ((dk_bind (dk_map (dk_u2 (h 1 _ rfl) (h 2 _ rfl)))).trans rfl))
theorem dk_165 {code : ByteArray} {pc : Nat} (a b : UInt8) (h : DkAt code pc [165, a, b]) : decode code pc = .ok (.if_acmp .eq (Reader.signed 16 (a.toNat * 256 + b.toNat)), 3) := dk_of ((dk_bind (dk_u1 (h 0 _ rfl))).trans ((dk_bind (dk_map (dk_u2 (h 1 _ rfl) (h 2 _ rfl)))).trans rfl))
theorem dk_166 {code : ByteArray} {pc : Nat} (a b : UInt8) (h : DkAt code pc [166, a, b]) : decode code pc = .ok (.if_acmp .ne (Reader.signed 16 (a.toNat * 256 + b.toNat)), 3) := dk_of ((dk_bind (dk_u1 (h 0 _ rfl))).trans ((dk_bind (dk_map (dk_u2 (h 1 _ rfl) (h 2 _ rfl)))).trans rfl))
theorem dk_167 {code : ByteArray} {pc : Nat} (a b : UInt8) (h : DkAt code pc [167, a, b]) : decode code pc = .ok (.goto (Reader.signed 16 (a.toNat * 256 + b.toNat)), 3) := dk_of ((dk_bind (dk_u1 (h 0 _ rfl))).trans ((dk_bind (dk_map (dk_u2 (h 1 _ rfl) (h 2 _ rfl)))).trans rfl))
theorem dk_172 {code : ByteArray} {pc : Nat} (h : DkAt code pc [172]) : decode code pc = .ok (.ireturn, 1) := dk_of ((dk_bind (dk_u1 (h 0 _ rfl))).trans rfl)
theorem dk_173 {code : ByteArray} {pc : Nat} (h : DkAt code pc [173]) : decode code pc = .ok (.lreturn, 1) := dk_of ((dk_bind (dk_u1 (h 0 _ rfl))).trans rfl)
theorem dk_176 {code : ByteArray} {pc : Nat} (h : DkAt code pc [176]) : decode code pc = .ok (.areturn, 1) := dk_of ((dk_bind (dk_u1 (h 0 _ rfl))).trans rfl)
theorem dk_177 {code : ByteArray} {pc : Nat} (h : DkAt code pc [177]) : decode code pc = .ok (.return_, 1) := dk_of ((dk_bind (dk_u1 (h 0 _ rfl))).trans rfl)
theorem dk_178 {code : ByteArray} {pc : Nat} (a b : UInt8) (h : DkAt code pc [178, a, b]) : decode code pc = .ok (.getstatic (a.toNat * 256 + b.toNat), 3) := dk_of ((dk_bind (dk_u1 (h 0 _ rfl))).trans ((dk_bind (dk_u2 (h 1 _ rfl) (h 2 _ rfl))).trans rfl))
theorem dk_180 {code : ByteArray} {pc : Nat} (a b : UInt8) (h : DkAt code pc [180, a, b]) : decode code pc = .ok (.getfield (a.toNat * 256 + b.toNat), 3) := dk_of ((dk_bind (dk_u1 (h 0 _ rfl))).trans ((dk_bind (dk_u2 (h 1 _ rfl) (h 2 _ rfl))).trans rfl))
theorem dk_181 {code : ByteArray} {pc : Nat} (a b : UInt8) (h : DkAt code pc [181, a, b]) : decode code pc = .ok (.putfield (a.toNat * 256 + b.toNat), 3) := dk_of ((dk_bind (dk_u1 (h 0 _ rfl))).trans ((dk_bind (dk_u2 (h 1 _ rfl) (h 2 _ rfl))).trans rfl))
theorem dk_182 {code : ByteArray} {pc : Nat} (a b : UInt8) (h : DkAt code pc [182, a, b]) : decode code pc = .ok (.invokevirtual (a.toNat * 256 + b.toNat), 3) := dk_of ((dk_bind (dk_u1 (h 0 _ rfl))).trans ((dk_bind (dk_u2 (h 1 _ rfl) (h 2 _ rfl))).trans rfl))
theorem dk_183 {code : ByteArray} {pc : Nat} (a b : UInt8) (h : DkAt code pc [183, a, b]) : decode code pc = .ok (.invokespecial (a.toNat * 256 + b.toNat), 3) := dk_of ((dk_bind (dk_u1 (h 0 _ rfl))).trans ((dk_bind (dk_u2 (h 1 _ rfl) (h 2 _ rfl))).trans rfl))
theorem dk_184 {code : ByteArray} {pc : Nat} (a b : UInt8) (h : DkAt code pc [184, a, b]) : decode code pc = .ok (.invokestatic (a.toNat * 256 + b.toNat), 3) := dk_of ((dk_bind (dk_u1 (h 0 _ rfl))).trans ((dk_bind (dk_u2 (h 1 _ rfl) (h 2 _ rfl))).trans rfl))
theorem dk_187 {code : ByteArray} {pc : Nat} (a b : UInt8) (h : DkAt code pc [187, a, b]) : decode code pc = .ok (.new (a.toNat * 256 + b.toNat), 3) := dk_of ((dk_bind (dk_u1 (h 0 _ rfl))).trans ((dk_bind (dk_u2 (h 1 _ rfl) (h 2 _ rfl))).trans rfl))
theorem dk_188_4 {code : ByteArray} {pc : Nat} (h : DkAt code pc [188, 4]) : decode code pc = .ok (.newarray .boolean, 2) := dk_of ((dk_bind (dk_u1 (h 0 _ rfl))).trans ((dk_bind (dk_u1 (h 1 _ rfl))).trans rfl))
theorem dk_188_8 {code : ByteArray} {pc : Nat} (h : DkAt code pc [188, 8]) : decode code pc = .ok (.newarray .byte, 2) := dk_of ((dk_bind (dk_u1 (h 0 _ rfl))).trans ((dk_bind (dk_u1 (h 1 _ rfl))).trans rfl))
theorem dk_188_9 {code : ByteArray} {pc : Nat} (h : DkAt code pc [188, 9]) : decode code pc = .ok (.newarray .short, 2) := dk_of ((dk_bind (dk_u1 (h 0 _ rfl))).trans ((dk_bind (dk_u1 (h 1 _ rfl))).trans rfl))
theorem dk_188_10 {code : ByteArray} {pc : Nat} (h : DkAt code pc [188, 10]) : decode code pc = .ok (.newarray .int, 2) := dk_of ((dk_bind (dk_u1 (h 0 _ rfl))).trans ((dk_bind (dk_u1 (h 1 _ rfl))).trans rfl))
theorem dk_188_11 {code : ByteArray} {pc : Nat} (h : DkAt code pc [188, 11]) : decode code pc = .ok (.newarray .long, 2) := dk_of ((dk_bind (dk_u1 (h 0 _ rfl))).trans ((dk_bind (dk_u1 (h 1 _ rfl))).trans rfl))
theorem dk_189 {code : ByteArray} {pc : Nat} (a b : UInt8) (h : DkAt code pc [189, a, b]) : decode code pc = .ok (.anewarray (a.toNat * 256 + b.toNat), 3) := dk_of ((dk_bind (dk_u1 (h 0 _ rfl))).trans ((dk_bind (dk_u2 (h 1 _ rfl) (h 2 _ rfl))).trans rfl))
theorem dk_190 {code : ByteArray} {pc : Nat} (h : DkAt code pc [190]) : decode code pc = .ok (.arraylength, 1) := dk_of ((dk_bind (dk_u1 (h 0 _ rfl))).trans rfl)
theorem dk_191 {code : ByteArray} {pc : Nat} (h : DkAt code pc [191]) : decode code pc = .ok (.athrow, 1) := dk_of ((dk_bind (dk_u1 (h 0 _ rfl))).trans rfl)
theorem dk_192 {code : ByteArray} {pc : Nat} (a b : UInt8) (h : DkAt code pc [192, a, b]) : decode code pc = .ok (.checkcast (a.toNat * 256 + b.toNat), 3) := dk_of ((dk_bind (dk_u1 (h 0 _ rfl))).trans ((dk_bind (dk_u2 (h 1 _ rfl) (h 2 _ rfl))).trans rfl))
theorem dk_193 {code : ByteArray} {pc : Nat} (a b : UInt8) (h : DkAt code pc [193, a, b]) : decode code pc = .ok (.instanceof (a.toNat * 256 + b.toNat), 3) := dk_of ((dk_bind (dk_u1 (h 0 _ rfl))).trans ((dk_bind (dk_u2 (h 1 _ rfl) (h 2 _ rfl))).trans rfl))
theorem dk_199 {code : ByteArray} {pc : Nat} (a b : UInt8) (h : DkAt code pc [199, a, b]) : decode code pc = .ok (.ifnonnull (Reader.signed 16 (a.toNat * 256 + b.toNat)), 3) := dk_of ((dk_bind (dk_u1 (h 0 _ rfl))).trans ((dk_bind (dk_map (dk_u2 (h 1 _ rfl) (h 2 _ rfl)))).trans rfl))

theorem q136 : (Jvm.Cond.initialized "LehrBeltLaw") ∈ lw_all := lw_g (lw_at lw_m1 0 rfl) rfl
set_option maxRecDepth 100000
theorem q170 : (Jvm.Cond.classLink "LehrBeltLaw" (7 : Nat) "LehrBelt") ∈ lw_all := lw_g (lw_at lw_m1 34 rfl) rfl
theorem q172 : (Jvm.Cond.methodLink "LehrBeltLaw" (9 : Nat) ({ cls := "LehrBelt", name := "<init>", desc := "()V" } : Jvm.MethodName)) ∈ lw_all := lw_g (lw_at lw_m1 36 rfl) rfl
theorem q444 : (Jvm.Cond.methodLink "LehrBeltLaw" (13 : Nat) ({ cls := "LehrBelt", name := "feed", desc := "(IIIII)I" } : Jvm.MethodName)) ∈ lw_all := lw_g (lw_at lw_m2 68 rfl) rfl
theorem q452 : (Jvm.Cond.methodLink "LehrBeltLaw" (18 : Nat) ({ cls := "LehrBelt", name := "end", desc := "(I)I" } : Jvm.MethodName)) ∈ lw_all := lw_g (lw_at lw_m2 76 rfl) rfl
theorem q459 : (Jvm.Cond.methodLink "LehrBeltLaw" (23 : Nat) ({ cls := "LehrBelt", name := "lehr", desc := "()I" } : Jvm.MethodName)) ∈ lw_all := lw_g (lw_at lw_m2 83 rfl) rfl
theorem q709 : (Jvm.Cond.methodLink "LehrBeltLaw" (28 : Nat) ({ cls := "LehrBelt", name := "fault", desc := "(I)I" } : Jvm.MethodName)) ∈ lw_all := lw_g (lw_at lw_m3 93 rfl) rfl
theorem q713 : (Jvm.Cond.methodLink "LehrBeltLaw" (32 : Nat) ({ cls := "LehrBelt", name := "zone", desc := "(I)I" } : Jvm.MethodName)) ∈ lw_all := lw_g (lw_at lw_m3 97 rfl) rfl
theorem q721 : (Jvm.Cond.methodLink "LehrBeltLaw" (36 : Nat) ({ cls := "LehrBelt", name := "piece", desc := "(II)I" } : Jvm.MethodName)) ∈ lw_all := lw_g (lw_at lw_m3 105 rfl) rfl
theorem q729 : (Jvm.Cond.methodLink "LehrBeltLaw" (41 : Nat) ({ cls := "LehrBelt", name := "air", desc := "(II)I" } : Jvm.MethodName)) ∈ lw_all := lw_g (lw_at lw_m3 113 rfl) rfl
theorem q829 : (Jvm.Cond.methodLink "LehrBeltLaw" (45 : Nat) ({ cls := "LehrBelt", name := "where", desc := "(II)I" } : Jvm.MethodName)) ∈ lw_all := lw_g (lw_at lw_m3 213 rfl) rfl
theorem q833 : (Jvm.Cond.methodLink "LehrBeltLaw" (49 : Nat) ({ cls := "LehrBelt", name := "inside", desc := "(II)I" } : Jvm.MethodName)) ∈ lw_all := lw_g (lw_at lw_m3 217 rfl) rfl
theorem q841 : (Jvm.Cond.methodLink "LehrBeltLaw" (53 : Nat) ({ cls := "LehrBelt", name := "out", desc := "(I)I" } : Jvm.MethodName)) ∈ lw_all := lw_g (lw_at lw_m3 225 rfl) rfl
theorem q845 : (Jvm.Cond.methodLink "LehrBeltLaw" (57 : Nat) ({ cls := "LehrBelt", name := "leaves", desc := "(I)I" } : Jvm.MethodName)) ∈ lw_all := lw_g (lw_at lw_m3 229 rfl) rfl
theorem q853 : (Jvm.Cond.methodLink "LehrBeltLaw" (61 : Nat) ({ cls := "LehrBelt", name := "skin", desc := "(II)I" } : Jvm.MethodName)) ∈ lw_all := lw_g (lw_at lw_m3 237 rfl) rfl
theorem q861 : (Jvm.Cond.methodLink "LehrBeltLaw" (65 : Nat) ({ cls := "LehrBelt", name := "core", desc := "(II)I" } : Jvm.MethodName)) ∈ lw_all := lw_g (lw_at lw_m4 5 rfl) rfl
theorem q869 : (Jvm.Cond.methodLink "LehrBeltLaw" (69 : Nat) ({ cls := "LehrBelt", name := "strain", desc := "(II)I" } : Jvm.MethodName)) ∈ lw_all := lw_g (lw_at lw_m4 13 rfl) rfl
theorem q877 : (Jvm.Cond.methodLink "LehrBeltLaw" (73 : Nat) ({ cls := "LehrBelt", name := "peak", desc := "(I)I" } : Jvm.MethodName)) ∈ lw_all := lw_g (lw_at lw_m4 21 rfl) rfl
theorem q885 : (Jvm.Cond.methodLink "LehrBeltLaw" (77 : Nat) ({ cls := "LehrBelt", name := "when", desc := "(I)I" } : Jvm.MethodName)) ∈ lw_all := lw_g (lw_at lw_m4 29 rfl) rfl
theorem q889 : (Jvm.Cond.methodLink "LehrBeltLaw" (81 : Nat) ({ cls := "LehrBelt", name := "frozen", desc := "(I)I" } : Jvm.MethodName)) ∈ lw_all := lw_g (lw_at lw_m4 33 rfl) rfl
theorem q893 : (Jvm.Cond.methodLink "LehrBeltLaw" (85 : Nat) ({ cls := "LehrBelt", name := "sets", desc := "(I)I" } : Jvm.MethodName)) ∈ lw_all := lw_g (lw_at lw_m4 37 rfl) rfl
theorem q897 : (Jvm.Cond.methodLink "LehrBeltLaw" (89 : Nat) ({ cls := "LehrBelt", name := "cracks", desc := "(I)I" } : Jvm.MethodName)) ∈ lw_all := lw_g (lw_at lw_m4 41 rfl) rfl
theorem q901 : (Jvm.Cond.methodLink "LehrBeltLaw" (93 : Nat) ({ cls := "LehrBelt", name := "why", desc := "(I)I" } : Jvm.MethodName)) ∈ lw_all := lw_g (lw_at lw_m4 45 rfl) rfl
theorem q905 : (Jvm.Cond.methodLink "LehrBeltLaw" (97 : Nat) ({ cls := "LehrBelt", name := "whole", desc := "(I)I" } : Jvm.MethodName)) ∈ lw_all := lw_g (lw_at lw_m4 49 rfl) rfl
theorem q917 : (Jvm.Cond.methodLink "LehrBeltLaw" (101 : Nat) ({ cls := "LehrBelt", name := "sound", desc := "()I" } : Jvm.MethodName)) ∈ lw_all := lw_g (lw_at lw_m4 61 rfl) rfl
theorem q929 : (Jvm.Cond.methodLink "LehrBeltLaw" (105 : Nat) ({ cls := "LehrBelt", name := "good", desc := "()I" } : Jvm.MethodName)) ∈ lw_all := lw_g (lw_at lw_m4 73 rfl) rfl
theorem q933 : (Jvm.Cond.methodLink "LehrBeltLaw" (109 : Nat) ({ cls := "LehrBelt", name := "tight", desc := "(I)I" } : Jvm.MethodName)) ∈ lw_all := lw_g (lw_at lw_m4 77 rfl) rfl
theorem q937 : (Jvm.Cond.methodLink "LehrBeltLaw" (113 : Nat) ({ cls := "LehrBelt", name := "hottest", desc := "(I)I" } : Jvm.MethodName)) ∈ lw_all := lw_g (lw_at lw_m4 81 rfl) rfl
theorem q941 : (Jvm.Cond.methodLink "LehrBeltLaw" (117 : Nat) ({ cls := "LehrBelt", name := "glow", desc := "(I)I" } : Jvm.MethodName)) ∈ lw_all := lw_g (lw_at lw_m4 85 rfl) rfl
theorem q945 : (Jvm.Cond.methodLink "LehrBeltLaw" (121 : Nat) ({ cls := "LehrBelt", name := "worst", desc := "()I" } : Jvm.MethodName)) ∈ lw_all := lw_g (lw_at lw_m4 89 rfl) rfl
theorem q953 : (Jvm.Cond.methodLink "LehrBeltLaw" (125 : Nat) ({ cls := "LehrBelt", name := "sore", desc := "()I" } : Jvm.MethodName)) ∈ lw_all := lw_g (lw_at lw_m4 97 rfl) rfl
theorem q961 : (Jvm.Cond.methodLink "LehrBeltLaw" (129 : Nat) ({ cls := "LehrBelt", name := "tense", desc := "(I)I" } : Jvm.MethodName)) ∈ lw_all := lw_g (lw_at lw_m4 105 rfl) rfl
theorem q965 : (Jvm.Cond.methodLink "LehrBeltLaw" (133 : Nat) ({ cls := "LehrBelt", name := "warms", desc := "(I)I" } : Jvm.MethodName)) ∈ lw_all := lw_g (lw_at lw_m4 109 rfl) rfl
theorem q969 : (Jvm.Cond.methodLink "LehrBeltLaw" (137 : Nat) ({ cls := "LehrBelt", name := "cool", desc := "(II)I" } : Jvm.MethodName)) ∈ lw_all := lw_g (lw_at lw_m4 113 rfl) rfl
theorem q974 : (Jvm.Cond.methodLink "LehrBeltLaw" (141 : Nat) ({ cls := "LehrBelt", name := "still", desc := "(I)I" } : Jvm.MethodName)) ∈ lw_all := lw_g (lw_at lw_m4 118 rfl) rfl
theorem q978 : (Jvm.Cond.methodLink "LehrBeltLaw" (145 : Nat) ({ cls := "LehrBelt", name := "pairs", desc := "(I)I" } : Jvm.MethodName)) ∈ lw_all := lw_g (lw_at lw_m4 122 rfl) rfl
theorem q988 : (Jvm.Cond.methodLink "LehrBeltLaw" (149 : Nat) ({ cls := "LehrBelt", name := "crowd", desc := "()I" } : Jvm.MethodName)) ∈ lw_all := lw_g (lw_at lw_m4 132 rfl) rfl
theorem q992 : (Jvm.Cond.methodLink "LehrBeltLaw" (153 : Nat) ({ cls := "LehrBelt", name := "oven", desc := "(I)I" } : Jvm.MethodName)) ∈ lw_all := lw_g (lw_at lw_m4 136 rfl) rfl
theorem q996 : (Jvm.Cond.methodLink "LehrBeltLaw" (157 : Nat) ({ cls := "LehrBelt", name := "fall", desc := "(II)I" } : Jvm.MethodName)) ∈ lw_all := lw_g (lw_at lw_m4 140 rfl) rfl
theorem q1004 : (Jvm.Cond.methodLink "LehrBeltLaw" (161 : Nat) ({ cls := "LehrBelt", name := "cliff", desc := "(I)I" } : Jvm.MethodName)) ∈ lw_all := lw_g (lw_at lw_m4 148 rfl) rfl
theorem q1008 : (Jvm.Cond.methodLink "LehrBeltLaw" (165 : Nat) ({ cls := "LehrBelt", name := "least", desc := "(I)I" } : Jvm.MethodName)) ∈ lw_all := lw_g (lw_at lw_m4 152 rfl) rfl
theorem q1014 : (Jvm.Cond.methodLink "LehrBeltLaw" (169 : Nat) ({ cls := "LehrBelt", name := "chill", desc := "(I)I" } : Jvm.MethodName)) ∈ lw_all := lw_g (lw_at lw_m4 158 rfl) rfl
theorem q1022 : (Jvm.Cond.methodLink "LehrBeltLaw" (173 : Nat) ({ cls := "LehrBelt", name := "drop", desc := "(II)I" } : Jvm.MethodName)) ∈ lw_all := lw_g (lw_at lw_m4 166 rfl) rfl
theorem q1031 : (Jvm.Cond.methodLink "LehrBeltLaw" (177 : Nat) ({ cls := "LehrBelt", name := "gaps", desc := "(I)I" } : Jvm.MethodName)) ∈ lw_all := lw_g (lw_at lw_m4 175 rfl) rfl
theorem q1035 : (Jvm.Cond.methodLink "LehrBeltLaw" (181 : Nat) ({ cls := "LehrBelt", name := "spread", desc := "(I)I" } : Jvm.MethodName)) ∈ lw_all := lw_g (lw_at lw_m4 179 rfl) rfl
theorem q1039 : (Jvm.Cond.methodLink "LehrBeltLaw" (185 : Nat) ({ cls := "LehrBelt", name := "coming", desc := "(I)I" } : Jvm.MethodName)) ∈ lw_all := lw_g (lw_at lw_m4 183 rfl) rfl
theorem q1043 : (Jvm.Cond.methodLink "LehrBeltLaw" (189 : Nat) ({ cls := "LehrBelt", name := "cracked", desc := "(I)I" } : Jvm.MethodName)) ∈ lw_all := lw_g (lw_at lw_m4 187 rfl) rfl
theorem q1047 : (Jvm.Cond.methodLink "LehrBeltLaw" (193 : Nat) ({ cls := "LehrBelt", name := "kernel", desc := "(I)I" } : Jvm.MethodName)) ∈ lw_all := lw_g (lw_at lw_m4 191 rfl) rfl
theorem q1051 : (Jvm.Cond.methodLink "LehrBeltLaw" (197 : Nat) ({ cls := "LehrBelt", name := "tally", desc := "(I)I" } : Jvm.MethodName)) ∈ lw_all := lw_g (lw_at lw_m4 195 rfl) rfl
theorem q1058 : (Jvm.Cond.methodLink "LehrBeltLaw" (201 : Nat) ({ cls := "LehrBelt", name := "last", desc := "(I)I" } : Jvm.MethodName)) ∈ lw_all := lw_g (lw_at lw_m4 202 rfl) rfl
theorem q1062 : (Jvm.Cond.methodLink "LehrBeltLaw" (205 : Nat) ({ cls := "LehrBelt", name := "busy", desc := "(I)I" } : Jvm.MethodName)) ∈ lw_all := lw_g (lw_at lw_m4 206 rfl) rfl
theorem q1070 : (Jvm.Cond.methodLink "LehrBeltLaw" (209 : Nat) ({ cls := "LehrBelt", name := "idle", desc := "()I" } : Jvm.MethodName)) ∈ lw_all := lw_g (lw_at lw_m4 214 rfl) rfl
theorem q1074 : (Jvm.Cond.methodLink "LehrBeltLaw" (213 : Nat) ({ cls := "LehrBelt", name := "stiff", desc := "(I)I" } : Jvm.MethodName)) ∈ lw_all := lw_g (lw_at lw_m4 218 rfl) rfl
theorem q1078 : (Jvm.Cond.methodLink "LehrBeltLaw" (217 : Nat) ({ cls := "LehrBelt", name := "spare", desc := "(I)I" } : Jvm.MethodName)) ∈ lw_all := lw_g (lw_at lw_m4 222 rfl) rfl
theorem q1090 : (Jvm.Cond.methodLink "LehrBeltLaw" (221 : Nat) ({ cls := "LehrBelt", name := "needs", desc := "(I)I" } : Jvm.MethodName)) ∈ lw_all := lw_g (lw_at lw_m4 234 rfl) rfl
theorem q1094 : (Jvm.Cond.methodLink "LehrBeltLaw" (225 : Nat) ({ cls := "LehrBelt", name := "thin", desc := "(I)I" } : Jvm.MethodName)) ∈ lw_all := lw_g (lw_at lw_m4 238 rfl) rfl
theorem q1098 : (Jvm.Cond.methodLink "LehrBeltLaw" (229 : Nat) ({ cls := "LehrBelt", name := "pace", desc := "()I" } : Jvm.MethodName)) ∈ lw_all := lw_g (lw_at lw_m5 2 rfl) rfl
theorem q1114 : (Jvm.Cond.methodLink "LehrBeltLaw" (233 : Nat) ({ cls := "LehrBelt", name := "paced", desc := "()I" } : Jvm.MethodName)) ∈ lw_all := lw_g (lw_at lw_m5 18 rfl) rfl
theorem q1118 : (Jvm.Cond.methodLink "LehrBeltLaw" (237 : Nat) ({ cls := "LehrBelt", name := "raise", desc := "(II)I" } : Jvm.MethodName)) ∈ lw_all := lw_g (lw_at lw_m5 22 rfl) rfl
theorem q1126 : (Jvm.Cond.methodLink "LehrBeltLaw" (241 : Nat) ({ cls := "LehrBelt", name := "rescue", desc := "(I)I" } : Jvm.MethodName)) ∈ lw_all := lw_g (lw_at lw_m5 30 rfl) rfl
theorem q1130 : (Jvm.Cond.methodLink "LehrBeltLaw" (245 : Nat) ({ cls := "LehrBelt", name := "swap", desc := "()I" } : Jvm.MethodName)) ∈ lw_all := lw_g (lw_at lw_m5 34 rfl) rfl
theorem q1138 : (Jvm.Cond.methodLink "LehrBeltLaw" (249 : Nat) ({ cls := "LehrBelt", name := "skip", desc := "()I" } : Jvm.MethodName)) ∈ lw_all := lw_g (lw_at lw_m5 42 rfl) rfl
theorem q1142 : (Jvm.Cond.methodLink "LehrBeltLaw" (253 : Nat) ({ cls := "LehrBelt", name := "airs", desc := "(II)I" } : Jvm.MethodName)) ∈ lw_all := lw_g (lw_at lw_m5 46 rfl) rfl
theorem q1206 : (Jvm.Cond.methodLink "LehrBeltLaw" (257 : Nat) ({ cls := "LehrBelt", name := "low", desc := "(II)I" } : Jvm.MethodName)) ∈ lw_all := lw_g (lw_at lw_m5 110 rfl) rfl
theorem q1210 : (Jvm.Cond.methodLink "LehrBeltLaw" (261 : Nat) ({ cls := "LehrBelt", name := "high", desc := "(II)I" } : Jvm.MethodName)) ∈ lw_all := lw_g (lw_at lw_m5 114 rfl) rfl
theorem q1214 : (Jvm.Cond.methodLink "LehrBeltLaw" (265 : Nat) ({ cls := "LehrBelt", name := "thicks", desc := "(II)I" } : Jvm.MethodName)) ∈ lw_all := lw_g (lw_at lw_m5 118 rfl) rfl
theorem q1218 : (Jvm.Cond.methodLink "LehrBeltLaw" (269 : Nat) ({ cls := "LehrBelt", name := "laws", desc := "(I)I" } : Jvm.MethodName)) ∈ lw_all := lw_g (lw_at lw_m5 122 rfl) rfl
theorem q1222 : (Jvm.Cond.methodLink "LehrBeltLaw" (273 : Nat) ({ cls := "LehrBelt", name := "by", desc := "(I)I" } : Jvm.MethodName)) ∈ lw_all := lw_g (lw_at lw_m5 126 rfl) rfl
theorem q1233 : (Jvm.Cond.methodLink "LehrBeltLaw" (277 : Nat) ({ cls := "LehrBelt", name := "law", desc := "()I" } : Jvm.MethodName)) ∈ lw_all := lw_g (lw_at lw_m5 137 rfl) rfl
theorem q1237 : (Jvm.Cond.methodLink "LehrBeltLaw" (281 : Nat) ({ cls := "LehrBelt", name := "worth", desc := "(I)I" } : Jvm.MethodName)) ∈ lw_all := lw_g (lw_at lw_m5 141 rfl) rfl
theorem q1249 : (Jvm.Cond.methodLink "LehrBeltLaw" (285 : Nat) ({ cls := "LehrBelt", name := "share", desc := "(II)I" } : Jvm.MethodName)) ∈ lw_all := lw_g (lw_at lw_m5 153 rfl) rfl
theorem q1266 : (Jvm.Cond.methodLink "LehrBeltLaw" (289 : Nat) ({ cls := "LehrBelt", name := "rests", desc := "(II)I" } : Jvm.MethodName)) ∈ lw_all := lw_g (lw_at lw_m5 170 rfl) rfl
theorem q1278 : (Jvm.Cond.methodLink "LehrBeltLaw" (293 : Nat) ({ cls := "LehrBelt", name := "gets", desc := "(IIIII)I" } : Jvm.MethodName)) ∈ lw_all := lw_g (lw_at lw_m5 182 rfl) rfl
theorem q1282 : (Jvm.Cond.methodLink "LehrBeltLaw" (297 : Nat) ({ cls := "LehrBelt", name := "chance", desc := "(III)I" } : Jvm.MethodName)) ∈ lw_all := lw_g (lw_at lw_m5 186 rfl) rfl
theorem q1295 : (Jvm.Cond.methodLink "LehrBeltLaw" (302 : Nat) ({ cls := "LehrBelt", name := "mean", desc := "(II)J" } : Jvm.MethodName)) ∈ lw_all := lw_g (lw_at lw_m5 199 rfl) rfl
theorem q1300 : (Jvm.Cond.methodLink "LehrBeltLaw" (323 : Nat) ({ cls := "LehrBelt", name := "drawn", desc := "(II)I" } : Jvm.MethodName)) ∈ lw_all := lw_g (lw_at lw_m5 204 rfl) rfl
theorem q1317 : (Jvm.Cond.methodLink "LehrBeltLaw" (327 : Nat) ({ cls := "LehrBelt", name := "luck", desc := "(III)I" } : Jvm.MethodName)) ∈ lw_all := lw_g (lw_at lw_m5 221 rfl) rfl
theorem q1322 : (Jvm.Cond.methodLink "LehrBeltLaw" (307 : Nat) ({ cls := "LehrBelt", name := "fires", desc := "(III)I" } : Jvm.MethodName)) ∈ lw_all := lw_g (lw_at lw_m5 226 rfl) rfl
theorem q1331 : (Jvm.Cond.methodLink "LehrBeltLaw" (311 : Nat) ({ cls := "LehrBelt", name := "gusts", desc := "(I)I" } : Jvm.MethodName)) ∈ lw_all := lw_g (lw_at lw_m5 235 rfl) rfl
theorem q1335 : (Jvm.Cond.methodLink "LehrBeltLaw" (315 : Nat) ({ cls := "LehrBelt", name := "undo", desc := "()I" } : Jvm.MethodName)) ∈ lw_all := lw_g (lw_at lw_m5 239 rfl) rfl
theorem q1339 : (Jvm.Cond.methodLink "LehrBeltLaw" (319 : Nat) ({ cls := "LehrBelt", name := "anew", desc := "()I" } : Jvm.MethodName)) ∈ lw_all := lw_g (lw_at lw_m6 3 rfl) rfl
theorem q1343 : (Jvm.Cond.methodLink "LehrBeltLaw" (331 : Nat) ({ cls := "LehrBelt", name := "rate", desc := "(II)I" } : Jvm.MethodName)) ∈ lw_all := lw_g (lw_at lw_m6 7 rfl) rfl
theorem q1348 : (Jvm.Cond.methodLink "LehrBeltLaw" (335 : Nat) ({ cls := "LehrBelt", name := "count", desc := "(I)I" } : Jvm.MethodName)) ∈ lw_all := lw_g (lw_at lw_m6 12 rfl) rfl
theorem q1352 : (Jvm.Cond.methodLink "LehrBeltLaw" (339 : Nat) ({ cls := "LehrBelt", name := "image", desc := "(I)I" } : Jvm.MethodName)) ∈ lw_all := lw_g (lw_at lw_m6 16 rfl) rfl
theorem q1437 : (Jvm.Cond.methodLink "LehrBeltLaw" (343 : Nat) ({ cls := "LehrBelt", name := "back", desc := "(I)I" } : Jvm.MethodName)) ∈ lw_all := lw_g (lw_at lw_m6 101 rfl) rfl
theorem q1449 : (Jvm.Cond.methodLink "LehrBeltLaw" (347 : Nat) ({ cls := "LehrBelt", name := "row", desc := "(III)I" } : Jvm.MethodName)) ∈ lw_all := lw_g (lw_at lw_m6 113 rfl) rfl
theorem q1486 : (Jvm.Cond.methodLink "LehrBeltLaw" (353 : Nat) ({ cls := "LehrBelt", name := "write", desc := "(IIJ)I" } : Jvm.MethodName)) ∈ lw_all := lw_g (lw_at lw_m6 150 rfl) rfl
theorem q1513 : (Jvm.Cond.methodLink "LehrBeltLaw" (358 : Nat) ({ cls := "LehrBelt", name := "paste", desc := "(IIIII)I" } : Jvm.MethodName)) ∈ lw_all := lw_g (lw_at lw_m6 177 rfl) rfl
theorem q1532 : (Jvm.Cond.classLink "LehrBeltLaw" (10 : Nat) "LehrBeltModel") ∈ lw_all := lw_g (lw_at lw_m6 196 rfl) rfl
theorem q1534 : (Jvm.Cond.methodLink "LehrBeltLaw" (12 : Nat) ({ cls := "LehrBeltModel", name := "<init>", desc := "()V" } : Jvm.MethodName)) ∈ lw_all := lw_g (lw_at lw_m6 198 rfl) rfl
theorem q1657 : (Jvm.Cond.methodLink "LehrBeltLaw" (350 : Nat) ({ cls := "LehrBeltModel", name := "row", desc := "(III)I" } : Jvm.MethodName)) ∈ lw_all := lw_g (lw_at lw_m7 81 rfl) rfl
theorem q1668 : (Jvm.Cond.methodLink "LehrBeltLaw" (357 : Nat) ({ cls := "LehrBeltModel", name := "write", desc := "(IIJ)I" } : Jvm.MethodName)) ∈ lw_all := lw_g (lw_at lw_m7 92 rfl) rfl
theorem q1675 : (Jvm.Cond.methodLink "LehrBeltLaw" (361 : Nat) ({ cls := "LehrBeltModel", name := "paste", desc := "(IIIII)I" } : Jvm.MethodName)) ∈ lw_all := lw_g (lw_at lw_m7 99 rfl) rfl
theorem q1679 : (Jvm.Cond.methodLink "LehrBeltLaw" (17 : Nat) ({ cls := "LehrBeltModel", name := "feed", desc := "(IIIII)I" } : Jvm.MethodName)) ∈ lw_all := lw_g (lw_at lw_m7 103 rfl) rfl
theorem q1687 : (Jvm.Cond.methodLink "LehrBeltLaw" (22 : Nat) ({ cls := "LehrBeltModel", name := "end", desc := "(I)I" } : Jvm.MethodName)) ∈ lw_all := lw_g (lw_at lw_m7 111 rfl) rfl
theorem q1691 : (Jvm.Cond.methodLink "LehrBeltLaw" (31 : Nat) ({ cls := "LehrBeltModel", name := "fault", desc := "(I)I" } : Jvm.MethodName)) ∈ lw_all := lw_g (lw_at lw_m7 115 rfl) rfl
theorem q1695 : (Jvm.Cond.methodLink "LehrBeltLaw" (27 : Nat) ({ cls := "LehrBeltModel", name := "lehr", desc := "()I" } : Jvm.MethodName)) ∈ lw_all := lw_g (lw_at lw_m7 119 rfl) rfl
theorem q1795 : (Jvm.Cond.methodLink "LehrBeltLaw" (35 : Nat) ({ cls := "LehrBeltModel", name := "zone", desc := "(I)I" } : Jvm.MethodName)) ∈ lw_all := lw_g (lw_at lw_m7 219 rfl) rfl
theorem q1803 : (Jvm.Cond.methodLink "LehrBeltLaw" (40 : Nat) ({ cls := "LehrBeltModel", name := "piece", desc := "(II)I" } : Jvm.MethodName)) ∈ lw_all := lw_g (lw_at lw_m7 227 rfl) rfl
theorem q1815 : (Jvm.Cond.methodLink "LehrBeltLaw" (44 : Nat) ({ cls := "LehrBeltModel", name := "air", desc := "(II)I" } : Jvm.MethodName)) ∈ lw_all := lw_g (lw_at lw_m7 239 rfl) rfl
theorem q1845 : (Jvm.Cond.methodLink "LehrBeltLaw" (48 : Nat) ({ cls := "LehrBeltModel", name := "where", desc := "(II)I" } : Jvm.MethodName)) ∈ lw_all := lw_g (lw_at lw_m8 29 rfl) rfl
theorem q1861 : (Jvm.Cond.methodLink "LehrBeltLaw" (52 : Nat) ({ cls := "LehrBeltModel", name := "inside", desc := "(II)I" } : Jvm.MethodName)) ∈ lw_all := lw_g (lw_at lw_m8 45 rfl) rfl
theorem q1869 : (Jvm.Cond.methodLink "LehrBeltLaw" (56 : Nat) ({ cls := "LehrBeltModel", name := "out", desc := "(I)I" } : Jvm.MethodName)) ∈ lw_all := lw_g (lw_at lw_m8 53 rfl) rfl
theorem q1873 : (Jvm.Cond.methodLink "LehrBeltLaw" (60 : Nat) ({ cls := "LehrBeltModel", name := "leaves", desc := "(I)I" } : Jvm.MethodName)) ∈ lw_all := lw_g (lw_at lw_m8 57 rfl) rfl
theorem q1877 : (Jvm.Cond.methodLink "LehrBeltLaw" (64 : Nat) ({ cls := "LehrBeltModel", name := "skin", desc := "(II)I" } : Jvm.MethodName)) ∈ lw_all := lw_g (lw_at lw_m8 61 rfl) rfl
theorem q1915 : (Jvm.Cond.methodLink "LehrBeltLaw" (68 : Nat) ({ cls := "LehrBeltModel", name := "core", desc := "(II)I" } : Jvm.MethodName)) ∈ lw_all := lw_g (lw_at lw_m8 99 rfl) rfl
theorem q1919 : (Jvm.Cond.methodLink "LehrBeltLaw" (72 : Nat) ({ cls := "LehrBeltModel", name := "strain", desc := "(II)I" } : Jvm.MethodName)) ∈ lw_all := lw_g (lw_at lw_m8 103 rfl) rfl
theorem q1923 : (Jvm.Cond.methodLink "LehrBeltLaw" (76 : Nat) ({ cls := "LehrBeltModel", name := "peak", desc := "(I)I" } : Jvm.MethodName)) ∈ lw_all := lw_g (lw_at lw_m8 107 rfl) rfl
theorem q1931 : (Jvm.Cond.methodLink "LehrBeltLaw" (80 : Nat) ({ cls := "LehrBeltModel", name := "when", desc := "(I)I" } : Jvm.MethodName)) ∈ lw_all := lw_g (lw_at lw_m8 115 rfl) rfl
theorem q1935 : (Jvm.Cond.methodLink "LehrBeltLaw" (84 : Nat) ({ cls := "LehrBeltModel", name := "frozen", desc := "(I)I" } : Jvm.MethodName)) ∈ lw_all := lw_g (lw_at lw_m8 119 rfl) rfl
theorem q1939 : (Jvm.Cond.methodLink "LehrBeltLaw" (88 : Nat) ({ cls := "LehrBeltModel", name := "sets", desc := "(I)I" } : Jvm.MethodName)) ∈ lw_all := lw_g (lw_at lw_m8 123 rfl) rfl
theorem q1943 : (Jvm.Cond.methodLink "LehrBeltLaw" (92 : Nat) ({ cls := "LehrBeltModel", name := "cracks", desc := "(I)I" } : Jvm.MethodName)) ∈ lw_all := lw_g (lw_at lw_m8 127 rfl) rfl
theorem q1947 : (Jvm.Cond.methodLink "LehrBeltLaw" (96 : Nat) ({ cls := "LehrBeltModel", name := "why", desc := "(I)I" } : Jvm.MethodName)) ∈ lw_all := lw_g (lw_at lw_m8 131 rfl) rfl
theorem q1951 : (Jvm.Cond.methodLink "LehrBeltLaw" (100 : Nat) ({ cls := "LehrBeltModel", name := "whole", desc := "(I)I" } : Jvm.MethodName)) ∈ lw_all := lw_g (lw_at lw_m8 135 rfl) rfl
theorem q1963 : (Jvm.Cond.methodLink "LehrBeltLaw" (104 : Nat) ({ cls := "LehrBeltModel", name := "sound", desc := "()I" } : Jvm.MethodName)) ∈ lw_all := lw_g (lw_at lw_m8 147 rfl) rfl
theorem q1971 : (Jvm.Cond.methodLink "LehrBeltLaw" (108 : Nat) ({ cls := "LehrBeltModel", name := "good", desc := "()I" } : Jvm.MethodName)) ∈ lw_all := lw_g (lw_at lw_m8 155 rfl) rfl
theorem q1975 : (Jvm.Cond.methodLink "LehrBeltLaw" (112 : Nat) ({ cls := "LehrBeltModel", name := "tight", desc := "(I)I" } : Jvm.MethodName)) ∈ lw_all := lw_g (lw_at lw_m8 159 rfl) rfl
theorem q1987 : (Jvm.Cond.methodLink "LehrBeltLaw" (116 : Nat) ({ cls := "LehrBeltModel", name := "hottest", desc := "(I)I" } : Jvm.MethodName)) ∈ lw_all := lw_g (lw_at lw_m8 171 rfl) rfl
theorem q1991 : (Jvm.Cond.methodLink "LehrBeltLaw" (196 : Nat) ({ cls := "LehrBeltModel", name := "kernel", desc := "(I)I" } : Jvm.MethodName)) ∈ lw_all := lw_g (lw_at lw_m8 175 rfl) rfl
theorem q1995 : (Jvm.Cond.methodLink "LehrBeltLaw" (120 : Nat) ({ cls := "LehrBeltModel", name := "glow", desc := "(I)I" } : Jvm.MethodName)) ∈ lw_all := lw_g (lw_at lw_m8 179 rfl) rfl
theorem q1999 : (Jvm.Cond.methodLink "LehrBeltLaw" (124 : Nat) ({ cls := "LehrBeltModel", name := "worst", desc := "()I" } : Jvm.MethodName)) ∈ lw_all := lw_g (lw_at lw_m8 183 rfl) rfl
theorem q2010 : (Jvm.Cond.methodLink "LehrBeltLaw" (128 : Nat) ({ cls := "LehrBeltModel", name := "sore", desc := "()I" } : Jvm.MethodName)) ∈ lw_all := lw_g (lw_at lw_m8 194 rfl) rfl
theorem q2014 : (Jvm.Cond.methodLink "LehrBeltLaw" (132 : Nat) ({ cls := "LehrBeltModel", name := "tense", desc := "(I)I" } : Jvm.MethodName)) ∈ lw_all := lw_g (lw_at lw_m8 198 rfl) rfl
theorem q2018 : (Jvm.Cond.methodLink "LehrBeltLaw" (136 : Nat) ({ cls := "LehrBeltModel", name := "warms", desc := "(I)I" } : Jvm.MethodName)) ∈ lw_all := lw_g (lw_at lw_m8 202 rfl) rfl
theorem q2022 : (Jvm.Cond.methodLink "LehrBeltLaw" (140 : Nat) ({ cls := "LehrBeltModel", name := "cool", desc := "(II)I" } : Jvm.MethodName)) ∈ lw_all := lw_g (lw_at lw_m8 206 rfl) rfl
theorem q2027 : (Jvm.Cond.methodLink "LehrBeltLaw" (144 : Nat) ({ cls := "LehrBeltModel", name := "still", desc := "(I)I" } : Jvm.MethodName)) ∈ lw_all := lw_g (lw_at lw_m8 211 rfl) rfl
theorem q2031 : (Jvm.Cond.methodLink "LehrBeltLaw" (148 : Nat) ({ cls := "LehrBeltModel", name := "pairs", desc := "(I)I" } : Jvm.MethodName)) ∈ lw_all := lw_g (lw_at lw_m8 215 rfl) rfl
theorem q2035 : (Jvm.Cond.methodLink "LehrBeltLaw" (152 : Nat) ({ cls := "LehrBeltModel", name := "crowd", desc := "()I" } : Jvm.MethodName)) ∈ lw_all := lw_g (lw_at lw_m8 219 rfl) rfl
theorem q2039 : (Jvm.Cond.methodLink "LehrBeltLaw" (156 : Nat) ({ cls := "LehrBeltModel", name := "oven", desc := "(I)I" } : Jvm.MethodName)) ∈ lw_all := lw_g (lw_at lw_m8 223 rfl) rfl
theorem q2043 : (Jvm.Cond.methodLink "LehrBeltLaw" (160 : Nat) ({ cls := "LehrBeltModel", name := "fall", desc := "(II)I" } : Jvm.MethodName)) ∈ lw_all := lw_g (lw_at lw_m8 227 rfl) rfl
theorem q2051 : (Jvm.Cond.methodLink "LehrBeltLaw" (164 : Nat) ({ cls := "LehrBeltModel", name := "cliff", desc := "(I)I" } : Jvm.MethodName)) ∈ lw_all := lw_g (lw_at lw_m8 235 rfl) rfl
theorem q2055 : (Jvm.Cond.methodLink "LehrBeltLaw" (168 : Nat) ({ cls := "LehrBeltModel", name := "least", desc := "(I)I" } : Jvm.MethodName)) ∈ lw_all := lw_g (lw_at lw_m8 239 rfl) rfl
theorem q2059 : (Jvm.Cond.methodLink "LehrBeltLaw" (172 : Nat) ({ cls := "LehrBeltModel", name := "chill", desc := "(I)I" } : Jvm.MethodName)) ∈ lw_all := lw_g (lw_at lw_m9 3 rfl) rfl
theorem q2067 : (Jvm.Cond.methodLink "LehrBeltLaw" (176 : Nat) ({ cls := "LehrBeltModel", name := "drop", desc := "(II)I" } : Jvm.MethodName)) ∈ lw_all := lw_g (lw_at lw_m9 11 rfl) rfl
theorem q2076 : (Jvm.Cond.methodLink "LehrBeltLaw" (180 : Nat) ({ cls := "LehrBeltModel", name := "gaps", desc := "(I)I" } : Jvm.MethodName)) ∈ lw_all := lw_g (lw_at lw_m9 20 rfl) rfl
theorem q2080 : (Jvm.Cond.methodLink "LehrBeltLaw" (184 : Nat) ({ cls := "LehrBeltModel", name := "spread", desc := "(I)I" } : Jvm.MethodName)) ∈ lw_all := lw_g (lw_at lw_m9 24 rfl) rfl
theorem q2084 : (Jvm.Cond.methodLink "LehrBeltLaw" (188 : Nat) ({ cls := "LehrBeltModel", name := "coming", desc := "(I)I" } : Jvm.MethodName)) ∈ lw_all := lw_g (lw_at lw_m9 28 rfl) rfl
theorem q2088 : (Jvm.Cond.methodLink "LehrBeltLaw" (192 : Nat) ({ cls := "LehrBeltModel", name := "cracked", desc := "(I)I" } : Jvm.MethodName)) ∈ lw_all := lw_g (lw_at lw_m9 32 rfl) rfl
theorem q2092 : (Jvm.Cond.methodLink "LehrBeltLaw" (200 : Nat) ({ cls := "LehrBeltModel", name := "tally", desc := "(I)I" } : Jvm.MethodName)) ∈ lw_all := lw_g (lw_at lw_m9 36 rfl) rfl
theorem q2097 : (Jvm.Cond.methodLink "LehrBeltLaw" (204 : Nat) ({ cls := "LehrBeltModel", name := "last", desc := "(I)I" } : Jvm.MethodName)) ∈ lw_all := lw_g (lw_at lw_m9 41 rfl) rfl
theorem q2101 : (Jvm.Cond.methodLink "LehrBeltLaw" (208 : Nat) ({ cls := "LehrBeltModel", name := "busy", desc := "(I)I" } : Jvm.MethodName)) ∈ lw_all := lw_g (lw_at lw_m9 45 rfl) rfl
theorem q2109 : (Jvm.Cond.methodLink "LehrBeltLaw" (212 : Nat) ({ cls := "LehrBeltModel", name := "idle", desc := "()I" } : Jvm.MethodName)) ∈ lw_all := lw_g (lw_at lw_m9 53 rfl) rfl
theorem q2113 : (Jvm.Cond.methodLink "LehrBeltLaw" (216 : Nat) ({ cls := "LehrBeltModel", name := "stiff", desc := "(I)I" } : Jvm.MethodName)) ∈ lw_all := lw_g (lw_at lw_m9 57 rfl) rfl
theorem q2117 : (Jvm.Cond.methodLink "LehrBeltLaw" (220 : Nat) ({ cls := "LehrBeltModel", name := "spare", desc := "(I)I" } : Jvm.MethodName)) ∈ lw_all := lw_g (lw_at lw_m9 61 rfl) rfl
theorem q2125 : (Jvm.Cond.methodLink "LehrBeltLaw" (224 : Nat) ({ cls := "LehrBeltModel", name := "needs", desc := "(I)I" } : Jvm.MethodName)) ∈ lw_all := lw_g (lw_at lw_m9 69 rfl) rfl
theorem q2129 : (Jvm.Cond.methodLink "LehrBeltLaw" (228 : Nat) ({ cls := "LehrBeltModel", name := "thin", desc := "(I)I" } : Jvm.MethodName)) ∈ lw_all := lw_g (lw_at lw_m9 73 rfl) rfl
theorem q2133 : (Jvm.Cond.methodLink "LehrBeltLaw" (232 : Nat) ({ cls := "LehrBeltModel", name := "pace", desc := "()I" } : Jvm.MethodName)) ∈ lw_all := lw_g (lw_at lw_m9 77 rfl) rfl
theorem q2145 : (Jvm.Cond.methodLink "LehrBeltLaw" (236 : Nat) ({ cls := "LehrBeltModel", name := "paced", desc := "()I" } : Jvm.MethodName)) ∈ lw_all := lw_g (lw_at lw_m9 89 rfl) rfl
theorem q2149 : (Jvm.Cond.methodLink "LehrBeltLaw" (240 : Nat) ({ cls := "LehrBeltModel", name := "raise", desc := "(II)I" } : Jvm.MethodName)) ∈ lw_all := lw_g (lw_at lw_m9 93 rfl) rfl
theorem q2157 : (Jvm.Cond.methodLink "LehrBeltLaw" (244 : Nat) ({ cls := "LehrBeltModel", name := "rescue", desc := "(I)I" } : Jvm.MethodName)) ∈ lw_all := lw_g (lw_at lw_m9 101 rfl) rfl
theorem q2161 : (Jvm.Cond.methodLink "LehrBeltLaw" (248 : Nat) ({ cls := "LehrBeltModel", name := "swap", desc := "()I" } : Jvm.MethodName)) ∈ lw_all := lw_g (lw_at lw_m9 105 rfl) rfl
theorem q2165 : (Jvm.Cond.methodLink "LehrBeltLaw" (252 : Nat) ({ cls := "LehrBeltModel", name := "skip", desc := "()I" } : Jvm.MethodName)) ∈ lw_all := lw_g (lw_at lw_m9 109 rfl) rfl
theorem q2173 : (Jvm.Cond.methodLink "LehrBeltLaw" (256 : Nat) ({ cls := "LehrBeltModel", name := "airs", desc := "(II)I" } : Jvm.MethodName)) ∈ lw_all := lw_g (lw_at lw_m9 117 rfl) rfl
theorem q2190 : (Jvm.Cond.methodLink "LehrBeltLaw" (260 : Nat) ({ cls := "LehrBeltModel", name := "low", desc := "(II)I" } : Jvm.MethodName)) ∈ lw_all := lw_g (lw_at lw_m9 134 rfl) rfl
theorem q2194 : (Jvm.Cond.methodLink "LehrBeltLaw" (264 : Nat) ({ cls := "LehrBeltModel", name := "high", desc := "(II)I" } : Jvm.MethodName)) ∈ lw_all := lw_g (lw_at lw_m9 138 rfl) rfl
theorem q2198 : (Jvm.Cond.methodLink "LehrBeltLaw" (268 : Nat) ({ cls := "LehrBeltModel", name := "thicks", desc := "(II)I" } : Jvm.MethodName)) ∈ lw_all := lw_g (lw_at lw_m9 142 rfl) rfl
theorem q2202 : (Jvm.Cond.methodLink "LehrBeltLaw" (272 : Nat) ({ cls := "LehrBeltModel", name := "laws", desc := "(I)I" } : Jvm.MethodName)) ∈ lw_all := lw_g (lw_at lw_m9 146 rfl) rfl
theorem q2210 : (Jvm.Cond.methodLink "LehrBeltLaw" (276 : Nat) ({ cls := "LehrBeltModel", name := "by", desc := "(I)I" } : Jvm.MethodName)) ∈ lw_all := lw_g (lw_at lw_m9 154 rfl) rfl
theorem q2214 : (Jvm.Cond.methodLink "LehrBeltLaw" (280 : Nat) ({ cls := "LehrBeltModel", name := "law", desc := "()I" } : Jvm.MethodName)) ∈ lw_all := lw_g (lw_at lw_m9 158 rfl) rfl
theorem q2218 : (Jvm.Cond.methodLink "LehrBeltLaw" (284 : Nat) ({ cls := "LehrBeltModel", name := "worth", desc := "(I)I" } : Jvm.MethodName)) ∈ lw_all := lw_g (lw_at lw_m9 162 rfl) rfl
theorem q2226 : (Jvm.Cond.methodLink "LehrBeltLaw" (288 : Nat) ({ cls := "LehrBeltModel", name := "share", desc := "(II)I" } : Jvm.MethodName)) ∈ lw_all := lw_g (lw_at lw_m9 170 rfl) rfl
theorem q2243 : (Jvm.Cond.methodLink "LehrBeltLaw" (292 : Nat) ({ cls := "LehrBeltModel", name := "rests", desc := "(II)I" } : Jvm.MethodName)) ∈ lw_all := lw_g (lw_at lw_m9 187 rfl) rfl
theorem q2255 : (Jvm.Cond.methodLink "LehrBeltLaw" (296 : Nat) ({ cls := "LehrBeltModel", name := "gets", desc := "(IIIII)I" } : Jvm.MethodName)) ∈ lw_all := lw_g (lw_at lw_m9 199 rfl) rfl
theorem q2259 : (Jvm.Cond.methodLink "LehrBeltLaw" (301 : Nat) ({ cls := "LehrBeltModel", name := "chance", desc := "(III)I" } : Jvm.MethodName)) ∈ lw_all := lw_g (lw_at lw_m9 203 rfl) rfl
theorem q2275 : (Jvm.Cond.methodLink "LehrBeltLaw" (306 : Nat) ({ cls := "LehrBeltModel", name := "mean", desc := "(II)J" } : Jvm.MethodName)) ∈ lw_all := lw_g (lw_at lw_m9 219 rfl) rfl
theorem q2280 : (Jvm.Cond.methodLink "LehrBeltLaw" (326 : Nat) ({ cls := "LehrBeltModel", name := "drawn", desc := "(II)I" } : Jvm.MethodName)) ∈ lw_all := lw_g (lw_at lw_m9 224 rfl) rfl
theorem q2296 : (Jvm.Cond.methodLink "LehrBeltLaw" (330 : Nat) ({ cls := "LehrBeltModel", name := "luck", desc := "(III)I" } : Jvm.MethodName)) ∈ lw_all := lw_g (lw_at lw_m10 0 rfl) rfl
theorem q2301 : (Jvm.Cond.methodLink "LehrBeltLaw" (310 : Nat) ({ cls := "LehrBeltModel", name := "fires", desc := "(III)I" } : Jvm.MethodName)) ∈ lw_all := lw_g (lw_at lw_m10 5 rfl) rfl
theorem q2310 : (Jvm.Cond.methodLink "LehrBeltLaw" (314 : Nat) ({ cls := "LehrBeltModel", name := "gusts", desc := "(I)I" } : Jvm.MethodName)) ∈ lw_all := lw_g (lw_at lw_m10 14 rfl) rfl
theorem q2314 : (Jvm.Cond.methodLink "LehrBeltLaw" (318 : Nat) ({ cls := "LehrBeltModel", name := "undo", desc := "()I" } : Jvm.MethodName)) ∈ lw_all := lw_g (lw_at lw_m10 18 rfl) rfl
theorem q2318 : (Jvm.Cond.methodLink "LehrBeltLaw" (322 : Nat) ({ cls := "LehrBeltModel", name := "anew", desc := "()I" } : Jvm.MethodName)) ∈ lw_all := lw_g (lw_at lw_m10 22 rfl) rfl
theorem q2322 : (Jvm.Cond.methodLink "LehrBeltLaw" (334 : Nat) ({ cls := "LehrBeltModel", name := "rate", desc := "(II)I" } : Jvm.MethodName)) ∈ lw_all := lw_g (lw_at lw_m10 26 rfl) rfl
theorem q2327 : (Jvm.Cond.methodLink "LehrBeltLaw" (338 : Nat) ({ cls := "LehrBeltModel", name := "count", desc := "(I)I" } : Jvm.MethodName)) ∈ lw_all := lw_g (lw_at lw_m10 31 rfl) rfl
theorem q2332 : (Jvm.Cond.methodLink "LehrBeltLaw" (342 : Nat) ({ cls := "LehrBeltModel", name := "image", desc := "(I)I" } : Jvm.MethodName)) ∈ lw_all := lw_g (lw_at lw_m10 36 rfl) rfl
theorem q2336 : (Jvm.Cond.methodLink "LehrBeltLaw" (346 : Nat) ({ cls := "LehrBeltModel", name := "back", desc := "(I)I" } : Jvm.MethodName)) ∈ lw_all := lw_g (lw_at lw_m10 40 rfl) rfl
theorem q2340 : (Jvm.Cond.constantLong "LehrBeltLaw" (351 : Nat) (4294967295 : Int64)) ∈ lw_all := lw_g (lw_at lw_m10 44 rfl) rfl

theorem q150 : (Jvm.Cond.initialized "LehrBelt$Token") ∈ lw_all := lw_g (lw_at lw_m1 14 rfl) rfl
set_option maxRecDepth 100000
theorem q473 : (Jvm.Cond.laysStatic "LehrBelt$Token" "END" "LLehrBelt$Token;") ∈ lw_tbl := lw_at lw_m2 97 rfl
theorem q484 : (Jvm.Cond.laysStatic "LehrBelt$Token" "WORD" "LLehrBelt$Token;") ∈ lw_tbl := lw_at lw_m2 108 rfl
theorem q490 : (Jvm.Cond.laysStatic "LehrBelt$Token" "NUMBER" "LLehrBelt$Token;") ∈ lw_tbl := lw_at lw_m2 114 rfl
theorem q492 : (Jvm.Cond.laysStatic "LehrBelt$Token" "STOP" "LLehrBelt$Token;") ∈ lw_tbl := lw_at lw_m2 116 rfl
theorem q494 : (Jvm.Cond.laysStatic "LehrBelt$Token" "NONE" "LLehrBelt$Token;") ∈ lw_tbl := lw_at lw_m2 118 rfl
theorem q1400 : (Jvm.Cond.selects "LehrBelt$Token" ({ cls := "java/lang/Object", name := "getClass", desc := "()Ljava/lang/Class;" } : Jvm.MethodName) ({ cls := "java/lang/Object", name := "getClass", desc := "()Ljava/lang/Class;" } : Jvm.MethodName)) ∈ lw_all := lw_g (lw_at lw_m6 64 rfl) rfl
theorem q2353 : (Jvm.Cond.castable "LehrBelt$Token" "java/lang/Object") ∈ lw_tbl := lw_at lw_m10 57 rfl

theorem q2369 : (Jvm.Cond.castable "[B" "java/lang/Object") ∈ lw_tbl := lw_at lw_m10 73 rfl
set_option maxRecDepth 100000

theorem q2367 : (Jvm.Cond.castable "[I" "java/lang/Object") ∈ lw_tbl := lw_at lw_m10 71 rfl
set_option maxRecDepth 100000

theorem q2373 : (Jvm.Cond.castable "[J" "java/lang/Object") ∈ lw_tbl := lw_at lw_m10 77 rfl
set_option maxRecDepth 100000

theorem q2368 : (Jvm.Cond.castable "[LLehrBelt$Cooling;" "java/lang/Object") ∈ lw_tbl := lw_at lw_m10 72 rfl
set_option maxRecDepth 100000

theorem q2370 : (Jvm.Cond.castable "[LLehrBelt$Slot;" "java/lang/Object") ∈ lw_tbl := lw_at lw_m10 74 rfl
set_option maxRecDepth 100000

theorem q2364 : (Jvm.Cond.sameMethod "[Ljava/lang/Object;" "java/lang/Object" "getClass" "()Ljava/lang/Class;") ∈ lw_all := lw_g (lw_at lw_m10 68 rfl) rfl
set_option maxRecDepth 100000
theorem q2365 : (Jvm.Cond.selects "[Ljava/lang/Object;" ({ cls := "java/lang/Object", name := "getClass", desc := "()Ljava/lang/Class;" } : Jvm.MethodName) ({ cls := "java/lang/Object", name := "getClass", desc := "()Ljava/lang/Class;" } : Jvm.MethodName)) ∈ lw_all := lw_g (lw_at lw_m10 69 rfl) rfl
theorem q2371 : (Jvm.Cond.castable "[Ljava/lang/Object;" "java/lang/Object") ∈ lw_tbl := lw_at lw_m10 75 rfl

theorem q2372 : (Jvm.Cond.castable "[S" "java/lang/Object") ∈ lw_tbl := lw_at lw_m10 76 rfl
set_option maxRecDepth 100000

theorem q2374 : (Jvm.Cond.castable "[Z" "java/lang/Object") ∈ lw_tbl := lw_at lw_m10 78 rfl
set_option maxRecDepth 100000

theorem q149 : (Jvm.Cond.initialized "java/lang/Enum") ∈ lw_all := lw_g (lw_at lw_m1 13 rfl) rfl
set_option maxRecDepth 100000

theorem q159 : (Jvm.Cond.initialized "java/lang/System") ∈ lw_all := lw_g (lw_at lw_m1 23 rfl) rfl
set_option maxRecDepth 100000
theorem q746 : (Jvm.Cond.static ({ cls := "java/lang/System", name := "arraycopy", desc := "(Ljava/lang/Object;ILjava/lang/Object;II)V" } : Jvm.MethodName)) ∈ lw_all := lw_g (lw_at lw_m3 130 rfl) rfl
theorem q747 : (Jvm.Cond.native ({ cls := "java/lang/System", name := "arraycopy", desc := "(Ljava/lang/Object;ILjava/lang/Object;II)V" } : Jvm.MethodName)) ∈ lw_all := lw_g (lw_at lw_m3 131 rfl) rfl

theorem q259 : (Jvm.Cond.arrayClass Jvm.ClassFile.FieldType.int) ∈ lw_all := lw_g (lw_at lw_m1 123 rfl) rfl
set_option maxRecDepth 100000
theorem q261 : (Jvm.Cond.arrayOver (Jvm.ClassFile.FieldType.object "LehrBelt$Cooling")) ∈ lw_tbl := lw_at lw_m1 125 rfl
theorem q271 : (Jvm.Cond.arrayClass Jvm.ClassFile.FieldType.byte) ∈ lw_all := lw_g (lw_at lw_m1 135 rfl) rfl
theorem q306 : (Jvm.Cond.arrayOver (Jvm.ClassFile.FieldType.object "LehrBelt$Slot")) ∈ lw_tbl := lw_at lw_m1 170 rfl
theorem q1412 : (Jvm.Cond.arrayOver (Jvm.ClassFile.FieldType.object "java/lang/Object")) ∈ lw_tbl := lw_at lw_m6 76 rfl
theorem q1484 : (Jvm.Cond.arrayClass Jvm.ClassFile.FieldType.short) ∈ lw_all := lw_g (lw_at lw_m6 148 rfl) rfl
theorem q1485 : (Jvm.Cond.arrayClass Jvm.ClassFile.FieldType.long) ∈ lw_all := lw_g (lw_at lw_m6 149 rfl) rfl
theorem q1656 : (Jvm.Cond.arrayClass Jvm.ClassFile.FieldType.boolean) ∈ lw_all := lw_g (lw_at lw_m7 80 rfl) rfl

/-! java/util/AbstractCollection -/
set_option maxRecDepth 100000
def RJ0 : String := "java/util/AbstractCollection"
abbrev cJ0_init : ByteArray := prog_31_method_1_code
def yJ0_init : MethodName := ⟨RJ0, "<init>", "()V"⟩
theorem dJ0_init_0 : decode cJ0_init 0 = .ok (.aload_n 0, 1) := by decide +kernel
theorem dJ0_init_1 : decode cJ0_init 1 = .ok (.invokespecial 1, 3) := by decide +kernel
theorem dJ0_init_4 : decode cJ0_init 4 = .ok (.return_, 1) := by decide +kernel
theorem q144 : (Jvm.Cond.initialized "java/util/AbstractCollection") ∈ lw_all := lw_g (lw_at lw_m1 8 rfl) rfl
theorem q326 : (Jvm.Cond.instanceMethod ({ cls := "java/util/AbstractCollection", name := "<init>", desc := "()V" } : Jvm.MethodName)) ∈ lw_all := lw_g (lw_at lw_m1 190 rfl) rfl
theorem q327 : (Jvm.Cond.code ({ cls := "java/util/AbstractCollection", name := "<init>", desc := "()V" } : Jvm.MethodName) prog_31_method_1_code (1 : Nat) (Option.none : Option Jvm.ClassFile.FieldType)) ∈ lw_all := lw_g (lw_at lw_m1 191 rfl) rfl
theorem q328 : (Jvm.Cond.methodLink "java/util/AbstractCollection" (1 : Nat) ({ cls := "java/lang/Object", name := "<init>", desc := "()V" } : Jvm.MethodName)) ∈ lw_all := lw_g (lw_at lw_m1 192 rfl) rfl

/-! java/util/AbstractList -/
set_option maxRecDepth 100000
def RJ1 : String := "java/util/AbstractList"
abbrev cJ1_init : ByteArray := prog_32_method_1_code
def yJ1_init : MethodName := ⟨RJ1, "<init>", "()V"⟩
def dkwJ1_init_0 : List UInt8 := [42, 183, 0, 1, 42, 3, 181, 0, 7, 177]
abbrev dktJ1_init_0 : List UInt8 := dkwJ1_init_0 ++ []
theorem dksJ1_init_0 : cJ1_init.data.toList.drop 0 = dktJ1_init_0 := by decide +kernel
theorem dJ1_init_0 : decode cJ1_init 0 = .ok (.aload_n 0, 1) := dk_42 (dk_at dksJ1_init_0 0 rfl rfl)
theorem dJ1_init_1 : decode cJ1_init 1 = .ok (.invokespecial 1, 3) := dk_183 0 1 (dk_at dksJ1_init_0 1 rfl rfl)
theorem dJ1_init_4 : decode cJ1_init 4 = .ok (.aload_n 0, 1) := dk_42 (dk_at dksJ1_init_0 4 rfl rfl)
theorem dJ1_init_5 : decode cJ1_init 5 = .ok (.iconst 0, 1) := dk_3 (dk_at dksJ1_init_0 5 rfl rfl)
theorem dJ1_init_6 : decode cJ1_init 6 = .ok (.putfield 7, 3) := dk_181 0 7 (dk_at dksJ1_init_0 6 rfl rfl)
theorem dJ1_init_9 : decode cJ1_init 9 = .ok (.return_, 1) := dk_177 (dk_at dksJ1_init_0 9 rfl rfl)
theorem q145 : (Jvm.Cond.initialized "java/util/AbstractList") ∈ lw_all := lw_g (lw_at lw_m1 9 rfl) rfl
theorem q323 : (Jvm.Cond.instanceMethod ({ cls := "java/util/AbstractList", name := "<init>", desc := "()V" } : Jvm.MethodName)) ∈ lw_all := lw_g (lw_at lw_m1 187 rfl) rfl
theorem q324 : (Jvm.Cond.code ({ cls := "java/util/AbstractList", name := "<init>", desc := "()V" } : Jvm.MethodName) prog_32_method_1_code (1 : Nat) (Option.none : Option Jvm.ClassFile.FieldType)) ∈ lw_all := lw_g (lw_at lw_m1 188 rfl) rfl
theorem q325 : (Jvm.Cond.methodLink "java/util/AbstractList" (1 : Nat) ({ cls := "java/util/AbstractCollection", name := "<init>", desc := "()V" } : Jvm.MethodName)) ∈ lw_all := lw_g (lw_at lw_m1 189 rfl) rfl
theorem q333 : (Jvm.Cond.fieldLink "java/util/AbstractList" (7 : Nat) "java/util/AbstractList" "modCount" "I") ∈ lw_all := lw_g (lw_at lw_m1 197 rfl) rfl
theorem q341 : (Jvm.Cond.soleField "java/util/AbstractList" "modCount") ∈ lw_all := lw_g (lw_at lw_m1 205 rfl) rfl

/-! java/lang/Integer -/
set_option maxRecDepth 100000
def RJ10 : String := "java/lang/Integer"
abbrev cJ10_bitCount : ByteArray := prog_20_method_49_code
def yJ10_bitCount : MethodName := ⟨RJ10, "bitCount", "(I)I"⟩
def dkwJ10_bitCount_2 : List UInt8 := [26, 16, 63, 126, 172]
abbrev dktJ10_bitCount_2 : List UInt8 := dkwJ10_bitCount_2 ++ []
def dkwJ10_bitCount_1 : List UInt8 := [26, 26, 7, 124, 96, 19, 1, 11, 126, 59, 26, 26, 16, 8, 124, 96, 59, 26, 26, 16, 16, 124, 96, 59]
abbrev dktJ10_bitCount_1 : List UInt8 := dkwJ10_bitCount_1 ++ dktJ10_bitCount_2
def dkwJ10_bitCount_0 : List UInt8 := [26, 26, 4, 124, 19, 1, 9, 126, 100, 59, 26, 19, 1, 10, 126, 26, 5, 124, 19, 1, 10, 126, 96, 59]
abbrev dktJ10_bitCount_0 : List UInt8 := dkwJ10_bitCount_0 ++ dktJ10_bitCount_1
theorem dksJ10_bitCount_0 : cJ10_bitCount.data.toList.drop 0 = dktJ10_bitCount_0 := by decide +kernel
theorem dksJ10_bitCount_1 : cJ10_bitCount.data.toList.drop 24 = dktJ10_bitCount_1 := dk_seg dksJ10_bitCount_0 24 rfl rfl
theorem dksJ10_bitCount_2 : cJ10_bitCount.data.toList.drop 48 = dktJ10_bitCount_2 := dk_seg dksJ10_bitCount_1 24 rfl rfl
theorem dJ10_bitCount_0 : decode cJ10_bitCount 0 = .ok (.iload_n 0, 1) := dk_26 (dk_at dksJ10_bitCount_0 0 rfl rfl)
theorem dJ10_bitCount_1 : decode cJ10_bitCount 1 = .ok (.iload_n 0, 1) := dk_26 (dk_at dksJ10_bitCount_0 1 rfl rfl)
theorem dJ10_bitCount_2 : decode cJ10_bitCount 2 = .ok (.iconst 1, 1) := dk_4 (dk_at dksJ10_bitCount_0 2 rfl rfl)
theorem dJ10_bitCount_3 : decode cJ10_bitCount 3 = .ok (.iushr, 1) := dk_124 (dk_at dksJ10_bitCount_0 3 rfl rfl)
theorem dJ10_bitCount_4 : decode cJ10_bitCount 4 = .ok (.ldc_w 265, 3) := dk_19 1 9 (dk_at dksJ10_bitCount_0 4 rfl rfl)
theorem dJ10_bitCount_7 : decode cJ10_bitCount 7 = .ok (.iand, 1) := dk_126 (dk_at dksJ10_bitCount_0 7 rfl rfl)
theorem dJ10_bitCount_8 : decode cJ10_bitCount 8 = .ok (.isub, 1) := dk_100 (dk_at dksJ10_bitCount_0 8 rfl rfl)
theorem dJ10_bitCount_9 : decode cJ10_bitCount 9 = .ok (.istore_n 0, 1) := dk_59 (dk_at dksJ10_bitCount_0 9 rfl rfl)
theorem dJ10_bitCount_10 : decode cJ10_bitCount 10 = .ok (.iload_n 0, 1) := dk_26 (dk_at dksJ10_bitCount_0 10 rfl rfl)
theorem dJ10_bitCount_11 : decode cJ10_bitCount 11 = .ok (.ldc_w 266, 3) := dk_19 1 10 (dk_at dksJ10_bitCount_0 11 rfl rfl)
theorem dJ10_bitCount_14 : decode cJ10_bitCount 14 = .ok (.iand, 1) := dk_126 (dk_at dksJ10_bitCount_0 14 rfl rfl)
theorem dJ10_bitCount_15 : decode cJ10_bitCount 15 = .ok (.iload_n 0, 1) := dk_26 (dk_at dksJ10_bitCount_0 15 rfl rfl)
theorem dJ10_bitCount_16 : decode cJ10_bitCount 16 = .ok (.iconst 2, 1) := dk_5 (dk_at dksJ10_bitCount_0 16 rfl rfl)
theorem dJ10_bitCount_17 : decode cJ10_bitCount 17 = .ok (.iushr, 1) := dk_124 (dk_at dksJ10_bitCount_0 17 rfl rfl)
theorem dJ10_bitCount_18 : decode cJ10_bitCount 18 = .ok (.ldc_w 266, 3) := dk_19 1 10 (dk_at dksJ10_bitCount_0 18 rfl rfl)
theorem dJ10_bitCount_21 : decode cJ10_bitCount 21 = .ok (.iand, 1) := dk_126 (dk_at dksJ10_bitCount_0 21 rfl rfl)
theorem dJ10_bitCount_22 : decode cJ10_bitCount 22 = .ok (.iadd, 1) := dk_96 (dk_at dksJ10_bitCount_0 22 rfl rfl)
theorem dJ10_bitCount_23 : decode cJ10_bitCount 23 = .ok (.istore_n 0, 1) := dk_59 (dk_at dksJ10_bitCount_0 23 rfl rfl)
theorem dJ10_bitCount_24 : decode cJ10_bitCount 24 = .ok (.iload_n 0, 1) := dk_26 (dk_at dksJ10_bitCount_1 0 rfl rfl)
theorem dJ10_bitCount_25 : decode cJ10_bitCount 25 = .ok (.iload_n 0, 1) := dk_26 (dk_at dksJ10_bitCount_1 1 rfl rfl)
theorem dJ10_bitCount_26 : decode cJ10_bitCount 26 = .ok (.iconst 4, 1) := dk_7 (dk_at dksJ10_bitCount_1 2 rfl rfl)
theorem dJ10_bitCount_27 : decode cJ10_bitCount 27 = .ok (.iushr, 1) := dk_124 (dk_at dksJ10_bitCount_1 3 rfl rfl)
theorem dJ10_bitCount_28 : decode cJ10_bitCount 28 = .ok (.iadd, 1) := dk_96 (dk_at dksJ10_bitCount_1 4 rfl rfl)
theorem dJ10_bitCount_29 : decode cJ10_bitCount 29 = .ok (.ldc_w 267, 3) := dk_19 1 11 (dk_at dksJ10_bitCount_1 5 rfl rfl)
theorem dJ10_bitCount_32 : decode cJ10_bitCount 32 = .ok (.iand, 1) := dk_126 (dk_at dksJ10_bitCount_1 8 rfl rfl)
theorem dJ10_bitCount_33 : decode cJ10_bitCount 33 = .ok (.istore_n 0, 1) := dk_59 (dk_at dksJ10_bitCount_1 9 rfl rfl)
theorem dJ10_bitCount_34 : decode cJ10_bitCount 34 = .ok (.iload_n 0, 1) := dk_26 (dk_at dksJ10_bitCount_1 10 rfl rfl)
theorem dJ10_bitCount_35 : decode cJ10_bitCount 35 = .ok (.iload_n 0, 1) := dk_26 (dk_at dksJ10_bitCount_1 11 rfl rfl)
theorem dJ10_bitCount_36 : decode cJ10_bitCount 36 = .ok (.bipush 8, 2) := dk_16 8 (dk_at dksJ10_bitCount_1 12 rfl rfl)
theorem dJ10_bitCount_38 : decode cJ10_bitCount 38 = .ok (.iushr, 1) := dk_124 (dk_at dksJ10_bitCount_1 14 rfl rfl)
theorem dJ10_bitCount_39 : decode cJ10_bitCount 39 = .ok (.iadd, 1) := dk_96 (dk_at dksJ10_bitCount_1 15 rfl rfl)
theorem dJ10_bitCount_40 : decode cJ10_bitCount 40 = .ok (.istore_n 0, 1) := dk_59 (dk_at dksJ10_bitCount_1 16 rfl rfl)
theorem dJ10_bitCount_41 : decode cJ10_bitCount 41 = .ok (.iload_n 0, 1) := dk_26 (dk_at dksJ10_bitCount_1 17 rfl rfl)
theorem dJ10_bitCount_42 : decode cJ10_bitCount 42 = .ok (.iload_n 0, 1) := dk_26 (dk_at dksJ10_bitCount_1 18 rfl rfl)
theorem dJ10_bitCount_43 : decode cJ10_bitCount 43 = .ok (.bipush 16, 2) := dk_16 16 (dk_at dksJ10_bitCount_1 19 rfl rfl)
theorem dJ10_bitCount_45 : decode cJ10_bitCount 45 = .ok (.iushr, 1) := dk_124 (dk_at dksJ10_bitCount_1 21 rfl rfl)
theorem dJ10_bitCount_46 : decode cJ10_bitCount 46 = .ok (.iadd, 1) := dk_96 (dk_at dksJ10_bitCount_1 22 rfl rfl)
theorem dJ10_bitCount_47 : decode cJ10_bitCount 47 = .ok (.istore_n 0, 1) := dk_59 (dk_at dksJ10_bitCount_1 23 rfl rfl)
theorem dJ10_bitCount_48 : decode cJ10_bitCount 48 = .ok (.iload_n 0, 1) := dk_26 (dk_at dksJ10_bitCount_2 0 rfl rfl)
theorem dJ10_bitCount_49 : decode cJ10_bitCount 49 = .ok (.bipush 63, 2) := dk_16 63 (dk_at dksJ10_bitCount_2 1 rfl rfl)
theorem dJ10_bitCount_51 : decode cJ10_bitCount 51 = .ok (.iand, 1) := dk_126 (dk_at dksJ10_bitCount_2 3 rfl rfl)
theorem dJ10_bitCount_52 : decode cJ10_bitCount 52 = .ok (.ireturn, 1) := dk_172 (dk_at dksJ10_bitCount_2 4 rfl rfl)
theorem q160 : (Jvm.Cond.initialized "java/lang/Integer") ∈ lw_all := lw_g (lw_at lw_m1 24 rfl) rfl
theorem q983 : (Jvm.Cond.static ({ cls := "java/lang/Integer", name := "bitCount", desc := "(I)I" } : Jvm.MethodName)) ∈ lw_all := lw_g (lw_at lw_m4 127 rfl) rfl
theorem q984 : (Jvm.Cond.code ({ cls := "java/lang/Integer", name := "bitCount", desc := "(I)I" } : Jvm.MethodName) prog_20_method_49_code (1 : Nat) (Option.some Jvm.ClassFile.FieldType.int)) ∈ lw_all := lw_g (lw_at lw_m4 128 rfl) rfl
theorem q985 : (Jvm.Cond.constant "java/lang/Integer" (265 : Nat) (1431655765 : Int32)) ∈ lw_all := lw_g (lw_at lw_m4 129 rfl) rfl
theorem q986 : (Jvm.Cond.constant "java/lang/Integer" (266 : Nat) (858993459 : Int32)) ∈ lw_all := lw_g (lw_at lw_m4 130 rfl) rfl
theorem q987 : (Jvm.Cond.constant "java/lang/Integer" (267 : Nat) (252645135 : Int32)) ∈ lw_all := lw_g (lw_at lw_m4 131 rfl) rfl

/-! java/lang/RuntimeException -/
set_option maxRecDepth 100000
def RJ11 : String := "java/lang/RuntimeException"
abbrev cJ11_init : ByteArray := prog_25_method_1_code
def yJ11_init : MethodName := ⟨RJ11, "<init>", "()V"⟩
theorem dJ11_init_0 : decode cJ11_init 0 = .ok (.aload_n 0, 1) := by decide +kernel
theorem dJ11_init_1 : decode cJ11_init 1 = .ok (.invokespecial 1, 3) := by decide +kernel
theorem dJ11_init_4 : decode cJ11_init 4 = .ok (.return_, 1) := by decide +kernel
abbrev cJ11_init_2 : ByteArray := prog_25_method_2_code
def yJ11_init_2 : MethodName := ⟨RJ11, "<init>", "(Ljava/lang/String;)V"⟩
def dkwJ11_init_2_0 : List UInt8 := [42, 43, 183, 0, 7, 177]
abbrev dktJ11_init_2_0 : List UInt8 := dkwJ11_init_2_0 ++ []
theorem dksJ11_init_2_0 : cJ11_init_2.data.toList.drop 0 = dktJ11_init_2_0 := by decide +kernel
theorem dJ11_init_2_0 : decode cJ11_init_2 0 = .ok (.aload_n 0, 1) := dk_42 (dk_at dksJ11_init_2_0 0 rfl rfl)
theorem dJ11_init_2_1 : decode cJ11_init_2 1 = .ok (.aload_n 1, 1) := dk_43 (dk_at dksJ11_init_2_0 1 rfl rfl)
theorem dJ11_init_2_2 : decode cJ11_init_2 2 = .ok (.invokespecial 7, 3) := dk_183 0 7 (dk_at dksJ11_init_2_0 2 rfl rfl)
theorem dJ11_init_2_5 : decode cJ11_init_2 5 = .ok (.return_, 1) := dk_177 (dk_at dksJ11_init_2_0 5 rfl rfl)
theorem q161 : (Jvm.Cond.initialized "java/lang/RuntimeException") ∈ lw_all := lw_g (lw_at lw_m1 25 rfl) rfl
theorem q633 : (Jvm.Cond.sameMethod "java/lang/RuntimeException" "java/lang/Throwable" "fillInStackTrace" "()Ljava/lang/Throwable;") ∈ lw_all := lw_g (lw_at lw_m3 17 rfl) rfl
theorem q636 : (Jvm.Cond.superclass "java/lang/RuntimeException" "java/lang/Exception") ∈ lw_all := lw_g (lw_at lw_m3 20 rfl) rfl
theorem q1158 : (Jvm.Cond.instanceMethod ({ cls := "java/lang/RuntimeException", name := "<init>", desc := "()V" } : Jvm.MethodName)) ∈ lw_all := lw_g (lw_at lw_m5 62 rfl) rfl
theorem q1159 : (Jvm.Cond.code ({ cls := "java/lang/RuntimeException", name := "<init>", desc := "()V" } : Jvm.MethodName) prog_25_method_1_code (1 : Nat) (Option.none : Option Jvm.ClassFile.FieldType)) ∈ lw_all := lw_g (lw_at lw_m5 63 rfl) rfl
theorem q1160 : (Jvm.Cond.methodLink "java/lang/RuntimeException" (1 : Nat) ({ cls := "java/lang/Exception", name := "<init>", desc := "()V" } : Jvm.MethodName)) ∈ lw_all := lw_g (lw_at lw_m5 64 rfl) rfl
theorem q1177 : (Jvm.Cond.declares ({ cls := "java/lang/RuntimeException", name := "<init>", desc := "()V" } : Jvm.MethodName)) ∈ lw_tbl := lw_at lw_m5 81 rfl
theorem q1178 : (Jvm.Cond.declares ({ cls := "java/lang/RuntimeException", name := "<init>", desc := "(Ljava/lang/String;)V" } : Jvm.MethodName)) ∈ lw_tbl := lw_at lw_m5 82 rfl
theorem q1180 : (Jvm.Cond.castable "java/lang/RuntimeException" "java/lang/Throwable") ∈ lw_tbl := lw_at lw_m5 84 rfl
theorem q1458 : (Jvm.Cond.instanceMethod ({ cls := "java/lang/RuntimeException", name := "<init>", desc := "(Ljava/lang/String;)V" } : Jvm.MethodName)) ∈ lw_all := lw_g (lw_at lw_m6 122 rfl) rfl
theorem q1459 : (Jvm.Cond.code ({ cls := "java/lang/RuntimeException", name := "<init>", desc := "(Ljava/lang/String;)V" } : Jvm.MethodName) prog_25_method_2_code (2 : Nat) (Option.none : Option Jvm.ClassFile.FieldType)) ∈ lw_all := lw_g (lw_at lw_m6 123 rfl) rfl
theorem q1460 : (Jvm.Cond.methodLink "java/lang/RuntimeException" (7 : Nat) ({ cls := "java/lang/Exception", name := "<init>", desc := "(Ljava/lang/String;)V" } : Jvm.MethodName)) ∈ lw_all := lw_g (lw_at lw_m6 124 rfl) rfl

/-! java/lang/NullPointerException -/
set_option maxRecDepth 100000
def RJ12 : String := "java/lang/NullPointerException"
def TJ12 : u_T := fun k => match k with
  | 0 => ("java/lang/Throwable", "backtrace", "Ljava/lang/Object;", false)
  | 1 => ("java/lang/Throwable", "detailMessage", "Ljava/lang/String;", false)
  | 2 => ("java/lang/Throwable", "cause", "Ljava/lang/Throwable;", false)
  | 3 => ("java/lang/Throwable", "stackTrace", "[Ljava/lang/StackTraceElement;", false)
  | 4 => ("java/lang/Throwable", "depth", "I", false)
  | 5 => ("java/lang/Throwable", "suppressedExceptions", "Ljava/util/List;", false)
  | 6 => ("java/lang/NullPointerException", "extendedMessageState", "I", false)
  | _ => ("java/lang/NullPointerException", "extendedMessage", "Ljava/lang/String;", false)
def tyJ12 : Nat → FieldType := fun k => match k with
  | 0 => .object "java/lang/Object"
  | 1 => .object "java/lang/String"
  | 2 => .object "java/lang/Throwable"
  | 3 => .array (.object "java/lang/StackTraceElement")
  | 4 => .int
  | 5 => .object "java/util/List"
  | 6 => .int
  | _ => .object "java/lang/String"
abbrev wsJ120 : List Cond := u_ws RJ12 TJ12 8
theorem nmJ12 : ∀ a, a < 8 → ∀ b, b < 8 → a ≠ b → (TJ12 a).2.1 ≠ (TJ12 b).2.1 := by decide +kernel
theorem tyJ12_ok : ∀ k, k < 8 → parseFieldDescriptor (TJ12 k).2.2.1 = some (tyJ12 k) := by decide +kernel
abbrev cJ12_init : ByteArray := prog_24_method_1_code
def yJ12_init : MethodName := ⟨RJ12, "<init>", "()V"⟩
theorem dJ12_init_0 : decode cJ12_init 0 = .ok (.aload_n 0, 1) := by decide +kernel
theorem dJ12_init_1 : decode cJ12_init 1 = .ok (.invokespecial 1, 3) := by decide +kernel
theorem dJ12_init_4 : decode cJ12_init 4 = .ok (.return_, 1) := by decide +kernel
theorem q162 : (Jvm.Cond.initialized "java/lang/NullPointerException") ∈ lw_all := lw_g (lw_at lw_m1 26 rfl) rfl
theorem q624 : (Jvm.Cond.selects "java/lang/NullPointerException" ({ cls := "java/lang/Throwable", name := "fillInStackTrace", desc := "()Ljava/lang/Throwable;" } : Jvm.MethodName) ({ cls := "java/lang/NullPointerException", name := "fillInStackTrace", desc := "()Ljava/lang/Throwable;" } : Jvm.MethodName)) ∈ lw_all := lw_g (lw_at lw_m3 8 rfl) rfl
theorem q625 : (Jvm.Cond.instanceMethod ({ cls := "java/lang/NullPointerException", name := "fillInStackTrace", desc := "()Ljava/lang/Throwable;" } : Jvm.MethodName)) ∈ lw_all := lw_g (lw_at lw_m3 9 rfl) rfl
theorem q626 : (Jvm.Cond.codeSync ({ cls := "java/lang/NullPointerException", name := "fillInStackTrace", desc := "()Ljava/lang/Throwable;" } : Jvm.MethodName) prog_24_method_3_code (1 : Nat) (Option.some (Jvm.ClassFile.FieldType.object "java/lang/Throwable"))) ∈ lw_all := lw_g (lw_at lw_m3 10 rfl) rfl
theorem q627 : (Jvm.Cond.methodLink "java/lang/NullPointerException" (16 : Nat) ({ cls := "java/lang/NullPointerException", name := "getExtendedNPEMessage", desc := "()Ljava/lang/String;" } : Jvm.MethodName)) ∈ lw_all := lw_g (lw_at lw_m3 11 rfl) rfl
theorem q628 : (Jvm.Cond.privateMethod ({ cls := "java/lang/NullPointerException", name := "getExtendedNPEMessage", desc := "()Ljava/lang/String;" } : Jvm.MethodName)) ∈ lw_tbl := lw_at lw_m3 12 rfl
theorem q629 : (Jvm.Cond.instanceMethod ({ cls := "java/lang/NullPointerException", name := "getExtendedNPEMessage", desc := "()Ljava/lang/String;" } : Jvm.MethodName)) ∈ lw_all := lw_g (lw_at lw_m3 13 rfl) rfl
theorem q630 : (Jvm.Cond.instantiable "java/lang/NullPointerException" (8 : Nat)) ∈ lw_all := lw_g (lw_at lw_m3 14 rfl) rfl
theorem q631 : (Jvm.Cond.native ({ cls := "java/lang/NullPointerException", name := "getExtendedNPEMessage", desc := "()Ljava/lang/String;" } : Jvm.MethodName)) ∈ lw_all := lw_g (lw_at lw_m3 15 rfl) rfl
theorem q632 : (Jvm.Cond.methodLink "java/lang/NullPointerException" (24 : Nat) ({ cls := "java/lang/RuntimeException", name := "fillInStackTrace", desc := "()Ljava/lang/Throwable;" } : Jvm.MethodName)) ∈ lw_all := lw_g (lw_at lw_m3 16 rfl) rfl
theorem q635 : (Jvm.Cond.superclass "java/lang/NullPointerException" "java/lang/RuntimeException") ∈ lw_all := lw_g (lw_at lw_m3 19 rfl) rfl
theorem q1155 : (Jvm.Cond.instanceMethod ({ cls := "java/lang/NullPointerException", name := "<init>", desc := "()V" } : Jvm.MethodName)) ∈ lw_all := lw_g (lw_at lw_m5 59 rfl) rfl
theorem q1156 : (Jvm.Cond.code ({ cls := "java/lang/NullPointerException", name := "<init>", desc := "()V" } : Jvm.MethodName) prog_24_method_1_code (1 : Nat) (Option.none : Option Jvm.ClassFile.FieldType)) ∈ lw_all := lw_g (lw_at lw_m5 60 rfl) rfl
theorem q1157 : (Jvm.Cond.methodLink "java/lang/NullPointerException" (1 : Nat) ({ cls := "java/lang/RuntimeException", name := "<init>", desc := "()V" } : Jvm.MethodName)) ∈ lw_all := lw_g (lw_at lw_m5 61 rfl) rfl
theorem q1164 : (Jvm.Cond.fieldLink "java/lang/NullPointerException" (10 : Nat) "java/lang/NullPointerException" "extendedMessageState" "I") ∈ lw_all := lw_g (lw_at lw_m5 68 rfl) rfl
theorem q1165 : (Jvm.Cond.fieldLink "java/lang/NullPointerException" (20 : Nat) "java/lang/NullPointerException" "extendedMessage" "Ljava/lang/String;") ∈ lw_all := lw_g (lw_at lw_m5 69 rfl) rfl
theorem q1166 : (Jvm.Cond.lays "java/lang/NullPointerException" "java/lang/NullPointerException" "extendedMessageState" "I") ∈ lw_all := lw_g (lw_at lw_m5 70 rfl) rfl
theorem q1167 : (Jvm.Cond.soleField "java/lang/NullPointerException" "extendedMessageState") ∈ lw_all := lw_g (lw_at lw_m5 71 rfl) rfl
theorem q1168 : (Jvm.Cond.lays "java/lang/NullPointerException" "java/lang/NullPointerException" "extendedMessage" "Ljava/lang/String;") ∈ lw_all := lw_g (lw_at lw_m5 72 rfl) rfl
theorem q1169 : (Jvm.Cond.soleField "java/lang/NullPointerException" "extendedMessage") ∈ lw_all := lw_g (lw_at lw_m5 73 rfl) rfl
theorem q1170 : (Jvm.Cond.lays "java/lang/NullPointerException" "java/lang/Throwable" "backtrace" "Ljava/lang/Object;") ∈ lw_all := lw_g (lw_at lw_m5 74 rfl) rfl
theorem q1171 : (Jvm.Cond.lays "java/lang/NullPointerException" "java/lang/Throwable" "detailMessage" "Ljava/lang/String;") ∈ lw_all := lw_g (lw_at lw_m5 75 rfl) rfl
theorem q1172 : (Jvm.Cond.lays "java/lang/NullPointerException" "java/lang/Throwable" "cause" "Ljava/lang/Throwable;") ∈ lw_all := lw_g (lw_at lw_m5 76 rfl) rfl
theorem q1173 : (Jvm.Cond.lays "java/lang/NullPointerException" "java/lang/Throwable" "stackTrace" "[Ljava/lang/StackTraceElement;") ∈ lw_all := lw_g (lw_at lw_m5 77 rfl) rfl
theorem q1174 : (Jvm.Cond.lays "java/lang/NullPointerException" "java/lang/Throwable" "depth" "I") ∈ lw_all := lw_g (lw_at lw_m5 78 rfl) rfl
theorem q1175 : (Jvm.Cond.lays "java/lang/NullPointerException" "java/lang/Throwable" "suppressedExceptions" "Ljava/util/List;") ∈ lw_all := lw_g (lw_at lw_m5 79 rfl) rfl
theorem q1176 : (Jvm.Cond.castable "java/lang/NullPointerException" "java/lang/NullPointerException") ∈ lw_tbl := lw_at lw_m5 80 rfl
theorem q1179 : (Jvm.Cond.selects "java/lang/NullPointerException" ({ cls := "java/lang/Throwable", name := "fillInStackTrace", desc := "(I)Ljava/lang/Throwable;" } : Jvm.MethodName) ({ cls := "java/lang/Throwable", name := "fillInStackTrace", desc := "(I)Ljava/lang/Throwable;" } : Jvm.MethodName)) ∈ lw_all := lw_g (lw_at lw_m5 83 rfl) rfl
theorem q1405 : (Jvm.Cond.selects "java/lang/NullPointerException" ({ cls := "java/lang/Object", name := "getClass", desc := "()Ljava/lang/Class;" } : Jvm.MethodName) ({ cls := "java/lang/Object", name := "getClass", desc := "()Ljava/lang/Class;" } : Jvm.MethodName)) ∈ lw_all := lw_g (lw_at lw_m6 69 rfl) rfl
theorem q2355 : (Jvm.Cond.castable "java/lang/NullPointerException" "java/lang/Object") ∈ lw_tbl := lw_at lw_m10 59 rfl
theorem in_J12 : ∀ w ∈ wsJ120, w ∈ lw_all := lw_in wsJ120 [1170, 1171, 1172, 1173, 1174, 1175, 1166, 1168] (by decide +kernel) (by decide +kernel)

/-! jdk/internal/util/ArraysSupport -/
set_option maxRecDepth 100000
def RJ13 : String := "jdk/internal/util/ArraysSupport"
abbrev cJ13_newLength : ByteArray := prog_40_method_27_code
def yJ13_newLength : MethodName := ⟨RJ13, "newLength", "(III)I"⟩
def dkwJ13_newLength_1 : List UInt8 := [184, 0, 201, 172]
abbrev dktJ13_newLength_1 : List UInt8 := dkwJ13_newLength_1 ++ []
def dkwJ13_newLength_0 : List UInt8 := [26, 27, 28, 184, 0, 194, 96, 62, 3, 29, 162, 0, 11, 29, 18, 200, 163, 0, 5, 29, 172, 26, 27]
abbrev dktJ13_newLength_0 : List UInt8 := dkwJ13_newLength_0 ++ dktJ13_newLength_1
theorem dksJ13_newLength_0 : cJ13_newLength.data.toList.drop 0 = dktJ13_newLength_0 := by decide +kernel
theorem dksJ13_newLength_1 : cJ13_newLength.data.toList.drop 23 = dktJ13_newLength_1 := dk_seg dksJ13_newLength_0 23 rfl rfl
theorem dJ13_newLength_0 : decode cJ13_newLength 0 = .ok (.iload_n 0, 1) := dk_26 (dk_at dksJ13_newLength_0 0 rfl rfl)
theorem dJ13_newLength_1 : decode cJ13_newLength 1 = .ok (.iload_n 1, 1) := dk_27 (dk_at dksJ13_newLength_0 1 rfl rfl)
theorem dJ13_newLength_2 : decode cJ13_newLength 2 = .ok (.iload_n 2, 1) := dk_28 (dk_at dksJ13_newLength_0 2 rfl rfl)
theorem dJ13_newLength_3 : decode cJ13_newLength 3 = .ok (.invokestatic 194, 3) := dk_184 0 194 (dk_at dksJ13_newLength_0 3 rfl rfl)
theorem dJ13_newLength_6 : decode cJ13_newLength 6 = .ok (.iadd, 1) := dk_96 (dk_at dksJ13_newLength_0 6 rfl rfl)
theorem dJ13_newLength_7 : decode cJ13_newLength 7 = .ok (.istore_n 3, 1) := dk_62 (dk_at dksJ13_newLength_0 7 rfl rfl)
theorem dJ13_newLength_8 : decode cJ13_newLength 8 = .ok (.iconst 0, 1) := dk_3 (dk_at dksJ13_newLength_0 8 rfl rfl)
theorem dJ13_newLength_9 : decode cJ13_newLength 9 = .ok (.iload_n 3, 1) := dk_29 (dk_at dksJ13_newLength_0 9 rfl rfl)
theorem dJ13_newLength_10 : decode cJ13_newLength 10 = .ok (.if_icmp .ge 11, 3) := dk_162 0 11 (dk_at dksJ13_newLength_0 10 rfl rfl)
theorem dJ13_newLength_13 : decode cJ13_newLength 13 = .ok (.iload_n 3, 1) := dk_29 (dk_at dksJ13_newLength_0 13 rfl rfl)
theorem dJ13_newLength_14 : decode cJ13_newLength 14 = .ok (.ldc 200, 2) := dk_18 200 (dk_at dksJ13_newLength_0 14 rfl rfl)
theorem dJ13_newLength_16 : decode cJ13_newLength 16 = .ok (.if_icmp .gt 5, 3) := dk_163 0 5 (dk_at dksJ13_newLength_0 16 rfl rfl)
theorem dJ13_newLength_19 : decode cJ13_newLength 19 = .ok (.iload_n 3, 1) := dk_29 (dk_at dksJ13_newLength_0 19 rfl rfl)
theorem dJ13_newLength_20 : decode cJ13_newLength 20 = .ok (.ireturn, 1) := dk_172 (dk_at dksJ13_newLength_0 20 rfl rfl)
theorem dJ13_newLength_21 : decode cJ13_newLength 21 = .ok (.iload_n 0, 1) := dk_26 (dk_at dksJ13_newLength_0 21 rfl rfl)
theorem dJ13_newLength_22 : decode cJ13_newLength 22 = .ok (.iload_n 1, 1) := dk_27 (dk_at dksJ13_newLength_0 22 rfl rfl)
theorem dJ13_newLength_23 : decode cJ13_newLength 23 = .ok (.invokestatic 201, 3) := dk_184 0 201 (dk_at dksJ13_newLength_1 0 rfl rfl)
theorem dJ13_newLength_26 : decode cJ13_newLength 26 = .ok (.ireturn, 1) := dk_172 (dk_at dksJ13_newLength_1 3 rfl rfl)
abbrev cJ13_hugeLength : ByteArray := prog_40_method_28_code
def yJ13_hugeLength : MethodName := ⟨RJ13, "hugeLength", "(II)I"⟩
def dkwJ13_hugeLength_2 : List UInt8 := [191, 28, 18, 200, 163, 0, 6, 18, 200, 172, 28, 172]
abbrev dktJ13_hugeLength_2 : List UInt8 := dkwJ13_hugeLength_2 ++ []
def dkwJ13_hugeLength_1 : List UInt8 := [26, 182, 0, 98, 18, 208, 182, 0, 94, 27, 182, 0, 98, 18, 210, 182, 0, 94, 182, 0, 101, 183, 0, 212]
abbrev dktJ13_hugeLength_1 : List UInt8 := dkwJ13_hugeLength_1 ++ dktJ13_hugeLength_2
def dkwJ13_hugeLength_0 : List UInt8 := [26, 27, 96, 61, 28, 156, 0, 44, 187, 0, 204, 89, 187, 0, 89, 89, 183, 0, 91, 18, 206, 182, 0, 94]
abbrev dktJ13_hugeLength_0 : List UInt8 := dkwJ13_hugeLength_0 ++ dktJ13_hugeLength_1
theorem dksJ13_hugeLength_0 : cJ13_hugeLength.data.toList.drop 0 = dktJ13_hugeLength_0 := by decide +kernel
theorem dksJ13_hugeLength_1 : cJ13_hugeLength.data.toList.drop 24 = dktJ13_hugeLength_1 := dk_seg dksJ13_hugeLength_0 24 rfl rfl
theorem dksJ13_hugeLength_2 : cJ13_hugeLength.data.toList.drop 48 = dktJ13_hugeLength_2 := dk_seg dksJ13_hugeLength_1 24 rfl rfl
theorem dJ13_hugeLength_0 : decode cJ13_hugeLength 0 = .ok (.iload_n 0, 1) := dk_26 (dk_at dksJ13_hugeLength_0 0 rfl rfl)
theorem dJ13_hugeLength_1 : decode cJ13_hugeLength 1 = .ok (.iload_n 1, 1) := dk_27 (dk_at dksJ13_hugeLength_0 1 rfl rfl)
theorem dJ13_hugeLength_2 : decode cJ13_hugeLength 2 = .ok (.iadd, 1) := dk_96 (dk_at dksJ13_hugeLength_0 2 rfl rfl)
theorem dJ13_hugeLength_3 : decode cJ13_hugeLength 3 = .ok (.istore_n 2, 1) := dk_61 (dk_at dksJ13_hugeLength_0 3 rfl rfl)
theorem dJ13_hugeLength_4 : decode cJ13_hugeLength 4 = .ok (.iload_n 2, 1) := dk_28 (dk_at dksJ13_hugeLength_0 4 rfl rfl)
theorem dJ13_hugeLength_5 : decode cJ13_hugeLength 5 = .ok (.ifCond .ge 44, 3) := dk_156 0 44 (dk_at dksJ13_hugeLength_0 5 rfl rfl)
theorem dJ13_hugeLength_8 : decode cJ13_hugeLength 8 = .ok (.new 204, 3) := dk_187 0 204 (dk_at dksJ13_hugeLength_0 8 rfl rfl)
theorem dJ13_hugeLength_11 : decode cJ13_hugeLength 11 = .ok (.dup, 1) := dk_89 (dk_at dksJ13_hugeLength_0 11 rfl rfl)
theorem dJ13_hugeLength_12 : decode cJ13_hugeLength 12 = .ok (.new 89, 3) := dk_187 0 89 (dk_at dksJ13_hugeLength_0 12 rfl rfl)
theorem dJ13_hugeLength_15 : decode cJ13_hugeLength 15 = .ok (.dup, 1) := dk_89 (dk_at dksJ13_hugeLength_0 15 rfl rfl)
theorem dJ13_hugeLength_16 : decode cJ13_hugeLength 16 = .ok (.invokespecial 91, 3) := dk_183 0 91 (dk_at dksJ13_hugeLength_0 16 rfl rfl)
theorem dJ13_hugeLength_19 : decode cJ13_hugeLength 19 = .ok (.ldc 206, 2) := dk_18 206 (dk_at dksJ13_hugeLength_0 19 rfl rfl)
theorem dJ13_hugeLength_21 : decode cJ13_hugeLength 21 = .ok (.invokevirtual 94, 3) := dk_182 0 94 (dk_at dksJ13_hugeLength_0 21 rfl rfl)
theorem dJ13_hugeLength_24 : decode cJ13_hugeLength 24 = .ok (.iload_n 0, 1) := dk_26 (dk_at dksJ13_hugeLength_1 0 rfl rfl)
theorem dJ13_hugeLength_25 : decode cJ13_hugeLength 25 = .ok (.invokevirtual 98, 3) := dk_182 0 98 (dk_at dksJ13_hugeLength_1 1 rfl rfl)
theorem dJ13_hugeLength_28 : decode cJ13_hugeLength 28 = .ok (.ldc 208, 2) := dk_18 208 (dk_at dksJ13_hugeLength_1 4 rfl rfl)
theorem dJ13_hugeLength_30 : decode cJ13_hugeLength 30 = .ok (.invokevirtual 94, 3) := dk_182 0 94 (dk_at dksJ13_hugeLength_1 6 rfl rfl)
theorem dJ13_hugeLength_33 : decode cJ13_hugeLength 33 = .ok (.iload_n 1, 1) := dk_27 (dk_at dksJ13_hugeLength_1 9 rfl rfl)
theorem dJ13_hugeLength_34 : decode cJ13_hugeLength 34 = .ok (.invokevirtual 98, 3) := dk_182 0 98 (dk_at dksJ13_hugeLength_1 10 rfl rfl)
theorem dJ13_hugeLength_37 : decode cJ13_hugeLength 37 = .ok (.ldc 210, 2) := dk_18 210 (dk_at dksJ13_hugeLength_1 13 rfl rfl)
theorem dJ13_hugeLength_39 : decode cJ13_hugeLength 39 = .ok (.invokevirtual 94, 3) := dk_182 0 94 (dk_at dksJ13_hugeLength_1 15 rfl rfl)
theorem dJ13_hugeLength_42 : decode cJ13_hugeLength 42 = .ok (.invokevirtual 101, 3) := dk_182 0 101 (dk_at dksJ13_hugeLength_1 18 rfl rfl)
theorem dJ13_hugeLength_45 : decode cJ13_hugeLength 45 = .ok (.invokespecial 212, 3) := dk_183 0 212 (dk_at dksJ13_hugeLength_1 21 rfl rfl)
theorem dJ13_hugeLength_48 : decode cJ13_hugeLength 48 = .ok (.athrow, 1) := dk_191 (dk_at dksJ13_hugeLength_2 0 rfl rfl)
theorem dJ13_hugeLength_49 : decode cJ13_hugeLength 49 = .ok (.iload_n 2, 1) := dk_28 (dk_at dksJ13_hugeLength_2 1 rfl rfl)
theorem dJ13_hugeLength_50 : decode cJ13_hugeLength 50 = .ok (.ldc 200, 2) := dk_18 200 (dk_at dksJ13_hugeLength_2 2 rfl rfl)
theorem dJ13_hugeLength_52 : decode cJ13_hugeLength 52 = .ok (.if_icmp .gt 6, 3) := dk_163 0 6 (dk_at dksJ13_hugeLength_2 4 rfl rfl)
theorem dJ13_hugeLength_55 : decode cJ13_hugeLength 55 = .ok (.ldc 200, 2) := dk_18 200 (dk_at dksJ13_hugeLength_2 7 rfl rfl)
theorem dJ13_hugeLength_57 : decode cJ13_hugeLength 57 = .ok (.ireturn, 1) := dk_172 (dk_at dksJ13_hugeLength_2 9 rfl rfl)
theorem dJ13_hugeLength_58 : decode cJ13_hugeLength 58 = .ok (.iload_n 2, 1) := dk_28 (dk_at dksJ13_hugeLength_2 10 rfl rfl)
theorem dJ13_hugeLength_59 : decode cJ13_hugeLength 59 = .ok (.ireturn, 1) := dk_172 (dk_at dksJ13_hugeLength_2 11 rfl rfl)
theorem q163 : (Jvm.Cond.initialized "jdk/internal/util/ArraysSupport") ∈ lw_all := lw_g (lw_at lw_m1 27 rfl) rfl
theorem q1378 : (Jvm.Cond.static ({ cls := "jdk/internal/util/ArraysSupport", name := "newLength", desc := "(III)I" } : Jvm.MethodName)) ∈ lw_all := lw_g (lw_at lw_m6 42 rfl) rfl
theorem q1379 : (Jvm.Cond.code ({ cls := "jdk/internal/util/ArraysSupport", name := "newLength", desc := "(III)I" } : Jvm.MethodName) prog_40_method_27_code (4 : Nat) (Option.some Jvm.ClassFile.FieldType.int)) ∈ lw_all := lw_g (lw_at lw_m6 43 rfl) rfl
theorem q1380 : (Jvm.Cond.methodLink "jdk/internal/util/ArraysSupport" (194 : Nat) ({ cls := "java/lang/Math", name := "max", desc := "(II)I" } : Jvm.MethodName)) ∈ lw_all := lw_g (lw_at lw_m6 44 rfl) rfl
theorem q1381 : (Jvm.Cond.constant "jdk/internal/util/ArraysSupport" (200 : Nat) (2147483639 : Int32)) ∈ lw_all := lw_g (lw_at lw_m6 45 rfl) rfl
theorem q1382 : (Jvm.Cond.methodLink "jdk/internal/util/ArraysSupport" (201 : Nat) ({ cls := "jdk/internal/util/ArraysSupport", name := "hugeLength", desc := "(II)I" } : Jvm.MethodName)) ∈ lw_all := lw_g (lw_at lw_m6 46 rfl) rfl
theorem q1383 : (Jvm.Cond.static ({ cls := "jdk/internal/util/ArraysSupport", name := "hugeLength", desc := "(II)I" } : Jvm.MethodName)) ∈ lw_all := lw_g (lw_at lw_m6 47 rfl) rfl
theorem q1384 : (Jvm.Cond.code ({ cls := "jdk/internal/util/ArraysSupport", name := "hugeLength", desc := "(II)I" } : Jvm.MethodName) prog_40_method_28_code (3 : Nat) (Option.some Jvm.ClassFile.FieldType.int)) ∈ lw_all := lw_g (lw_at lw_m6 48 rfl) rfl

/-! java/util/Arrays -/
set_option maxRecDepth 100000
def RJ14 : String := "java/util/Arrays"
abbrev cJ14_copyOf : ByteArray := prog_34_method_119_code
def yJ14_copyOf : MethodName := ⟨RJ14, "copyOf", "([Ljava/lang/Object;I)[Ljava/lang/Object;"⟩
def dkwJ14_copyOf_0 : List UInt8 := [42, 27, 42, 182, 0, 86, 184, 1, 44, 176]
abbrev dktJ14_copyOf_0 : List UInt8 := dkwJ14_copyOf_0 ++ []
theorem dksJ14_copyOf_0 : cJ14_copyOf.data.toList.drop 0 = dktJ14_copyOf_0 := by decide +kernel
theorem dJ14_copyOf_0 : decode cJ14_copyOf 0 = .ok (.aload_n 0, 1) := dk_42 (dk_at dksJ14_copyOf_0 0 rfl rfl)
theorem dJ14_copyOf_1 : decode cJ14_copyOf 1 = .ok (.iload_n 1, 1) := dk_27 (dk_at dksJ14_copyOf_0 1 rfl rfl)
theorem dJ14_copyOf_2 : decode cJ14_copyOf 2 = .ok (.aload_n 0, 1) := dk_42 (dk_at dksJ14_copyOf_0 2 rfl rfl)
theorem dJ14_copyOf_3 : decode cJ14_copyOf 3 = .ok (.invokevirtual 86, 3) := dk_182 0 86 (dk_at dksJ14_copyOf_0 3 rfl rfl)
theorem dJ14_copyOf_6 : decode cJ14_copyOf 6 = .ok (.invokestatic 300, 3) := dk_184 1 44 (dk_at dksJ14_copyOf_0 6 rfl rfl)
theorem dJ14_copyOf_9 : decode cJ14_copyOf 9 = .ok (.areturn, 1) := dk_176 (dk_at dksJ14_copyOf_0 9 rfl rfl)
abbrev cJ14_copyOf_2 : ByteArray := prog_34_method_120_code
def yJ14_copyOf_2 : MethodName := ⟨RJ14, "copyOf", "([Ljava/lang/Object;ILjava/lang/Class;)[Ljava/lang/Object;"⟩
def dkwJ14_copyOf_2_1 : List UInt8 := [78, 42, 3, 45, 3, 42, 190, 27, 184, 1, 48, 184, 0, 150, 45, 176]
abbrev dktJ14_copyOf_2_1 : List UInt8 := dkwJ14_copyOf_2_1 ++ []
def dkwJ14_copyOf_2_0 : List UInt8 := [44, 18, 110, 166, 0, 10, 27, 189, 0, 2, 167, 0, 14, 44, 182, 0, 90, 27, 184, 0, 95, 192, 0, 110]
abbrev dktJ14_copyOf_2_0 : List UInt8 := dkwJ14_copyOf_2_0 ++ dktJ14_copyOf_2_1
theorem dksJ14_copyOf_2_0 : cJ14_copyOf_2.data.toList.drop 0 = dktJ14_copyOf_2_0 := by decide +kernel
theorem dksJ14_copyOf_2_1 : cJ14_copyOf_2.data.toList.drop 24 = dktJ14_copyOf_2_1 := dk_seg dksJ14_copyOf_2_0 24 rfl rfl
theorem dJ14_copyOf_2_0 : decode cJ14_copyOf_2 0 = .ok (.aload_n 2, 1) := dk_44 (dk_at dksJ14_copyOf_2_0 0 rfl rfl)
theorem dJ14_copyOf_2_1 : decode cJ14_copyOf_2 1 = .ok (.ldc 110, 2) := dk_18 110 (dk_at dksJ14_copyOf_2_0 1 rfl rfl)
theorem dJ14_copyOf_2_3 : decode cJ14_copyOf_2 3 = .ok (.if_acmp .ne 10, 3) := dk_166 0 10 (dk_at dksJ14_copyOf_2_0 3 rfl rfl)
theorem dJ14_copyOf_2_6 : decode cJ14_copyOf_2 6 = .ok (.iload_n 1, 1) := dk_27 (dk_at dksJ14_copyOf_2_0 6 rfl rfl)
theorem dJ14_copyOf_2_7 : decode cJ14_copyOf_2 7 = .ok (.anewarray 2, 3) := dk_189 0 2 (dk_at dksJ14_copyOf_2_0 7 rfl rfl)
theorem dJ14_copyOf_2_10 : decode cJ14_copyOf_2 10 = .ok (.goto 14, 3) := dk_167 0 14 (dk_at dksJ14_copyOf_2_0 10 rfl rfl)
theorem dJ14_copyOf_2_13 : decode cJ14_copyOf_2 13 = .ok (.aload_n 2, 1) := dk_44 (dk_at dksJ14_copyOf_2_0 13 rfl rfl)
theorem dJ14_copyOf_2_14 : decode cJ14_copyOf_2 14 = .ok (.invokevirtual 90, 3) := dk_182 0 90 (dk_at dksJ14_copyOf_2_0 14 rfl rfl)
theorem dJ14_copyOf_2_17 : decode cJ14_copyOf_2 17 = .ok (.iload_n 1, 1) := dk_27 (dk_at dksJ14_copyOf_2_0 17 rfl rfl)
theorem dJ14_copyOf_2_18 : decode cJ14_copyOf_2 18 = .ok (.invokestatic 95, 3) := dk_184 0 95 (dk_at dksJ14_copyOf_2_0 18 rfl rfl)
theorem dJ14_copyOf_2_21 : decode cJ14_copyOf_2 21 = .ok (.checkcast 110, 3) := dk_192 0 110 (dk_at dksJ14_copyOf_2_0 21 rfl rfl)
theorem dJ14_copyOf_2_24 : decode cJ14_copyOf_2 24 = .ok (.astore_n 3, 1) := dk_78 (dk_at dksJ14_copyOf_2_1 0 rfl rfl)
theorem dJ14_copyOf_2_25 : decode cJ14_copyOf_2 25 = .ok (.aload_n 0, 1) := dk_42 (dk_at dksJ14_copyOf_2_1 1 rfl rfl)
theorem dJ14_copyOf_2_26 : decode cJ14_copyOf_2 26 = .ok (.iconst 0, 1) := dk_3 (dk_at dksJ14_copyOf_2_1 2 rfl rfl)
theorem dJ14_copyOf_2_27 : decode cJ14_copyOf_2 27 = .ok (.aload_n 3, 1) := dk_45 (dk_at dksJ14_copyOf_2_1 3 rfl rfl)
theorem dJ14_copyOf_2_28 : decode cJ14_copyOf_2 28 = .ok (.iconst 0, 1) := dk_3 (dk_at dksJ14_copyOf_2_1 4 rfl rfl)
theorem dJ14_copyOf_2_29 : decode cJ14_copyOf_2 29 = .ok (.aload_n 0, 1) := dk_42 (dk_at dksJ14_copyOf_2_1 5 rfl rfl)
theorem dJ14_copyOf_2_30 : decode cJ14_copyOf_2 30 = .ok (.arraylength, 1) := dk_190 (dk_at dksJ14_copyOf_2_1 6 rfl rfl)
theorem dJ14_copyOf_2_31 : decode cJ14_copyOf_2 31 = .ok (.iload_n 1, 1) := dk_27 (dk_at dksJ14_copyOf_2_1 7 rfl rfl)
theorem dJ14_copyOf_2_32 : decode cJ14_copyOf_2 32 = .ok (.invokestatic 304, 3) := dk_184 1 48 (dk_at dksJ14_copyOf_2_1 8 rfl rfl)
theorem dJ14_copyOf_2_35 : decode cJ14_copyOf_2 35 = .ok (.invokestatic 150, 3) := dk_184 0 150 (dk_at dksJ14_copyOf_2_1 11 rfl rfl)
theorem dJ14_copyOf_2_38 : decode cJ14_copyOf_2 38 = .ok (.aload_n 3, 1) := dk_45 (dk_at dksJ14_copyOf_2_1 14 rfl rfl)
theorem dJ14_copyOf_2_39 : decode cJ14_copyOf_2 39 = .ok (.areturn, 1) := dk_176 (dk_at dksJ14_copyOf_2_1 15 rfl rfl)
theorem q164 : (Jvm.Cond.initialized "java/util/Arrays") ∈ lw_all := lw_g (lw_at lw_m1 28 rfl) rfl
theorem q1386 : (Jvm.Cond.static ({ cls := "java/util/Arrays", name := "copyOf", desc := "([Ljava/lang/Object;I)[Ljava/lang/Object;" } : Jvm.MethodName)) ∈ lw_all := lw_g (lw_at lw_m6 50 rfl) rfl
theorem q1387 : (Jvm.Cond.code ({ cls := "java/util/Arrays", name := "copyOf", desc := "([Ljava/lang/Object;I)[Ljava/lang/Object;" } : Jvm.MethodName) prog_34_method_119_code (2 : Nat) (Option.some (Jvm.ClassFile.FieldType.array (Jvm.ClassFile.FieldType.object "java/lang/Object")))) ∈ lw_all := lw_g (lw_at lw_m6 51 rfl) rfl
theorem q1388 : (Jvm.Cond.methodLink "java/util/Arrays" (86 : Nat) ({ cls := "java/lang/Object", name := "getClass", desc := "()Ljava/lang/Class;" } : Jvm.MethodName)) ∈ lw_all := lw_g (lw_at lw_m6 52 rfl) rfl
theorem q1408 : (Jvm.Cond.methodLink "java/util/Arrays" (300 : Nat) ({ cls := "java/util/Arrays", name := "copyOf", desc := "([Ljava/lang/Object;ILjava/lang/Class;)[Ljava/lang/Object;" } : Jvm.MethodName)) ∈ lw_all := lw_g (lw_at lw_m6 72 rfl) rfl
theorem q1409 : (Jvm.Cond.static ({ cls := "java/util/Arrays", name := "copyOf", desc := "([Ljava/lang/Object;ILjava/lang/Class;)[Ljava/lang/Object;" } : Jvm.MethodName)) ∈ lw_all := lw_g (lw_at lw_m6 73 rfl) rfl
theorem q1410 : (Jvm.Cond.code ({ cls := "java/util/Arrays", name := "copyOf", desc := "([Ljava/lang/Object;ILjava/lang/Class;)[Ljava/lang/Object;" } : Jvm.MethodName) prog_34_method_120_code (4 : Nat) (Option.some (Jvm.ClassFile.FieldType.array (Jvm.ClassFile.FieldType.object "java/lang/Object")))) ∈ lw_all := lw_g (lw_at lw_m6 74 rfl) rfl
theorem q1411 : (Jvm.Cond.classLink "java/util/Arrays" (110 : Nat) "[Ljava/lang/Object;") ∈ lw_all := lw_g (lw_at lw_m6 75 rfl) rfl
theorem q1413 : (Jvm.Cond.classLink "java/util/Arrays" (2 : Nat) "java/lang/Object") ∈ lw_all := lw_g (lw_at lw_m6 77 rfl) rfl
theorem q1414 : (Jvm.Cond.methodLink "java/util/Arrays" (304 : Nat) ({ cls := "java/lang/Math", name := "min", desc := "(II)I" } : Jvm.MethodName)) ∈ lw_all := lw_g (lw_at lw_m6 78 rfl) rfl
theorem q1415 : (Jvm.Cond.methodLink "java/util/Arrays" (150 : Nat) ({ cls := "java/lang/System", name := "arraycopy", desc := "(Ljava/lang/Object;ILjava/lang/Object;II)V" } : Jvm.MethodName)) ∈ lw_all := lw_g (lw_at lw_m6 79 rfl) rfl

/-! java/util/Objects -/
set_option maxRecDepth 100000
def RJ15 : String := "java/util/Objects"
abbrev cJ15_checkIndex : ByteArray := prog_37_method_17_code
def yJ15_checkIndex : MethodName := ⟨RJ15, "checkIndex", "(II)I"⟩
def dkwJ15_checkIndex_0 : List UInt8 := [26, 27, 1, 184, 0, 105, 172]
abbrev dktJ15_checkIndex_0 : List UInt8 := dkwJ15_checkIndex_0 ++ []
theorem dksJ15_checkIndex_0 : cJ15_checkIndex.data.toList.drop 0 = dktJ15_checkIndex_0 := by decide +kernel
theorem dJ15_checkIndex_0 : decode cJ15_checkIndex 0 = .ok (.iload_n 0, 1) := dk_26 (dk_at dksJ15_checkIndex_0 0 rfl rfl)
theorem dJ15_checkIndex_1 : decode cJ15_checkIndex 1 = .ok (.iload_n 1, 1) := dk_27 (dk_at dksJ15_checkIndex_0 1 rfl rfl)
theorem dJ15_checkIndex_2 : decode cJ15_checkIndex 2 = .ok (.aconst_null, 1) := dk_1 (dk_at dksJ15_checkIndex_0 2 rfl rfl)
theorem dJ15_checkIndex_3 : decode cJ15_checkIndex 3 = .ok (.invokestatic 105, 3) := dk_184 0 105 (dk_at dksJ15_checkIndex_0 3 rfl rfl)
theorem dJ15_checkIndex_6 : decode cJ15_checkIndex 6 = .ok (.ireturn, 1) := dk_172 (dk_at dksJ15_checkIndex_0 6 rfl rfl)
theorem q165 : (Jvm.Cond.initialized "java/util/Objects") ∈ lw_all := lw_g (lw_at lw_m1 29 rfl) rfl
theorem q1430 : (Jvm.Cond.static ({ cls := "java/util/Objects", name := "checkIndex", desc := "(II)I" } : Jvm.MethodName)) ∈ lw_all := lw_g (lw_at lw_m6 94 rfl) rfl
theorem q1431 : (Jvm.Cond.code ({ cls := "java/util/Objects", name := "checkIndex", desc := "(II)I" } : Jvm.MethodName) prog_37_method_17_code (2 : Nat) (Option.some Jvm.ClassFile.FieldType.int)) ∈ lw_all := lw_g (lw_at lw_m6 95 rfl) rfl
theorem q1432 : (Jvm.Cond.methodLink "java/util/Objects" (105 : Nat) ({ cls := "jdk/internal/util/Preconditions", name := "checkIndex", desc := "(IILjava/util/function/BiFunction;)I" } : Jvm.MethodName)) ∈ lw_all := lw_g (lw_at lw_m6 96 rfl) rfl

/-! java/lang/NegativeArraySizeException -/
set_option maxRecDepth 100000
def RJ16 : String := "java/lang/NegativeArraySizeException"
def TJ16 : u_T := fun k => match k with
  | 0 => ("java/lang/Throwable", "backtrace", "Ljava/lang/Object;", false)
  | 1 => ("java/lang/Throwable", "detailMessage", "Ljava/lang/String;", false)
  | 2 => ("java/lang/Throwable", "cause", "Ljava/lang/Throwable;", false)
  | 3 => ("java/lang/Throwable", "stackTrace", "[Ljava/lang/StackTraceElement;", false)
  | 4 => ("java/lang/Throwable", "depth", "I", false)
  | _ => ("java/lang/Throwable", "suppressedExceptions", "Ljava/util/List;", false)
def tyJ16 : Nat → FieldType := fun k => match k with
  | 0 => .object "java/lang/Object"
  | 1 => .object "java/lang/String"
  | 2 => .object "java/lang/Throwable"
  | 3 => .array (.object "java/lang/StackTraceElement")
  | 4 => .int
  | _ => .object "java/util/List"
abbrev wsJ160 : List Cond := u_ws RJ16 TJ16 6
theorem nmJ16 : ∀ a, a < 6 → ∀ b, b < 6 → a ≠ b → (TJ16 a).2.1 ≠ (TJ16 b).2.1 := by decide +kernel
theorem tyJ16_ok : ∀ k, k < 6 → parseFieldDescriptor (TJ16 k).2.2.1 = some (tyJ16 k) := by decide +kernel
abbrev cJ16_init : ByteArray := prog_23_method_2_code
def yJ16_init : MethodName := ⟨RJ16, "<init>", "(Ljava/lang/String;)V"⟩
def dkwJ16_init_0 : List UInt8 := [42, 43, 183, 0, 7, 177]
abbrev dktJ16_init_0 : List UInt8 := dkwJ16_init_0 ++ []
theorem dksJ16_init_0 : cJ16_init.data.toList.drop 0 = dktJ16_init_0 := by decide +kernel
theorem dJ16_init_0 : decode cJ16_init 0 = .ok (.aload_n 0, 1) := dk_42 (dk_at dksJ16_init_0 0 rfl rfl)
theorem dJ16_init_1 : decode cJ16_init 1 = .ok (.aload_n 1, 1) := dk_43 (dk_at dksJ16_init_0 1 rfl rfl)
theorem dJ16_init_2 : decode cJ16_init 2 = .ok (.invokespecial 7, 3) := dk_183 0 7 (dk_at dksJ16_init_0 2 rfl rfl)
theorem dJ16_init_5 : decode cJ16_init 5 = .ok (.return_, 1) := dk_177 (dk_at dksJ16_init_0 5 rfl rfl)
theorem q166 : (Jvm.Cond.initialized "java/lang/NegativeArraySizeException") ∈ lw_all := lw_g (lw_at lw_m1 30 rfl) rfl
theorem q623 : (Jvm.Cond.selects "java/lang/NegativeArraySizeException" ({ cls := "java/lang/Throwable", name := "fillInStackTrace", desc := "()Ljava/lang/Throwable;" } : Jvm.MethodName) ({ cls := "java/lang/Throwable", name := "fillInStackTrace", desc := "()Ljava/lang/Throwable;" } : Jvm.MethodName)) ∈ lw_all := lw_g (lw_at lw_m3 7 rfl) rfl
theorem q1404 : (Jvm.Cond.selects "java/lang/NegativeArraySizeException" ({ cls := "java/lang/Object", name := "getClass", desc := "()Ljava/lang/Class;" } : Jvm.MethodName) ({ cls := "java/lang/Object", name := "getClass", desc := "()Ljava/lang/Class;" } : Jvm.MethodName)) ∈ lw_all := lw_g (lw_at lw_m6 68 rfl) rfl
theorem q1454 : (Jvm.Cond.instantiable "java/lang/NegativeArraySizeException" (6 : Nat)) ∈ lw_all := lw_g (lw_at lw_m6 118 rfl) rfl
theorem q1455 : (Jvm.Cond.instanceMethod ({ cls := "java/lang/NegativeArraySizeException", name := "<init>", desc := "(Ljava/lang/String;)V" } : Jvm.MethodName)) ∈ lw_all := lw_g (lw_at lw_m6 119 rfl) rfl
theorem q1456 : (Jvm.Cond.code ({ cls := "java/lang/NegativeArraySizeException", name := "<init>", desc := "(Ljava/lang/String;)V" } : Jvm.MethodName) prog_23_method_2_code (2 : Nat) (Option.none : Option Jvm.ClassFile.FieldType)) ∈ lw_all := lw_g (lw_at lw_m6 120 rfl) rfl
theorem q1457 : (Jvm.Cond.methodLink "java/lang/NegativeArraySizeException" (7 : Nat) ({ cls := "java/lang/RuntimeException", name := "<init>", desc := "(Ljava/lang/String;)V" } : Jvm.MethodName)) ∈ lw_all := lw_g (lw_at lw_m6 121 rfl) rfl
theorem q1466 : (Jvm.Cond.lays "java/lang/NegativeArraySizeException" "java/lang/Throwable" "backtrace" "Ljava/lang/Object;") ∈ lw_all := lw_g (lw_at lw_m6 130 rfl) rfl
theorem q1467 : (Jvm.Cond.lays "java/lang/NegativeArraySizeException" "java/lang/Throwable" "detailMessage" "Ljava/lang/String;") ∈ lw_all := lw_g (lw_at lw_m6 131 rfl) rfl
theorem q1468 : (Jvm.Cond.lays "java/lang/NegativeArraySizeException" "java/lang/Throwable" "cause" "Ljava/lang/Throwable;") ∈ lw_all := lw_g (lw_at lw_m6 132 rfl) rfl
theorem q1469 : (Jvm.Cond.lays "java/lang/NegativeArraySizeException" "java/lang/Throwable" "stackTrace" "[Ljava/lang/StackTraceElement;") ∈ lw_all := lw_g (lw_at lw_m6 133 rfl) rfl
theorem q1470 : (Jvm.Cond.lays "java/lang/NegativeArraySizeException" "java/lang/Throwable" "depth" "I") ∈ lw_all := lw_g (lw_at lw_m6 134 rfl) rfl
theorem q1471 : (Jvm.Cond.lays "java/lang/NegativeArraySizeException" "java/lang/Throwable" "suppressedExceptions" "Ljava/util/List;") ∈ lw_all := lw_g (lw_at lw_m6 135 rfl) rfl
theorem q1472 : (Jvm.Cond.superclass "java/lang/NegativeArraySizeException" "java/lang/RuntimeException") ∈ lw_all := lw_g (lw_at lw_m6 136 rfl) rfl
theorem q1473 : (Jvm.Cond.castable "java/lang/NegativeArraySizeException" "java/lang/NegativeArraySizeException") ∈ lw_tbl := lw_at lw_m6 137 rfl
theorem q1474 : (Jvm.Cond.selects "java/lang/NegativeArraySizeException" ({ cls := "java/lang/Throwable", name := "fillInStackTrace", desc := "(I)Ljava/lang/Throwable;" } : Jvm.MethodName) ({ cls := "java/lang/Throwable", name := "fillInStackTrace", desc := "(I)Ljava/lang/Throwable;" } : Jvm.MethodName)) ∈ lw_all := lw_g (lw_at lw_m6 138 rfl) rfl
theorem q2356 : (Jvm.Cond.castable "java/lang/NegativeArraySizeException" "java/lang/Object") ∈ lw_tbl := lw_at lw_m10 60 rfl
theorem in_J16 : ∀ w ∈ wsJ160, w ∈ lw_all := lw_in wsJ160 [1466, 1467, 1468, 1469, 1470, 1471] (by decide +kernel) (by decide +kernel)

/-! java/lang/IndexOutOfBoundsException -/
set_option maxRecDepth 100000
def RJ17 : String := "java/lang/IndexOutOfBoundsException"
abbrev cJ17_init : ByteArray := prog_19_method_2_code
def yJ17_init : MethodName := ⟨RJ17, "<init>", "(Ljava/lang/String;)V"⟩
def dkwJ17_init_0 : List UInt8 := [42, 43, 183, 0, 7, 177]
abbrev dktJ17_init_0 : List UInt8 := dkwJ17_init_0 ++ []
theorem dksJ17_init_0 : cJ17_init.data.toList.drop 0 = dktJ17_init_0 := by decide +kernel
theorem dJ17_init_0 : decode cJ17_init 0 = .ok (.aload_n 0, 1) := dk_42 (dk_at dksJ17_init_0 0 rfl rfl)
theorem dJ17_init_1 : decode cJ17_init 1 = .ok (.aload_n 1, 1) := dk_43 (dk_at dksJ17_init_0 1 rfl rfl)
theorem dJ17_init_2 : decode cJ17_init 2 = .ok (.invokespecial 7, 3) := dk_183 0 7 (dk_at dksJ17_init_0 2 rfl rfl)
theorem dJ17_init_5 : decode cJ17_init 5 = .ok (.return_, 1) := dk_177 (dk_at dksJ17_init_0 5 rfl rfl)
theorem q167 : (Jvm.Cond.initialized "java/lang/IndexOutOfBoundsException") ∈ lw_all := lw_g (lw_at lw_m1 31 rfl) rfl
theorem q1495 : (Jvm.Cond.instanceMethod ({ cls := "java/lang/IndexOutOfBoundsException", name := "<init>", desc := "(Ljava/lang/String;)V" } : Jvm.MethodName)) ∈ lw_all := lw_g (lw_at lw_m6 159 rfl) rfl
theorem q1496 : (Jvm.Cond.code ({ cls := "java/lang/IndexOutOfBoundsException", name := "<init>", desc := "(Ljava/lang/String;)V" } : Jvm.MethodName) prog_19_method_2_code (2 : Nat) (Option.none : Option Jvm.ClassFile.FieldType)) ∈ lw_all := lw_g (lw_at lw_m6 160 rfl) rfl
theorem q1497 : (Jvm.Cond.methodLink "java/lang/IndexOutOfBoundsException" (7 : Nat) ({ cls := "java/lang/RuntimeException", name := "<init>", desc := "(Ljava/lang/String;)V" } : Jvm.MethodName)) ∈ lw_all := lw_g (lw_at lw_m6 161 rfl) rfl
theorem q1506 : (Jvm.Cond.declares ({ cls := "java/lang/IndexOutOfBoundsException", name := "<init>", desc := "()V" } : Jvm.MethodName)) ∈ lw_tbl := lw_at lw_m6 170 rfl
theorem q1507 : (Jvm.Cond.declares ({ cls := "java/lang/IndexOutOfBoundsException", name := "<init>", desc := "(Ljava/lang/String;)V" } : Jvm.MethodName)) ∈ lw_tbl := lw_at lw_m6 171 rfl

/-! java/lang/ArrayIndexOutOfBoundsException -/
set_option maxRecDepth 100000
def RJ18 : String := "java/lang/ArrayIndexOutOfBoundsException"
def TJ18 : u_T := fun k => match k with
  | 0 => ("java/lang/Throwable", "backtrace", "Ljava/lang/Object;", false)
  | 1 => ("java/lang/Throwable", "detailMessage", "Ljava/lang/String;", false)
  | 2 => ("java/lang/Throwable", "cause", "Ljava/lang/Throwable;", false)
  | 3 => ("java/lang/Throwable", "stackTrace", "[Ljava/lang/StackTraceElement;", false)
  | 4 => ("java/lang/Throwable", "depth", "I", false)
  | _ => ("java/lang/Throwable", "suppressedExceptions", "Ljava/util/List;", false)
def tyJ18 : Nat → FieldType := fun k => match k with
  | 0 => .object "java/lang/Object"
  | 1 => .object "java/lang/String"
  | 2 => .object "java/lang/Throwable"
  | 3 => .array (.object "java/lang/StackTraceElement")
  | 4 => .int
  | _ => .object "java/util/List"
abbrev wsJ180 : List Cond := u_ws RJ18 TJ18 6
theorem nmJ18 : ∀ a, a < 6 → ∀ b, b < 6 → a ≠ b → (TJ18 a).2.1 ≠ (TJ18 b).2.1 := by decide +kernel
theorem tyJ18_ok : ∀ k, k < 6 → parseFieldDescriptor (TJ18 k).2.2.1 = some (tyJ18 k) := by decide +kernel
abbrev cJ18_init : ByteArray := prog_14_method_2_code
def yJ18_init : MethodName := ⟨RJ18, "<init>", "(Ljava/lang/String;)V"⟩
def dkwJ18_init_0 : List UInt8 := [42, 43, 183, 0, 7, 177]
abbrev dktJ18_init_0 : List UInt8 := dkwJ18_init_0 ++ []
theorem dksJ18_init_0 : cJ18_init.data.toList.drop 0 = dktJ18_init_0 := by decide +kernel
theorem dJ18_init_0 : decode cJ18_init 0 = .ok (.aload_n 0, 1) := dk_42 (dk_at dksJ18_init_0 0 rfl rfl)
theorem dJ18_init_1 : decode cJ18_init 1 = .ok (.aload_n 1, 1) := dk_43 (dk_at dksJ18_init_0 1 rfl rfl)
theorem dJ18_init_2 : decode cJ18_init 2 = .ok (.invokespecial 7, 3) := dk_183 0 7 (dk_at dksJ18_init_0 2 rfl rfl)
theorem dJ18_init_5 : decode cJ18_init 5 = .ok (.return_, 1) := dk_177 (dk_at dksJ18_init_0 5 rfl rfl)
theorem q168 : (Jvm.Cond.initialized "java/lang/ArrayIndexOutOfBoundsException") ∈ lw_all := lw_g (lw_at lw_m1 32 rfl) rfl
theorem q621 : (Jvm.Cond.selects "java/lang/ArrayIndexOutOfBoundsException" ({ cls := "java/lang/Throwable", name := "fillInStackTrace", desc := "()Ljava/lang/Throwable;" } : Jvm.MethodName) ({ cls := "java/lang/Throwable", name := "fillInStackTrace", desc := "()Ljava/lang/Throwable;" } : Jvm.MethodName)) ∈ lw_all := lw_g (lw_at lw_m3 5 rfl) rfl
theorem q1402 : (Jvm.Cond.selects "java/lang/ArrayIndexOutOfBoundsException" ({ cls := "java/lang/Object", name := "getClass", desc := "()Ljava/lang/Class;" } : Jvm.MethodName) ({ cls := "java/lang/Object", name := "getClass", desc := "()Ljava/lang/Class;" } : Jvm.MethodName)) ∈ lw_all := lw_g (lw_at lw_m6 66 rfl) rfl
theorem q1491 : (Jvm.Cond.instantiable "java/lang/ArrayIndexOutOfBoundsException" (6 : Nat)) ∈ lw_all := lw_g (lw_at lw_m6 155 rfl) rfl
theorem q1492 : (Jvm.Cond.instanceMethod ({ cls := "java/lang/ArrayIndexOutOfBoundsException", name := "<init>", desc := "(Ljava/lang/String;)V" } : Jvm.MethodName)) ∈ lw_all := lw_g (lw_at lw_m6 156 rfl) rfl
theorem q1493 : (Jvm.Cond.code ({ cls := "java/lang/ArrayIndexOutOfBoundsException", name := "<init>", desc := "(Ljava/lang/String;)V" } : Jvm.MethodName) prog_14_method_2_code (2 : Nat) (Option.none : Option Jvm.ClassFile.FieldType)) ∈ lw_all := lw_g (lw_at lw_m6 157 rfl) rfl
theorem q1494 : (Jvm.Cond.methodLink "java/lang/ArrayIndexOutOfBoundsException" (7 : Nat) ({ cls := "java/lang/IndexOutOfBoundsException", name := "<init>", desc := "(Ljava/lang/String;)V" } : Jvm.MethodName)) ∈ lw_all := lw_g (lw_at lw_m6 158 rfl) rfl
theorem q1498 : (Jvm.Cond.lays "java/lang/ArrayIndexOutOfBoundsException" "java/lang/Throwable" "backtrace" "Ljava/lang/Object;") ∈ lw_all := lw_g (lw_at lw_m6 162 rfl) rfl
theorem q1499 : (Jvm.Cond.lays "java/lang/ArrayIndexOutOfBoundsException" "java/lang/Throwable" "detailMessage" "Ljava/lang/String;") ∈ lw_all := lw_g (lw_at lw_m6 163 rfl) rfl
theorem q1500 : (Jvm.Cond.lays "java/lang/ArrayIndexOutOfBoundsException" "java/lang/Throwable" "cause" "Ljava/lang/Throwable;") ∈ lw_all := lw_g (lw_at lw_m6 164 rfl) rfl
theorem q1501 : (Jvm.Cond.lays "java/lang/ArrayIndexOutOfBoundsException" "java/lang/Throwable" "stackTrace" "[Ljava/lang/StackTraceElement;") ∈ lw_all := lw_g (lw_at lw_m6 165 rfl) rfl
theorem q1502 : (Jvm.Cond.lays "java/lang/ArrayIndexOutOfBoundsException" "java/lang/Throwable" "depth" "I") ∈ lw_all := lw_g (lw_at lw_m6 166 rfl) rfl
theorem q1503 : (Jvm.Cond.lays "java/lang/ArrayIndexOutOfBoundsException" "java/lang/Throwable" "suppressedExceptions" "Ljava/util/List;") ∈ lw_all := lw_g (lw_at lw_m6 167 rfl) rfl
theorem q1504 : (Jvm.Cond.superclass "java/lang/ArrayIndexOutOfBoundsException" "java/lang/IndexOutOfBoundsException") ∈ lw_all := lw_g (lw_at lw_m6 168 rfl) rfl
theorem q1505 : (Jvm.Cond.castable "java/lang/ArrayIndexOutOfBoundsException" "java/lang/ArrayIndexOutOfBoundsException") ∈ lw_tbl := lw_at lw_m6 169 rfl
theorem q1508 : (Jvm.Cond.selects "java/lang/ArrayIndexOutOfBoundsException" ({ cls := "java/lang/Throwable", name := "fillInStackTrace", desc := "(I)Ljava/lang/Throwable;" } : Jvm.MethodName) ({ cls := "java/lang/Throwable", name := "fillInStackTrace", desc := "(I)Ljava/lang/Throwable;" } : Jvm.MethodName)) ∈ lw_all := lw_g (lw_at lw_m6 172 rfl) rfl
theorem q2342 : (Jvm.Cond.castable "java/lang/ArrayIndexOutOfBoundsException" "java/lang/IndexOutOfBoundsException") ∈ lw_tbl := lw_at lw_m10 46 rfl
theorem q2357 : (Jvm.Cond.castable "java/lang/ArrayIndexOutOfBoundsException" "java/lang/Object") ∈ lw_tbl := lw_at lw_m10 61 rfl
theorem in_J18 : ∀ w ∈ wsJ180, w ∈ lw_all := lw_in wsJ180 [1498, 1499, 1500, 1501, 1502, 1503] (by decide +kernel) (by decide +kernel)

/-! java/lang/ArrayStoreException -/
set_option maxRecDepth 100000
def RJ19 : String := "java/lang/ArrayStoreException"
def TJ19 : u_T := fun k => match k with
  | 0 => ("java/lang/Throwable", "backtrace", "Ljava/lang/Object;", false)
  | 1 => ("java/lang/Throwable", "detailMessage", "Ljava/lang/String;", false)
  | 2 => ("java/lang/Throwable", "cause", "Ljava/lang/Throwable;", false)
  | 3 => ("java/lang/Throwable", "stackTrace", "[Ljava/lang/StackTraceElement;", false)
  | 4 => ("java/lang/Throwable", "depth", "I", false)
  | _ => ("java/lang/Throwable", "suppressedExceptions", "Ljava/util/List;", false)
def tyJ19 : Nat → FieldType := fun k => match k with
  | 0 => .object "java/lang/Object"
  | 1 => .object "java/lang/String"
  | 2 => .object "java/lang/Throwable"
  | 3 => .array (.object "java/lang/StackTraceElement")
  | 4 => .int
  | _ => .object "java/util/List"
abbrev wsJ190 : List Cond := u_ws RJ19 TJ19 6
theorem nmJ19 : ∀ a, a < 6 → ∀ b, b < 6 → a ≠ b → (TJ19 a).2.1 ≠ (TJ19 b).2.1 := by decide +kernel
theorem tyJ19_ok : ∀ k, k < 6 → parseFieldDescriptor (TJ19 k).2.2.1 = some (tyJ19 k) := by decide +kernel
abbrev cJ19_init : ByteArray := prog_15_method_2_code
def yJ19_init : MethodName := ⟨RJ19, "<init>", "(Ljava/lang/String;)V"⟩
def dkwJ19_init_0 : List UInt8 := [42, 43, 183, 0, 7, 177]
abbrev dktJ19_init_0 : List UInt8 := dkwJ19_init_0 ++ []
theorem dksJ19_init_0 : cJ19_init.data.toList.drop 0 = dktJ19_init_0 := by decide +kernel
theorem dJ19_init_0 : decode cJ19_init 0 = .ok (.aload_n 0, 1) := dk_42 (dk_at dksJ19_init_0 0 rfl rfl)
theorem dJ19_init_1 : decode cJ19_init 1 = .ok (.aload_n 1, 1) := dk_43 (dk_at dksJ19_init_0 1 rfl rfl)
theorem dJ19_init_2 : decode cJ19_init 2 = .ok (.invokespecial 7, 3) := dk_183 0 7 (dk_at dksJ19_init_0 2 rfl rfl)
theorem dJ19_init_5 : decode cJ19_init 5 = .ok (.return_, 1) := dk_177 (dk_at dksJ19_init_0 5 rfl rfl)
theorem q169 : (Jvm.Cond.initialized "java/lang/ArrayStoreException") ∈ lw_all := lw_g (lw_at lw_m1 33 rfl) rfl
theorem q622 : (Jvm.Cond.selects "java/lang/ArrayStoreException" ({ cls := "java/lang/Throwable", name := "fillInStackTrace", desc := "()Ljava/lang/Throwable;" } : Jvm.MethodName) ({ cls := "java/lang/Throwable", name := "fillInStackTrace", desc := "()Ljava/lang/Throwable;" } : Jvm.MethodName)) ∈ lw_all := lw_g (lw_at lw_m3 6 rfl) rfl
theorem q1403 : (Jvm.Cond.selects "java/lang/ArrayStoreException" ({ cls := "java/lang/Object", name := "getClass", desc := "()Ljava/lang/Class;" } : Jvm.MethodName) ({ cls := "java/lang/Object", name := "getClass", desc := "()Ljava/lang/Class;" } : Jvm.MethodName)) ∈ lw_all := lw_g (lw_at lw_m6 67 rfl) rfl
theorem q1518 : (Jvm.Cond.instantiable "java/lang/ArrayStoreException" (6 : Nat)) ∈ lw_all := lw_g (lw_at lw_m6 182 rfl) rfl
theorem q1519 : (Jvm.Cond.instanceMethod ({ cls := "java/lang/ArrayStoreException", name := "<init>", desc := "(Ljava/lang/String;)V" } : Jvm.MethodName)) ∈ lw_all := lw_g (lw_at lw_m6 183 rfl) rfl
theorem q1520 : (Jvm.Cond.code ({ cls := "java/lang/ArrayStoreException", name := "<init>", desc := "(Ljava/lang/String;)V" } : Jvm.MethodName) prog_15_method_2_code (2 : Nat) (Option.none : Option Jvm.ClassFile.FieldType)) ∈ lw_all := lw_g (lw_at lw_m6 184 rfl) rfl
theorem q1521 : (Jvm.Cond.methodLink "java/lang/ArrayStoreException" (7 : Nat) ({ cls := "java/lang/RuntimeException", name := "<init>", desc := "(Ljava/lang/String;)V" } : Jvm.MethodName)) ∈ lw_all := lw_g (lw_at lw_m6 185 rfl) rfl
theorem q1522 : (Jvm.Cond.lays "java/lang/ArrayStoreException" "java/lang/Throwable" "backtrace" "Ljava/lang/Object;") ∈ lw_all := lw_g (lw_at lw_m6 186 rfl) rfl
theorem q1523 : (Jvm.Cond.lays "java/lang/ArrayStoreException" "java/lang/Throwable" "detailMessage" "Ljava/lang/String;") ∈ lw_all := lw_g (lw_at lw_m6 187 rfl) rfl
theorem q1524 : (Jvm.Cond.lays "java/lang/ArrayStoreException" "java/lang/Throwable" "cause" "Ljava/lang/Throwable;") ∈ lw_all := lw_g (lw_at lw_m6 188 rfl) rfl
theorem q1525 : (Jvm.Cond.lays "java/lang/ArrayStoreException" "java/lang/Throwable" "stackTrace" "[Ljava/lang/StackTraceElement;") ∈ lw_all := lw_g (lw_at lw_m6 189 rfl) rfl
theorem q1526 : (Jvm.Cond.lays "java/lang/ArrayStoreException" "java/lang/Throwable" "depth" "I") ∈ lw_all := lw_g (lw_at lw_m6 190 rfl) rfl
theorem q1527 : (Jvm.Cond.lays "java/lang/ArrayStoreException" "java/lang/Throwable" "suppressedExceptions" "Ljava/util/List;") ∈ lw_all := lw_g (lw_at lw_m6 191 rfl) rfl
theorem q1528 : (Jvm.Cond.superclass "java/lang/ArrayStoreException" "java/lang/RuntimeException") ∈ lw_all := lw_g (lw_at lw_m6 192 rfl) rfl
theorem q1529 : (Jvm.Cond.castable "java/lang/ArrayStoreException" "java/lang/ArrayStoreException") ∈ lw_tbl := lw_at lw_m6 193 rfl
theorem q1530 : (Jvm.Cond.selects "java/lang/ArrayStoreException" ({ cls := "java/lang/Throwable", name := "fillInStackTrace", desc := "(I)Ljava/lang/Throwable;" } : Jvm.MethodName) ({ cls := "java/lang/Throwable", name := "fillInStackTrace", desc := "(I)Ljava/lang/Throwable;" } : Jvm.MethodName)) ∈ lw_all := lw_g (lw_at lw_m6 194 rfl) rfl
theorem q2358 : (Jvm.Cond.castable "java/lang/ArrayStoreException" "java/lang/Object") ∈ lw_tbl := lw_at lw_m10 62 rfl
theorem in_J19 : ∀ w ∈ wsJ190, w ∈ lw_all := lw_in wsJ190 [1522, 1523, 1524, 1525, 1526, 1527] (by decide +kernel) (by decide +kernel)

/-! java/util/ArrayList -/
set_option maxRecDepth 100000
def RJ2 : String := "java/util/ArrayList"
def TJ2 : u_T := fun k => match k with
  | 0 => ("java/util/AbstractList", "modCount", "I", false)
  | 1 => ("java/util/ArrayList", "elementData", "[Ljava/lang/Object;", false)
  | _ => ("java/util/ArrayList", "size", "I", false)
def tyJ2 : Nat → FieldType := fun k => match k with
  | 0 => .int
  | 1 => .array (.object "java/lang/Object")
  | _ => .int
abbrev wsJ20 : List Cond := u_ws RJ2 TJ2 3
theorem nmJ2 : ∀ a, a < 3 → ∀ b, b < 3 → a ≠ b → (TJ2 a).2.1 ≠ (TJ2 b).2.1 := by decide +kernel
theorem tyJ2_ok : ∀ k, k < 3 → parseFieldDescriptor (TJ2 k).2.2.1 = some (tyJ2 k) := by decide +kernel
abbrev cJ2_init : ByteArray := prog_33_method_2_code
def yJ2_init : MethodName := ⟨RJ2, "<init>", "()V"⟩
def dkwJ2_init_0 : List UInt8 := [42, 183, 0, 1, 42, 178, 0, 39, 181, 0, 9, 177]
abbrev dktJ2_init_0 : List UInt8 := dkwJ2_init_0 ++ []
theorem dksJ2_init_0 : cJ2_init.data.toList.drop 0 = dktJ2_init_0 := by decide +kernel
theorem dJ2_init_0 : decode cJ2_init 0 = .ok (.aload_n 0, 1) := dk_42 (dk_at dksJ2_init_0 0 rfl rfl)
theorem dJ2_init_1 : decode cJ2_init 1 = .ok (.invokespecial 1, 3) := dk_183 0 1 (dk_at dksJ2_init_0 1 rfl rfl)
theorem dJ2_init_4 : decode cJ2_init 4 = .ok (.aload_n 0, 1) := dk_42 (dk_at dksJ2_init_0 4 rfl rfl)
theorem dJ2_init_5 : decode cJ2_init 5 = .ok (.getstatic 39, 3) := dk_178 0 39 (dk_at dksJ2_init_0 5 rfl rfl)
theorem dJ2_init_8 : decode cJ2_init 8 = .ok (.putfield 9, 3) := dk_181 0 9 (dk_at dksJ2_init_0 8 rfl rfl)
theorem dJ2_init_11 : decode cJ2_init 11 = .ok (.return_, 1) := dk_177 (dk_at dksJ2_init_0 11 rfl rfl)
abbrev cJ2_size : ByteArray := prog_33_method_8_code
def yJ2_size : MethodName := ⟨RJ2, "size", "()I"⟩
theorem dJ2_size_0 : decode cJ2_size 0 = .ok (.aload_n 0, 1) := by decide +kernel
theorem dJ2_size_1 : decode cJ2_size 1 = .ok (.getfield 48, 3) := by decide +kernel
theorem dJ2_size_4 : decode cJ2_size 4 = .ok (.ireturn, 1) := by decide +kernel
abbrev cJ2_add : ByteArray := prog_33_method_25_code
def yJ2_add : MethodName := ⟨RJ2, "add", "(Ljava/lang/Object;)Z"⟩
def dkwJ2_add_1 : List UInt8 := [172]
abbrev dktJ2_add_1 : List UInt8 := dkwJ2_add_1 ++ []
def dkwJ2_add_0 : List UInt8 := [42, 89, 180, 0, 63, 4, 96, 181, 0, 63, 42, 43, 42, 180, 0, 9, 42, 180, 0, 48, 182, 0, 131, 4]
abbrev dktJ2_add_0 : List UInt8 := dkwJ2_add_0 ++ dktJ2_add_1
theorem dksJ2_add_0 : cJ2_add.data.toList.drop 0 = dktJ2_add_0 := by decide +kernel
theorem dksJ2_add_1 : cJ2_add.data.toList.drop 24 = dktJ2_add_1 := dk_seg dksJ2_add_0 24 rfl rfl
theorem dJ2_add_0 : decode cJ2_add 0 = .ok (.aload_n 0, 1) := dk_42 (dk_at dksJ2_add_0 0 rfl rfl)
theorem dJ2_add_1 : decode cJ2_add 1 = .ok (.dup, 1) := dk_89 (dk_at dksJ2_add_0 1 rfl rfl)
theorem dJ2_add_2 : decode cJ2_add 2 = .ok (.getfield 63, 3) := dk_180 0 63 (dk_at dksJ2_add_0 2 rfl rfl)
theorem dJ2_add_5 : decode cJ2_add 5 = .ok (.iconst 1, 1) := dk_4 (dk_at dksJ2_add_0 5 rfl rfl)
theorem dJ2_add_6 : decode cJ2_add 6 = .ok (.iadd, 1) := dk_96 (dk_at dksJ2_add_0 6 rfl rfl)
theorem dJ2_add_7 : decode cJ2_add 7 = .ok (.putfield 63, 3) := dk_181 0 63 (dk_at dksJ2_add_0 7 rfl rfl)
theorem dJ2_add_10 : decode cJ2_add 10 = .ok (.aload_n 0, 1) := dk_42 (dk_at dksJ2_add_0 10 rfl rfl)
theorem dJ2_add_11 : decode cJ2_add 11 = .ok (.aload_n 1, 1) := dk_43 (dk_at dksJ2_add_0 11 rfl rfl)
theorem dJ2_add_12 : decode cJ2_add 12 = .ok (.aload_n 0, 1) := dk_42 (dk_at dksJ2_add_0 12 rfl rfl)
theorem dJ2_add_13 : decode cJ2_add 13 = .ok (.getfield 9, 3) := dk_180 0 9 (dk_at dksJ2_add_0 13 rfl rfl)
theorem dJ2_add_16 : decode cJ2_add 16 = .ok (.aload_n 0, 1) := dk_42 (dk_at dksJ2_add_0 16 rfl rfl)
theorem dJ2_add_17 : decode cJ2_add 17 = .ok (.getfield 48, 3) := dk_180 0 48 (dk_at dksJ2_add_0 17 rfl rfl)
theorem dJ2_add_20 : decode cJ2_add 20 = .ok (.invokevirtual 131, 3) := dk_182 0 131 (dk_at dksJ2_add_0 20 rfl rfl)
theorem dJ2_add_23 : decode cJ2_add 23 = .ok (.iconst 1, 1) := dk_4 (dk_at dksJ2_add_0 23 rfl rfl)
theorem dJ2_add_24 : decode cJ2_add 24 = .ok (.ireturn, 1) := dk_172 (dk_at dksJ2_add_1 0 rfl rfl)
abbrev cJ2_add_2 : ByteArray := prog_33_method_24_code
def yJ2_add_2 : MethodName := ⟨RJ2, "add", "(Ljava/lang/Object;[Ljava/lang/Object;I)V"⟩
def dkwJ2_add_2_0 : List UInt8 := [29, 44, 190, 160, 0, 8, 42, 182, 0, 129, 77, 44, 29, 43, 83, 42, 29, 4, 96, 181, 0, 48, 177]
abbrev dktJ2_add_2_0 : List UInt8 := dkwJ2_add_2_0 ++ []
theorem dksJ2_add_2_0 : cJ2_add_2.data.toList.drop 0 = dktJ2_add_2_0 := by decide +kernel
theorem dJ2_add_2_0 : decode cJ2_add_2 0 = .ok (.iload_n 3, 1) := dk_29 (dk_at dksJ2_add_2_0 0 rfl rfl)
theorem dJ2_add_2_1 : decode cJ2_add_2 1 = .ok (.aload_n 2, 1) := dk_44 (dk_at dksJ2_add_2_0 1 rfl rfl)
theorem dJ2_add_2_2 : decode cJ2_add_2 2 = .ok (.arraylength, 1) := dk_190 (dk_at dksJ2_add_2_0 2 rfl rfl)
theorem dJ2_add_2_3 : decode cJ2_add_2 3 = .ok (.if_icmp .ne 8, 3) := dk_160 0 8 (dk_at dksJ2_add_2_0 3 rfl rfl)
theorem dJ2_add_2_6 : decode cJ2_add_2 6 = .ok (.aload_n 0, 1) := dk_42 (dk_at dksJ2_add_2_0 6 rfl rfl)
theorem dJ2_add_2_7 : decode cJ2_add_2 7 = .ok (.invokevirtual 129, 3) := dk_182 0 129 (dk_at dksJ2_add_2_0 7 rfl rfl)
theorem dJ2_add_2_10 : decode cJ2_add_2 10 = .ok (.astore_n 2, 1) := dk_77 (dk_at dksJ2_add_2_0 10 rfl rfl)
theorem dJ2_add_2_11 : decode cJ2_add_2 11 = .ok (.aload_n 2, 1) := dk_44 (dk_at dksJ2_add_2_0 11 rfl rfl)
theorem dJ2_add_2_12 : decode cJ2_add_2 12 = .ok (.iload_n 3, 1) := dk_29 (dk_at dksJ2_add_2_0 12 rfl rfl)
theorem dJ2_add_2_13 : decode cJ2_add_2 13 = .ok (.aload_n 1, 1) := dk_43 (dk_at dksJ2_add_2_0 13 rfl rfl)
theorem dJ2_add_2_14 : decode cJ2_add_2 14 = .ok (.aastore, 1) := dk_83 (dk_at dksJ2_add_2_0 14 rfl rfl)
theorem dJ2_add_2_15 : decode cJ2_add_2 15 = .ok (.aload_n 0, 1) := dk_42 (dk_at dksJ2_add_2_0 15 rfl rfl)
theorem dJ2_add_2_16 : decode cJ2_add_2 16 = .ok (.iload_n 3, 1) := dk_29 (dk_at dksJ2_add_2_0 16 rfl rfl)
theorem dJ2_add_2_17 : decode cJ2_add_2 17 = .ok (.iconst 1, 1) := dk_4 (dk_at dksJ2_add_2_0 17 rfl rfl)
theorem dJ2_add_2_18 : decode cJ2_add_2 18 = .ok (.iadd, 1) := dk_96 (dk_at dksJ2_add_2_0 18 rfl rfl)
theorem dJ2_add_2_19 : decode cJ2_add_2 19 = .ok (.putfield 48, 3) := dk_181 0 48 (dk_at dksJ2_add_2_0 19 rfl rfl)
theorem dJ2_add_2_22 : decode cJ2_add_2 22 = .ok (.return_, 1) := dk_177 (dk_at dksJ2_add_2_0 22 rfl rfl)
abbrev cJ2_grow : ByteArray := prog_33_method_7_code
def yJ2_grow : MethodName := ⟨RJ2, "grow", "()[Ljava/lang/Object;"⟩
def dkwJ2_grow_0 : List UInt8 := [42, 42, 180, 0, 48, 4, 96, 182, 0, 69, 176]
abbrev dktJ2_grow_0 : List UInt8 := dkwJ2_grow_0 ++ []
theorem dksJ2_grow_0 : cJ2_grow.data.toList.drop 0 = dktJ2_grow_0 := by decide +kernel
theorem dJ2_grow_0 : decode cJ2_grow 0 = .ok (.aload_n 0, 1) := dk_42 (dk_at dksJ2_grow_0 0 rfl rfl)
theorem dJ2_grow_1 : decode cJ2_grow 1 = .ok (.aload_n 0, 1) := dk_42 (dk_at dksJ2_grow_0 1 rfl rfl)
theorem dJ2_grow_2 : decode cJ2_grow 2 = .ok (.getfield 48, 3) := dk_180 0 48 (dk_at dksJ2_grow_0 2 rfl rfl)
theorem dJ2_grow_5 : decode cJ2_grow 5 = .ok (.iconst 1, 1) := dk_4 (dk_at dksJ2_grow_0 5 rfl rfl)
theorem dJ2_grow_6 : decode cJ2_grow 6 = .ok (.iadd, 1) := dk_96 (dk_at dksJ2_grow_0 6 rfl rfl)
theorem dJ2_grow_7 : decode cJ2_grow 7 = .ok (.invokevirtual 69, 3) := dk_182 0 69 (dk_at dksJ2_grow_0 7 rfl rfl)
theorem dJ2_grow_10 : decode cJ2_grow 10 = .ok (.areturn, 1) := dk_176 (dk_at dksJ2_grow_0 10 rfl rfl)
abbrev cJ2_grow_2 : ByteArray := prog_33_method_6_code
def yJ2_grow_2 : MethodName := ⟨RJ2, "grow", "(I)[Ljava/lang/Object;"⟩
def dkwJ2_grow_2_2 : List UInt8 := [27, 184, 0, 79, 189, 0, 7, 90, 181, 0, 9, 176]
abbrev dktJ2_grow_2_2 : List UInt8 := dkwJ2_grow_2_2 ++ []
def dkwJ2_grow_2_1 : List UInt8 := [28, 4, 122, 184, 0, 73, 62, 42, 42, 180, 0, 9, 29, 184, 0, 66, 90, 181, 0, 9, 176, 42, 16, 10]
abbrev dktJ2_grow_2_1 : List UInt8 := dkwJ2_grow_2_1 ++ dktJ2_grow_2_2
def dkwJ2_grow_2_0 : List UInt8 := [42, 180, 0, 9, 190, 61, 28, 157, 0, 13, 42, 180, 0, 9, 178, 0, 39, 165, 0, 28, 28, 27, 28, 100]
abbrev dktJ2_grow_2_0 : List UInt8 := dkwJ2_grow_2_0 ++ dktJ2_grow_2_1
theorem dksJ2_grow_2_0 : cJ2_grow_2.data.toList.drop 0 = dktJ2_grow_2_0 := by decide +kernel
theorem dksJ2_grow_2_1 : cJ2_grow_2.data.toList.drop 24 = dktJ2_grow_2_1 := dk_seg dksJ2_grow_2_0 24 rfl rfl
theorem dksJ2_grow_2_2 : cJ2_grow_2.data.toList.drop 48 = dktJ2_grow_2_2 := dk_seg dksJ2_grow_2_1 24 rfl rfl
theorem dJ2_grow_2_0 : decode cJ2_grow_2 0 = .ok (.aload_n 0, 1) := dk_42 (dk_at dksJ2_grow_2_0 0 rfl rfl)
theorem dJ2_grow_2_1 : decode cJ2_grow_2 1 = .ok (.getfield 9, 3) := dk_180 0 9 (dk_at dksJ2_grow_2_0 1 rfl rfl)
theorem dJ2_grow_2_4 : decode cJ2_grow_2 4 = .ok (.arraylength, 1) := dk_190 (dk_at dksJ2_grow_2_0 4 rfl rfl)
theorem dJ2_grow_2_5 : decode cJ2_grow_2 5 = .ok (.istore_n 2, 1) := dk_61 (dk_at dksJ2_grow_2_0 5 rfl rfl)
theorem dJ2_grow_2_6 : decode cJ2_grow_2 6 = .ok (.iload_n 2, 1) := dk_28 (dk_at dksJ2_grow_2_0 6 rfl rfl)
theorem dJ2_grow_2_7 : decode cJ2_grow_2 7 = .ok (.ifCond .gt 13, 3) := dk_157 0 13 (dk_at dksJ2_grow_2_0 7 rfl rfl)
theorem dJ2_grow_2_10 : decode cJ2_grow_2 10 = .ok (.aload_n 0, 1) := dk_42 (dk_at dksJ2_grow_2_0 10 rfl rfl)
theorem dJ2_grow_2_11 : decode cJ2_grow_2 11 = .ok (.getfield 9, 3) := dk_180 0 9 (dk_at dksJ2_grow_2_0 11 rfl rfl)
theorem dJ2_grow_2_14 : decode cJ2_grow_2 14 = .ok (.getstatic 39, 3) := dk_178 0 39 (dk_at dksJ2_grow_2_0 14 rfl rfl)
theorem dJ2_grow_2_17 : decode cJ2_grow_2 17 = .ok (.if_acmp .eq 28, 3) := dk_165 0 28 (dk_at dksJ2_grow_2_0 17 rfl rfl)
theorem dJ2_grow_2_20 : decode cJ2_grow_2 20 = .ok (.iload_n 2, 1) := dk_28 (dk_at dksJ2_grow_2_0 20 rfl rfl)
theorem dJ2_grow_2_21 : decode cJ2_grow_2 21 = .ok (.iload_n 1, 1) := dk_27 (dk_at dksJ2_grow_2_0 21 rfl rfl)
theorem dJ2_grow_2_22 : decode cJ2_grow_2 22 = .ok (.iload_n 2, 1) := dk_28 (dk_at dksJ2_grow_2_0 22 rfl rfl)
theorem dJ2_grow_2_23 : decode cJ2_grow_2 23 = .ok (.isub, 1) := dk_100 (dk_at dksJ2_grow_2_0 23 rfl rfl)
theorem dJ2_grow_2_24 : decode cJ2_grow_2 24 = .ok (.iload_n 2, 1) := dk_28 (dk_at dksJ2_grow_2_1 0 rfl rfl)
theorem dJ2_grow_2_25 : decode cJ2_grow_2 25 = .ok (.iconst 1, 1) := dk_4 (dk_at dksJ2_grow_2_1 1 rfl rfl)
theorem dJ2_grow_2_26 : decode cJ2_grow_2 26 = .ok (.ishr, 1) := dk_122 (dk_at dksJ2_grow_2_1 2 rfl rfl)
theorem dJ2_grow_2_27 : decode cJ2_grow_2 27 = .ok (.invokestatic 73, 3) := dk_184 0 73 (dk_at dksJ2_grow_2_1 3 rfl rfl)
theorem dJ2_grow_2_30 : decode cJ2_grow_2 30 = .ok (.istore_n 3, 1) := dk_62 (dk_at dksJ2_grow_2_1 6 rfl rfl)
theorem dJ2_grow_2_31 : decode cJ2_grow_2 31 = .ok (.aload_n 0, 1) := dk_42 (dk_at dksJ2_grow_2_1 7 rfl rfl)
theorem dJ2_grow_2_32 : decode cJ2_grow_2 32 = .ok (.aload_n 0, 1) := dk_42 (dk_at dksJ2_grow_2_1 8 rfl rfl)
theorem dJ2_grow_2_33 : decode cJ2_grow_2 33 = .ok (.getfield 9, 3) := dk_180 0 9 (dk_at dksJ2_grow_2_1 9 rfl rfl)
theorem dJ2_grow_2_36 : decode cJ2_grow_2 36 = .ok (.iload_n 3, 1) := dk_29 (dk_at dksJ2_grow_2_1 12 rfl rfl)
theorem dJ2_grow_2_37 : decode cJ2_grow_2 37 = .ok (.invokestatic 66, 3) := dk_184 0 66 (dk_at dksJ2_grow_2_1 13 rfl rfl)
theorem dJ2_grow_2_40 : decode cJ2_grow_2 40 = .ok (.dup_x1, 1) := dk_90 (dk_at dksJ2_grow_2_1 16 rfl rfl)
theorem dJ2_grow_2_41 : decode cJ2_grow_2 41 = .ok (.putfield 9, 3) := dk_181 0 9 (dk_at dksJ2_grow_2_1 17 rfl rfl)
theorem dJ2_grow_2_44 : decode cJ2_grow_2 44 = .ok (.areturn, 1) := dk_176 (dk_at dksJ2_grow_2_1 20 rfl rfl)
theorem dJ2_grow_2_45 : decode cJ2_grow_2 45 = .ok (.aload_n 0, 1) := dk_42 (dk_at dksJ2_grow_2_1 21 rfl rfl)
theorem dJ2_grow_2_46 : decode cJ2_grow_2 46 = .ok (.bipush 10, 2) := dk_16 10 (dk_at dksJ2_grow_2_1 22 rfl rfl)
theorem dJ2_grow_2_48 : decode cJ2_grow_2 48 = .ok (.iload_n 1, 1) := dk_27 (dk_at dksJ2_grow_2_2 0 rfl rfl)
theorem dJ2_grow_2_49 : decode cJ2_grow_2 49 = .ok (.invokestatic 79, 3) := dk_184 0 79 (dk_at dksJ2_grow_2_2 1 rfl rfl)
theorem dJ2_grow_2_52 : decode cJ2_grow_2 52 = .ok (.anewarray 7, 3) := dk_189 0 7 (dk_at dksJ2_grow_2_2 4 rfl rfl)
theorem dJ2_grow_2_55 : decode cJ2_grow_2 55 = .ok (.dup_x1, 1) := dk_90 (dk_at dksJ2_grow_2_2 7 rfl rfl)
theorem dJ2_grow_2_56 : decode cJ2_grow_2 56 = .ok (.putfield 9, 3) := dk_181 0 9 (dk_at dksJ2_grow_2_2 8 rfl rfl)
theorem dJ2_grow_2_59 : decode cJ2_grow_2 59 = .ok (.areturn, 1) := dk_176 (dk_at dksJ2_grow_2_2 11 rfl rfl)
abbrev cJ2_set : ByteArray := prog_33_method_23_code
def yJ2_set : MethodName := ⟨RJ2, "set", "(ILjava/lang/Object;)Ljava/lang/Object;"⟩
def dkwJ2_set_0 : List UInt8 := [27, 42, 180, 0, 48, 184, 0, 118, 87, 42, 27, 182, 0, 123, 78, 42, 180, 0, 9, 27, 44, 83, 45, 176]
abbrev dktJ2_set_0 : List UInt8 := dkwJ2_set_0 ++ []
theorem dksJ2_set_0 : cJ2_set.data.toList.drop 0 = dktJ2_set_0 := by decide +kernel
theorem dJ2_set_0 : decode cJ2_set 0 = .ok (.iload_n 1, 1) := dk_27 (dk_at dksJ2_set_0 0 rfl rfl)
theorem dJ2_set_1 : decode cJ2_set 1 = .ok (.aload_n 0, 1) := dk_42 (dk_at dksJ2_set_0 1 rfl rfl)
theorem dJ2_set_2 : decode cJ2_set 2 = .ok (.getfield 48, 3) := dk_180 0 48 (dk_at dksJ2_set_0 2 rfl rfl)
theorem dJ2_set_5 : decode cJ2_set 5 = .ok (.invokestatic 118, 3) := dk_184 0 118 (dk_at dksJ2_set_0 5 rfl rfl)
theorem dJ2_set_8 : decode cJ2_set 8 = .ok (.pop, 1) := dk_87 (dk_at dksJ2_set_0 8 rfl rfl)
theorem dJ2_set_9 : decode cJ2_set 9 = .ok (.aload_n 0, 1) := dk_42 (dk_at dksJ2_set_0 9 rfl rfl)
theorem dJ2_set_10 : decode cJ2_set 10 = .ok (.iload_n 1, 1) := dk_27 (dk_at dksJ2_set_0 10 rfl rfl)
theorem dJ2_set_11 : decode cJ2_set 11 = .ok (.invokevirtual 123, 3) := dk_182 0 123 (dk_at dksJ2_set_0 11 rfl rfl)
theorem dJ2_set_14 : decode cJ2_set 14 = .ok (.astore_n 3, 1) := dk_78 (dk_at dksJ2_set_0 14 rfl rfl)
theorem dJ2_set_15 : decode cJ2_set 15 = .ok (.aload_n 0, 1) := dk_42 (dk_at dksJ2_set_0 15 rfl rfl)
theorem dJ2_set_16 : decode cJ2_set 16 = .ok (.getfield 9, 3) := dk_180 0 9 (dk_at dksJ2_set_0 16 rfl rfl)
theorem dJ2_set_19 : decode cJ2_set 19 = .ok (.iload_n 1, 1) := dk_27 (dk_at dksJ2_set_0 19 rfl rfl)
theorem dJ2_set_20 : decode cJ2_set 20 = .ok (.aload_n 2, 1) := dk_44 (dk_at dksJ2_set_0 20 rfl rfl)
theorem dJ2_set_21 : decode cJ2_set 21 = .ok (.aastore, 1) := dk_83 (dk_at dksJ2_set_0 21 rfl rfl)
theorem dJ2_set_22 : decode cJ2_set 22 = .ok (.aload_n 3, 1) := dk_45 (dk_at dksJ2_set_0 22 rfl rfl)
theorem dJ2_set_23 : decode cJ2_set 23 = .ok (.areturn, 1) := dk_176 (dk_at dksJ2_set_0 23 rfl rfl)
abbrev cJ2_elementData : ByteArray := prog_33_method_18_code
def yJ2_elementData : MethodName := ⟨RJ2, "elementData", "(I)Ljava/lang/Object;"⟩
def dkwJ2_elementData_0 : List UInt8 := [42, 180, 0, 9, 27, 50, 176]
abbrev dktJ2_elementData_0 : List UInt8 := dkwJ2_elementData_0 ++ []
theorem dksJ2_elementData_0 : cJ2_elementData.data.toList.drop 0 = dktJ2_elementData_0 := by decide +kernel
theorem dJ2_elementData_0 : decode cJ2_elementData 0 = .ok (.aload_n 0, 1) := dk_42 (dk_at dksJ2_elementData_0 0 rfl rfl)
theorem dJ2_elementData_1 : decode cJ2_elementData 1 = .ok (.getfield 9, 3) := dk_180 0 9 (dk_at dksJ2_elementData_0 1 rfl rfl)
theorem dJ2_elementData_4 : decode cJ2_elementData 4 = .ok (.iload_n 1, 1) := dk_27 (dk_at dksJ2_elementData_0 4 rfl rfl)
theorem dJ2_elementData_5 : decode cJ2_elementData 5 = .ok (.aaload, 1) := dk_50 (dk_at dksJ2_elementData_0 5 rfl rfl)
theorem dJ2_elementData_6 : decode cJ2_elementData 6 = .ok (.areturn, 1) := dk_176 (dk_at dksJ2_elementData_0 6 rfl rfl)
abbrev cJ2_isEmpty : ByteArray := prog_33_method_9_code
def yJ2_isEmpty : MethodName := ⟨RJ2, "isEmpty", "()Z"⟩
def dkwJ2_isEmpty_0 : List UInt8 := [42, 180, 0, 48, 154, 0, 7, 4, 167, 0, 4, 3, 172]
abbrev dktJ2_isEmpty_0 : List UInt8 := dkwJ2_isEmpty_0 ++ []
theorem dksJ2_isEmpty_0 : cJ2_isEmpty.data.toList.drop 0 = dktJ2_isEmpty_0 := by decide +kernel
theorem dJ2_isEmpty_0 : decode cJ2_isEmpty 0 = .ok (.aload_n 0, 1) := dk_42 (dk_at dksJ2_isEmpty_0 0 rfl rfl)
theorem dJ2_isEmpty_1 : decode cJ2_isEmpty 1 = .ok (.getfield 48, 3) := dk_180 0 48 (dk_at dksJ2_isEmpty_0 1 rfl rfl)
theorem dJ2_isEmpty_4 : decode cJ2_isEmpty 4 = .ok (.ifCond .ne 7, 3) := dk_154 0 7 (dk_at dksJ2_isEmpty_0 4 rfl rfl)
theorem dJ2_isEmpty_7 : decode cJ2_isEmpty 7 = .ok (.iconst 1, 1) := dk_4 (dk_at dksJ2_isEmpty_0 7 rfl rfl)
theorem dJ2_isEmpty_8 : decode cJ2_isEmpty 8 = .ok (.goto 4, 3) := dk_167 0 4 (dk_at dksJ2_isEmpty_0 8 rfl rfl)
theorem dJ2_isEmpty_11 : decode cJ2_isEmpty 11 = .ok (.iconst 0, 1) := dk_3 (dk_at dksJ2_isEmpty_0 11 rfl rfl)
theorem dJ2_isEmpty_12 : decode cJ2_isEmpty 12 = .ok (.ireturn, 1) := dk_172 (dk_at dksJ2_isEmpty_0 12 rfl rfl)
abbrev cJ2_get : ByteArray := prog_33_method_20_code
def yJ2_get : MethodName := ⟨RJ2, "get", "(I)Ljava/lang/Object;"⟩
def dkwJ2_get_0 : List UInt8 := [27, 42, 180, 0, 48, 184, 0, 118, 87, 42, 27, 182, 0, 123, 176]
abbrev dktJ2_get_0 : List UInt8 := dkwJ2_get_0 ++ []
theorem dksJ2_get_0 : cJ2_get.data.toList.drop 0 = dktJ2_get_0 := by decide +kernel
theorem dJ2_get_0 : decode cJ2_get 0 = .ok (.iload_n 1, 1) := dk_27 (dk_at dksJ2_get_0 0 rfl rfl)
theorem dJ2_get_1 : decode cJ2_get 1 = .ok (.aload_n 0, 1) := dk_42 (dk_at dksJ2_get_0 1 rfl rfl)
theorem dJ2_get_2 : decode cJ2_get 2 = .ok (.getfield 48, 3) := dk_180 0 48 (dk_at dksJ2_get_0 2 rfl rfl)
theorem dJ2_get_5 : decode cJ2_get 5 = .ok (.invokestatic 118, 3) := dk_184 0 118 (dk_at dksJ2_get_0 5 rfl rfl)
theorem dJ2_get_8 : decode cJ2_get 8 = .ok (.pop, 1) := dk_87 (dk_at dksJ2_get_0 8 rfl rfl)
theorem dJ2_get_9 : decode cJ2_get 9 = .ok (.aload_n 0, 1) := dk_42 (dk_at dksJ2_get_0 9 rfl rfl)
theorem dJ2_get_10 : decode cJ2_get 10 = .ok (.iload_n 1, 1) := dk_27 (dk_at dksJ2_get_0 10 rfl rfl)
theorem dJ2_get_11 : decode cJ2_get 11 = .ok (.invokevirtual 123, 3) := dk_182 0 123 (dk_at dksJ2_get_0 11 rfl rfl)
theorem dJ2_get_14 : decode cJ2_get 14 = .ok (.areturn, 1) := dk_176 (dk_at dksJ2_get_0 14 rfl rfl)
theorem q146 : (Jvm.Cond.initialized "java/util/ArrayList") ∈ lw_all := lw_g (lw_at lw_m1 10 rfl) rfl
theorem q318 : (Jvm.Cond.instantiable "java/util/ArrayList" (3 : Nat)) ∈ lw_all := lw_g (lw_at lw_m1 182 rfl) rfl
theorem q320 : (Jvm.Cond.instanceMethod ({ cls := "java/util/ArrayList", name := "<init>", desc := "()V" } : Jvm.MethodName)) ∈ lw_all := lw_g (lw_at lw_m1 184 rfl) rfl
theorem q321 : (Jvm.Cond.code ({ cls := "java/util/ArrayList", name := "<init>", desc := "()V" } : Jvm.MethodName) prog_33_method_2_code (1 : Nat) (Option.none : Option Jvm.ClassFile.FieldType)) ∈ lw_all := lw_g (lw_at lw_m1 185 rfl) rfl
theorem q322 : (Jvm.Cond.methodLink "java/util/ArrayList" (1 : Nat) ({ cls := "java/util/AbstractList", name := "<init>", desc := "()V" } : Jvm.MethodName)) ∈ lw_all := lw_g (lw_at lw_m1 186 rfl) rfl
theorem q329 : (Jvm.Cond.fieldLink "java/util/ArrayList" (39 : Nat) "java/util/ArrayList" "DEFAULTCAPACITY_EMPTY_ELEMENTDATA" "[Ljava/lang/Object;") ∈ lw_all := lw_g (lw_at lw_m1 193 rfl) rfl
theorem q330 : (Jvm.Cond.laysStatic "java/util/ArrayList" "DEFAULTCAPACITY_EMPTY_ELEMENTDATA" "[Ljava/lang/Object;") ∈ lw_tbl := lw_at lw_m1 194 rfl
theorem q331 : (Jvm.Cond.fieldLink "java/util/ArrayList" (9 : Nat) "java/util/ArrayList" "elementData" "[Ljava/lang/Object;") ∈ lw_all := lw_g (lw_at lw_m1 195 rfl) rfl
theorem q332 : (Jvm.Cond.fieldLink "java/util/ArrayList" (48 : Nat) "java/util/ArrayList" "size" "I") ∈ lw_all := lw_g (lw_at lw_m1 196 rfl) rfl
theorem q334 : (Jvm.Cond.fieldLink "java/util/ArrayList" (63 : Nat) "java/util/ArrayList" "modCount" "I") ∈ lw_all := lw_g (lw_at lw_m1 198 rfl) rfl
theorem q335 : (Jvm.Cond.sameField "java/util/ArrayList" "java/util/AbstractList" "modCount" "I") ∈ lw_all := lw_g (lw_at lw_m1 199 rfl) rfl
theorem q336 : (Jvm.Cond.lays "java/util/ArrayList" "java/util/ArrayList" "elementData" "[Ljava/lang/Object;") ∈ lw_all := lw_g (lw_at lw_m1 200 rfl) rfl
theorem q337 : (Jvm.Cond.soleField "java/util/ArrayList" "elementData") ∈ lw_all := lw_g (lw_at lw_m1 201 rfl) rfl
theorem q338 : (Jvm.Cond.lays "java/util/ArrayList" "java/util/ArrayList" "size" "I") ∈ lw_all := lw_g (lw_at lw_m1 202 rfl) rfl
theorem q339 : (Jvm.Cond.soleField "java/util/ArrayList" "size") ∈ lw_all := lw_g (lw_at lw_m1 203 rfl) rfl
theorem q340 : (Jvm.Cond.lays "java/util/ArrayList" "java/util/AbstractList" "modCount" "I") ∈ lw_all := lw_g (lw_at lw_m1 204 rfl) rfl
theorem q342 : (Jvm.Cond.superclass "java/util/ArrayList" "java/util/AbstractList") ∈ lw_all := lw_g (lw_at lw_m1 206 rfl) rfl
theorem q1358 : (Jvm.Cond.instanceMethod ({ cls := "java/util/ArrayList", name := "size", desc := "()I" } : Jvm.MethodName)) ∈ lw_all := lw_g (lw_at lw_m6 22 rfl) rfl
theorem q1359 : (Jvm.Cond.selects "java/util/ArrayList" ({ cls := "java/util/ArrayList", name := "size", desc := "()I" } : Jvm.MethodName) ({ cls := "java/util/ArrayList", name := "size", desc := "()I" } : Jvm.MethodName)) ∈ lw_all := lw_g (lw_at lw_m6 23 rfl) rfl
theorem q1360 : (Jvm.Cond.code ({ cls := "java/util/ArrayList", name := "size", desc := "()I" } : Jvm.MethodName) prog_33_method_8_code (1 : Nat) (Option.some Jvm.ClassFile.FieldType.int)) ∈ lw_all := lw_g (lw_at lw_m6 24 rfl) rfl
theorem q1362 : (Jvm.Cond.instanceMethod ({ cls := "java/util/ArrayList", name := "add", desc := "(Ljava/lang/Object;)Z" } : Jvm.MethodName)) ∈ lw_all := lw_g (lw_at lw_m6 26 rfl) rfl
theorem q1363 : (Jvm.Cond.selects "java/util/ArrayList" ({ cls := "java/util/ArrayList", name := "add", desc := "(Ljava/lang/Object;)Z" } : Jvm.MethodName) ({ cls := "java/util/ArrayList", name := "add", desc := "(Ljava/lang/Object;)Z" } : Jvm.MethodName)) ∈ lw_all := lw_g (lw_at lw_m6 27 rfl) rfl
theorem q1364 : (Jvm.Cond.code ({ cls := "java/util/ArrayList", name := "add", desc := "(Ljava/lang/Object;)Z" } : Jvm.MethodName) prog_33_method_25_code (2 : Nat) (Option.some Jvm.ClassFile.FieldType.boolean)) ∈ lw_all := lw_g (lw_at lw_m6 28 rfl) rfl
theorem q1365 : (Jvm.Cond.methodLink "java/util/ArrayList" (131 : Nat) ({ cls := "java/util/ArrayList", name := "add", desc := "(Ljava/lang/Object;[Ljava/lang/Object;I)V" } : Jvm.MethodName)) ∈ lw_all := lw_g (lw_at lw_m6 29 rfl) rfl
theorem q1366 : (Jvm.Cond.privateMethod ({ cls := "java/util/ArrayList", name := "add", desc := "(Ljava/lang/Object;[Ljava/lang/Object;I)V" } : Jvm.MethodName)) ∈ lw_tbl := lw_at lw_m6 30 rfl
theorem q1367 : (Jvm.Cond.instanceMethod ({ cls := "java/util/ArrayList", name := "add", desc := "(Ljava/lang/Object;[Ljava/lang/Object;I)V" } : Jvm.MethodName)) ∈ lw_all := lw_g (lw_at lw_m6 31 rfl) rfl
theorem q1368 : (Jvm.Cond.code ({ cls := "java/util/ArrayList", name := "add", desc := "(Ljava/lang/Object;[Ljava/lang/Object;I)V" } : Jvm.MethodName) prog_33_method_24_code (4 : Nat) (Option.none : Option Jvm.ClassFile.FieldType)) ∈ lw_all := lw_g (lw_at lw_m6 32 rfl) rfl
theorem q1369 : (Jvm.Cond.methodLink "java/util/ArrayList" (129 : Nat) ({ cls := "java/util/ArrayList", name := "grow", desc := "()[Ljava/lang/Object;" } : Jvm.MethodName)) ∈ lw_all := lw_g (lw_at lw_m6 33 rfl) rfl
theorem q1370 : (Jvm.Cond.privateMethod ({ cls := "java/util/ArrayList", name := "grow", desc := "()[Ljava/lang/Object;" } : Jvm.MethodName)) ∈ lw_tbl := lw_at lw_m6 34 rfl
theorem q1371 : (Jvm.Cond.instanceMethod ({ cls := "java/util/ArrayList", name := "grow", desc := "()[Ljava/lang/Object;" } : Jvm.MethodName)) ∈ lw_all := lw_g (lw_at lw_m6 35 rfl) rfl
theorem q1372 : (Jvm.Cond.code ({ cls := "java/util/ArrayList", name := "grow", desc := "()[Ljava/lang/Object;" } : Jvm.MethodName) prog_33_method_7_code (1 : Nat) (Option.some (Jvm.ClassFile.FieldType.array (Jvm.ClassFile.FieldType.object "java/lang/Object")))) ∈ lw_all := lw_g (lw_at lw_m6 36 rfl) rfl
theorem q1373 : (Jvm.Cond.methodLink "java/util/ArrayList" (69 : Nat) ({ cls := "java/util/ArrayList", name := "grow", desc := "(I)[Ljava/lang/Object;" } : Jvm.MethodName)) ∈ lw_all := lw_g (lw_at lw_m6 37 rfl) rfl
theorem q1374 : (Jvm.Cond.privateMethod ({ cls := "java/util/ArrayList", name := "grow", desc := "(I)[Ljava/lang/Object;" } : Jvm.MethodName)) ∈ lw_tbl := lw_at lw_m6 38 rfl
theorem q1375 : (Jvm.Cond.instanceMethod ({ cls := "java/util/ArrayList", name := "grow", desc := "(I)[Ljava/lang/Object;" } : Jvm.MethodName)) ∈ lw_all := lw_g (lw_at lw_m6 39 rfl) rfl
theorem q1376 : (Jvm.Cond.code ({ cls := "java/util/ArrayList", name := "grow", desc := "(I)[Ljava/lang/Object;" } : Jvm.MethodName) prog_33_method_6_code (4 : Nat) (Option.some (Jvm.ClassFile.FieldType.array (Jvm.ClassFile.FieldType.object "java/lang/Object")))) ∈ lw_all := lw_g (lw_at lw_m6 40 rfl) rfl
theorem q1377 : (Jvm.Cond.methodLink "java/util/ArrayList" (73 : Nat) ({ cls := "jdk/internal/util/ArraysSupport", name := "newLength", desc := "(III)I" } : Jvm.MethodName)) ∈ lw_all := lw_g (lw_at lw_m6 41 rfl) rfl
theorem q1385 : (Jvm.Cond.methodLink "java/util/ArrayList" (66 : Nat) ({ cls := "java/util/Arrays", name := "copyOf", desc := "([Ljava/lang/Object;I)[Ljava/lang/Object;" } : Jvm.MethodName)) ∈ lw_all := lw_g (lw_at lw_m6 49 rfl) rfl
theorem q1406 : (Jvm.Cond.selects "java/util/ArrayList" ({ cls := "java/lang/Object", name := "getClass", desc := "()Ljava/lang/Class;" } : Jvm.MethodName) ({ cls := "java/lang/Object", name := "getClass", desc := "()Ljava/lang/Class;" } : Jvm.MethodName)) ∈ lw_all := lw_g (lw_at lw_m6 70 rfl) rfl
theorem q1416 : (Jvm.Cond.methodLink "java/util/ArrayList" (79 : Nat) ({ cls := "java/lang/Math", name := "max", desc := "(II)I" } : Jvm.MethodName)) ∈ lw_all := lw_g (lw_at lw_m6 80 rfl) rfl
theorem q1417 : (Jvm.Cond.classLink "java/util/ArrayList" (7 : Nat) "java/lang/Object") ∈ lw_all := lw_g (lw_at lw_m6 81 rfl) rfl
theorem q1426 : (Jvm.Cond.instanceMethod ({ cls := "java/util/ArrayList", name := "set", desc := "(ILjava/lang/Object;)Ljava/lang/Object;" } : Jvm.MethodName)) ∈ lw_all := lw_g (lw_at lw_m6 90 rfl) rfl
theorem q1427 : (Jvm.Cond.selects "java/util/ArrayList" ({ cls := "java/util/ArrayList", name := "set", desc := "(ILjava/lang/Object;)Ljava/lang/Object;" } : Jvm.MethodName) ({ cls := "java/util/ArrayList", name := "set", desc := "(ILjava/lang/Object;)Ljava/lang/Object;" } : Jvm.MethodName)) ∈ lw_all := lw_g (lw_at lw_m6 91 rfl) rfl
theorem q1428 : (Jvm.Cond.code ({ cls := "java/util/ArrayList", name := "set", desc := "(ILjava/lang/Object;)Ljava/lang/Object;" } : Jvm.MethodName) prog_33_method_23_code (4 : Nat) (Option.some (Jvm.ClassFile.FieldType.object "java/lang/Object"))) ∈ lw_all := lw_g (lw_at lw_m6 92 rfl) rfl
theorem q1429 : (Jvm.Cond.methodLink "java/util/ArrayList" (118 : Nat) ({ cls := "java/util/Objects", name := "checkIndex", desc := "(II)I" } : Jvm.MethodName)) ∈ lw_all := lw_g (lw_at lw_m6 93 rfl) rfl
theorem q1433 : (Jvm.Cond.methodLink "java/util/ArrayList" (123 : Nat) ({ cls := "java/util/ArrayList", name := "elementData", desc := "(I)Ljava/lang/Object;" } : Jvm.MethodName)) ∈ lw_all := lw_g (lw_at lw_m6 97 rfl) rfl
theorem q1434 : (Jvm.Cond.instanceMethod ({ cls := "java/util/ArrayList", name := "elementData", desc := "(I)Ljava/lang/Object;" } : Jvm.MethodName)) ∈ lw_all := lw_g (lw_at lw_m6 98 rfl) rfl
theorem q1435 : (Jvm.Cond.selects "java/util/ArrayList" ({ cls := "java/util/ArrayList", name := "elementData", desc := "(I)Ljava/lang/Object;" } : Jvm.MethodName) ({ cls := "java/util/ArrayList", name := "elementData", desc := "(I)Ljava/lang/Object;" } : Jvm.MethodName)) ∈ lw_all := lw_g (lw_at lw_m6 99 rfl) rfl
theorem q1436 : (Jvm.Cond.code ({ cls := "java/util/ArrayList", name := "elementData", desc := "(I)Ljava/lang/Object;" } : Jvm.MethodName) prog_33_method_18_code (2 : Nat) (Option.some (Jvm.ClassFile.FieldType.object "java/lang/Object"))) ∈ lw_all := lw_g (lw_at lw_m6 100 rfl) rfl
theorem q1442 : (Jvm.Cond.instanceMethod ({ cls := "java/util/ArrayList", name := "isEmpty", desc := "()Z" } : Jvm.MethodName)) ∈ lw_all := lw_g (lw_at lw_m6 106 rfl) rfl
theorem q1443 : (Jvm.Cond.selects "java/util/ArrayList" ({ cls := "java/util/ArrayList", name := "isEmpty", desc := "()Z" } : Jvm.MethodName) ({ cls := "java/util/ArrayList", name := "isEmpty", desc := "()Z" } : Jvm.MethodName)) ∈ lw_all := lw_g (lw_at lw_m6 107 rfl) rfl
theorem q1444 : (Jvm.Cond.code ({ cls := "java/util/ArrayList", name := "isEmpty", desc := "()Z" } : Jvm.MethodName) prog_33_method_9_code (1 : Nat) (Option.some Jvm.ClassFile.FieldType.boolean)) ∈ lw_all := lw_g (lw_at lw_m6 108 rfl) rfl
theorem q1446 : (Jvm.Cond.instanceMethod ({ cls := "java/util/ArrayList", name := "get", desc := "(I)Ljava/lang/Object;" } : Jvm.MethodName)) ∈ lw_all := lw_g (lw_at lw_m6 110 rfl) rfl
theorem q1447 : (Jvm.Cond.selects "java/util/ArrayList" ({ cls := "java/util/ArrayList", name := "get", desc := "(I)Ljava/lang/Object;" } : Jvm.MethodName) ({ cls := "java/util/ArrayList", name := "get", desc := "(I)Ljava/lang/Object;" } : Jvm.MethodName)) ∈ lw_all := lw_g (lw_at lw_m6 111 rfl) rfl
theorem q1448 : (Jvm.Cond.code ({ cls := "java/util/ArrayList", name := "get", desc := "(I)Ljava/lang/Object;" } : Jvm.MethodName) prog_33_method_20_code (2 : Nat) (Option.some (Jvm.ClassFile.FieldType.object "java/lang/Object"))) ∈ lw_all := lw_g (lw_at lw_m6 112 rfl) rfl
theorem q2350 : (Jvm.Cond.castable "java/util/ArrayList" "java/lang/Object") ∈ lw_tbl := lw_at lw_m10 54 rfl
theorem in_J2 : ∀ w ∈ wsJ20, w ∈ lw_all := lw_in wsJ20 [340, 336, 338] (by decide +kernel) (by decide +kernel)

/-! java/lang/Object -/
set_option maxRecDepth 100000
def RJ20 : String := "java/lang/Object"
abbrev cJ20_init : ByteArray := object_method_1_code
def yJ20_init : MethodName := ⟨RJ20, "<init>", "()V"⟩
theorem dJ20_init_0 : decode cJ20_init 0 = .ok (.return_, 1) := by decide +kernel
theorem q176 : (Jvm.Cond.instanceMethod ({ cls := "java/lang/Object", name := "<init>", desc := "()V" } : Jvm.MethodName)) ∈ lw_all := lw_g (lw_at lw_m1 40 rfl) rfl
theorem q177 : (Jvm.Cond.code ({ cls := "java/lang/Object", name := "<init>", desc := "()V" } : Jvm.MethodName) object_method_1_code (1 : Nat) (Option.none : Option Jvm.ClassFile.FieldType)) ∈ lw_all := lw_g (lw_at lw_m1 41 rfl) rfl
theorem q1389 : (Jvm.Cond.instanceMethod ({ cls := "java/lang/Object", name := "getClass", desc := "()Ljava/lang/Class;" } : Jvm.MethodName)) ∈ lw_all := lw_g (lw_at lw_m6 53 rfl) rfl
theorem q1390 : (Jvm.Cond.sameMethod "java/lang/Object" "java/lang/Object" "getClass" "()Ljava/lang/Class;") ∈ lw_all := lw_g (lw_at lw_m6 54 rfl) rfl
theorem q1407 : (Jvm.Cond.native ({ cls := "java/lang/Object", name := "getClass", desc := "()Ljava/lang/Class;" } : Jvm.MethodName)) ∈ lw_all := lw_g (lw_at lw_m6 71 rfl) rfl
theorem q2366 : (Jvm.Cond.declares ({ cls := "java/lang/Object", name := "getClass", desc := "()Ljava/lang/Class;" } : Jvm.MethodName)) ∈ lw_tbl := lw_at lw_m10 70 rfl

/-! java/lang/Math -/
set_option maxRecDepth 100000
def RJ3 : String := "java/lang/Math"
abbrev cJ3_min : ByteArray := prog_22_method_69_code
def yJ3_min : MethodName := ⟨RJ3, "min", "(II)I"⟩
def dkwJ3_min_0 : List UInt8 := [26, 27, 163, 0, 7, 26, 167, 0, 4, 27, 172]
abbrev dktJ3_min_0 : List UInt8 := dkwJ3_min_0 ++ []
theorem dksJ3_min_0 : cJ3_min.data.toList.drop 0 = dktJ3_min_0 := by decide +kernel
theorem dJ3_min_0 : decode cJ3_min 0 = .ok (.iload_n 0, 1) := dk_26 (dk_at dksJ3_min_0 0 rfl rfl)
theorem dJ3_min_1 : decode cJ3_min 1 = .ok (.iload_n 1, 1) := dk_27 (dk_at dksJ3_min_0 1 rfl rfl)
theorem dJ3_min_2 : decode cJ3_min 2 = .ok (.if_icmp .gt 7, 3) := dk_163 0 7 (dk_at dksJ3_min_0 2 rfl rfl)
theorem dJ3_min_5 : decode cJ3_min 5 = .ok (.iload_n 0, 1) := dk_26 (dk_at dksJ3_min_0 5 rfl rfl)
theorem dJ3_min_6 : decode cJ3_min 6 = .ok (.goto 4, 3) := dk_167 0 4 (dk_at dksJ3_min_0 6 rfl rfl)
theorem dJ3_min_9 : decode cJ3_min 9 = .ok (.iload_n 1, 1) := dk_27 (dk_at dksJ3_min_0 9 rfl rfl)
theorem dJ3_min_10 : decode cJ3_min 10 = .ok (.ireturn, 1) := dk_172 (dk_at dksJ3_min_0 10 rfl rfl)
abbrev cJ3_abs : ByteArray := prog_22_method_59_code
def yJ3_abs : MethodName := ⟨RJ3, "abs", "(I)I"⟩
def dkwJ3_abs_0 : List UInt8 := [26, 156, 0, 8, 26, 116, 167, 0, 4, 26, 172]
abbrev dktJ3_abs_0 : List UInt8 := dkwJ3_abs_0 ++ []
theorem dksJ3_abs_0 : cJ3_abs.data.toList.drop 0 = dktJ3_abs_0 := by decide +kernel
theorem dJ3_abs_0 : decode cJ3_abs 0 = .ok (.iload_n 0, 1) := dk_26 (dk_at dksJ3_abs_0 0 rfl rfl)
theorem dJ3_abs_1 : decode cJ3_abs 1 = .ok (.ifCond .ge 8, 3) := dk_156 0 8 (dk_at dksJ3_abs_0 1 rfl rfl)
theorem dJ3_abs_4 : decode cJ3_abs 4 = .ok (.iload_n 0, 1) := dk_26 (dk_at dksJ3_abs_0 4 rfl rfl)
theorem dJ3_abs_5 : decode cJ3_abs 5 = .ok (.ineg, 1) := dk_116 (dk_at dksJ3_abs_0 5 rfl rfl)
theorem dJ3_abs_6 : decode cJ3_abs 6 = .ok (.goto 4, 3) := dk_167 0 4 (dk_at dksJ3_abs_0 6 rfl rfl)
theorem dJ3_abs_9 : decode cJ3_abs 9 = .ok (.iload_n 0, 1) := dk_26 (dk_at dksJ3_abs_0 9 rfl rfl)
theorem dJ3_abs_10 : decode cJ3_abs 10 = .ok (.ireturn, 1) := dk_172 (dk_at dksJ3_abs_0 10 rfl rfl)
abbrev cJ3_max : ByteArray := prog_22_method_65_code
def yJ3_max : MethodName := ⟨RJ3, "max", "(II)I"⟩
def dkwJ3_max_0 : List UInt8 := [26, 27, 161, 0, 7, 26, 167, 0, 4, 27, 172]
abbrev dktJ3_max_0 : List UInt8 := dkwJ3_max_0 ++ []
theorem dksJ3_max_0 : cJ3_max.data.toList.drop 0 = dktJ3_max_0 := by decide +kernel
theorem dJ3_max_0 : decode cJ3_max 0 = .ok (.iload_n 0, 1) := dk_26 (dk_at dksJ3_max_0 0 rfl rfl)
theorem dJ3_max_1 : decode cJ3_max 1 = .ok (.iload_n 1, 1) := dk_27 (dk_at dksJ3_max_0 1 rfl rfl)
theorem dJ3_max_2 : decode cJ3_max 2 = .ok (.if_icmp .lt 7, 3) := dk_161 0 7 (dk_at dksJ3_max_0 2 rfl rfl)
theorem dJ3_max_5 : decode cJ3_max 5 = .ok (.iload_n 0, 1) := dk_26 (dk_at dksJ3_max_0 5 rfl rfl)
theorem dJ3_max_6 : decode cJ3_max 6 = .ok (.goto 4, 3) := dk_167 0 4 (dk_at dksJ3_max_0 6 rfl rfl)
theorem dJ3_max_9 : decode cJ3_max 9 = .ok (.iload_n 1, 1) := dk_27 (dk_at dksJ3_max_0 9 rfl rfl)
theorem dJ3_max_10 : decode cJ3_max 10 = .ok (.ireturn, 1) := dk_172 (dk_at dksJ3_max_0 10 rfl rfl)
abbrev cJ3_abs_2 : ByteArray := prog_22_method_61_code
def yJ3_abs_2 : MethodName := ⟨RJ3, "abs", "(J)J"⟩
def dkwJ3_abs_2_0 : List UInt8 := [30, 9, 148, 156, 0, 8, 30, 117, 167, 0, 4, 30, 173]
abbrev dktJ3_abs_2_0 : List UInt8 := dkwJ3_abs_2_0 ++ []
theorem dksJ3_abs_2_0 : cJ3_abs_2.data.toList.drop 0 = dktJ3_abs_2_0 := by decide +kernel
theorem dJ3_abs_2_0 : decode cJ3_abs_2 0 = .ok (.lload_n 0, 1) := dk_30 (dk_at dksJ3_abs_2_0 0 rfl rfl)
theorem dJ3_abs_2_1 : decode cJ3_abs_2 1 = .ok (.lconst 0, 1) := dk_9 (dk_at dksJ3_abs_2_0 1 rfl rfl)
theorem dJ3_abs_2_2 : decode cJ3_abs_2 2 = .ok (.lcmp, 1) := dk_148 (dk_at dksJ3_abs_2_0 2 rfl rfl)
theorem dJ3_abs_2_3 : decode cJ3_abs_2 3 = .ok (.ifCond .ge 8, 3) := dk_156 0 8 (dk_at dksJ3_abs_2_0 3 rfl rfl)
theorem dJ3_abs_2_6 : decode cJ3_abs_2 6 = .ok (.lload_n 0, 1) := dk_30 (dk_at dksJ3_abs_2_0 6 rfl rfl)
theorem dJ3_abs_2_7 : decode cJ3_abs_2 7 = .ok (.lneg, 1) := dk_117 (dk_at dksJ3_abs_2_0 7 rfl rfl)
theorem dJ3_abs_2_8 : decode cJ3_abs_2 8 = .ok (.goto 4, 3) := dk_167 0 4 (dk_at dksJ3_abs_2_0 8 rfl rfl)
theorem dJ3_abs_2_11 : decode cJ3_abs_2 11 = .ok (.lload_n 0, 1) := dk_30 (dk_at dksJ3_abs_2_0 11 rfl rfl)
theorem dJ3_abs_2_12 : decode cJ3_abs_2 12 = .ok (.lreturn, 1) := dk_173 (dk_at dksJ3_abs_2_0 12 rfl rfl)
theorem q151 : (Jvm.Cond.initialized "java/lang/Math") ∈ lw_all := lw_g (lw_at lw_m1 15 rfl) rfl
theorem q487 : (Jvm.Cond.static ({ cls := "java/lang/Math", name := "min", desc := "(II)I" } : Jvm.MethodName)) ∈ lw_all := lw_g (lw_at lw_m2 111 rfl) rfl
theorem q488 : (Jvm.Cond.code ({ cls := "java/lang/Math", name := "min", desc := "(II)I" } : Jvm.MethodName) prog_22_method_69_code (2 : Nat) (Option.some Jvm.ClassFile.FieldType.int)) ∈ lw_all := lw_g (lw_at lw_m2 112 rfl) rfl
theorem q772 : (Jvm.Cond.static ({ cls := "java/lang/Math", name := "abs", desc := "(I)I" } : Jvm.MethodName)) ∈ lw_all := lw_g (lw_at lw_m3 156 rfl) rfl
theorem q773 : (Jvm.Cond.code ({ cls := "java/lang/Math", name := "abs", desc := "(I)I" } : Jvm.MethodName) prog_22_method_59_code (1 : Nat) (Option.some Jvm.ClassFile.FieldType.int)) ∈ lw_all := lw_g (lw_at lw_m3 157 rfl) rfl
theorem q803 : (Jvm.Cond.static ({ cls := "java/lang/Math", name := "max", desc := "(II)I" } : Jvm.MethodName)) ∈ lw_all := lw_g (lw_at lw_m3 187 rfl) rfl
theorem q804 : (Jvm.Cond.code ({ cls := "java/lang/Math", name := "max", desc := "(II)I" } : Jvm.MethodName) prog_22_method_65_code (2 : Nat) (Option.some Jvm.ClassFile.FieldType.int)) ∈ lw_all := lw_g (lw_at lw_m3 188 rfl) rfl
theorem q1264 : (Jvm.Cond.static ({ cls := "java/lang/Math", name := "abs", desc := "(J)J" } : Jvm.MethodName)) ∈ lw_all := lw_g (lw_at lw_m5 168 rfl) rfl
theorem q1265 : (Jvm.Cond.code ({ cls := "java/lang/Math", name := "abs", desc := "(J)J" } : Jvm.MethodName) prog_22_method_61_code (2 : Nat) (Option.some Jvm.ClassFile.FieldType.long)) ∈ lw_all := lw_g (lw_at lw_m5 169 rfl) rfl

/-! java/lang/String -/
set_option maxRecDepth 100000
def RJ4 : String := "java/lang/String"
def TJ4 : u_T := fun k => match k with
  | 0 => ("java/lang/String", "value", "[B", true)
  | _ => ("java/lang/String", "coder", "B", true)
def tyJ4 : Nat → FieldType := fun k => match k with
  | 0 => .array .byte
  | _ => .byte
abbrev wsJ40 : List Cond := u_ws RJ4 TJ4 2
theorem nmJ4 : ∀ a, a < 2 → ∀ b, b < 2 → a ≠ b → (TJ4 a).2.1 ≠ (TJ4 b).2.1 := by decide +kernel
theorem tyJ4_ok : ∀ k, k < 2 → parseFieldDescriptor (TJ4 k).2.2.1 = some (tyJ4 k) := by decide +kernel
abbrev cJ4_length : ByteArray := prog_26_method_54_code
def yJ4_length : MethodName := ⟨RJ4, "length", "()I"⟩
def dkwJ4_length_0 : List UInt8 := [42, 180, 0, 9, 190, 42, 182, 1, 79, 122, 172]
abbrev dktJ4_length_0 : List UInt8 := dkwJ4_length_0 ++ []
theorem dksJ4_length_0 : cJ4_length.data.toList.drop 0 = dktJ4_length_0 := by decide +kernel
theorem dJ4_length_0 : decode cJ4_length 0 = .ok (.aload_n 0, 1) := dk_42 (dk_at dksJ4_length_0 0 rfl rfl)
theorem dJ4_length_1 : decode cJ4_length 1 = .ok (.getfield 9, 3) := dk_180 0 9 (dk_at dksJ4_length_0 1 rfl rfl)
theorem dJ4_length_4 : decode cJ4_length 4 = .ok (.arraylength, 1) := dk_190 (dk_at dksJ4_length_0 4 rfl rfl)
theorem dJ4_length_5 : decode cJ4_length 5 = .ok (.aload_n 0, 1) := dk_42 (dk_at dksJ4_length_0 5 rfl rfl)
theorem dJ4_length_6 : decode cJ4_length 6 = .ok (.invokevirtual 335, 3) := dk_182 1 79 (dk_at dksJ4_length_0 6 rfl rfl)
theorem dJ4_length_9 : decode cJ4_length 9 = .ok (.ishr, 1) := dk_122 (dk_at dksJ4_length_0 9 rfl rfl)
theorem dJ4_length_10 : decode cJ4_length 10 = .ok (.ireturn, 1) := dk_172 (dk_at dksJ4_length_0 10 rfl rfl)
abbrev cJ4_coder : ByteArray := prog_26_method_152_code
def yJ4_coder : MethodName := ⟨RJ4, "coder", "()B"⟩
def dkwJ4_coder_0 : List UInt8 := [178, 0, 38, 153, 0, 10, 42, 180, 0, 15, 167, 0, 4, 4, 172]
abbrev dktJ4_coder_0 : List UInt8 := dkwJ4_coder_0 ++ []
theorem dksJ4_coder_0 : cJ4_coder.data.toList.drop 0 = dktJ4_coder_0 := by decide +kernel
theorem dJ4_coder_0 : decode cJ4_coder 0 = .ok (.getstatic 38, 3) := dk_178 0 38 (dk_at dksJ4_coder_0 0 rfl rfl)
theorem dJ4_coder_3 : decode cJ4_coder 3 = .ok (.ifCond .eq 10, 3) := dk_153 0 10 (dk_at dksJ4_coder_0 3 rfl rfl)
theorem dJ4_coder_6 : decode cJ4_coder 6 = .ok (.aload_n 0, 1) := dk_42 (dk_at dksJ4_coder_0 6 rfl rfl)
theorem dJ4_coder_7 : decode cJ4_coder 7 = .ok (.getfield 15, 3) := dk_180 0 15 (dk_at dksJ4_coder_0 7 rfl rfl)
theorem dJ4_coder_10 : decode cJ4_coder 10 = .ok (.goto 4, 3) := dk_167 0 4 (dk_at dksJ4_coder_0 10 rfl rfl)
theorem dJ4_coder_13 : decode cJ4_coder 13 = .ok (.iconst 1, 1) := dk_4 (dk_at dksJ4_coder_0 13 rfl rfl)
theorem dJ4_coder_14 : decode cJ4_coder 14 = .ok (.ireturn, 1) := dk_172 (dk_at dksJ4_coder_0 14 rfl rfl)
abbrev cJ4_charAt : ByteArray := prog_26_method_56_code
def yJ4_charAt : MethodName := ⟨RJ4, "charAt", "(I)C"⟩
def dkwJ4_charAt_1 : List UInt8 := [172]
abbrev dktJ4_charAt_1 : List UInt8 := dkwJ4_charAt_1 ++ []
def dkwJ4_charAt_0 : List UInt8 := [42, 182, 1, 236, 153, 0, 12, 42, 180, 0, 9, 27, 184, 1, 239, 172, 42, 180, 0, 9, 27, 184, 1, 242]
abbrev dktJ4_charAt_0 : List UInt8 := dkwJ4_charAt_0 ++ dktJ4_charAt_1
theorem dksJ4_charAt_0 : cJ4_charAt.data.toList.drop 0 = dktJ4_charAt_0 := by decide +kernel
theorem dksJ4_charAt_1 : cJ4_charAt.data.toList.drop 24 = dktJ4_charAt_1 := dk_seg dksJ4_charAt_0 24 rfl rfl
theorem dJ4_charAt_0 : decode cJ4_charAt 0 = .ok (.aload_n 0, 1) := dk_42 (dk_at dksJ4_charAt_0 0 rfl rfl)
theorem dJ4_charAt_1 : decode cJ4_charAt 1 = .ok (.invokevirtual 492, 3) := dk_182 1 236 (dk_at dksJ4_charAt_0 1 rfl rfl)
theorem dJ4_charAt_4 : decode cJ4_charAt 4 = .ok (.ifCond .eq 12, 3) := dk_153 0 12 (dk_at dksJ4_charAt_0 4 rfl rfl)
theorem dJ4_charAt_7 : decode cJ4_charAt 7 = .ok (.aload_n 0, 1) := dk_42 (dk_at dksJ4_charAt_0 7 rfl rfl)
theorem dJ4_charAt_8 : decode cJ4_charAt 8 = .ok (.getfield 9, 3) := dk_180 0 9 (dk_at dksJ4_charAt_0 8 rfl rfl)
theorem dJ4_charAt_11 : decode cJ4_charAt 11 = .ok (.iload_n 1, 1) := dk_27 (dk_at dksJ4_charAt_0 11 rfl rfl)
theorem dJ4_charAt_12 : decode cJ4_charAt 12 = .ok (.invokestatic 495, 3) := dk_184 1 239 (dk_at dksJ4_charAt_0 12 rfl rfl)
theorem dJ4_charAt_15 : decode cJ4_charAt 15 = .ok (.ireturn, 1) := dk_172 (dk_at dksJ4_charAt_0 15 rfl rfl)
theorem dJ4_charAt_16 : decode cJ4_charAt 16 = .ok (.aload_n 0, 1) := dk_42 (dk_at dksJ4_charAt_0 16 rfl rfl)
theorem dJ4_charAt_17 : decode cJ4_charAt 17 = .ok (.getfield 9, 3) := dk_180 0 9 (dk_at dksJ4_charAt_0 17 rfl rfl)
theorem dJ4_charAt_20 : decode cJ4_charAt 20 = .ok (.iload_n 1, 1) := dk_27 (dk_at dksJ4_charAt_0 20 rfl rfl)
theorem dJ4_charAt_21 : decode cJ4_charAt 21 = .ok (.invokestatic 498, 3) := dk_184 1 242 (dk_at dksJ4_charAt_0 21 rfl rfl)
theorem dJ4_charAt_24 : decode cJ4_charAt 24 = .ok (.ireturn, 1) := dk_172 (dk_at dksJ4_charAt_1 0 rfl rfl)
abbrev cJ4_isLatin1 : ByteArray := prog_26_method_154_code
def yJ4_isLatin1 : MethodName := ⟨RJ4, "isLatin1", "()Z"⟩
def dkwJ4_isLatin1_0 : List UInt8 := [178, 0, 38, 153, 0, 14, 42, 180, 0, 15, 154, 0, 7, 4, 167, 0, 4, 3, 172]
abbrev dktJ4_isLatin1_0 : List UInt8 := dkwJ4_isLatin1_0 ++ []
theorem dksJ4_isLatin1_0 : cJ4_isLatin1.data.toList.drop 0 = dktJ4_isLatin1_0 := by decide +kernel
theorem dJ4_isLatin1_0 : decode cJ4_isLatin1 0 = .ok (.getstatic 38, 3) := dk_178 0 38 (dk_at dksJ4_isLatin1_0 0 rfl rfl)
theorem dJ4_isLatin1_3 : decode cJ4_isLatin1 3 = .ok (.ifCond .eq 14, 3) := dk_153 0 14 (dk_at dksJ4_isLatin1_0 3 rfl rfl)
theorem dJ4_isLatin1_6 : decode cJ4_isLatin1 6 = .ok (.aload_n 0, 1) := dk_42 (dk_at dksJ4_isLatin1_0 6 rfl rfl)
theorem dJ4_isLatin1_7 : decode cJ4_isLatin1 7 = .ok (.getfield 15, 3) := dk_180 0 15 (dk_at dksJ4_isLatin1_0 7 rfl rfl)
theorem dJ4_isLatin1_10 : decode cJ4_isLatin1 10 = .ok (.ifCond .ne 7, 3) := dk_154 0 7 (dk_at dksJ4_isLatin1_0 10 rfl rfl)
theorem dJ4_isLatin1_13 : decode cJ4_isLatin1 13 = .ok (.iconst 1, 1) := dk_4 (dk_at dksJ4_isLatin1_0 13 rfl rfl)
theorem dJ4_isLatin1_14 : decode cJ4_isLatin1 14 = .ok (.goto 4, 3) := dk_167 0 4 (dk_at dksJ4_isLatin1_0 14 rfl rfl)
theorem dJ4_isLatin1_17 : decode cJ4_isLatin1 17 = .ok (.iconst 0, 1) := dk_3 (dk_at dksJ4_isLatin1_0 17 rfl rfl)
theorem dJ4_isLatin1_18 : decode cJ4_isLatin1 18 = .ok (.ireturn, 1) := dk_172 (dk_at dksJ4_isLatin1_0 18 rfl rfl)
abbrev cJ4_checkIndex : ByteArray := prog_26_method_155_code
def yJ4_checkIndex : MethodName := ⟨RJ4, "checkIndex", "(II)V"⟩
def dkwJ4_checkIndex_0 : List UInt8 := [26, 27, 178, 4, 29, 184, 4, 35, 87, 177]
abbrev dktJ4_checkIndex_0 : List UInt8 := dkwJ4_checkIndex_0 ++ []
theorem dksJ4_checkIndex_0 : cJ4_checkIndex.data.toList.drop 0 = dktJ4_checkIndex_0 := by decide +kernel
theorem dJ4_checkIndex_0 : decode cJ4_checkIndex 0 = .ok (.iload_n 0, 1) := dk_26 (dk_at dksJ4_checkIndex_0 0 rfl rfl)
theorem dJ4_checkIndex_1 : decode cJ4_checkIndex 1 = .ok (.iload_n 1, 1) := dk_27 (dk_at dksJ4_checkIndex_0 1 rfl rfl)
theorem dJ4_checkIndex_2 : decode cJ4_checkIndex 2 = .ok (.getstatic 1053, 3) := dk_178 4 29 (dk_at dksJ4_checkIndex_0 2 rfl rfl)
theorem dJ4_checkIndex_5 : decode cJ4_checkIndex 5 = .ok (.invokestatic 1059, 3) := dk_184 4 35 (dk_at dksJ4_checkIndex_0 5 rfl rfl)
theorem dJ4_checkIndex_8 : decode cJ4_checkIndex 8 = .ok (.pop, 1) := dk_87 (dk_at dksJ4_checkIndex_0 8 rfl rfl)
theorem dJ4_checkIndex_9 : decode cJ4_checkIndex 9 = .ok (.return_, 1) := dk_177 (dk_at dksJ4_checkIndex_0 9 rfl rfl)
theorem q152 : (Jvm.Cond.initialized "java/lang/String") ∈ lw_all := lw_g (lw_at lw_m1 16 rfl) rfl
theorem q539 : (Jvm.Cond.instanceMethod ({ cls := "java/lang/String", name := "length", desc := "()I" } : Jvm.MethodName)) ∈ lw_all := lw_g (lw_at lw_m2 163 rfl) rfl
theorem q540 : (Jvm.Cond.selects "java/lang/String" ({ cls := "java/lang/String", name := "length", desc := "()I" } : Jvm.MethodName) ({ cls := "java/lang/String", name := "length", desc := "()I" } : Jvm.MethodName)) ∈ lw_all := lw_g (lw_at lw_m2 164 rfl) rfl
theorem q541 : (Jvm.Cond.code ({ cls := "java/lang/String", name := "length", desc := "()I" } : Jvm.MethodName) prog_26_method_54_code (1 : Nat) (Option.some Jvm.ClassFile.FieldType.int)) ∈ lw_all := lw_g (lw_at lw_m2 165 rfl) rfl
theorem q542 : (Jvm.Cond.methodLink "java/lang/String" (335 : Nat) ({ cls := "java/lang/String", name := "coder", desc := "()B" } : Jvm.MethodName)) ∈ lw_all := lw_g (lw_at lw_m2 166 rfl) rfl
theorem q543 : (Jvm.Cond.instanceMethod ({ cls := "java/lang/String", name := "coder", desc := "()B" } : Jvm.MethodName)) ∈ lw_all := lw_g (lw_at lw_m2 167 rfl) rfl
theorem q544 : (Jvm.Cond.selects "java/lang/String" ({ cls := "java/lang/String", name := "coder", desc := "()B" } : Jvm.MethodName) ({ cls := "java/lang/String", name := "coder", desc := "()B" } : Jvm.MethodName)) ∈ lw_all := lw_g (lw_at lw_m2 168 rfl) rfl
theorem q545 : (Jvm.Cond.code ({ cls := "java/lang/String", name := "coder", desc := "()B" } : Jvm.MethodName) prog_26_method_152_code (1 : Nat) (Option.some Jvm.ClassFile.FieldType.byte)) ∈ lw_all := lw_g (lw_at lw_m2 169 rfl) rfl
theorem q546 : (Jvm.Cond.fieldLink "java/lang/String" (38 : Nat) "java/lang/String" "COMPACT_STRINGS" "Z") ∈ lw_all := lw_g (lw_at lw_m2 170 rfl) rfl
theorem q547 : (Jvm.Cond.laysStatic "java/lang/String" "COMPACT_STRINGS" "Z") ∈ lw_tbl := lw_at lw_m2 171 rfl
theorem q549 : (Jvm.Cond.instanceMethod ({ cls := "java/lang/String", name := "charAt", desc := "(I)C" } : Jvm.MethodName)) ∈ lw_all := lw_g (lw_at lw_m2 173 rfl) rfl
theorem q550 : (Jvm.Cond.selects "java/lang/String" ({ cls := "java/lang/String", name := "charAt", desc := "(I)C" } : Jvm.MethodName) ({ cls := "java/lang/String", name := "charAt", desc := "(I)C" } : Jvm.MethodName)) ∈ lw_all := lw_g (lw_at lw_m2 174 rfl) rfl
theorem q551 : (Jvm.Cond.code ({ cls := "java/lang/String", name := "charAt", desc := "(I)C" } : Jvm.MethodName) prog_26_method_56_code (2 : Nat) (Option.some Jvm.ClassFile.FieldType.char)) ∈ lw_all := lw_g (lw_at lw_m2 175 rfl) rfl
theorem q552 : (Jvm.Cond.methodLink "java/lang/String" (492 : Nat) ({ cls := "java/lang/String", name := "isLatin1", desc := "()Z" } : Jvm.MethodName)) ∈ lw_all := lw_g (lw_at lw_m2 176 rfl) rfl
theorem q553 : (Jvm.Cond.instanceMethod ({ cls := "java/lang/String", name := "isLatin1", desc := "()Z" } : Jvm.MethodName)) ∈ lw_all := lw_g (lw_at lw_m2 177 rfl) rfl
theorem q554 : (Jvm.Cond.selects "java/lang/String" ({ cls := "java/lang/String", name := "isLatin1", desc := "()Z" } : Jvm.MethodName) ({ cls := "java/lang/String", name := "isLatin1", desc := "()Z" } : Jvm.MethodName)) ∈ lw_all := lw_g (lw_at lw_m2 178 rfl) rfl
theorem q555 : (Jvm.Cond.code ({ cls := "java/lang/String", name := "isLatin1", desc := "()Z" } : Jvm.MethodName) prog_26_method_154_code (1 : Nat) (Option.some Jvm.ClassFile.FieldType.boolean)) ∈ lw_all := lw_g (lw_at lw_m2 179 rfl) rfl
theorem q556 : (Jvm.Cond.methodLink "java/lang/String" (495 : Nat) ({ cls := "java/lang/StringLatin1", name := "charAt", desc := "([BI)C" } : Jvm.MethodName)) ∈ lw_all := lw_g (lw_at lw_m2 180 rfl) rfl
theorem q560 : (Jvm.Cond.static ({ cls := "java/lang/String", name := "checkIndex", desc := "(II)V" } : Jvm.MethodName)) ∈ lw_all := lw_g (lw_at lw_m2 184 rfl) rfl
theorem q561 : (Jvm.Cond.code ({ cls := "java/lang/String", name := "checkIndex", desc := "(II)V" } : Jvm.MethodName) prog_26_method_155_code (2 : Nat) (Option.none : Option Jvm.ClassFile.FieldType)) ∈ lw_all := lw_g (lw_at lw_m2 185 rfl) rfl
theorem q562 : (Jvm.Cond.fieldLink "java/lang/String" (1053 : Nat) "jdk/internal/util/Preconditions" "SIOOBE_FORMATTER" "Ljava/util/function/BiFunction;") ∈ lw_all := lw_g (lw_at lw_m2 186 rfl) rfl
theorem q564 : (Jvm.Cond.methodLink "java/lang/String" (1059 : Nat) ({ cls := "jdk/internal/util/Preconditions", name := "checkIndex", desc := "(IILjava/util/function/BiFunction;)I" } : Jvm.MethodName)) ∈ lw_all := lw_g (lw_at lw_m2 188 rfl) rfl
theorem q567 : (Jvm.Cond.methodLink "java/lang/String" (498 : Nat) ({ cls := "java/lang/StringUTF16", name := "charAt", desc := "([BI)C" } : Jvm.MethodName)) ∈ lw_all := lw_g (lw_at lw_m2 191 rfl) rfl
theorem q1475 : (Jvm.Cond.instantiable "java/lang/String" (4 : Nat)) ∈ lw_all := lw_g (lw_at lw_m6 139 rfl) rfl
theorem q1476 : (Jvm.Cond.laysFinal "java/lang/String" "java/lang/String" "value" "[B") ∈ lw_all := lw_g (lw_at lw_m6 140 rfl) rfl
theorem q1477 : (Jvm.Cond.soleField "java/lang/String" "value") ∈ lw_all := lw_g (lw_at lw_m6 141 rfl) rfl
theorem q1478 : (Jvm.Cond.laysFinal "java/lang/String" "java/lang/String" "coder" "B") ∈ lw_all := lw_g (lw_at lw_m6 142 rfl) rfl
theorem q1479 : (Jvm.Cond.soleField "java/lang/String" "coder") ∈ lw_all := lw_g (lw_at lw_m6 143 rfl) rfl
theorem q2360 : (Jvm.Cond.castable "java/lang/String" "java/lang/Object") ∈ lw_tbl := lw_at lw_m10 64 rfl
theorem q2375 : (Jvm.Cond.fieldLink "java/lang/String" (9 : Nat) "java/lang/String" "value" "[B") ∈ lw_all := lw_g (lw_at lw_m10 79 rfl) rfl
theorem q2376 : (Jvm.Cond.fieldLink "java/lang/String" (15 : Nat) "java/lang/String" "coder" "B") ∈ lw_all := lw_g (lw_at lw_m10 80 rfl) rfl
theorem in_J4 : ∀ w ∈ wsJ40, w ∈ lw_all := lw_in wsJ40 [1476, 1478] (by decide +kernel) (by decide +kernel)

/-! java/lang/StringLatin1 -/
set_option maxRecDepth 100000
def RJ5 : String := "java/lang/StringLatin1"
abbrev cJ5_charAt : ByteArray := prog_27_method_2_code
def yJ5_charAt : MethodName := ⟨RJ5, "charAt", "([BI)C"⟩
def dkwJ5_charAt_0 : List UInt8 := [27, 42, 190, 184, 0, 9, 42, 27, 51, 17, 0, 255, 126, 146, 172]
abbrev dktJ5_charAt_0 : List UInt8 := dkwJ5_charAt_0 ++ []
theorem dksJ5_charAt_0 : cJ5_charAt.data.toList.drop 0 = dktJ5_charAt_0 := by decide +kernel
theorem dJ5_charAt_0 : decode cJ5_charAt 0 = .ok (.iload_n 1, 1) := dk_27 (dk_at dksJ5_charAt_0 0 rfl rfl)
theorem dJ5_charAt_1 : decode cJ5_charAt 1 = .ok (.aload_n 0, 1) := dk_42 (dk_at dksJ5_charAt_0 1 rfl rfl)
theorem dJ5_charAt_2 : decode cJ5_charAt 2 = .ok (.arraylength, 1) := dk_190 (dk_at dksJ5_charAt_0 2 rfl rfl)
theorem dJ5_charAt_3 : decode cJ5_charAt 3 = .ok (.invokestatic 9, 3) := dk_184 0 9 (dk_at dksJ5_charAt_0 3 rfl rfl)
theorem dJ5_charAt_6 : decode cJ5_charAt 6 = .ok (.aload_n 0, 1) := dk_42 (dk_at dksJ5_charAt_0 6 rfl rfl)
theorem dJ5_charAt_7 : decode cJ5_charAt 7 = .ok (.iload_n 1, 1) := dk_27 (dk_at dksJ5_charAt_0 7 rfl rfl)
theorem dJ5_charAt_8 : decode cJ5_charAt 8 = .ok (.baload, 1) := dk_51 (dk_at dksJ5_charAt_0 8 rfl rfl)
theorem dJ5_charAt_9 : decode cJ5_charAt 9 = .ok (.sipush 255, 3) := dk_17 0 255 (dk_at dksJ5_charAt_0 9 rfl rfl)
theorem dJ5_charAt_12 : decode cJ5_charAt 12 = .ok (.iand, 1) := dk_126 (dk_at dksJ5_charAt_0 12 rfl rfl)
theorem dJ5_charAt_13 : decode cJ5_charAt 13 = .ok (.i2c, 1) := dk_146 (dk_at dksJ5_charAt_0 13 rfl rfl)
theorem dJ5_charAt_14 : decode cJ5_charAt 14 = .ok (.ireturn, 1) := dk_172 (dk_at dksJ5_charAt_0 14 rfl rfl)
theorem q153 : (Jvm.Cond.initialized "java/lang/StringLatin1") ∈ lw_all := lw_g (lw_at lw_m1 17 rfl) rfl
theorem q557 : (Jvm.Cond.static ({ cls := "java/lang/StringLatin1", name := "charAt", desc := "([BI)C" } : Jvm.MethodName)) ∈ lw_all := lw_g (lw_at lw_m2 181 rfl) rfl
theorem q558 : (Jvm.Cond.code ({ cls := "java/lang/StringLatin1", name := "charAt", desc := "([BI)C" } : Jvm.MethodName) prog_27_method_2_code (2 : Nat) (Option.some Jvm.ClassFile.FieldType.char)) ∈ lw_all := lw_g (lw_at lw_m2 182 rfl) rfl
theorem q559 : (Jvm.Cond.methodLink "java/lang/StringLatin1" (9 : Nat) ({ cls := "java/lang/String", name := "checkIndex", desc := "(II)V" } : Jvm.MethodName)) ∈ lw_all := lw_g (lw_at lw_m2 183 rfl) rfl

/-! jdk/internal/util/Preconditions -/
set_option maxRecDepth 100000
def RJ6 : String := "jdk/internal/util/Preconditions"
abbrev cJ6_checkIndex : ByteArray := prog_41_method_11_code
def yJ6_checkIndex : MethodName := ⟨RJ6, "checkIndex", "(IILjava/util/function/BiFunction;)I"⟩
def dkwJ6_checkIndex_0 : List UInt8 := [26, 155, 0, 8, 26, 27, 161, 0, 10, 44, 26, 27, 184, 0, 95, 191, 26, 172]
abbrev dktJ6_checkIndex_0 : List UInt8 := dkwJ6_checkIndex_0 ++ []
theorem dksJ6_checkIndex_0 : cJ6_checkIndex.data.toList.drop 0 = dktJ6_checkIndex_0 := by decide +kernel
theorem dJ6_checkIndex_0 : decode cJ6_checkIndex 0 = .ok (.iload_n 0, 1) := dk_26 (dk_at dksJ6_checkIndex_0 0 rfl rfl)
theorem dJ6_checkIndex_1 : decode cJ6_checkIndex 1 = .ok (.ifCond .lt 8, 3) := dk_155 0 8 (dk_at dksJ6_checkIndex_0 1 rfl rfl)
theorem dJ6_checkIndex_4 : decode cJ6_checkIndex 4 = .ok (.iload_n 0, 1) := dk_26 (dk_at dksJ6_checkIndex_0 4 rfl rfl)
theorem dJ6_checkIndex_5 : decode cJ6_checkIndex 5 = .ok (.iload_n 1, 1) := dk_27 (dk_at dksJ6_checkIndex_0 5 rfl rfl)
theorem dJ6_checkIndex_6 : decode cJ6_checkIndex 6 = .ok (.if_icmp .lt 10, 3) := dk_161 0 10 (dk_at dksJ6_checkIndex_0 6 rfl rfl)
theorem dJ6_checkIndex_9 : decode cJ6_checkIndex 9 = .ok (.aload_n 2, 1) := dk_44 (dk_at dksJ6_checkIndex_0 9 rfl rfl)
theorem dJ6_checkIndex_10 : decode cJ6_checkIndex 10 = .ok (.iload_n 0, 1) := dk_26 (dk_at dksJ6_checkIndex_0 10 rfl rfl)
theorem dJ6_checkIndex_11 : decode cJ6_checkIndex 11 = .ok (.iload_n 1, 1) := dk_27 (dk_at dksJ6_checkIndex_0 11 rfl rfl)
theorem dJ6_checkIndex_12 : decode cJ6_checkIndex 12 = .ok (.invokestatic 95, 3) := dk_184 0 95 (dk_at dksJ6_checkIndex_0 12 rfl rfl)
theorem dJ6_checkIndex_15 : decode cJ6_checkIndex 15 = .ok (.athrow, 1) := dk_191 (dk_at dksJ6_checkIndex_0 15 rfl rfl)
theorem dJ6_checkIndex_16 : decode cJ6_checkIndex 16 = .ok (.iload_n 0, 1) := dk_26 (dk_at dksJ6_checkIndex_0 16 rfl rfl)
theorem dJ6_checkIndex_17 : decode cJ6_checkIndex 17 = .ok (.ireturn, 1) := dk_172 (dk_at dksJ6_checkIndex_0 17 rfl rfl)
theorem q154 : (Jvm.Cond.initialized "jdk/internal/util/Preconditions") ∈ lw_all := lw_g (lw_at lw_m1 18 rfl) rfl
theorem q563 : (Jvm.Cond.laysStatic "jdk/internal/util/Preconditions" "SIOOBE_FORMATTER" "Ljava/util/function/BiFunction;") ∈ lw_tbl := lw_at lw_m2 187 rfl
theorem q565 : (Jvm.Cond.static ({ cls := "jdk/internal/util/Preconditions", name := "checkIndex", desc := "(IILjava/util/function/BiFunction;)I" } : Jvm.MethodName)) ∈ lw_all := lw_g (lw_at lw_m2 189 rfl) rfl
theorem q566 : (Jvm.Cond.code ({ cls := "jdk/internal/util/Preconditions", name := "checkIndex", desc := "(IILjava/util/function/BiFunction;)I" } : Jvm.MethodName) prog_41_method_11_code (3 : Nat) (Option.some Jvm.ClassFile.FieldType.int)) ∈ lw_all := lw_g (lw_at lw_m2 190 rfl) rfl

/-! java/lang/StringUTF16 -/
set_option maxRecDepth 100000
def RJ7 : String := "java/lang/StringUTF16"
abbrev cJ7_charAt : ByteArray := prog_28_method_83_code
def yJ7_charAt : MethodName := ⟨RJ7, "charAt", "([BI)C"⟩
def dkwJ7_charAt_0 : List UInt8 := [27, 42, 184, 0, 67, 42, 27, 184, 0, 71, 172]
abbrev dktJ7_charAt_0 : List UInt8 := dkwJ7_charAt_0 ++ []
theorem dksJ7_charAt_0 : cJ7_charAt.data.toList.drop 0 = dktJ7_charAt_0 := by decide +kernel
theorem dJ7_charAt_0 : decode cJ7_charAt 0 = .ok (.iload_n 1, 1) := dk_27 (dk_at dksJ7_charAt_0 0 rfl rfl)
theorem dJ7_charAt_1 : decode cJ7_charAt 1 = .ok (.aload_n 0, 1) := dk_42 (dk_at dksJ7_charAt_0 1 rfl rfl)
theorem dJ7_charAt_2 : decode cJ7_charAt 2 = .ok (.invokestatic 67, 3) := dk_184 0 67 (dk_at dksJ7_charAt_0 2 rfl rfl)
theorem dJ7_charAt_5 : decode cJ7_charAt 5 = .ok (.aload_n 0, 1) := dk_42 (dk_at dksJ7_charAt_0 5 rfl rfl)
theorem dJ7_charAt_6 : decode cJ7_charAt 6 = .ok (.iload_n 1, 1) := dk_27 (dk_at dksJ7_charAt_0 6 rfl rfl)
theorem dJ7_charAt_7 : decode cJ7_charAt 7 = .ok (.invokestatic 71, 3) := dk_184 0 71 (dk_at dksJ7_charAt_0 7 rfl rfl)
theorem dJ7_charAt_10 : decode cJ7_charAt 10 = .ok (.ireturn, 1) := dk_172 (dk_at dksJ7_charAt_0 10 rfl rfl)
abbrev cJ7_checkIndex : ByteArray := prog_28_method_91_code
def yJ7_checkIndex : MethodName := ⟨RJ7, "checkIndex", "(I[B)V"⟩
def dkwJ7_checkIndex_0 : List UInt8 := [26, 43, 184, 0, 48, 184, 1, 158, 177]
abbrev dktJ7_checkIndex_0 : List UInt8 := dkwJ7_checkIndex_0 ++ []
theorem dksJ7_checkIndex_0 : cJ7_checkIndex.data.toList.drop 0 = dktJ7_checkIndex_0 := by decide +kernel
theorem dJ7_checkIndex_0 : decode cJ7_checkIndex 0 = .ok (.iload_n 0, 1) := dk_26 (dk_at dksJ7_checkIndex_0 0 rfl rfl)
theorem dJ7_checkIndex_1 : decode cJ7_checkIndex 1 = .ok (.aload_n 1, 1) := dk_43 (dk_at dksJ7_checkIndex_0 1 rfl rfl)
theorem dJ7_checkIndex_2 : decode cJ7_checkIndex 2 = .ok (.invokestatic 48, 3) := dk_184 0 48 (dk_at dksJ7_checkIndex_0 2 rfl rfl)
theorem dJ7_checkIndex_5 : decode cJ7_checkIndex 5 = .ok (.invokestatic 414, 3) := dk_184 1 158 (dk_at dksJ7_checkIndex_0 5 rfl rfl)
theorem dJ7_checkIndex_8 : decode cJ7_checkIndex 8 = .ok (.return_, 1) := dk_177 (dk_at dksJ7_checkIndex_0 8 rfl rfl)
abbrev cJ7_length : ByteArray := prog_28_method_6_code
def yJ7_length : MethodName := ⟨RJ7, "length", "([B)I"⟩
def dkwJ7_length_0 : List UInt8 := [42, 190, 4, 122, 172]
abbrev dktJ7_length_0 : List UInt8 := dkwJ7_length_0 ++ []
theorem dksJ7_length_0 : cJ7_length.data.toList.drop 0 = dktJ7_length_0 := by decide +kernel
theorem dJ7_length_0 : decode cJ7_length 0 = .ok (.aload_n 0, 1) := dk_42 (dk_at dksJ7_length_0 0 rfl rfl)
theorem dJ7_length_1 : decode cJ7_length 1 = .ok (.arraylength, 1) := dk_190 (dk_at dksJ7_length_0 1 rfl rfl)
theorem dJ7_length_2 : decode cJ7_length 2 = .ok (.iconst 1, 1) := dk_4 (dk_at dksJ7_length_0 2 rfl rfl)
theorem dJ7_length_3 : decode cJ7_length 3 = .ok (.ishr, 1) := dk_122 (dk_at dksJ7_length_0 3 rfl rfl)
theorem dJ7_length_4 : decode cJ7_length 4 = .ok (.ireturn, 1) := dk_172 (dk_at dksJ7_length_0 4 rfl rfl)
abbrev cJ7_getChar : ByteArray := prog_28_method_5_code
def yJ7_getChar : MethodName := ⟨RJ7, "getChar", "([BI)C"⟩
def dkwJ7_getChar_2 : List UInt8 := [51, 17, 0, 255, 126, 178, 0, 63, 120, 128, 146, 172]
abbrev dktJ7_getChar_2 : List UInt8 := dkwJ7_getChar_2 ++ []
def dkwJ7_getChar_1 : List UInt8 := [183, 0, 56, 191, 27, 4, 120, 60, 42, 27, 132, 1, 1, 51, 17, 0, 255, 126, 178, 0, 59, 120, 42, 27]
abbrev dktJ7_getChar_1 : List UInt8 := dkwJ7_getChar_1 ++ dktJ7_getChar_2
def dkwJ7_getChar_0 : List UInt8 := [178, 0, 44, 154, 0, 25, 27, 155, 0, 11, 27, 42, 184, 0, 48, 161, 0, 13, 187, 0, 52, 89, 18, 54]
abbrev dktJ7_getChar_0 : List UInt8 := dkwJ7_getChar_0 ++ dktJ7_getChar_1
theorem dksJ7_getChar_0 : cJ7_getChar.data.toList.drop 0 = dktJ7_getChar_0 := by decide +kernel
theorem dksJ7_getChar_1 : cJ7_getChar.data.toList.drop 24 = dktJ7_getChar_1 := dk_seg dksJ7_getChar_0 24 rfl rfl
theorem dksJ7_getChar_2 : cJ7_getChar.data.toList.drop 48 = dktJ7_getChar_2 := dk_seg dksJ7_getChar_1 24 rfl rfl
theorem dJ7_getChar_0 : decode cJ7_getChar 0 = .ok (.getstatic 44, 3) := dk_178 0 44 (dk_at dksJ7_getChar_0 0 rfl rfl)
theorem dJ7_getChar_3 : decode cJ7_getChar 3 = .ok (.ifCond .ne 25, 3) := dk_154 0 25 (dk_at dksJ7_getChar_0 3 rfl rfl)
theorem dJ7_getChar_6 : decode cJ7_getChar 6 = .ok (.iload_n 1, 1) := dk_27 (dk_at dksJ7_getChar_0 6 rfl rfl)
theorem dJ7_getChar_7 : decode cJ7_getChar 7 = .ok (.ifCond .lt 11, 3) := dk_155 0 11 (dk_at dksJ7_getChar_0 7 rfl rfl)
theorem dJ7_getChar_10 : decode cJ7_getChar 10 = .ok (.iload_n 1, 1) := dk_27 (dk_at dksJ7_getChar_0 10 rfl rfl)
theorem dJ7_getChar_11 : decode cJ7_getChar 11 = .ok (.aload_n 0, 1) := dk_42 (dk_at dksJ7_getChar_0 11 rfl rfl)
theorem dJ7_getChar_12 : decode cJ7_getChar 12 = .ok (.invokestatic 48, 3) := dk_184 0 48 (dk_at dksJ7_getChar_0 12 rfl rfl)
theorem dJ7_getChar_15 : decode cJ7_getChar 15 = .ok (.if_icmp .lt 13, 3) := dk_161 0 13 (dk_at dksJ7_getChar_0 15 rfl rfl)
theorem dJ7_getChar_18 : decode cJ7_getChar 18 = .ok (.new 52, 3) := dk_187 0 52 (dk_at dksJ7_getChar_0 18 rfl rfl)
theorem dJ7_getChar_21 : decode cJ7_getChar 21 = .ok (.dup, 1) := dk_89 (dk_at dksJ7_getChar_0 21 rfl rfl)
theorem dJ7_getChar_22 : decode cJ7_getChar 22 = .ok (.ldc 54, 2) := dk_18 54 (dk_at dksJ7_getChar_0 22 rfl rfl)
theorem dJ7_getChar_24 : decode cJ7_getChar 24 = .ok (.invokespecial 56, 3) := dk_183 0 56 (dk_at dksJ7_getChar_1 0 rfl rfl)
theorem dJ7_getChar_27 : decode cJ7_getChar 27 = .ok (.athrow, 1) := dk_191 (dk_at dksJ7_getChar_1 3 rfl rfl)
theorem dJ7_getChar_28 : decode cJ7_getChar 28 = .ok (.iload_n 1, 1) := dk_27 (dk_at dksJ7_getChar_1 4 rfl rfl)
theorem dJ7_getChar_29 : decode cJ7_getChar 29 = .ok (.iconst 1, 1) := dk_4 (dk_at dksJ7_getChar_1 5 rfl rfl)
theorem dJ7_getChar_30 : decode cJ7_getChar 30 = .ok (.ishl, 1) := dk_120 (dk_at dksJ7_getChar_1 6 rfl rfl)
theorem dJ7_getChar_31 : decode cJ7_getChar 31 = .ok (.istore_n 1, 1) := dk_60 (dk_at dksJ7_getChar_1 7 rfl rfl)
theorem dJ7_getChar_32 : decode cJ7_getChar 32 = .ok (.aload_n 0, 1) := dk_42 (dk_at dksJ7_getChar_1 8 rfl rfl)
theorem dJ7_getChar_33 : decode cJ7_getChar 33 = .ok (.iload_n 1, 1) := dk_27 (dk_at dksJ7_getChar_1 9 rfl rfl)
theorem dJ7_getChar_34 : decode cJ7_getChar 34 = .ok (.iinc 1 1, 3) := dk_132 1 1 (dk_at dksJ7_getChar_1 10 rfl rfl)
theorem dJ7_getChar_37 : decode cJ7_getChar 37 = .ok (.baload, 1) := dk_51 (dk_at dksJ7_getChar_1 13 rfl rfl)
theorem dJ7_getChar_38 : decode cJ7_getChar 38 = .ok (.sipush 255, 3) := dk_17 0 255 (dk_at dksJ7_getChar_1 14 rfl rfl)
theorem dJ7_getChar_41 : decode cJ7_getChar 41 = .ok (.iand, 1) := dk_126 (dk_at dksJ7_getChar_1 17 rfl rfl)
theorem dJ7_getChar_42 : decode cJ7_getChar 42 = .ok (.getstatic 59, 3) := dk_178 0 59 (dk_at dksJ7_getChar_1 18 rfl rfl)
theorem dJ7_getChar_45 : decode cJ7_getChar 45 = .ok (.ishl, 1) := dk_120 (dk_at dksJ7_getChar_1 21 rfl rfl)
theorem dJ7_getChar_46 : decode cJ7_getChar 46 = .ok (.aload_n 0, 1) := dk_42 (dk_at dksJ7_getChar_1 22 rfl rfl)
theorem dJ7_getChar_47 : decode cJ7_getChar 47 = .ok (.iload_n 1, 1) := dk_27 (dk_at dksJ7_getChar_1 23 rfl rfl)
theorem dJ7_getChar_48 : decode cJ7_getChar 48 = .ok (.baload, 1) := dk_51 (dk_at dksJ7_getChar_2 0 rfl rfl)
theorem dJ7_getChar_49 : decode cJ7_getChar 49 = .ok (.sipush 255, 3) := dk_17 0 255 (dk_at dksJ7_getChar_2 1 rfl rfl)
theorem dJ7_getChar_52 : decode cJ7_getChar 52 = .ok (.iand, 1) := dk_126 (dk_at dksJ7_getChar_2 4 rfl rfl)
theorem dJ7_getChar_53 : decode cJ7_getChar 53 = .ok (.getstatic 63, 3) := dk_178 0 63 (dk_at dksJ7_getChar_2 5 rfl rfl)
theorem dJ7_getChar_56 : decode cJ7_getChar 56 = .ok (.ishl, 1) := dk_120 (dk_at dksJ7_getChar_2 8 rfl rfl)
theorem dJ7_getChar_57 : decode cJ7_getChar 57 = .ok (.ior, 1) := dk_128 (dk_at dksJ7_getChar_2 9 rfl rfl)
theorem dJ7_getChar_58 : decode cJ7_getChar 58 = .ok (.i2c, 1) := dk_146 (dk_at dksJ7_getChar_2 10 rfl rfl)
theorem dJ7_getChar_59 : decode cJ7_getChar 59 = .ok (.ireturn, 1) := dk_172 (dk_at dksJ7_getChar_2 11 rfl rfl)
theorem q155 : (Jvm.Cond.initialized "java/lang/StringUTF16") ∈ lw_all := lw_g (lw_at lw_m1 19 rfl) rfl
theorem q568 : (Jvm.Cond.static ({ cls := "java/lang/StringUTF16", name := "charAt", desc := "([BI)C" } : Jvm.MethodName)) ∈ lw_all := lw_g (lw_at lw_m2 192 rfl) rfl
theorem q569 : (Jvm.Cond.code ({ cls := "java/lang/StringUTF16", name := "charAt", desc := "([BI)C" } : Jvm.MethodName) prog_28_method_83_code (2 : Nat) (Option.some Jvm.ClassFile.FieldType.char)) ∈ lw_all := lw_g (lw_at lw_m2 193 rfl) rfl
theorem q570 : (Jvm.Cond.methodLink "java/lang/StringUTF16" (67 : Nat) ({ cls := "java/lang/StringUTF16", name := "checkIndex", desc := "(I[B)V" } : Jvm.MethodName)) ∈ lw_all := lw_g (lw_at lw_m2 194 rfl) rfl
theorem q571 : (Jvm.Cond.static ({ cls := "java/lang/StringUTF16", name := "checkIndex", desc := "(I[B)V" } : Jvm.MethodName)) ∈ lw_all := lw_g (lw_at lw_m2 195 rfl) rfl
theorem q572 : (Jvm.Cond.code ({ cls := "java/lang/StringUTF16", name := "checkIndex", desc := "(I[B)V" } : Jvm.MethodName) prog_28_method_91_code (2 : Nat) (Option.none : Option Jvm.ClassFile.FieldType)) ∈ lw_all := lw_g (lw_at lw_m2 196 rfl) rfl
theorem q573 : (Jvm.Cond.methodLink "java/lang/StringUTF16" (48 : Nat) ({ cls := "java/lang/StringUTF16", name := "length", desc := "([B)I" } : Jvm.MethodName)) ∈ lw_all := lw_g (lw_at lw_m2 197 rfl) rfl
theorem q574 : (Jvm.Cond.static ({ cls := "java/lang/StringUTF16", name := "length", desc := "([B)I" } : Jvm.MethodName)) ∈ lw_all := lw_g (lw_at lw_m2 198 rfl) rfl
theorem q575 : (Jvm.Cond.code ({ cls := "java/lang/StringUTF16", name := "length", desc := "([B)I" } : Jvm.MethodName) prog_28_method_6_code (1 : Nat) (Option.some Jvm.ClassFile.FieldType.int)) ∈ lw_all := lw_g (lw_at lw_m2 199 rfl) rfl
theorem q576 : (Jvm.Cond.methodLink "java/lang/StringUTF16" (414 : Nat) ({ cls := "java/lang/String", name := "checkIndex", desc := "(II)V" } : Jvm.MethodName)) ∈ lw_all := lw_g (lw_at lw_m2 200 rfl) rfl
theorem q577 : (Jvm.Cond.methodLink "java/lang/StringUTF16" (71 : Nat) ({ cls := "java/lang/StringUTF16", name := "getChar", desc := "([BI)C" } : Jvm.MethodName)) ∈ lw_all := lw_g (lw_at lw_m2 201 rfl) rfl
theorem q578 : (Jvm.Cond.static ({ cls := "java/lang/StringUTF16", name := "getChar", desc := "([BI)C" } : Jvm.MethodName)) ∈ lw_all := lw_g (lw_at lw_m2 202 rfl) rfl
theorem q579 : (Jvm.Cond.code ({ cls := "java/lang/StringUTF16", name := "getChar", desc := "([BI)C" } : Jvm.MethodName) prog_28_method_5_code (2 : Nat) (Option.some Jvm.ClassFile.FieldType.char)) ∈ lw_all := lw_g (lw_at lw_m2 203 rfl) rfl
theorem q580 : (Jvm.Cond.fieldLink "java/lang/StringUTF16" (44 : Nat) "java/lang/StringUTF16" "$assertionsDisabled" "Z") ∈ lw_all := lw_g (lw_at lw_m2 204 rfl) rfl
theorem q581 : (Jvm.Cond.laysStatic "java/lang/StringUTF16" "$assertionsDisabled" "Z") ∈ lw_tbl := lw_at lw_m2 205 rfl
theorem q582 : (Jvm.Cond.fieldLink "java/lang/StringUTF16" (59 : Nat) "java/lang/StringUTF16" "HI_BYTE_SHIFT" "I") ∈ lw_all := lw_g (lw_at lw_m2 206 rfl) rfl
theorem q583 : (Jvm.Cond.laysStatic "java/lang/StringUTF16" "HI_BYTE_SHIFT" "I") ∈ lw_tbl := lw_at lw_m2 207 rfl
theorem q584 : (Jvm.Cond.fieldLink "java/lang/StringUTF16" (63 : Nat) "java/lang/StringUTF16" "LO_BYTE_SHIFT" "I") ∈ lw_all := lw_g (lw_at lw_m2 208 rfl) rfl
theorem q585 : (Jvm.Cond.laysStatic "java/lang/StringUTF16" "LO_BYTE_SHIFT" "I") ∈ lw_tbl := lw_at lw_m2 209 rfl

/-! java/lang/Throwable -/
set_option maxRecDepth 100000
def RJ8 : String := "java/lang/Throwable"
def TJ8 : u_T := fun k => match k with
  | 0 => ("java/lang/Throwable", "cause", "Ljava/lang/Throwable;", false)
  | 1 => ("java/lang/Throwable", "stackTrace", "[Ljava/lang/StackTraceElement;", false)
  | 2 => ("java/lang/Throwable", "suppressedExceptions", "Ljava/util/List;", false)
  | 3 => ("java/lang/Throwable", "detailMessage", "Ljava/lang/String;", false)
  | _ => ("java/lang/Throwable", "backtrace", "Ljava/lang/Object;", false)
def tyJ8 : Nat → FieldType := fun k => match k with
  | 0 => .object "java/lang/Throwable"
  | 1 => .array (.object "java/lang/StackTraceElement")
  | 2 => .object "java/util/List"
  | 3 => .object "java/lang/String"
  | _ => .object "java/lang/Object"
abbrev wsJ80 : List Cond := u_ws RJ8 TJ8 5
theorem nmJ8 : ∀ a, a < 5 → ∀ b, b < 5 → a ≠ b → (TJ8 a).2.1 ≠ (TJ8 b).2.1 := by decide +kernel
theorem tyJ8_ok : ∀ k, k < 5 → parseFieldDescriptor (TJ8 k).2.2.1 = some (tyJ8 k) := by decide +kernel
abbrev cJ8_init : ByteArray := prog_30_method_1_code
def yJ8_init : MethodName := ⟨RJ8, "<init>", "()V"⟩
def dkwJ8_init_1 : List UInt8 := [182, 0, 27, 87, 177]
abbrev dktJ8_init_1 : List UInt8 := dkwJ8_init_1 ++ []
def dkwJ8_init_0 : List UInt8 := [42, 183, 0, 1, 42, 42, 181, 0, 7, 42, 178, 0, 13, 181, 0, 17, 42, 178, 0, 20, 181, 0, 24, 42]
abbrev dktJ8_init_0 : List UInt8 := dkwJ8_init_0 ++ dktJ8_init_1
theorem dksJ8_init_0 : cJ8_init.data.toList.drop 0 = dktJ8_init_0 := by decide +kernel
theorem dksJ8_init_1 : cJ8_init.data.toList.drop 24 = dktJ8_init_1 := dk_seg dksJ8_init_0 24 rfl rfl
theorem dJ8_init_0 : decode cJ8_init 0 = .ok (.aload_n 0, 1) := dk_42 (dk_at dksJ8_init_0 0 rfl rfl)
theorem dJ8_init_1 : decode cJ8_init 1 = .ok (.invokespecial 1, 3) := dk_183 0 1 (dk_at dksJ8_init_0 1 rfl rfl)
theorem dJ8_init_4 : decode cJ8_init 4 = .ok (.aload_n 0, 1) := dk_42 (dk_at dksJ8_init_0 4 rfl rfl)
theorem dJ8_init_5 : decode cJ8_init 5 = .ok (.aload_n 0, 1) := dk_42 (dk_at dksJ8_init_0 5 rfl rfl)
theorem dJ8_init_6 : decode cJ8_init 6 = .ok (.putfield 7, 3) := dk_181 0 7 (dk_at dksJ8_init_0 6 rfl rfl)
theorem dJ8_init_9 : decode cJ8_init 9 = .ok (.aload_n 0, 1) := dk_42 (dk_at dksJ8_init_0 9 rfl rfl)
theorem dJ8_init_10 : decode cJ8_init 10 = .ok (.getstatic 13, 3) := dk_178 0 13 (dk_at dksJ8_init_0 10 rfl rfl)
theorem dJ8_init_13 : decode cJ8_init 13 = .ok (.putfield 17, 3) := dk_181 0 17 (dk_at dksJ8_init_0 13 rfl rfl)
theorem dJ8_init_16 : decode cJ8_init 16 = .ok (.aload_n 0, 1) := dk_42 (dk_at dksJ8_init_0 16 rfl rfl)
theorem dJ8_init_17 : decode cJ8_init 17 = .ok (.getstatic 20, 3) := dk_178 0 20 (dk_at dksJ8_init_0 17 rfl rfl)
theorem dJ8_init_20 : decode cJ8_init 20 = .ok (.putfield 24, 3) := dk_181 0 24 (dk_at dksJ8_init_0 20 rfl rfl)
theorem dJ8_init_23 : decode cJ8_init 23 = .ok (.aload_n 0, 1) := dk_42 (dk_at dksJ8_init_0 23 rfl rfl)
theorem dJ8_init_24 : decode cJ8_init 24 = .ok (.invokevirtual 27, 3) := dk_182 0 27 (dk_at dksJ8_init_1 0 rfl rfl)
theorem dJ8_init_27 : decode cJ8_init 27 = .ok (.pop, 1) := dk_87 (dk_at dksJ8_init_1 3 rfl rfl)
theorem dJ8_init_28 : decode cJ8_init 28 = .ok (.return_, 1) := dk_177 (dk_at dksJ8_init_1 4 rfl rfl)
abbrev cJ8_init_2 : ByteArray := prog_30_method_5_code
def yJ8_init_2 : MethodName := ⟨RJ8, "<init>", "(Ljava/lang/String;Ljava/lang/Throwable;ZZ)V"⟩
def dkwJ8_init_2_2 : List UInt8 := [44, 181, 0, 7, 29, 154, 0, 8, 42, 1, 181, 0, 24, 177]
abbrev dktJ8_init_2_2 : List UInt8 := dkwJ8_init_2_2 ++ []
def dkwJ8_init_2_1 : List UInt8 := [21, 4, 153, 0, 11, 42, 182, 0, 27, 87, 167, 0, 8, 42, 1, 181, 0, 17, 42, 43, 181, 0, 31, 42]
abbrev dktJ8_init_2_1 : List UInt8 := dkwJ8_init_2_1 ++ dktJ8_init_2_2
def dkwJ8_init_2_0 : List UInt8 := [42, 183, 0, 1, 42, 42, 181, 0, 7, 42, 178, 0, 13, 181, 0, 17, 42, 178, 0, 20, 181, 0, 24]
abbrev dktJ8_init_2_0 : List UInt8 := dkwJ8_init_2_0 ++ dktJ8_init_2_1
theorem dksJ8_init_2_0 : cJ8_init_2.data.toList.drop 0 = dktJ8_init_2_0 := by decide +kernel
theorem dksJ8_init_2_1 : cJ8_init_2.data.toList.drop 23 = dktJ8_init_2_1 := dk_seg dksJ8_init_2_0 23 rfl rfl
theorem dksJ8_init_2_2 : cJ8_init_2.data.toList.drop 47 = dktJ8_init_2_2 := dk_seg dksJ8_init_2_1 24 rfl rfl
theorem dJ8_init_2_0 : decode cJ8_init_2 0 = .ok (.aload_n 0, 1) := dk_42 (dk_at dksJ8_init_2_0 0 rfl rfl)
theorem dJ8_init_2_1 : decode cJ8_init_2 1 = .ok (.invokespecial 1, 3) := dk_183 0 1 (dk_at dksJ8_init_2_0 1 rfl rfl)
theorem dJ8_init_2_4 : decode cJ8_init_2 4 = .ok (.aload_n 0, 1) := dk_42 (dk_at dksJ8_init_2_0 4 rfl rfl)
theorem dJ8_init_2_5 : decode cJ8_init_2 5 = .ok (.aload_n 0, 1) := dk_42 (dk_at dksJ8_init_2_0 5 rfl rfl)
theorem dJ8_init_2_6 : decode cJ8_init_2 6 = .ok (.putfield 7, 3) := dk_181 0 7 (dk_at dksJ8_init_2_0 6 rfl rfl)
theorem dJ8_init_2_9 : decode cJ8_init_2 9 = .ok (.aload_n 0, 1) := dk_42 (dk_at dksJ8_init_2_0 9 rfl rfl)
theorem dJ8_init_2_10 : decode cJ8_init_2 10 = .ok (.getstatic 13, 3) := dk_178 0 13 (dk_at dksJ8_init_2_0 10 rfl rfl)
theorem dJ8_init_2_13 : decode cJ8_init_2 13 = .ok (.putfield 17, 3) := dk_181 0 17 (dk_at dksJ8_init_2_0 13 rfl rfl)
theorem dJ8_init_2_16 : decode cJ8_init_2 16 = .ok (.aload_n 0, 1) := dk_42 (dk_at dksJ8_init_2_0 16 rfl rfl)
theorem dJ8_init_2_17 : decode cJ8_init_2 17 = .ok (.getstatic 20, 3) := dk_178 0 20 (dk_at dksJ8_init_2_0 17 rfl rfl)
theorem dJ8_init_2_20 : decode cJ8_init_2 20 = .ok (.putfield 24, 3) := dk_181 0 24 (dk_at dksJ8_init_2_0 20 rfl rfl)
theorem dJ8_init_2_23 : decode cJ8_init_2 23 = .ok (.iload 4, 2) := dk_21 4 (dk_at dksJ8_init_2_1 0 rfl rfl)
theorem dJ8_init_2_25 : decode cJ8_init_2 25 = .ok (.ifCond .eq 11, 3) := dk_153 0 11 (dk_at dksJ8_init_2_1 2 rfl rfl)
theorem dJ8_init_2_28 : decode cJ8_init_2 28 = .ok (.aload_n 0, 1) := dk_42 (dk_at dksJ8_init_2_1 5 rfl rfl)
theorem dJ8_init_2_29 : decode cJ8_init_2 29 = .ok (.invokevirtual 27, 3) := dk_182 0 27 (dk_at dksJ8_init_2_1 6 rfl rfl)
theorem dJ8_init_2_32 : decode cJ8_init_2 32 = .ok (.pop, 1) := dk_87 (dk_at dksJ8_init_2_1 9 rfl rfl)
theorem dJ8_init_2_33 : decode cJ8_init_2 33 = .ok (.goto 8, 3) := dk_167 0 8 (dk_at dksJ8_init_2_1 10 rfl rfl)
theorem dJ8_init_2_36 : decode cJ8_init_2 36 = .ok (.aload_n 0, 1) := dk_42 (dk_at dksJ8_init_2_1 13 rfl rfl)
theorem dJ8_init_2_37 : decode cJ8_init_2 37 = .ok (.aconst_null, 1) := dk_1 (dk_at dksJ8_init_2_1 14 rfl rfl)
theorem dJ8_init_2_38 : decode cJ8_init_2 38 = .ok (.putfield 17, 3) := dk_181 0 17 (dk_at dksJ8_init_2_1 15 rfl rfl)
theorem dJ8_init_2_41 : decode cJ8_init_2 41 = .ok (.aload_n 0, 1) := dk_42 (dk_at dksJ8_init_2_1 18 rfl rfl)
theorem dJ8_init_2_42 : decode cJ8_init_2 42 = .ok (.aload_n 1, 1) := dk_43 (dk_at dksJ8_init_2_1 19 rfl rfl)
theorem dJ8_init_2_43 : decode cJ8_init_2 43 = .ok (.putfield 31, 3) := dk_181 0 31 (dk_at dksJ8_init_2_1 20 rfl rfl)
theorem dJ8_init_2_46 : decode cJ8_init_2 46 = .ok (.aload_n 0, 1) := dk_42 (dk_at dksJ8_init_2_1 23 rfl rfl)
theorem dJ8_init_2_47 : decode cJ8_init_2 47 = .ok (.aload_n 2, 1) := dk_44 (dk_at dksJ8_init_2_2 0 rfl rfl)
theorem dJ8_init_2_48 : decode cJ8_init_2 48 = .ok (.putfield 7, 3) := dk_181 0 7 (dk_at dksJ8_init_2_2 1 rfl rfl)
theorem dJ8_init_2_51 : decode cJ8_init_2 51 = .ok (.iload_n 3, 1) := dk_29 (dk_at dksJ8_init_2_2 4 rfl rfl)
theorem dJ8_init_2_52 : decode cJ8_init_2 52 = .ok (.ifCond .ne 8, 3) := dk_154 0 8 (dk_at dksJ8_init_2_2 5 rfl rfl)
theorem dJ8_init_2_55 : decode cJ8_init_2 55 = .ok (.aload_n 0, 1) := dk_42 (dk_at dksJ8_init_2_2 8 rfl rfl)
theorem dJ8_init_2_56 : decode cJ8_init_2 56 = .ok (.aconst_null, 1) := dk_1 (dk_at dksJ8_init_2_2 9 rfl rfl)
theorem dJ8_init_2_57 : decode cJ8_init_2 57 = .ok (.putfield 24, 3) := dk_181 0 24 (dk_at dksJ8_init_2_2 10 rfl rfl)
theorem dJ8_init_2_60 : decode cJ8_init_2 60 = .ok (.return_, 1) := dk_177 (dk_at dksJ8_init_2_2 13 rfl rfl)
abbrev cJ8_init_3 : ByteArray := prog_30_method_2_code
def yJ8_init_3 : MethodName := ⟨RJ8, "<init>", "(Ljava/lang/String;)V"⟩
def dkwJ8_init_3_1 : List UInt8 := [182, 0, 27, 87, 42, 43, 181, 0, 31, 177]
abbrev dktJ8_init_3_1 : List UInt8 := dkwJ8_init_3_1 ++ []
def dkwJ8_init_3_0 : List UInt8 := [42, 183, 0, 1, 42, 42, 181, 0, 7, 42, 178, 0, 13, 181, 0, 17, 42, 178, 0, 20, 181, 0, 24, 42]
abbrev dktJ8_init_3_0 : List UInt8 := dkwJ8_init_3_0 ++ dktJ8_init_3_1
theorem dksJ8_init_3_0 : cJ8_init_3.data.toList.drop 0 = dktJ8_init_3_0 := by decide +kernel
theorem dksJ8_init_3_1 : cJ8_init_3.data.toList.drop 24 = dktJ8_init_3_1 := dk_seg dksJ8_init_3_0 24 rfl rfl
theorem dJ8_init_3_0 : decode cJ8_init_3 0 = .ok (.aload_n 0, 1) := dk_42 (dk_at dksJ8_init_3_0 0 rfl rfl)
theorem dJ8_init_3_1 : decode cJ8_init_3 1 = .ok (.invokespecial 1, 3) := dk_183 0 1 (dk_at dksJ8_init_3_0 1 rfl rfl)
theorem dJ8_init_3_4 : decode cJ8_init_3 4 = .ok (.aload_n 0, 1) := dk_42 (dk_at dksJ8_init_3_0 4 rfl rfl)
theorem dJ8_init_3_5 : decode cJ8_init_3 5 = .ok (.aload_n 0, 1) := dk_42 (dk_at dksJ8_init_3_0 5 rfl rfl)
theorem dJ8_init_3_6 : decode cJ8_init_3 6 = .ok (.putfield 7, 3) := dk_181 0 7 (dk_at dksJ8_init_3_0 6 rfl rfl)
theorem dJ8_init_3_9 : decode cJ8_init_3 9 = .ok (.aload_n 0, 1) := dk_42 (dk_at dksJ8_init_3_0 9 rfl rfl)
theorem dJ8_init_3_10 : decode cJ8_init_3 10 = .ok (.getstatic 13, 3) := dk_178 0 13 (dk_at dksJ8_init_3_0 10 rfl rfl)
theorem dJ8_init_3_13 : decode cJ8_init_3 13 = .ok (.putfield 17, 3) := dk_181 0 17 (dk_at dksJ8_init_3_0 13 rfl rfl)
theorem dJ8_init_3_16 : decode cJ8_init_3 16 = .ok (.aload_n 0, 1) := dk_42 (dk_at dksJ8_init_3_0 16 rfl rfl)
theorem dJ8_init_3_17 : decode cJ8_init_3 17 = .ok (.getstatic 20, 3) := dk_178 0 20 (dk_at dksJ8_init_3_0 17 rfl rfl)
theorem dJ8_init_3_20 : decode cJ8_init_3 20 = .ok (.putfield 24, 3) := dk_181 0 24 (dk_at dksJ8_init_3_0 20 rfl rfl)
theorem dJ8_init_3_23 : decode cJ8_init_3 23 = .ok (.aload_n 0, 1) := dk_42 (dk_at dksJ8_init_3_0 23 rfl rfl)
theorem dJ8_init_3_24 : decode cJ8_init_3 24 = .ok (.invokevirtual 27, 3) := dk_182 0 27 (dk_at dksJ8_init_3_1 0 rfl rfl)
theorem dJ8_init_3_27 : decode cJ8_init_3 27 = .ok (.pop, 1) := dk_87 (dk_at dksJ8_init_3_1 3 rfl rfl)
theorem dJ8_init_3_28 : decode cJ8_init_3 28 = .ok (.aload_n 0, 1) := dk_42 (dk_at dksJ8_init_3_1 4 rfl rfl)
theorem dJ8_init_3_29 : decode cJ8_init_3 29 = .ok (.aload_n 1, 1) := dk_43 (dk_at dksJ8_init_3_1 5 rfl rfl)
theorem dJ8_init_3_30 : decode cJ8_init_3 30 = .ok (.putfield 31, 3) := dk_181 0 31 (dk_at dksJ8_init_3_1 6 rfl rfl)
theorem dJ8_init_3_33 : decode cJ8_init_3 33 = .ok (.return_, 1) := dk_177 (dk_at dksJ8_init_3_1 9 rfl rfl)
theorem q156 : (Jvm.Cond.initialized "java/lang/Throwable") ∈ lw_all := lw_g (lw_at lw_m1 20 rfl) rfl
theorem q595 : (Jvm.Cond.declares ({ cls := "java/lang/Throwable", name := "<init>", desc := "()V" } : Jvm.MethodName)) ∈ lw_tbl := lw_at lw_m2 219 rfl
theorem q596 : (Jvm.Cond.declares ({ cls := "java/lang/Throwable", name := "<init>", desc := "(Ljava/lang/String;)V" } : Jvm.MethodName)) ∈ lw_tbl := lw_at lw_m2 220 rfl
theorem q600 : (Jvm.Cond.lays "java/lang/Throwable" "java/lang/Throwable" "cause" "Ljava/lang/Throwable;") ∈ lw_all := lw_g (lw_at lw_m2 224 rfl) rfl
theorem q602 : (Jvm.Cond.lays "java/lang/Throwable" "java/lang/Throwable" "stackTrace" "[Ljava/lang/StackTraceElement;") ∈ lw_all := lw_g (lw_at lw_m2 226 rfl) rfl
theorem q604 : (Jvm.Cond.lays "java/lang/Throwable" "java/lang/Throwable" "suppressedExceptions" "Ljava/util/List;") ∈ lw_all := lw_g (lw_at lw_m2 228 rfl) rfl
theorem q606 : (Jvm.Cond.lays "java/lang/Throwable" "java/lang/Throwable" "detailMessage" "Ljava/lang/String;") ∈ lw_all := lw_g (lw_at lw_m2 230 rfl) rfl
theorem q608 : (Jvm.Cond.lays "java/lang/Throwable" "java/lang/Throwable" "backtrace" "Ljava/lang/Object;") ∈ lw_all := lw_g (lw_at lw_m2 232 rfl) rfl
theorem q609 : (Jvm.Cond.fieldLink "java/lang/Throwable" (198 : Nat) "java/lang/Throwable" "backtrace" "Ljava/lang/Object;") ∈ lw_all := lw_g (lw_at lw_m2 233 rfl) rfl
theorem q610 : (Jvm.Cond.superclass "java/lang/Throwable" "java/lang/Object") ∈ lw_all := lw_g (lw_at lw_m2 234 rfl) rfl
theorem q611 : (Jvm.Cond.instanceMethod ({ cls := "java/lang/Throwable", name := "<init>", desc := "()V" } : Jvm.MethodName)) ∈ lw_all := lw_g (lw_at lw_m2 235 rfl) rfl
theorem q612 : (Jvm.Cond.code ({ cls := "java/lang/Throwable", name := "<init>", desc := "()V" } : Jvm.MethodName) prog_30_method_1_code (1 : Nat) (Option.none : Option Jvm.ClassFile.FieldType)) ∈ lw_all := lw_g (lw_at lw_m2 236 rfl) rfl
theorem q613 : (Jvm.Cond.methodLink "java/lang/Throwable" (1 : Nat) ({ cls := "java/lang/Object", name := "<init>", desc := "()V" } : Jvm.MethodName)) ∈ lw_all := lw_g (lw_at lw_m2 237 rfl) rfl
theorem q614 : (Jvm.Cond.fieldLink "java/lang/Throwable" (13 : Nat) "java/lang/Throwable" "UNASSIGNED_STACK" "[Ljava/lang/StackTraceElement;") ∈ lw_all := lw_g (lw_at lw_m2 238 rfl) rfl
theorem q615 : (Jvm.Cond.laysStatic "java/lang/Throwable" "UNASSIGNED_STACK" "[Ljava/lang/StackTraceElement;") ∈ lw_tbl := lw_at lw_m2 239 rfl
theorem q616 : (Jvm.Cond.fieldLink "java/lang/Throwable" (20 : Nat) "java/lang/Throwable" "SUPPRESSED_SENTINEL" "Ljava/util/List;") ∈ lw_all := lw_g (lw_at lw_m3 0 rfl) rfl
theorem q617 : (Jvm.Cond.laysStatic "java/lang/Throwable" "SUPPRESSED_SENTINEL" "Ljava/util/List;") ∈ lw_tbl := lw_at lw_m3 1 rfl
theorem q618 : (Jvm.Cond.methodLink "java/lang/Throwable" (27 : Nat) ({ cls := "java/lang/Throwable", name := "fillInStackTrace", desc := "()Ljava/lang/Throwable;" } : Jvm.MethodName)) ∈ lw_all := lw_g (lw_at lw_m3 2 rfl) rfl
theorem q619 : (Jvm.Cond.instanceMethod ({ cls := "java/lang/Throwable", name := "fillInStackTrace", desc := "()Ljava/lang/Throwable;" } : Jvm.MethodName)) ∈ lw_all := lw_g (lw_at lw_m3 3 rfl) rfl
theorem q620 : (Jvm.Cond.sameMethod "java/lang/Throwable" "java/lang/Throwable" "fillInStackTrace" "()Ljava/lang/Throwable;") ∈ lw_all := lw_g (lw_at lw_m3 4 rfl) rfl
theorem q634 : (Jvm.Cond.declares ({ cls := "java/lang/Throwable", name := "fillInStackTrace", desc := "()Ljava/lang/Throwable;" } : Jvm.MethodName)) ∈ lw_tbl := lw_at lw_m3 18 rfl
theorem q638 : (Jvm.Cond.codeSync ({ cls := "java/lang/Throwable", name := "fillInStackTrace", desc := "()Ljava/lang/Throwable;" } : Jvm.MethodName) prog_30_method_18_code (1 : Nat) (Option.some (Jvm.ClassFile.FieldType.object "java/lang/Throwable"))) ∈ lw_all := lw_g (lw_at lw_m3 22 rfl) rfl
theorem q639 : (Jvm.Cond.methodLink "java/lang/Throwable" (202 : Nat) ({ cls := "java/lang/Throwable", name := "fillInStackTrace", desc := "(I)Ljava/lang/Throwable;" } : Jvm.MethodName)) ∈ lw_all := lw_g (lw_at lw_m3 23 rfl) rfl
theorem q640 : (Jvm.Cond.privateMethod ({ cls := "java/lang/Throwable", name := "fillInStackTrace", desc := "(I)Ljava/lang/Throwable;" } : Jvm.MethodName)) ∈ lw_tbl := lw_at lw_m3 24 rfl
theorem q641 : (Jvm.Cond.instanceMethod ({ cls := "java/lang/Throwable", name := "fillInStackTrace", desc := "(I)Ljava/lang/Throwable;" } : Jvm.MethodName)) ∈ lw_all := lw_g (lw_at lw_m3 25 rfl) rfl
theorem q642 : (Jvm.Cond.instantiable "java/lang/Throwable" (6 : Nat)) ∈ lw_all := lw_g (lw_at lw_m3 26 rfl) rfl
theorem q643 : (Jvm.Cond.native ({ cls := "java/lang/Throwable", name := "fillInStackTrace", desc := "(I)Ljava/lang/Throwable;" } : Jvm.MethodName)) ∈ lw_all := lw_g (lw_at lw_m3 27 rfl) rfl
theorem q651 : (Jvm.Cond.instanceMethod ({ cls := "java/lang/Throwable", name := "<init>", desc := "(Ljava/lang/String;Ljava/lang/Throwable;ZZ)V" } : Jvm.MethodName)) ∈ lw_all := lw_g (lw_at lw_m3 35 rfl) rfl
theorem q652 : (Jvm.Cond.code ({ cls := "java/lang/Throwable", name := "<init>", desc := "(Ljava/lang/String;Ljava/lang/Throwable;ZZ)V" } : Jvm.MethodName) prog_30_method_5_code (5 : Nat) (Option.none : Option Jvm.ClassFile.FieldType)) ∈ lw_all := lw_g (lw_at lw_m3 36 rfl) rfl
theorem q657 : (Jvm.Cond.fieldLink "java/lang/Throwable" (198 : Nat) "java/lang/Throwable" "backtrace" "Ljava/lang/Object;") ∈ lw_all := lw_g (lw_at lw_m3 41 rfl) rfl
theorem q658 : (Jvm.Cond.fieldLink "java/lang/Throwable" (31 : Nat) "java/lang/Throwable" "detailMessage" "Ljava/lang/String;") ∈ lw_all := lw_g (lw_at lw_m3 42 rfl) rfl
theorem q659 : (Jvm.Cond.fieldLink "java/lang/Throwable" (7 : Nat) "java/lang/Throwable" "cause" "Ljava/lang/Throwable;") ∈ lw_all := lw_g (lw_at lw_m3 43 rfl) rfl
theorem q660 : (Jvm.Cond.fieldLink "java/lang/Throwable" (17 : Nat) "java/lang/Throwable" "stackTrace" "[Ljava/lang/StackTraceElement;") ∈ lw_all := lw_g (lw_at lw_m3 44 rfl) rfl
theorem q661 : (Jvm.Cond.fieldLink "java/lang/Throwable" (24 : Nat) "java/lang/Throwable" "suppressedExceptions" "Ljava/util/List;") ∈ lw_all := lw_g (lw_at lw_m3 45 rfl) rfl
theorem q666 : (Jvm.Cond.soleField "java/lang/Throwable" "backtrace") ∈ lw_all := lw_g (lw_at lw_m3 50 rfl) rfl
theorem q667 : (Jvm.Cond.soleField "java/lang/Throwable" "detailMessage") ∈ lw_all := lw_g (lw_at lw_m3 51 rfl) rfl
theorem q668 : (Jvm.Cond.soleField "java/lang/Throwable" "cause") ∈ lw_all := lw_g (lw_at lw_m3 52 rfl) rfl
theorem q669 : (Jvm.Cond.soleField "java/lang/Throwable" "stackTrace") ∈ lw_all := lw_g (lw_at lw_m3 53 rfl) rfl
theorem q671 : (Jvm.Cond.soleField "java/lang/Throwable" "depth") ∈ lw_all := lw_g (lw_at lw_m3 55 rfl) rfl
theorem q672 : (Jvm.Cond.soleField "java/lang/Throwable" "suppressedExceptions") ∈ lw_all := lw_g (lw_at lw_m3 56 rfl) rfl
theorem q1464 : (Jvm.Cond.instanceMethod ({ cls := "java/lang/Throwable", name := "<init>", desc := "(Ljava/lang/String;)V" } : Jvm.MethodName)) ∈ lw_all := lw_g (lw_at lw_m6 128 rfl) rfl
theorem q1465 : (Jvm.Cond.code ({ cls := "java/lang/Throwable", name := "<init>", desc := "(Ljava/lang/String;)V" } : Jvm.MethodName) prog_30_method_2_code (2 : Nat) (Option.none : Option Jvm.ClassFile.FieldType)) ∈ lw_all := lw_g (lw_at lw_m6 129 rfl) rfl
theorem q2341 : (Jvm.Cond.sameMethod "java/lang/Throwable" "java/lang/Throwable" "fillInStackTrace" "(I)Ljava/lang/Throwable;") ∈ lw_all := lw_g (lw_at lw_m10 45 rfl) rfl
theorem q2359 : (Jvm.Cond.castable "java/lang/Throwable" "java/lang/Object") ∈ lw_tbl := lw_at lw_m10 63 rfl
theorem in_J8 : ∀ w ∈ wsJ80, w ∈ lw_all := lw_in wsJ80 [600, 602, 604, 606, 608] (by decide +kernel) (by decide +kernel)

/-! java/lang/Exception -/
set_option maxRecDepth 100000
def RJ9 : String := "java/lang/Exception"
abbrev cJ9_init : ByteArray := prog_18_method_5_code
def yJ9_init : MethodName := ⟨RJ9, "<init>", "(Ljava/lang/String;Ljava/lang/Throwable;ZZ)V"⟩
def dkwJ9_init_0 : List UInt8 := [42, 43, 44, 29, 21, 4, 183, 0, 16, 177]
abbrev dktJ9_init_0 : List UInt8 := dkwJ9_init_0 ++ []
theorem dksJ9_init_0 : cJ9_init.data.toList.drop 0 = dktJ9_init_0 := by decide +kernel
theorem dJ9_init_0 : decode cJ9_init 0 = .ok (.aload_n 0, 1) := dk_42 (dk_at dksJ9_init_0 0 rfl rfl)
theorem dJ9_init_1 : decode cJ9_init 1 = .ok (.aload_n 1, 1) := dk_43 (dk_at dksJ9_init_0 1 rfl rfl)
theorem dJ9_init_2 : decode cJ9_init 2 = .ok (.aload_n 2, 1) := dk_44 (dk_at dksJ9_init_0 2 rfl rfl)
theorem dJ9_init_3 : decode cJ9_init 3 = .ok (.iload_n 3, 1) := dk_29 (dk_at dksJ9_init_0 3 rfl rfl)
theorem dJ9_init_4 : decode cJ9_init 4 = .ok (.iload 4, 2) := dk_21 4 (dk_at dksJ9_init_0 4 rfl rfl)
theorem dJ9_init_6 : decode cJ9_init 6 = .ok (.invokespecial 16, 3) := dk_183 0 16 (dk_at dksJ9_init_0 6 rfl rfl)
theorem dJ9_init_9 : decode cJ9_init 9 = .ok (.return_, 1) := dk_177 (dk_at dksJ9_init_0 9 rfl rfl)
abbrev cJ9_init_2 : ByteArray := prog_18_method_1_code
def yJ9_init_2 : MethodName := ⟨RJ9, "<init>", "()V"⟩
theorem dJ9_init_2_0 : decode cJ9_init_2 0 = .ok (.aload_n 0, 1) := by decide +kernel
theorem dJ9_init_2_1 : decode cJ9_init_2 1 = .ok (.invokespecial 1, 3) := by decide +kernel
theorem dJ9_init_2_4 : decode cJ9_init_2 4 = .ok (.return_, 1) := by decide +kernel
abbrev cJ9_init_3 : ByteArray := prog_18_method_2_code
def yJ9_init_3 : MethodName := ⟨RJ9, "<init>", "(Ljava/lang/String;)V"⟩
def dkwJ9_init_3_0 : List UInt8 := [42, 43, 183, 0, 7, 177]
abbrev dktJ9_init_3_0 : List UInt8 := dkwJ9_init_3_0 ++ []
theorem dksJ9_init_3_0 : cJ9_init_3.data.toList.drop 0 = dktJ9_init_3_0 := by decide +kernel
theorem dJ9_init_3_0 : decode cJ9_init_3 0 = .ok (.aload_n 0, 1) := dk_42 (dk_at dksJ9_init_3_0 0 rfl rfl)
theorem dJ9_init_3_1 : decode cJ9_init_3 1 = .ok (.aload_n 1, 1) := dk_43 (dk_at dksJ9_init_3_0 1 rfl rfl)
theorem dJ9_init_3_2 : decode cJ9_init_3 2 = .ok (.invokespecial 7, 3) := dk_183 0 7 (dk_at dksJ9_init_3_0 2 rfl rfl)
theorem dJ9_init_3_5 : decode cJ9_init_3 5 = .ok (.return_, 1) := dk_177 (dk_at dksJ9_init_3_0 5 rfl rfl)
theorem q157 : (Jvm.Cond.initialized "java/lang/Exception") ∈ lw_all := lw_g (lw_at lw_m1 21 rfl) rfl
theorem q593 : (Jvm.Cond.declares ({ cls := "java/lang/Exception", name := "<init>", desc := "()V" } : Jvm.MethodName)) ∈ lw_tbl := lw_at lw_m2 217 rfl
theorem q594 : (Jvm.Cond.declares ({ cls := "java/lang/Exception", name := "<init>", desc := "(Ljava/lang/String;)V" } : Jvm.MethodName)) ∈ lw_tbl := lw_at lw_m2 218 rfl
theorem q637 : (Jvm.Cond.superclass "java/lang/Exception" "java/lang/Throwable") ∈ lw_all := lw_g (lw_at lw_m3 21 rfl) rfl
theorem q648 : (Jvm.Cond.instanceMethod ({ cls := "java/lang/Exception", name := "<init>", desc := "(Ljava/lang/String;Ljava/lang/Throwable;ZZ)V" } : Jvm.MethodName)) ∈ lw_all := lw_g (lw_at lw_m3 32 rfl) rfl
theorem q649 : (Jvm.Cond.code ({ cls := "java/lang/Exception", name := "<init>", desc := "(Ljava/lang/String;Ljava/lang/Throwable;ZZ)V" } : Jvm.MethodName) prog_18_method_5_code (5 : Nat) (Option.none : Option Jvm.ClassFile.FieldType)) ∈ lw_all := lw_g (lw_at lw_m3 33 rfl) rfl
theorem q650 : (Jvm.Cond.methodLink "java/lang/Exception" (16 : Nat) ({ cls := "java/lang/Throwable", name := "<init>", desc := "(Ljava/lang/String;Ljava/lang/Throwable;ZZ)V" } : Jvm.MethodName)) ∈ lw_all := lw_g (lw_at lw_m3 34 rfl) rfl
theorem q1161 : (Jvm.Cond.instanceMethod ({ cls := "java/lang/Exception", name := "<init>", desc := "()V" } : Jvm.MethodName)) ∈ lw_all := lw_g (lw_at lw_m5 65 rfl) rfl
theorem q1162 : (Jvm.Cond.code ({ cls := "java/lang/Exception", name := "<init>", desc := "()V" } : Jvm.MethodName) prog_18_method_1_code (1 : Nat) (Option.none : Option Jvm.ClassFile.FieldType)) ∈ lw_all := lw_g (lw_at lw_m5 66 rfl) rfl
theorem q1163 : (Jvm.Cond.methodLink "java/lang/Exception" (1 : Nat) ({ cls := "java/lang/Throwable", name := "<init>", desc := "()V" } : Jvm.MethodName)) ∈ lw_all := lw_g (lw_at lw_m5 67 rfl) rfl
theorem q1461 : (Jvm.Cond.instanceMethod ({ cls := "java/lang/Exception", name := "<init>", desc := "(Ljava/lang/String;)V" } : Jvm.MethodName)) ∈ lw_all := lw_g (lw_at lw_m6 125 rfl) rfl
theorem q1462 : (Jvm.Cond.code ({ cls := "java/lang/Exception", name := "<init>", desc := "(Ljava/lang/String;)V" } : Jvm.MethodName) prog_18_method_2_code (2 : Nat) (Option.none : Option Jvm.ClassFile.FieldType)) ∈ lw_all := lw_g (lw_at lw_m6 126 rfl) rfl
theorem q1463 : (Jvm.Cond.methodLink "java/lang/Exception" (7 : Nat) ({ cls := "java/lang/Throwable", name := "<init>", desc := "(Ljava/lang/String;)V" } : Jvm.MethodName)) ∈ lw_all := lw_g (lw_at lw_m6 127 rfl) rfl

/-! LehrBelt$Lehr -/
set_option maxRecDepth 100000
def RX1 : String := "LehrBelt$Lehr"
def TX1 : u_T := fun k => match k with
  | 0 => ("LehrBelt$Lehr", "steps", "I", false)
  | 1 => ("LehrBelt$Lehr", "law", "I", false)
  | 2 => ("LehrBelt$Lehr", "odds", "I", false)
  | 3 => ("LehrBelt$Lehr", "pace", "I", false)
  | 4 => ("LehrBelt$Lehr", "set", "I", false)
  | 5 => ("LehrBelt$Lehr", "lines", "I", false)
  | 6 => ("LehrBelt$Lehr", "zones", "I", false)
  | 7 => ("LehrBelt$Lehr", "pieces", "I", false)
  | 8 => ("LehrBelt$Lehr", "acts", "I", false)
  | 9 => ("LehrBelt$Lehr", "air", "[I", true)
  | 10 => ("LehrBelt$Lehr", "heat", "[I", true)
  | 11 => ("LehrBelt$Lehr", "thick", "[I", true)
  | 12 => ("LehrBelt$Lehr", "bears", "[I", true)
  | 13 => ("LehrBelt$Lehr", "comes", "[I", true)
  | _ => ("LehrBelt$Lehr", "act", "[I", true)
def tyX1 : Nat → FieldType := fun k => match k with
  | 0 => .int
  | 1 => .int
  | 2 => .int
  | 3 => .int
  | 4 => .int
  | 5 => .int
  | 6 => .int
  | 7 => .int
  | 8 => .int
  | 9 => .array .int
  | 10 => .array .int
  | 11 => .array .int
  | 12 => .array .int
  | 13 => .array .int
  | _ => .array .int
abbrev wsX10 : List Cond := u_ws RX1 TX1 15
set_option maxRecDepth 100000 in
theorem nmX1 : ∀ a, a < 15 → ∀ b, b < 15 → a ≠ b → (TX1 a).2.1 ≠ (TX1 b).2.1 := by decide +kernel
set_option maxRecDepth 100000 in
theorem tyX1_ok : ∀ k, k < 15 → parseFieldDescriptor (TX1 k).2.2.1 = some (tyX1 k) := by decide +kernel
abbrev cX1_init : ByteArray := prog_5_method_1_code
def yX1_init : MethodName := ⟨RX1, "<init>", "()V"⟩
def dkwX1_init_2 : List UInt8 := [188, 10, 181, 0, 27, 177]
abbrev dktX1_init_2 : List UInt8 := dkwX1_init_2 ++ []
def dkwX1_init_1 : List UInt8 := [188, 10, 181, 0, 18, 42, 16, 6, 188, 10, 181, 0, 21, 42, 16, 6, 188, 10, 181, 0, 24, 42, 16, 30]
abbrev dktX1_init_1 : List UInt8 := dkwX1_init_1 ++ dktX1_init_2
def dkwX1_init_0 : List UInt8 := [42, 183, 0, 3, 42, 16, 7, 188, 10, 181, 0, 9, 42, 16, 6, 188, 10, 181, 0, 15, 42, 16, 6]
abbrev dktX1_init_0 : List UInt8 := dkwX1_init_0 ++ dktX1_init_1
theorem dksX1_init_0 : cX1_init.data.toList.drop 0 = dktX1_init_0 := by decide +kernel
theorem dksX1_init_1 : cX1_init.data.toList.drop 23 = dktX1_init_1 := dk_seg dksX1_init_0 23 rfl rfl
theorem dksX1_init_2 : cX1_init.data.toList.drop 47 = dktX1_init_2 := dk_seg dksX1_init_1 24 rfl rfl
theorem dX1_init_0 : decode cX1_init 0 = .ok (.aload_n 0, 1) := dk_42 (dk_at dksX1_init_0 0 rfl rfl)
theorem dX1_init_1 : decode cX1_init 1 = .ok (.invokespecial 3, 3) := dk_183 0 3 (dk_at dksX1_init_0 1 rfl rfl)
theorem dX1_init_4 : decode cX1_init 4 = .ok (.aload_n 0, 1) := dk_42 (dk_at dksX1_init_0 4 rfl rfl)
theorem dX1_init_5 : decode cX1_init 5 = .ok (.bipush 7, 2) := dk_16 7 (dk_at dksX1_init_0 5 rfl rfl)
theorem dX1_init_7 : decode cX1_init 7 = .ok (.newarray .int, 2) := dk_188_10 (dk_at dksX1_init_0 7 rfl rfl)
theorem dX1_init_9 : decode cX1_init 9 = .ok (.putfield 9, 3) := dk_181 0 9 (dk_at dksX1_init_0 9 rfl rfl)
theorem dX1_init_12 : decode cX1_init 12 = .ok (.aload_n 0, 1) := dk_42 (dk_at dksX1_init_0 12 rfl rfl)
theorem dX1_init_13 : decode cX1_init 13 = .ok (.bipush 6, 2) := dk_16 6 (dk_at dksX1_init_0 13 rfl rfl)
theorem dX1_init_15 : decode cX1_init 15 = .ok (.newarray .int, 2) := dk_188_10 (dk_at dksX1_init_0 15 rfl rfl)
theorem dX1_init_17 : decode cX1_init 17 = .ok (.putfield 15, 3) := dk_181 0 15 (dk_at dksX1_init_0 17 rfl rfl)
theorem dX1_init_20 : decode cX1_init 20 = .ok (.aload_n 0, 1) := dk_42 (dk_at dksX1_init_0 20 rfl rfl)
theorem dX1_init_21 : decode cX1_init 21 = .ok (.bipush 6, 2) := dk_16 6 (dk_at dksX1_init_0 21 rfl rfl)
theorem dX1_init_23 : decode cX1_init 23 = .ok (.newarray .int, 2) := dk_188_10 (dk_at dksX1_init_1 0 rfl rfl)
theorem dX1_init_25 : decode cX1_init 25 = .ok (.putfield 18, 3) := dk_181 0 18 (dk_at dksX1_init_1 2 rfl rfl)
theorem dX1_init_28 : decode cX1_init 28 = .ok (.aload_n 0, 1) := dk_42 (dk_at dksX1_init_1 5 rfl rfl)
theorem dX1_init_29 : decode cX1_init 29 = .ok (.bipush 6, 2) := dk_16 6 (dk_at dksX1_init_1 6 rfl rfl)
theorem dX1_init_31 : decode cX1_init 31 = .ok (.newarray .int, 2) := dk_188_10 (dk_at dksX1_init_1 8 rfl rfl)
theorem dX1_init_33 : decode cX1_init 33 = .ok (.putfield 21, 3) := dk_181 0 21 (dk_at dksX1_init_1 10 rfl rfl)
theorem dX1_init_36 : decode cX1_init 36 = .ok (.aload_n 0, 1) := dk_42 (dk_at dksX1_init_1 13 rfl rfl)
theorem dX1_init_37 : decode cX1_init 37 = .ok (.bipush 6, 2) := dk_16 6 (dk_at dksX1_init_1 14 rfl rfl)
theorem dX1_init_39 : decode cX1_init 39 = .ok (.newarray .int, 2) := dk_188_10 (dk_at dksX1_init_1 16 rfl rfl)
theorem dX1_init_41 : decode cX1_init 41 = .ok (.putfield 24, 3) := dk_181 0 24 (dk_at dksX1_init_1 18 rfl rfl)
theorem dX1_init_44 : decode cX1_init 44 = .ok (.aload_n 0, 1) := dk_42 (dk_at dksX1_init_1 21 rfl rfl)
theorem dX1_init_45 : decode cX1_init 45 = .ok (.bipush 30, 2) := dk_16 30 (dk_at dksX1_init_1 22 rfl rfl)
theorem dX1_init_47 : decode cX1_init 47 = .ok (.newarray .int, 2) := dk_188_10 (dk_at dksX1_init_2 0 rfl rfl)
theorem dX1_init_49 : decode cX1_init 49 = .ok (.putfield 27, 3) := dk_181 0 27 (dk_at dksX1_init_2 2 rfl rfl)
theorem dX1_init_52 : decode cX1_init 52 = .ok (.return_, 1) := dk_177 (dk_at dksX1_init_2 5 rfl rfl)
abbrev cX1_copy : ByteArray := prog_5_method_2_code
def yX1_copy : MethodName := ⟨RX1, "copy", "()LLehrBelt$Lehr;"⟩
def dkwX1_copy_7 : List UInt8 := [184, 0, 59, 43, 176]
abbrev dktX1_copy_7 : List UInt8 := dkwX1_copy_7 ++ []
def dkwX1_copy_6 : List UInt8 := [3, 43, 180, 0, 24, 3, 16, 6, 184, 0, 59, 42, 180, 0, 27, 3, 43, 180, 0, 27, 3, 16, 30]
abbrev dktX1_copy_6 : List UInt8 := dkwX1_copy_6 ++ dktX1_copy_7
def dkwX1_copy_5 : List UInt8 := [16, 6, 184, 0, 59, 42, 180, 0, 21, 3, 43, 180, 0, 21, 3, 16, 6, 184, 0, 59, 42, 180, 0, 24]
abbrev dktX1_copy_5 : List UInt8 := dkwX1_copy_5 ++ dktX1_copy_6
def dkwX1_copy_4 : List UInt8 := [180, 0, 15, 3, 43, 180, 0, 15, 3, 16, 6, 184, 0, 59, 42, 180, 0, 18, 3, 43, 180, 0, 18, 3]
abbrev dktX1_copy_4 : List UInt8 := dkwX1_copy_4 ++ dktX1_copy_5
def dkwX1_copy_3 : List UInt8 := [43, 42, 180, 0, 56, 181, 0, 56, 42, 180, 0, 9, 3, 43, 180, 0, 9, 3, 16, 7, 184, 0, 59, 42]
abbrev dktX1_copy_3 : List UInt8 := dkwX1_copy_3 ++ dktX1_copy_4
def dkwX1_copy_2 : List UInt8 := [43, 42, 180, 0, 47, 181, 0, 47, 43, 42, 180, 0, 50, 181, 0, 50, 43, 42, 180, 0, 53, 181, 0, 53]
abbrev dktX1_copy_2 : List UInt8 := dkwX1_copy_2 ++ dktX1_copy_3
def dkwX1_copy_1 : List UInt8 := [43, 42, 180, 0, 38, 181, 0, 38, 43, 42, 180, 0, 41, 181, 0, 41, 43, 42, 180, 0, 44, 181, 0, 44]
abbrev dktX1_copy_1 : List UInt8 := dkwX1_copy_1 ++ dktX1_copy_2
def dkwX1_copy_0 : List UInt8 := [187, 0, 10, 89, 183, 0, 30, 76, 43, 42, 180, 0, 31, 181, 0, 31, 43, 42, 180, 0, 35, 181, 0, 35]
abbrev dktX1_copy_0 : List UInt8 := dkwX1_copy_0 ++ dktX1_copy_1
theorem dksX1_copy_0 : cX1_copy.data.toList.drop 0 = dktX1_copy_0 := by decide +kernel
theorem dksX1_copy_1 : cX1_copy.data.toList.drop 24 = dktX1_copy_1 := dk_seg dksX1_copy_0 24 rfl rfl
theorem dksX1_copy_2 : cX1_copy.data.toList.drop 48 = dktX1_copy_2 := dk_seg dksX1_copy_1 24 rfl rfl
theorem dksX1_copy_3 : cX1_copy.data.toList.drop 72 = dktX1_copy_3 := dk_seg dksX1_copy_2 24 rfl rfl
theorem dksX1_copy_4 : cX1_copy.data.toList.drop 96 = dktX1_copy_4 := dk_seg dksX1_copy_3 24 rfl rfl
theorem dksX1_copy_5 : cX1_copy.data.toList.drop 120 = dktX1_copy_5 := dk_seg dksX1_copy_4 24 rfl rfl
theorem dksX1_copy_6 : cX1_copy.data.toList.drop 144 = dktX1_copy_6 := dk_seg dksX1_copy_5 24 rfl rfl
theorem dksX1_copy_7 : cX1_copy.data.toList.drop 167 = dktX1_copy_7 := dk_seg dksX1_copy_6 23 rfl rfl
theorem dX1_copy_0 : decode cX1_copy 0 = .ok (.new 10, 3) := dk_187 0 10 (dk_at dksX1_copy_0 0 rfl rfl)
theorem dX1_copy_3 : decode cX1_copy 3 = .ok (.dup, 1) := dk_89 (dk_at dksX1_copy_0 3 rfl rfl)
theorem dX1_copy_4 : decode cX1_copy 4 = .ok (.invokespecial 30, 3) := dk_183 0 30 (dk_at dksX1_copy_0 4 rfl rfl)
theorem dX1_copy_7 : decode cX1_copy 7 = .ok (.astore_n 1, 1) := dk_76 (dk_at dksX1_copy_0 7 rfl rfl)
theorem dX1_copy_8 : decode cX1_copy 8 = .ok (.aload_n 1, 1) := dk_43 (dk_at dksX1_copy_0 8 rfl rfl)
theorem dX1_copy_9 : decode cX1_copy 9 = .ok (.aload_n 0, 1) := dk_42 (dk_at dksX1_copy_0 9 rfl rfl)
theorem dX1_copy_10 : decode cX1_copy 10 = .ok (.getfield 31, 3) := dk_180 0 31 (dk_at dksX1_copy_0 10 rfl rfl)
theorem dX1_copy_13 : decode cX1_copy 13 = .ok (.putfield 31, 3) := dk_181 0 31 (dk_at dksX1_copy_0 13 rfl rfl)
theorem dX1_copy_16 : decode cX1_copy 16 = .ok (.aload_n 1, 1) := dk_43 (dk_at dksX1_copy_0 16 rfl rfl)
theorem dX1_copy_17 : decode cX1_copy 17 = .ok (.aload_n 0, 1) := dk_42 (dk_at dksX1_copy_0 17 rfl rfl)
theorem dX1_copy_18 : decode cX1_copy 18 = .ok (.getfield 35, 3) := dk_180 0 35 (dk_at dksX1_copy_0 18 rfl rfl)
theorem dX1_copy_21 : decode cX1_copy 21 = .ok (.putfield 35, 3) := dk_181 0 35 (dk_at dksX1_copy_0 21 rfl rfl)
theorem dX1_copy_24 : decode cX1_copy 24 = .ok (.aload_n 1, 1) := dk_43 (dk_at dksX1_copy_1 0 rfl rfl)
theorem dX1_copy_25 : decode cX1_copy 25 = .ok (.aload_n 0, 1) := dk_42 (dk_at dksX1_copy_1 1 rfl rfl)
theorem dX1_copy_26 : decode cX1_copy 26 = .ok (.getfield 38, 3) := dk_180 0 38 (dk_at dksX1_copy_1 2 rfl rfl)
theorem dX1_copy_29 : decode cX1_copy 29 = .ok (.putfield 38, 3) := dk_181 0 38 (dk_at dksX1_copy_1 5 rfl rfl)
theorem dX1_copy_32 : decode cX1_copy 32 = .ok (.aload_n 1, 1) := dk_43 (dk_at dksX1_copy_1 8 rfl rfl)
theorem dX1_copy_33 : decode cX1_copy 33 = .ok (.aload_n 0, 1) := dk_42 (dk_at dksX1_copy_1 9 rfl rfl)
theorem dX1_copy_34 : decode cX1_copy 34 = .ok (.getfield 41, 3) := dk_180 0 41 (dk_at dksX1_copy_1 10 rfl rfl)
theorem dX1_copy_37 : decode cX1_copy 37 = .ok (.putfield 41, 3) := dk_181 0 41 (dk_at dksX1_copy_1 13 rfl rfl)
theorem dX1_copy_40 : decode cX1_copy 40 = .ok (.aload_n 1, 1) := dk_43 (dk_at dksX1_copy_1 16 rfl rfl)
theorem dX1_copy_41 : decode cX1_copy 41 = .ok (.aload_n 0, 1) := dk_42 (dk_at dksX1_copy_1 17 rfl rfl)
theorem dX1_copy_42 : decode cX1_copy 42 = .ok (.getfield 44, 3) := dk_180 0 44 (dk_at dksX1_copy_1 18 rfl rfl)
theorem dX1_copy_45 : decode cX1_copy 45 = .ok (.putfield 44, 3) := dk_181 0 44 (dk_at dksX1_copy_1 21 rfl rfl)
theorem dX1_copy_48 : decode cX1_copy 48 = .ok (.aload_n 1, 1) := dk_43 (dk_at dksX1_copy_2 0 rfl rfl)
theorem dX1_copy_49 : decode cX1_copy 49 = .ok (.aload_n 0, 1) := dk_42 (dk_at dksX1_copy_2 1 rfl rfl)
theorem dX1_copy_50 : decode cX1_copy 50 = .ok (.getfield 47, 3) := dk_180 0 47 (dk_at dksX1_copy_2 2 rfl rfl)
theorem dX1_copy_53 : decode cX1_copy 53 = .ok (.putfield 47, 3) := dk_181 0 47 (dk_at dksX1_copy_2 5 rfl rfl)
theorem dX1_copy_56 : decode cX1_copy 56 = .ok (.aload_n 1, 1) := dk_43 (dk_at dksX1_copy_2 8 rfl rfl)
theorem dX1_copy_57 : decode cX1_copy 57 = .ok (.aload_n 0, 1) := dk_42 (dk_at dksX1_copy_2 9 rfl rfl)
theorem dX1_copy_58 : decode cX1_copy 58 = .ok (.getfield 50, 3) := dk_180 0 50 (dk_at dksX1_copy_2 10 rfl rfl)
theorem dX1_copy_61 : decode cX1_copy 61 = .ok (.putfield 50, 3) := dk_181 0 50 (dk_at dksX1_copy_2 13 rfl rfl)
theorem dX1_copy_64 : decode cX1_copy 64 = .ok (.aload_n 1, 1) := dk_43 (dk_at dksX1_copy_2 16 rfl rfl)
theorem dX1_copy_65 : decode cX1_copy 65 = .ok (.aload_n 0, 1) := dk_42 (dk_at dksX1_copy_2 17 rfl rfl)
theorem dX1_copy_66 : decode cX1_copy 66 = .ok (.getfield 53, 3) := dk_180 0 53 (dk_at dksX1_copy_2 18 rfl rfl)
theorem dX1_copy_69 : decode cX1_copy 69 = .ok (.putfield 53, 3) := dk_181 0 53 (dk_at dksX1_copy_2 21 rfl rfl)
theorem dX1_copy_72 : decode cX1_copy 72 = .ok (.aload_n 1, 1) := dk_43 (dk_at dksX1_copy_3 0 rfl rfl)
theorem dX1_copy_73 : decode cX1_copy 73 = .ok (.aload_n 0, 1) := dk_42 (dk_at dksX1_copy_3 1 rfl rfl)
theorem dX1_copy_74 : decode cX1_copy 74 = .ok (.getfield 56, 3) := dk_180 0 56 (dk_at dksX1_copy_3 2 rfl rfl)
theorem dX1_copy_77 : decode cX1_copy 77 = .ok (.putfield 56, 3) := dk_181 0 56 (dk_at dksX1_copy_3 5 rfl rfl)
theorem dX1_copy_80 : decode cX1_copy 80 = .ok (.aload_n 0, 1) := dk_42 (dk_at dksX1_copy_3 8 rfl rfl)
theorem dX1_copy_81 : decode cX1_copy 81 = .ok (.getfield 9, 3) := dk_180 0 9 (dk_at dksX1_copy_3 9 rfl rfl)
theorem dX1_copy_84 : decode cX1_copy 84 = .ok (.iconst 0, 1) := dk_3 (dk_at dksX1_copy_3 12 rfl rfl)
theorem dX1_copy_85 : decode cX1_copy 85 = .ok (.aload_n 1, 1) := dk_43 (dk_at dksX1_copy_3 13 rfl rfl)
theorem dX1_copy_86 : decode cX1_copy 86 = .ok (.getfield 9, 3) := dk_180 0 9 (dk_at dksX1_copy_3 14 rfl rfl)
theorem dX1_copy_89 : decode cX1_copy 89 = .ok (.iconst 0, 1) := dk_3 (dk_at dksX1_copy_3 17 rfl rfl)
theorem dX1_copy_90 : decode cX1_copy 90 = .ok (.bipush 7, 2) := dk_16 7 (dk_at dksX1_copy_3 18 rfl rfl)
theorem dX1_copy_92 : decode cX1_copy 92 = .ok (.invokestatic 59, 3) := dk_184 0 59 (dk_at dksX1_copy_3 20 rfl rfl)
theorem dX1_copy_95 : decode cX1_copy 95 = .ok (.aload_n 0, 1) := dk_42 (dk_at dksX1_copy_3 23 rfl rfl)
theorem dX1_copy_96 : decode cX1_copy 96 = .ok (.getfield 15, 3) := dk_180 0 15 (dk_at dksX1_copy_4 0 rfl rfl)
theorem dX1_copy_99 : decode cX1_copy 99 = .ok (.iconst 0, 1) := dk_3 (dk_at dksX1_copy_4 3 rfl rfl)
theorem dX1_copy_100 : decode cX1_copy 100 = .ok (.aload_n 1, 1) := dk_43 (dk_at dksX1_copy_4 4 rfl rfl)
theorem dX1_copy_101 : decode cX1_copy 101 = .ok (.getfield 15, 3) := dk_180 0 15 (dk_at dksX1_copy_4 5 rfl rfl)
theorem dX1_copy_104 : decode cX1_copy 104 = .ok (.iconst 0, 1) := dk_3 (dk_at dksX1_copy_4 8 rfl rfl)
theorem dX1_copy_105 : decode cX1_copy 105 = .ok (.bipush 6, 2) := dk_16 6 (dk_at dksX1_copy_4 9 rfl rfl)
theorem dX1_copy_107 : decode cX1_copy 107 = .ok (.invokestatic 59, 3) := dk_184 0 59 (dk_at dksX1_copy_4 11 rfl rfl)
theorem dX1_copy_110 : decode cX1_copy 110 = .ok (.aload_n 0, 1) := dk_42 (dk_at dksX1_copy_4 14 rfl rfl)
theorem dX1_copy_111 : decode cX1_copy 111 = .ok (.getfield 18, 3) := dk_180 0 18 (dk_at dksX1_copy_4 15 rfl rfl)
theorem dX1_copy_114 : decode cX1_copy 114 = .ok (.iconst 0, 1) := dk_3 (dk_at dksX1_copy_4 18 rfl rfl)
theorem dX1_copy_115 : decode cX1_copy 115 = .ok (.aload_n 1, 1) := dk_43 (dk_at dksX1_copy_4 19 rfl rfl)
theorem dX1_copy_116 : decode cX1_copy 116 = .ok (.getfield 18, 3) := dk_180 0 18 (dk_at dksX1_copy_4 20 rfl rfl)
theorem dX1_copy_119 : decode cX1_copy 119 = .ok (.iconst 0, 1) := dk_3 (dk_at dksX1_copy_4 23 rfl rfl)
theorem dX1_copy_120 : decode cX1_copy 120 = .ok (.bipush 6, 2) := dk_16 6 (dk_at dksX1_copy_5 0 rfl rfl)
theorem dX1_copy_122 : decode cX1_copy 122 = .ok (.invokestatic 59, 3) := dk_184 0 59 (dk_at dksX1_copy_5 2 rfl rfl)
theorem dX1_copy_125 : decode cX1_copy 125 = .ok (.aload_n 0, 1) := dk_42 (dk_at dksX1_copy_5 5 rfl rfl)
theorem dX1_copy_126 : decode cX1_copy 126 = .ok (.getfield 21, 3) := dk_180 0 21 (dk_at dksX1_copy_5 6 rfl rfl)
theorem dX1_copy_129 : decode cX1_copy 129 = .ok (.iconst 0, 1) := dk_3 (dk_at dksX1_copy_5 9 rfl rfl)
theorem dX1_copy_130 : decode cX1_copy 130 = .ok (.aload_n 1, 1) := dk_43 (dk_at dksX1_copy_5 10 rfl rfl)
theorem dX1_copy_131 : decode cX1_copy 131 = .ok (.getfield 21, 3) := dk_180 0 21 (dk_at dksX1_copy_5 11 rfl rfl)
theorem dX1_copy_134 : decode cX1_copy 134 = .ok (.iconst 0, 1) := dk_3 (dk_at dksX1_copy_5 14 rfl rfl)
theorem dX1_copy_135 : decode cX1_copy 135 = .ok (.bipush 6, 2) := dk_16 6 (dk_at dksX1_copy_5 15 rfl rfl)
theorem dX1_copy_137 : decode cX1_copy 137 = .ok (.invokestatic 59, 3) := dk_184 0 59 (dk_at dksX1_copy_5 17 rfl rfl)
theorem dX1_copy_140 : decode cX1_copy 140 = .ok (.aload_n 0, 1) := dk_42 (dk_at dksX1_copy_5 20 rfl rfl)
theorem dX1_copy_141 : decode cX1_copy 141 = .ok (.getfield 24, 3) := dk_180 0 24 (dk_at dksX1_copy_5 21 rfl rfl)
theorem dX1_copy_144 : decode cX1_copy 144 = .ok (.iconst 0, 1) := dk_3 (dk_at dksX1_copy_6 0 rfl rfl)
theorem dX1_copy_145 : decode cX1_copy 145 = .ok (.aload_n 1, 1) := dk_43 (dk_at dksX1_copy_6 1 rfl rfl)
theorem dX1_copy_146 : decode cX1_copy 146 = .ok (.getfield 24, 3) := dk_180 0 24 (dk_at dksX1_copy_6 2 rfl rfl)
theorem dX1_copy_149 : decode cX1_copy 149 = .ok (.iconst 0, 1) := dk_3 (dk_at dksX1_copy_6 5 rfl rfl)
theorem dX1_copy_150 : decode cX1_copy 150 = .ok (.bipush 6, 2) := dk_16 6 (dk_at dksX1_copy_6 6 rfl rfl)
theorem dX1_copy_152 : decode cX1_copy 152 = .ok (.invokestatic 59, 3) := dk_184 0 59 (dk_at dksX1_copy_6 8 rfl rfl)
theorem dX1_copy_155 : decode cX1_copy 155 = .ok (.aload_n 0, 1) := dk_42 (dk_at dksX1_copy_6 11 rfl rfl)
theorem dX1_copy_156 : decode cX1_copy 156 = .ok (.getfield 27, 3) := dk_180 0 27 (dk_at dksX1_copy_6 12 rfl rfl)
theorem dX1_copy_159 : decode cX1_copy 159 = .ok (.iconst 0, 1) := dk_3 (dk_at dksX1_copy_6 15 rfl rfl)
theorem dX1_copy_160 : decode cX1_copy 160 = .ok (.aload_n 1, 1) := dk_43 (dk_at dksX1_copy_6 16 rfl rfl)
theorem dX1_copy_161 : decode cX1_copy 161 = .ok (.getfield 27, 3) := dk_180 0 27 (dk_at dksX1_copy_6 17 rfl rfl)
theorem dX1_copy_164 : decode cX1_copy 164 = .ok (.iconst 0, 1) := dk_3 (dk_at dksX1_copy_6 20 rfl rfl)
theorem dX1_copy_165 : decode cX1_copy 165 = .ok (.bipush 30, 2) := dk_16 30 (dk_at dksX1_copy_6 21 rfl rfl)
theorem dX1_copy_167 : decode cX1_copy 167 = .ok (.invokestatic 59, 3) := dk_184 0 59 (dk_at dksX1_copy_7 0 rfl rfl)
theorem dX1_copy_170 : decode cX1_copy 170 = .ok (.aload_n 1, 1) := dk_43 (dk_at dksX1_copy_7 3 rfl rfl)
theorem dX1_copy_171 : decode cX1_copy 171 = .ok (.areturn, 1) := dk_176 (dk_at dksX1_copy_7 4 rfl rfl)
theorem q138 : (Jvm.Cond.initialized "LehrBelt$Lehr") ∈ lw_all := lw_g (lw_at lw_m1 2 rfl) rfl
theorem q179 : (Jvm.Cond.instantiable "LehrBelt$Lehr" (15 : Nat)) ∈ lw_all := lw_g (lw_at lw_m1 43 rfl) rfl
theorem q181 : (Jvm.Cond.instanceMethod ({ cls := "LehrBelt$Lehr", name := "<init>", desc := "()V" } : Jvm.MethodName)) ∈ lw_all := lw_g (lw_at lw_m1 45 rfl) rfl
theorem q182 : (Jvm.Cond.code ({ cls := "LehrBelt$Lehr", name := "<init>", desc := "()V" } : Jvm.MethodName) prog_5_method_1_code (1 : Nat) (Option.none : Option Jvm.ClassFile.FieldType)) ∈ lw_all := lw_g (lw_at lw_m1 46 rfl) rfl
theorem q183 : (Jvm.Cond.methodLink "LehrBelt$Lehr" (3 : Nat) ({ cls := "java/lang/Object", name := "<init>", desc := "()V" } : Jvm.MethodName)) ∈ lw_all := lw_g (lw_at lw_m1 47 rfl) rfl
theorem q184 : (Jvm.Cond.fieldLink "LehrBelt$Lehr" (31 : Nat) "LehrBelt$Lehr" "steps" "I") ∈ lw_all := lw_g (lw_at lw_m1 48 rfl) rfl
theorem q187 : (Jvm.Cond.fieldLink "LehrBelt$Lehr" (35 : Nat) "LehrBelt$Lehr" "law" "I") ∈ lw_all := lw_g (lw_at lw_m1 51 rfl) rfl
theorem q190 : (Jvm.Cond.fieldLink "LehrBelt$Lehr" (38 : Nat) "LehrBelt$Lehr" "odds" "I") ∈ lw_all := lw_g (lw_at lw_m1 54 rfl) rfl
theorem q193 : (Jvm.Cond.fieldLink "LehrBelt$Lehr" (41 : Nat) "LehrBelt$Lehr" "pace" "I") ∈ lw_all := lw_g (lw_at lw_m1 57 rfl) rfl
theorem q196 : (Jvm.Cond.fieldLink "LehrBelt$Lehr" (44 : Nat) "LehrBelt$Lehr" "set" "I") ∈ lw_all := lw_g (lw_at lw_m1 60 rfl) rfl
theorem q199 : (Jvm.Cond.fieldLink "LehrBelt$Lehr" (47 : Nat) "LehrBelt$Lehr" "lines" "I") ∈ lw_all := lw_g (lw_at lw_m1 63 rfl) rfl
theorem q202 : (Jvm.Cond.fieldLink "LehrBelt$Lehr" (50 : Nat) "LehrBelt$Lehr" "zones" "I") ∈ lw_all := lw_g (lw_at lw_m1 66 rfl) rfl
theorem q206 : (Jvm.Cond.fieldLink "LehrBelt$Lehr" (53 : Nat) "LehrBelt$Lehr" "pieces" "I") ∈ lw_all := lw_g (lw_at lw_m1 70 rfl) rfl
theorem q209 : (Jvm.Cond.fieldLink "LehrBelt$Lehr" (56 : Nat) "LehrBelt$Lehr" "acts" "I") ∈ lw_all := lw_g (lw_at lw_m1 73 rfl) rfl
theorem q211 : (Jvm.Cond.fieldLink "LehrBelt$Lehr" (9 : Nat) "LehrBelt$Lehr" "air" "[I") ∈ lw_all := lw_g (lw_at lw_m1 75 rfl) rfl
theorem q214 : (Jvm.Cond.fieldLink "LehrBelt$Lehr" (15 : Nat) "LehrBelt$Lehr" "heat" "[I") ∈ lw_all := lw_g (lw_at lw_m1 78 rfl) rfl
theorem q217 : (Jvm.Cond.fieldLink "LehrBelt$Lehr" (18 : Nat) "LehrBelt$Lehr" "thick" "[I") ∈ lw_all := lw_g (lw_at lw_m1 81 rfl) rfl
theorem q220 : (Jvm.Cond.fieldLink "LehrBelt$Lehr" (21 : Nat) "LehrBelt$Lehr" "bears" "[I") ∈ lw_all := lw_g (lw_at lw_m1 84 rfl) rfl
theorem q223 : (Jvm.Cond.fieldLink "LehrBelt$Lehr" (24 : Nat) "LehrBelt$Lehr" "comes" "[I") ∈ lw_all := lw_g (lw_at lw_m1 87 rfl) rfl
theorem q226 : (Jvm.Cond.fieldLink "LehrBelt$Lehr" (27 : Nat) "LehrBelt$Lehr" "act" "[I") ∈ lw_all := lw_g (lw_at lw_m1 90 rfl) rfl
theorem q228 : (Jvm.Cond.lays "LehrBelt$Lehr" "LehrBelt$Lehr" "steps" "I") ∈ lw_all := lw_g (lw_at lw_m1 92 rfl) rfl
theorem q229 : (Jvm.Cond.soleField "LehrBelt$Lehr" "steps") ∈ lw_all := lw_g (lw_at lw_m1 93 rfl) rfl
theorem q230 : (Jvm.Cond.lays "LehrBelt$Lehr" "LehrBelt$Lehr" "law" "I") ∈ lw_all := lw_g (lw_at lw_m1 94 rfl) rfl
theorem q231 : (Jvm.Cond.soleField "LehrBelt$Lehr" "law") ∈ lw_all := lw_g (lw_at lw_m1 95 rfl) rfl
theorem q232 : (Jvm.Cond.lays "LehrBelt$Lehr" "LehrBelt$Lehr" "odds" "I") ∈ lw_all := lw_g (lw_at lw_m1 96 rfl) rfl
theorem q233 : (Jvm.Cond.soleField "LehrBelt$Lehr" "odds") ∈ lw_all := lw_g (lw_at lw_m1 97 rfl) rfl
theorem q234 : (Jvm.Cond.lays "LehrBelt$Lehr" "LehrBelt$Lehr" "pace" "I") ∈ lw_all := lw_g (lw_at lw_m1 98 rfl) rfl
theorem q235 : (Jvm.Cond.soleField "LehrBelt$Lehr" "pace") ∈ lw_all := lw_g (lw_at lw_m1 99 rfl) rfl
theorem q236 : (Jvm.Cond.lays "LehrBelt$Lehr" "LehrBelt$Lehr" "set" "I") ∈ lw_all := lw_g (lw_at lw_m1 100 rfl) rfl
theorem q237 : (Jvm.Cond.soleField "LehrBelt$Lehr" "set") ∈ lw_all := lw_g (lw_at lw_m1 101 rfl) rfl
theorem q238 : (Jvm.Cond.lays "LehrBelt$Lehr" "LehrBelt$Lehr" "lines" "I") ∈ lw_all := lw_g (lw_at lw_m1 102 rfl) rfl
theorem q239 : (Jvm.Cond.soleField "LehrBelt$Lehr" "lines") ∈ lw_all := lw_g (lw_at lw_m1 103 rfl) rfl
theorem q240 : (Jvm.Cond.lays "LehrBelt$Lehr" "LehrBelt$Lehr" "zones" "I") ∈ lw_all := lw_g (lw_at lw_m1 104 rfl) rfl
theorem q241 : (Jvm.Cond.soleField "LehrBelt$Lehr" "zones") ∈ lw_all := lw_g (lw_at lw_m1 105 rfl) rfl
theorem q242 : (Jvm.Cond.lays "LehrBelt$Lehr" "LehrBelt$Lehr" "pieces" "I") ∈ lw_all := lw_g (lw_at lw_m1 106 rfl) rfl
theorem q243 : (Jvm.Cond.soleField "LehrBelt$Lehr" "pieces") ∈ lw_all := lw_g (lw_at lw_m1 107 rfl) rfl
theorem q244 : (Jvm.Cond.lays "LehrBelt$Lehr" "LehrBelt$Lehr" "acts" "I") ∈ lw_all := lw_g (lw_at lw_m1 108 rfl) rfl
theorem q245 : (Jvm.Cond.soleField "LehrBelt$Lehr" "acts") ∈ lw_all := lw_g (lw_at lw_m1 109 rfl) rfl
theorem q246 : (Jvm.Cond.laysFinal "LehrBelt$Lehr" "LehrBelt$Lehr" "air" "[I") ∈ lw_all := lw_g (lw_at lw_m1 110 rfl) rfl
theorem q247 : (Jvm.Cond.soleField "LehrBelt$Lehr" "air") ∈ lw_all := lw_g (lw_at lw_m1 111 rfl) rfl
theorem q248 : (Jvm.Cond.laysFinal "LehrBelt$Lehr" "LehrBelt$Lehr" "heat" "[I") ∈ lw_all := lw_g (lw_at lw_m1 112 rfl) rfl
theorem q249 : (Jvm.Cond.soleField "LehrBelt$Lehr" "heat") ∈ lw_all := lw_g (lw_at lw_m1 113 rfl) rfl
theorem q250 : (Jvm.Cond.laysFinal "LehrBelt$Lehr" "LehrBelt$Lehr" "thick" "[I") ∈ lw_all := lw_g (lw_at lw_m1 114 rfl) rfl
theorem q251 : (Jvm.Cond.soleField "LehrBelt$Lehr" "thick") ∈ lw_all := lw_g (lw_at lw_m1 115 rfl) rfl
theorem q252 : (Jvm.Cond.laysFinal "LehrBelt$Lehr" "LehrBelt$Lehr" "bears" "[I") ∈ lw_all := lw_g (lw_at lw_m1 116 rfl) rfl
theorem q253 : (Jvm.Cond.soleField "LehrBelt$Lehr" "bears") ∈ lw_all := lw_g (lw_at lw_m1 117 rfl) rfl
theorem q254 : (Jvm.Cond.laysFinal "LehrBelt$Lehr" "LehrBelt$Lehr" "comes" "[I") ∈ lw_all := lw_g (lw_at lw_m1 118 rfl) rfl
theorem q255 : (Jvm.Cond.soleField "LehrBelt$Lehr" "comes") ∈ lw_all := lw_g (lw_at lw_m1 119 rfl) rfl
theorem q256 : (Jvm.Cond.laysFinal "LehrBelt$Lehr" "LehrBelt$Lehr" "act" "[I") ∈ lw_all := lw_g (lw_at lw_m1 120 rfl) rfl
theorem q257 : (Jvm.Cond.soleField "LehrBelt$Lehr" "act") ∈ lw_all := lw_g (lw_at lw_m1 121 rfl) rfl
theorem q258 : (Jvm.Cond.superclass "LehrBelt$Lehr" "java/lang/Object") ∈ lw_all := lw_g (lw_at lw_m1 122 rfl) rfl
theorem q1395 : (Jvm.Cond.selects "LehrBelt$Lehr" ({ cls := "java/lang/Object", name := "getClass", desc := "()Ljava/lang/Class;" } : Jvm.MethodName) ({ cls := "java/lang/Object", name := "getClass", desc := "()Ljava/lang/Class;" } : Jvm.MethodName)) ∈ lw_all := lw_g (lw_at lw_m6 59 rfl) rfl
theorem q1419 : (Jvm.Cond.instanceMethod ({ cls := "LehrBelt$Lehr", name := "copy", desc := "()LLehrBelt$Lehr;" } : Jvm.MethodName)) ∈ lw_all := lw_g (lw_at lw_m6 83 rfl) rfl
theorem q1420 : (Jvm.Cond.selects "LehrBelt$Lehr" ({ cls := "LehrBelt$Lehr", name := "copy", desc := "()LLehrBelt$Lehr;" } : Jvm.MethodName) ({ cls := "LehrBelt$Lehr", name := "copy", desc := "()LLehrBelt$Lehr;" } : Jvm.MethodName)) ∈ lw_all := lw_g (lw_at lw_m6 84 rfl) rfl
theorem q1421 : (Jvm.Cond.code ({ cls := "LehrBelt$Lehr", name := "copy", desc := "()LLehrBelt$Lehr;" } : Jvm.MethodName) prog_5_method_2_code (2 : Nat) (Option.some (Jvm.ClassFile.FieldType.object "LehrBelt$Lehr"))) ∈ lw_all := lw_g (lw_at lw_m6 85 rfl) rfl
theorem q1422 : (Jvm.Cond.classLink "LehrBelt$Lehr" (10 : Nat) "LehrBelt$Lehr") ∈ lw_all := lw_g (lw_at lw_m6 86 rfl) rfl
theorem q1423 : (Jvm.Cond.methodLink "LehrBelt$Lehr" (30 : Nat) ({ cls := "LehrBelt$Lehr", name := "<init>", desc := "()V" } : Jvm.MethodName)) ∈ lw_all := lw_g (lw_at lw_m6 87 rfl) rfl
theorem q1424 : (Jvm.Cond.methodLink "LehrBelt$Lehr" (59 : Nat) ({ cls := "java/lang/System", name := "arraycopy", desc := "(Ljava/lang/Object;ILjava/lang/Object;II)V" } : Jvm.MethodName)) ∈ lw_all := lw_g (lw_at lw_m6 88 rfl) rfl
theorem q2346 : (Jvm.Cond.castable "LehrBelt$Lehr" "java/lang/Object") ∈ lw_tbl := lw_at lw_m10 50 rfl
theorem in_X1 : ∀ w ∈ wsX10, w ∈ lw_all := lw_in wsX10 [228, 230, 232, 234, 236, 238, 240, 242, 244, 246, 248, 250, 252, 254, 256] (by decide +kernel) (by decide +kernel)

/-! LehrBelt$Cooling -/
set_option maxRecDepth 100000
def RX2 : String := "LehrBelt$Cooling"
def TX2 : u_T := fun k => match k with
  | _ => ("LehrBelt$Cooling", "this$0", "LLehrBelt;", true)
def tyX2 : Nat → FieldType := fun k => match k with
  | _ => .object "LehrBelt"
abbrev wsX20 : List Cond := u_ws RX2 TX2 1
theorem nmX2 : ∀ a, a < 1 → ∀ b, b < 1 → a ≠ b → (TX2 a).2.1 ≠ (TX2 b).2.1 := by decide +kernel
theorem tyX2_ok : ∀ k, k < 1 → parseFieldDescriptor (TX2 k).2.2.1 = some (tyX2 k) := by decide +kernel
abbrev cX2_init : ByteArray := prog_3_method_1_code
def yX2_init : MethodName := ⟨RX2, "<init>", "(LLehrBelt;)V"⟩
def dkwX2_init_0 : List UInt8 := [42, 43, 181, 0, 1, 42, 183, 0, 7, 177]
abbrev dktX2_init_0 : List UInt8 := dkwX2_init_0 ++ []
theorem dksX2_init_0 : cX2_init.data.toList.drop 0 = dktX2_init_0 := by decide +kernel
theorem dX2_init_0 : decode cX2_init 0 = .ok (.aload_n 0, 1) := dk_42 (dk_at dksX2_init_0 0 rfl rfl)
theorem dX2_init_1 : decode cX2_init 1 = .ok (.aload_n 1, 1) := dk_43 (dk_at dksX2_init_0 1 rfl rfl)
theorem dX2_init_2 : decode cX2_init 2 = .ok (.putfield 1, 3) := dk_181 0 1 (dk_at dksX2_init_0 2 rfl rfl)
theorem dX2_init_5 : decode cX2_init 5 = .ok (.aload_n 0, 1) := dk_42 (dk_at dksX2_init_0 5 rfl rfl)
theorem dX2_init_6 : decode cX2_init 6 = .ok (.invokespecial 7, 3) := dk_183 0 7 (dk_at dksX2_init_0 6 rfl rfl)
theorem dX2_init_9 : decode cX2_init 9 = .ok (.return_, 1) := dk_177 (dk_at dksX2_init_0 9 rfl rfl)
abbrev cX2_goal : ByteArray := prog_3_method_2_code
def yX2_goal : MethodName := ⟨RX2, "goal", "(III)I"⟩
def dkwX2_goal_0 : List UInt8 := [42, 180, 0, 1, 28, 29, 182, 0, 13, 172]
abbrev dktX2_goal_0 : List UInt8 := dkwX2_goal_0 ++ []
theorem dksX2_goal_0 : cX2_goal.data.toList.drop 0 = dktX2_goal_0 := by decide +kernel
theorem dX2_goal_0 : decode cX2_goal 0 = .ok (.aload_n 0, 1) := dk_42 (dk_at dksX2_goal_0 0 rfl rfl)
theorem dX2_goal_1 : decode cX2_goal 1 = .ok (.getfield 1, 3) := dk_180 0 1 (dk_at dksX2_goal_0 1 rfl rfl)
theorem dX2_goal_4 : decode cX2_goal 4 = .ok (.iload_n 2, 1) := dk_28 (dk_at dksX2_goal_0 4 rfl rfl)
theorem dX2_goal_5 : decode cX2_goal 5 = .ok (.iload_n 3, 1) := dk_29 (dk_at dksX2_goal_0 5 rfl rfl)
theorem dX2_goal_6 : decode cX2_goal 6 = .ok (.invokevirtual 13, 3) := dk_182 0 13 (dk_at dksX2_goal_0 6 rfl rfl)
theorem dX2_goal_9 : decode cX2_goal 9 = .ok (.ireturn, 1) := dk_172 (dk_at dksX2_goal_0 9 rfl rfl)
abbrev cX2_goes : ByteArray := prog_3_method_3_code
def yX2_goes : MethodName := ⟨RX2, "goes", "(I)I"⟩
def dkwX2_goes_0 : List UInt8 := [27, 5, 108, 172]
abbrev dktX2_goes_0 : List UInt8 := dkwX2_goes_0 ++ []
theorem dksX2_goes_0 : cX2_goes.data.toList.drop 0 = dktX2_goes_0 := by decide +kernel
theorem dX2_goes_0 : decode cX2_goes 0 = .ok (.iload_n 1, 1) := dk_27 (dk_at dksX2_goes_0 0 rfl rfl)
theorem dX2_goes_1 : decode cX2_goes 1 = .ok (.iconst 2, 1) := dk_5 (dk_at dksX2_goes_0 1 rfl rfl)
theorem dX2_goes_2 : decode cX2_goes 2 = .ok (.idiv, 1) := dk_108 (dk_at dksX2_goes_0 2 rfl rfl)
theorem dX2_goes_3 : decode cX2_goes 3 = .ok (.ireturn, 1) := dk_172 (dk_at dksX2_goes_0 3 rfl rfl)
theorem q139 : (Jvm.Cond.initialized "LehrBelt$Cooling") ∈ lw_all := lw_g (lw_at lw_m1 3 rfl) rfl
theorem q262 : (Jvm.Cond.instantiable "LehrBelt$Cooling" (1 : Nat)) ∈ lw_all := lw_g (lw_at lw_m1 126 rfl) rfl
theorem q264 : (Jvm.Cond.instanceMethod ({ cls := "LehrBelt$Cooling", name := "<init>", desc := "(LLehrBelt;)V" } : Jvm.MethodName)) ∈ lw_all := lw_g (lw_at lw_m1 128 rfl) rfl
theorem q265 : (Jvm.Cond.code ({ cls := "LehrBelt$Cooling", name := "<init>", desc := "(LLehrBelt;)V" } : Jvm.MethodName) prog_3_method_1_code (2 : Nat) (Option.none : Option Jvm.ClassFile.FieldType)) ∈ lw_all := lw_g (lw_at lw_m1 129 rfl) rfl
theorem q266 : (Jvm.Cond.methodLink "LehrBelt$Cooling" (7 : Nat) ({ cls := "java/lang/Object", name := "<init>", desc := "()V" } : Jvm.MethodName)) ∈ lw_all := lw_g (lw_at lw_m1 130 rfl) rfl
theorem q267 : (Jvm.Cond.fieldLink "LehrBelt$Cooling" (1 : Nat) "LehrBelt$Cooling" "this$0" "LLehrBelt;") ∈ lw_all := lw_g (lw_at lw_m1 131 rfl) rfl
theorem q268 : (Jvm.Cond.laysFinal "LehrBelt$Cooling" "LehrBelt$Cooling" "this$0" "LLehrBelt;") ∈ lw_all := lw_g (lw_at lw_m1 132 rfl) rfl
theorem q269 : (Jvm.Cond.soleField "LehrBelt$Cooling" "this$0") ∈ lw_all := lw_g (lw_at lw_m1 133 rfl) rfl
theorem q270 : (Jvm.Cond.superclass "LehrBelt$Cooling" "java/lang/Object") ∈ lw_all := lw_g (lw_at lw_m1 134 rfl) rfl
theorem q779 : (Jvm.Cond.instanceMethod ({ cls := "LehrBelt$Cooling", name := "goal", desc := "(III)I" } : Jvm.MethodName)) ∈ lw_all := lw_g (lw_at lw_m3 163 rfl) rfl
theorem q780 : (Jvm.Cond.selects "LehrBelt$Cooling" ({ cls := "LehrBelt$Cooling", name := "goal", desc := "(III)I" } : Jvm.MethodName) ({ cls := "LehrBelt$Cooling", name := "goal", desc := "(III)I" } : Jvm.MethodName)) ∈ lw_all := lw_g (lw_at lw_m3 164 rfl) rfl
theorem q781 : (Jvm.Cond.sameMethod "LehrBelt$Cooling" "LehrBelt$Cooling" "goal" "(III)I") ∈ lw_all := lw_g (lw_at lw_m3 165 rfl) rfl
theorem q789 : (Jvm.Cond.code ({ cls := "LehrBelt$Cooling", name := "goal", desc := "(III)I" } : Jvm.MethodName) prog_3_method_2_code (4 : Nat) (Option.some Jvm.ClassFile.FieldType.int)) ∈ lw_all := lw_g (lw_at lw_m3 173 rfl) rfl
theorem q790 : (Jvm.Cond.methodLinkNest "LehrBelt$Cooling" (13 : Nat) ({ cls := "LehrBelt", name := "airOf", desc := "(II)I" } : Jvm.MethodName) "LehrBelt") ∈ lw_tbl := lw_at lw_m3 174 rfl
theorem q806 : (Jvm.Cond.instanceMethod ({ cls := "LehrBelt$Cooling", name := "goes", desc := "(I)I" } : Jvm.MethodName)) ∈ lw_all := lw_g (lw_at lw_m3 190 rfl) rfl
theorem q807 : (Jvm.Cond.selects "LehrBelt$Cooling" ({ cls := "LehrBelt$Cooling", name := "goes", desc := "(I)I" } : Jvm.MethodName) ({ cls := "LehrBelt$Cooling", name := "goes", desc := "(I)I" } : Jvm.MethodName)) ∈ lw_all := lw_g (lw_at lw_m3 191 rfl) rfl
theorem q808 : (Jvm.Cond.sameMethod "LehrBelt$Cooling" "LehrBelt$Cooling" "goes" "(I)I") ∈ lw_all := lw_g (lw_at lw_m3 192 rfl) rfl
theorem q819 : (Jvm.Cond.code ({ cls := "LehrBelt$Cooling", name := "goes", desc := "(I)I" } : Jvm.MethodName) prog_3_method_3_code (2 : Nat) (Option.some Jvm.ClassFile.FieldType.int)) ∈ lw_all := lw_g (lw_at lw_m3 203 rfl) rfl
theorem q1393 : (Jvm.Cond.selects "LehrBelt$Cooling" ({ cls := "java/lang/Object", name := "getClass", desc := "()Ljava/lang/Class;" } : Jvm.MethodName) ({ cls := "java/lang/Object", name := "getClass", desc := "()Ljava/lang/Class;" } : Jvm.MethodName)) ∈ lw_all := lw_g (lw_at lw_m6 57 rfl) rfl
theorem q2343 : (Jvm.Cond.castable "LehrBelt$Cooling" "java/lang/Object") ∈ lw_tbl := lw_at lw_m10 47 rfl
theorem in_X2 : ∀ w ∈ wsX20, w ∈ lw_all := lw_in wsX20 [268] (by decide +kernel) (by decide +kernel)

/-! LehrBelt$AtMost -/
set_option maxRecDepth 100000
def RX3 : String := "LehrBelt$AtMost"
def TX3 : u_T := fun k => match k with
  | 0 => ("LehrBelt$Cooling", "this$0", "LLehrBelt;", true)
  | _ => ("LehrBelt$AtMost", "this$0", "LLehrBelt;", true)
def tyX3 : Nat → FieldType := fun k => match k with
  | 0 => .object "LehrBelt"
  | _ => .object "LehrBelt"
abbrev wsX30 : List Cond := u_ws RX3 TX3 2
-- two fields of one name: no nmX3
theorem tyX3_ok : ∀ k, k < 2 → parseFieldDescriptor (TX3 k).2.2.1 = some (tyX3 k) := by decide +kernel
abbrev cX3_init : ByteArray := prog_2_method_1_code
def yX3_init : MethodName := ⟨RX3, "<init>", "(LLehrBelt;)V"⟩
def dkwX3_init_0 : List UInt8 := [42, 43, 181, 0, 3, 42, 43, 183, 0, 9, 177]
abbrev dktX3_init_0 : List UInt8 := dkwX3_init_0 ++ []
theorem dksX3_init_0 : cX3_init.data.toList.drop 0 = dktX3_init_0 := by decide +kernel
theorem dX3_init_0 : decode cX3_init 0 = .ok (.aload_n 0, 1) := dk_42 (dk_at dksX3_init_0 0 rfl rfl)
theorem dX3_init_1 : decode cX3_init 1 = .ok (.aload_n 1, 1) := dk_43 (dk_at dksX3_init_0 1 rfl rfl)
theorem dX3_init_2 : decode cX3_init 2 = .ok (.putfield 3, 3) := dk_181 0 3 (dk_at dksX3_init_0 2 rfl rfl)
theorem dX3_init_5 : decode cX3_init 5 = .ok (.aload_n 0, 1) := dk_42 (dk_at dksX3_init_0 5 rfl rfl)
theorem dX3_init_6 : decode cX3_init 6 = .ok (.aload_n 1, 1) := dk_43 (dk_at dksX3_init_0 6 rfl rfl)
theorem dX3_init_7 : decode cX3_init 7 = .ok (.invokespecial 9, 3) := dk_183 0 9 (dk_at dksX3_init_0 7 rfl rfl)
theorem dX3_init_10 : decode cX3_init 10 = .ok (.return_, 1) := dk_177 (dk_at dksX3_init_0 10 rfl rfl)
abbrev cX3_goes : ByteArray := prog_2_method_2_code
def yX3_goes : MethodName := ⟨RX3, "goes", "(I)I"⟩
def dkwX3_goes_0 : List UInt8 := [16, 196, 16, 60, 42, 27, 183, 0, 15, 184, 0, 19, 184, 0, 25, 172]
abbrev dktX3_goes_0 : List UInt8 := dkwX3_goes_0 ++ []
theorem dksX3_goes_0 : cX3_goes.data.toList.drop 0 = dktX3_goes_0 := by decide +kernel
theorem dX3_goes_0 : decode cX3_goes 0 = .ok (.bipush (-60), 2) := dk_16 196 (dk_at dksX3_goes_0 0 rfl rfl)
theorem dX3_goes_2 : decode cX3_goes 2 = .ok (.bipush 60, 2) := dk_16 60 (dk_at dksX3_goes_0 2 rfl rfl)
theorem dX3_goes_4 : decode cX3_goes 4 = .ok (.aload_n 0, 1) := dk_42 (dk_at dksX3_goes_0 4 rfl rfl)
theorem dX3_goes_5 : decode cX3_goes 5 = .ok (.iload_n 1, 1) := dk_27 (dk_at dksX3_goes_0 5 rfl rfl)
theorem dX3_goes_6 : decode cX3_goes 6 = .ok (.invokespecial 15, 3) := dk_183 0 15 (dk_at dksX3_goes_0 6 rfl rfl)
theorem dX3_goes_9 : decode cX3_goes 9 = .ok (.invokestatic 19, 3) := dk_184 0 19 (dk_at dksX3_goes_0 9 rfl rfl)
theorem dX3_goes_12 : decode cX3_goes 12 = .ok (.invokestatic 25, 3) := dk_184 0 25 (dk_at dksX3_goes_0 12 rfl rfl)
theorem dX3_goes_15 : decode cX3_goes 15 = .ok (.ireturn, 1) := dk_172 (dk_at dksX3_goes_0 15 rfl rfl)
theorem q140 : (Jvm.Cond.initialized "LehrBelt$AtMost") ∈ lw_all := lw_g (lw_at lw_m1 4 rfl) rfl
theorem q273 : (Jvm.Cond.instantiable "LehrBelt$AtMost" (2 : Nat)) ∈ lw_all := lw_g (lw_at lw_m1 137 rfl) rfl
theorem q275 : (Jvm.Cond.instanceMethod ({ cls := "LehrBelt$AtMost", name := "<init>", desc := "(LLehrBelt;)V" } : Jvm.MethodName)) ∈ lw_all := lw_g (lw_at lw_m1 139 rfl) rfl
theorem q276 : (Jvm.Cond.code ({ cls := "LehrBelt$AtMost", name := "<init>", desc := "(LLehrBelt;)V" } : Jvm.MethodName) prog_2_method_1_code (2 : Nat) (Option.none : Option Jvm.ClassFile.FieldType)) ∈ lw_all := lw_g (lw_at lw_m1 140 rfl) rfl
theorem q277 : (Jvm.Cond.methodLinkNest "LehrBelt$AtMost" (9 : Nat) ({ cls := "LehrBelt$Cooling", name := "<init>", desc := "(LLehrBelt;)V" } : Jvm.MethodName) "LehrBelt") ∈ lw_tbl := lw_at lw_m1 141 rfl
theorem q278 : (Jvm.Cond.fieldLink "LehrBelt$AtMost" (3 : Nat) "LehrBelt$AtMost" "this$0" "LLehrBelt;") ∈ lw_all := lw_g (lw_at lw_m1 142 rfl) rfl
theorem q279 : (Jvm.Cond.laysFinal "LehrBelt$AtMost" "LehrBelt$AtMost" "this$0" "LLehrBelt;") ∈ lw_all := lw_g (lw_at lw_m1 143 rfl) rfl
theorem q280 : (Jvm.Cond.soleField "LehrBelt$AtMost" "this$0") ∈ lw_all := lw_g (lw_at lw_m1 144 rfl) rfl
theorem q281 : (Jvm.Cond.laysFinal "LehrBelt$AtMost" "LehrBelt$Cooling" "this$0" "LLehrBelt;") ∈ lw_all := lw_g (lw_at lw_m1 145 rfl) rfl
theorem q282 : (Jvm.Cond.superclass "LehrBelt$AtMost" "LehrBelt$Cooling") ∈ lw_all := lw_g (lw_at lw_m1 146 rfl) rfl
theorem q782 : (Jvm.Cond.selects "LehrBelt$AtMost" ({ cls := "LehrBelt$Cooling", name := "goal", desc := "(III)I" } : Jvm.MethodName) ({ cls := "LehrBelt$Cooling", name := "goal", desc := "(III)I" } : Jvm.MethodName)) ∈ lw_all := lw_g (lw_at lw_m3 166 rfl) rfl
theorem q809 : (Jvm.Cond.selects "LehrBelt$AtMost" ({ cls := "LehrBelt$Cooling", name := "goes", desc := "(I)I" } : Jvm.MethodName) ({ cls := "LehrBelt$AtMost", name := "goes", desc := "(I)I" } : Jvm.MethodName)) ∈ lw_all := lw_g (lw_at lw_m3 193 rfl) rfl
theorem q810 : (Jvm.Cond.instanceMethod ({ cls := "LehrBelt$AtMost", name := "goes", desc := "(I)I" } : Jvm.MethodName)) ∈ lw_all := lw_g (lw_at lw_m3 194 rfl) rfl
theorem q811 : (Jvm.Cond.code ({ cls := "LehrBelt$AtMost", name := "goes", desc := "(I)I" } : Jvm.MethodName) prog_2_method_2_code (2 : Nat) (Option.some Jvm.ClassFile.FieldType.int)) ∈ lw_all := lw_g (lw_at lw_m3 195 rfl) rfl
theorem q812 : (Jvm.Cond.methodLink "LehrBelt$AtMost" (15 : Nat) ({ cls := "LehrBelt$Cooling", name := "goes", desc := "(I)I" } : Jvm.MethodName)) ∈ lw_all := lw_g (lw_at lw_m3 196 rfl) rfl
theorem q813 : (Jvm.Cond.methodLink "LehrBelt$AtMost" (19 : Nat) ({ cls := "java/lang/Math", name := "min", desc := "(II)I" } : Jvm.MethodName)) ∈ lw_all := lw_g (lw_at lw_m3 197 rfl) rfl
theorem q814 : (Jvm.Cond.methodLink "LehrBelt$AtMost" (25 : Nat) ({ cls := "java/lang/Math", name := "max", desc := "(II)I" } : Jvm.MethodName)) ∈ lw_all := lw_g (lw_at lw_m3 198 rfl) rfl
theorem q1392 : (Jvm.Cond.selects "LehrBelt$AtMost" ({ cls := "java/lang/Object", name := "getClass", desc := "()Ljava/lang/Class;" } : Jvm.MethodName) ({ cls := "java/lang/Object", name := "getClass", desc := "()Ljava/lang/Class;" } : Jvm.MethodName)) ∈ lw_all := lw_g (lw_at lw_m6 56 rfl) rfl
theorem q2347 : (Jvm.Cond.castable "LehrBelt$AtMost" "java/lang/Object") ∈ lw_tbl := lw_at lw_m10 51 rfl
theorem q2361 : (Jvm.Cond.castable "LehrBelt$AtMost" "LehrBelt$Cooling") ∈ lw_tbl := lw_at lw_m10 65 rfl
theorem in_X3 : ∀ w ∈ wsX30, w ∈ lw_all := lw_in wsX30 [281, 279] (by decide +kernel) (by decide +kernel)

/-! LehrBelt$Neighbours -/
set_option maxRecDepth 100000
def RX4 : String := "LehrBelt$Neighbours"
def TX4 : u_T := fun k => match k with
  | 0 => ("LehrBelt$Cooling", "this$0", "LLehrBelt;", true)
  | _ => ("LehrBelt$Neighbours", "this$0", "LLehrBelt;", true)
def tyX4 : Nat → FieldType := fun k => match k with
  | 0 => .object "LehrBelt"
  | _ => .object "LehrBelt"
abbrev wsX40 : List Cond := u_ws RX4 TX4 2
-- two fields of one name: no nmX4
theorem tyX4_ok : ∀ k, k < 2 → parseFieldDescriptor (TX4 k).2.2.1 = some (tyX4 k) := by decide +kernel
abbrev cX4_init : ByteArray := prog_6_method_1_code
def yX4_init : MethodName := ⟨RX4, "<init>", "(LLehrBelt;)V"⟩
def dkwX4_init_0 : List UInt8 := [42, 43, 181, 0, 1, 42, 43, 183, 0, 7, 177]
abbrev dktX4_init_0 : List UInt8 := dkwX4_init_0 ++ []
theorem dksX4_init_0 : cX4_init.data.toList.drop 0 = dktX4_init_0 := by decide +kernel
theorem dX4_init_0 : decode cX4_init 0 = .ok (.aload_n 0, 1) := dk_42 (dk_at dksX4_init_0 0 rfl rfl)
theorem dX4_init_1 : decode cX4_init 1 = .ok (.aload_n 1, 1) := dk_43 (dk_at dksX4_init_0 1 rfl rfl)
theorem dX4_init_2 : decode cX4_init 2 = .ok (.putfield 1, 3) := dk_181 0 1 (dk_at dksX4_init_0 2 rfl rfl)
theorem dX4_init_5 : decode cX4_init 5 = .ok (.aload_n 0, 1) := dk_42 (dk_at dksX4_init_0 5 rfl rfl)
theorem dX4_init_6 : decode cX4_init 6 = .ok (.aload_n 1, 1) := dk_43 (dk_at dksX4_init_0 6 rfl rfl)
theorem dX4_init_7 : decode cX4_init 7 = .ok (.invokespecial 7, 3) := dk_183 0 7 (dk_at dksX4_init_0 7 rfl rfl)
theorem dX4_init_10 : decode cX4_init 10 = .ok (.return_, 1) := dk_177 (dk_at dksX4_init_0 10 rfl rfl)
abbrev cX4_goal : ByteArray := prog_6_method_2_code
def yX4_goal : MethodName := ⟨RX4, "goal", "(III)I"⟩
def dkwX4_goal_3 : List UInt8 := [132, 6, 1, 167, 255, 197, 21, 4, 21, 5, 108, 172]
abbrev dktX4_goal_3 : List UInt8 := dkwX4_goal_3 ++ []
def dkwX4_goal_2 : List UInt8 := [159, 0, 6, 167, 0, 21, 21, 4, 42, 180, 0, 1, 180, 0, 33, 21, 6, 46, 96, 54, 4, 132, 5, 1]
abbrev dktX4_goal_2 : List UInt8 := dkwX4_goal_2 ++ dktX4_goal_3
def dkwX4_goal_1 : List UInt8 := [180, 0, 23, 162, 0, 50, 21, 6, 27, 159, 0, 38, 42, 180, 0, 1, 21, 6, 29, 182, 0, 29, 28]
abbrev dktX4_goal_1 : List UInt8 := dkwX4_goal_1 ++ dktX4_goal_2
def dkwX4_goal_0 : List UInt8 := [42, 27, 28, 29, 183, 0, 13, 54, 4, 4, 54, 5, 3, 54, 6, 21, 6, 42, 180, 0, 1, 180, 0, 17]
abbrev dktX4_goal_0 : List UInt8 := dkwX4_goal_0 ++ dktX4_goal_1
theorem dksX4_goal_0 : cX4_goal.data.toList.drop 0 = dktX4_goal_0 := by decide +kernel
theorem dksX4_goal_1 : cX4_goal.data.toList.drop 24 = dktX4_goal_1 := dk_seg dksX4_goal_0 24 rfl rfl
theorem dksX4_goal_2 : cX4_goal.data.toList.drop 47 = dktX4_goal_2 := dk_seg dksX4_goal_1 23 rfl rfl
theorem dksX4_goal_3 : cX4_goal.data.toList.drop 71 = dktX4_goal_3 := dk_seg dksX4_goal_2 24 rfl rfl
theorem dX4_goal_0 : decode cX4_goal 0 = .ok (.aload_n 0, 1) := dk_42 (dk_at dksX4_goal_0 0 rfl rfl)
theorem dX4_goal_1 : decode cX4_goal 1 = .ok (.iload_n 1, 1) := dk_27 (dk_at dksX4_goal_0 1 rfl rfl)
theorem dX4_goal_2 : decode cX4_goal 2 = .ok (.iload_n 2, 1) := dk_28 (dk_at dksX4_goal_0 2 rfl rfl)
theorem dX4_goal_3 : decode cX4_goal 3 = .ok (.iload_n 3, 1) := dk_29 (dk_at dksX4_goal_0 3 rfl rfl)
theorem dX4_goal_4 : decode cX4_goal 4 = .ok (.invokespecial 13, 3) := dk_183 0 13 (dk_at dksX4_goal_0 4 rfl rfl)
theorem dX4_goal_7 : decode cX4_goal 7 = .ok (.istore 4, 2) := dk_54 4 (dk_at dksX4_goal_0 7 rfl rfl)
theorem dX4_goal_9 : decode cX4_goal 9 = .ok (.iconst 1, 1) := dk_4 (dk_at dksX4_goal_0 9 rfl rfl)
theorem dX4_goal_10 : decode cX4_goal 10 = .ok (.istore 5, 2) := dk_54 5 (dk_at dksX4_goal_0 10 rfl rfl)
theorem dX4_goal_12 : decode cX4_goal 12 = .ok (.iconst 0, 1) := dk_3 (dk_at dksX4_goal_0 12 rfl rfl)
theorem dX4_goal_13 : decode cX4_goal 13 = .ok (.istore 6, 2) := dk_54 6 (dk_at dksX4_goal_0 13 rfl rfl)
theorem dX4_goal_15 : decode cX4_goal 15 = .ok (.iload 6, 2) := dk_21 6 (dk_at dksX4_goal_0 15 rfl rfl)
theorem dX4_goal_17 : decode cX4_goal 17 = .ok (.aload_n 0, 1) := dk_42 (dk_at dksX4_goal_0 17 rfl rfl)
theorem dX4_goal_18 : decode cX4_goal 18 = .ok (.getfield 1, 3) := dk_180 0 1 (dk_at dksX4_goal_0 18 rfl rfl)
theorem dX4_goal_21 : decode cX4_goal 21 = .ok (.getfield 17, 3) := dk_180 0 17 (dk_at dksX4_goal_0 21 rfl rfl)
theorem dX4_goal_24 : decode cX4_goal 24 = .ok (.getfield 23, 3) := dk_180 0 23 (dk_at dksX4_goal_1 0 rfl rfl)
theorem dX4_goal_27 : decode cX4_goal 27 = .ok (.if_icmp .ge 50, 3) := dk_162 0 50 (dk_at dksX4_goal_1 3 rfl rfl)
theorem dX4_goal_30 : decode cX4_goal 30 = .ok (.iload 6, 2) := dk_21 6 (dk_at dksX4_goal_1 6 rfl rfl)
theorem dX4_goal_32 : decode cX4_goal 32 = .ok (.iload_n 1, 1) := dk_27 (dk_at dksX4_goal_1 8 rfl rfl)
theorem dX4_goal_33 : decode cX4_goal 33 = .ok (.if_icmp .eq 38, 3) := dk_159 0 38 (dk_at dksX4_goal_1 9 rfl rfl)
theorem dX4_goal_36 : decode cX4_goal 36 = .ok (.aload_n 0, 1) := dk_42 (dk_at dksX4_goal_1 12 rfl rfl)
theorem dX4_goal_37 : decode cX4_goal 37 = .ok (.getfield 1, 3) := dk_180 0 1 (dk_at dksX4_goal_1 13 rfl rfl)
theorem dX4_goal_40 : decode cX4_goal 40 = .ok (.iload 6, 2) := dk_21 6 (dk_at dksX4_goal_1 16 rfl rfl)
theorem dX4_goal_42 : decode cX4_goal 42 = .ok (.iload_n 3, 1) := dk_29 (dk_at dksX4_goal_1 18 rfl rfl)
theorem dX4_goal_43 : decode cX4_goal 43 = .ok (.invokevirtual 29, 3) := dk_182 0 29 (dk_at dksX4_goal_1 19 rfl rfl)
theorem dX4_goal_46 : decode cX4_goal 46 = .ok (.iload_n 2, 1) := dk_28 (dk_at dksX4_goal_1 22 rfl rfl)
theorem dX4_goal_47 : decode cX4_goal 47 = .ok (.if_icmp .eq 6, 3) := dk_159 0 6 (dk_at dksX4_goal_2 0 rfl rfl)
theorem dX4_goal_50 : decode cX4_goal 50 = .ok (.goto 21, 3) := dk_167 0 21 (dk_at dksX4_goal_2 3 rfl rfl)
theorem dX4_goal_53 : decode cX4_goal 53 = .ok (.iload 4, 2) := dk_21 4 (dk_at dksX4_goal_2 6 rfl rfl)
theorem dX4_goal_55 : decode cX4_goal 55 = .ok (.aload_n 0, 1) := dk_42 (dk_at dksX4_goal_2 8 rfl rfl)
theorem dX4_goal_56 : decode cX4_goal 56 = .ok (.getfield 1, 3) := dk_180 0 1 (dk_at dksX4_goal_2 9 rfl rfl)
theorem dX4_goal_59 : decode cX4_goal 59 = .ok (.getfield 33, 3) := dk_180 0 33 (dk_at dksX4_goal_2 12 rfl rfl)
theorem dX4_goal_62 : decode cX4_goal 62 = .ok (.iload 6, 2) := dk_21 6 (dk_at dksX4_goal_2 15 rfl rfl)
theorem dX4_goal_64 : decode cX4_goal 64 = .ok (.iaload, 1) := dk_46 (dk_at dksX4_goal_2 17 rfl rfl)
theorem dX4_goal_65 : decode cX4_goal 65 = .ok (.iadd, 1) := dk_96 (dk_at dksX4_goal_2 18 rfl rfl)
theorem dX4_goal_66 : decode cX4_goal 66 = .ok (.istore 4, 2) := dk_54 4 (dk_at dksX4_goal_2 19 rfl rfl)
theorem dX4_goal_68 : decode cX4_goal 68 = .ok (.iinc 5 1, 3) := dk_132 5 1 (dk_at dksX4_goal_2 21 rfl rfl)
theorem dX4_goal_71 : decode cX4_goal 71 = .ok (.iinc 6 1, 3) := dk_132 6 1 (dk_at dksX4_goal_3 0 rfl rfl)
theorem dX4_goal_74 : decode cX4_goal 74 = .ok (.goto (-59), 3) := dk_167 255 197 (dk_at dksX4_goal_3 3 rfl rfl)
theorem dX4_goal_77 : decode cX4_goal 77 = .ok (.iload 4, 2) := dk_21 4 (dk_at dksX4_goal_3 6 rfl rfl)
theorem dX4_goal_79 : decode cX4_goal 79 = .ok (.iload 5, 2) := dk_21 5 (dk_at dksX4_goal_3 8 rfl rfl)
theorem dX4_goal_81 : decode cX4_goal 81 = .ok (.idiv, 1) := dk_108 (dk_at dksX4_goal_3 10 rfl rfl)
theorem dX4_goal_82 : decode cX4_goal 82 = .ok (.ireturn, 1) := dk_172 (dk_at dksX4_goal_3 11 rfl rfl)
theorem q141 : (Jvm.Cond.initialized "LehrBelt$Neighbours") ∈ lw_all := lw_g (lw_at lw_m1 5 rfl) rfl
theorem q205 : (Jvm.Cond.fieldLinkNest "LehrBelt$Neighbours" (23 : Nat) "LehrBelt$Lehr" "pieces" "I" "LehrBelt") ∈ lw_tbl := lw_at lw_m1 69 rfl
theorem q284 : (Jvm.Cond.instantiable "LehrBelt$Neighbours" (2 : Nat)) ∈ lw_all := lw_g (lw_at lw_m1 148 rfl) rfl
theorem q286 : (Jvm.Cond.instanceMethod ({ cls := "LehrBelt$Neighbours", name := "<init>", desc := "(LLehrBelt;)V" } : Jvm.MethodName)) ∈ lw_all := lw_g (lw_at lw_m1 150 rfl) rfl
theorem q287 : (Jvm.Cond.code ({ cls := "LehrBelt$Neighbours", name := "<init>", desc := "(LLehrBelt;)V" } : Jvm.MethodName) prog_6_method_1_code (2 : Nat) (Option.none : Option Jvm.ClassFile.FieldType)) ∈ lw_all := lw_g (lw_at lw_m1 151 rfl) rfl
theorem q288 : (Jvm.Cond.methodLinkNest "LehrBelt$Neighbours" (7 : Nat) ({ cls := "LehrBelt$Cooling", name := "<init>", desc := "(LLehrBelt;)V" } : Jvm.MethodName) "LehrBelt") ∈ lw_tbl := lw_at lw_m1 152 rfl
theorem q289 : (Jvm.Cond.fieldLink "LehrBelt$Neighbours" (1 : Nat) "LehrBelt$Neighbours" "this$0" "LLehrBelt;") ∈ lw_all := lw_g (lw_at lw_m1 153 rfl) rfl
theorem q290 : (Jvm.Cond.laysFinal "LehrBelt$Neighbours" "LehrBelt$Neighbours" "this$0" "LLehrBelt;") ∈ lw_all := lw_g (lw_at lw_m1 154 rfl) rfl
theorem q291 : (Jvm.Cond.soleField "LehrBelt$Neighbours" "this$0") ∈ lw_all := lw_g (lw_at lw_m1 155 rfl) rfl
theorem q292 : (Jvm.Cond.laysFinal "LehrBelt$Neighbours" "LehrBelt$Cooling" "this$0" "LLehrBelt;") ∈ lw_all := lw_g (lw_at lw_m1 156 rfl) rfl
theorem q293 : (Jvm.Cond.superclass "LehrBelt$Neighbours" "LehrBelt$Cooling") ∈ lw_all := lw_g (lw_at lw_m1 157 rfl) rfl
theorem q343 : (Jvm.Cond.fieldLinkNest "LehrBelt$Neighbours" (17 : Nat) "LehrBelt" "lehr" "LLehrBelt$Lehr;" "LehrBelt") ∈ lw_tbl := lw_at lw_m1 207 rfl
theorem q362 : (Jvm.Cond.fieldLinkNest "LehrBelt$Neighbours" (33 : Nat) "LehrBelt" "skinAhead" "[I" "LehrBelt") ∈ lw_tbl := lw_at lw_m1 226 rfl
theorem q783 : (Jvm.Cond.selects "LehrBelt$Neighbours" ({ cls := "LehrBelt$Cooling", name := "goal", desc := "(III)I" } : Jvm.MethodName) ({ cls := "LehrBelt$Neighbours", name := "goal", desc := "(III)I" } : Jvm.MethodName)) ∈ lw_all := lw_g (lw_at lw_m3 167 rfl) rfl
theorem q784 : (Jvm.Cond.instanceMethod ({ cls := "LehrBelt$Neighbours", name := "goal", desc := "(III)I" } : Jvm.MethodName)) ∈ lw_all := lw_g (lw_at lw_m3 168 rfl) rfl
theorem q785 : (Jvm.Cond.code ({ cls := "LehrBelt$Neighbours", name := "goal", desc := "(III)I" } : Jvm.MethodName) prog_6_method_2_code (7 : Nat) (Option.some Jvm.ClassFile.FieldType.int)) ∈ lw_all := lw_g (lw_at lw_m3 169 rfl) rfl
theorem q786 : (Jvm.Cond.methodLink "LehrBelt$Neighbours" (13 : Nat) ({ cls := "LehrBelt$Cooling", name := "goal", desc := "(III)I" } : Jvm.MethodName)) ∈ lw_all := lw_g (lw_at lw_m3 170 rfl) rfl
theorem q787 : (Jvm.Cond.methodLinkNest "LehrBelt$Neighbours" (29 : Nat) ({ cls := "LehrBelt", name := "placeOf", desc := "(II)I" } : Jvm.MethodName) "LehrBelt") ∈ lw_tbl := lw_at lw_m3 171 rfl
theorem q815 : (Jvm.Cond.selects "LehrBelt$Neighbours" ({ cls := "LehrBelt$Cooling", name := "goes", desc := "(I)I" } : Jvm.MethodName) ({ cls := "LehrBelt$Cooling", name := "goes", desc := "(I)I" } : Jvm.MethodName)) ∈ lw_all := lw_g (lw_at lw_m3 199 rfl) rfl
theorem q1396 : (Jvm.Cond.selects "LehrBelt$Neighbours" ({ cls := "java/lang/Object", name := "getClass", desc := "()Ljava/lang/Class;" } : Jvm.MethodName) ({ cls := "java/lang/Object", name := "getClass", desc := "()Ljava/lang/Class;" } : Jvm.MethodName)) ∈ lw_all := lw_g (lw_at lw_m6 60 rfl) rfl
theorem q2348 : (Jvm.Cond.castable "LehrBelt$Neighbours" "java/lang/Object") ∈ lw_tbl := lw_at lw_m10 52 rfl
theorem q2362 : (Jvm.Cond.castable "LehrBelt$Neighbours" "LehrBelt$Cooling") ∈ lw_tbl := lw_at lw_m10 66 rfl
theorem in_X4 : ∀ w ∈ wsX40, w ∈ lw_all := lw_in wsX40 [292, 290] (by decide +kernel) (by decide +kernel)

/-! LehrBelt$Thirds -/
set_option maxRecDepth 100000
def RX5 : String := "LehrBelt$Thirds"
def TX5 : u_T := fun k => match k with
  | 0 => ("LehrBelt$Cooling", "this$0", "LLehrBelt;", true)
  | _ => ("LehrBelt$Thirds", "this$0", "LLehrBelt;", true)
def tyX5 : Nat → FieldType := fun k => match k with
  | 0 => .object "LehrBelt"
  | _ => .object "LehrBelt"
abbrev wsX50 : List Cond := u_ws RX5 TX5 2
-- two fields of one name: no nmX5
theorem tyX5_ok : ∀ k, k < 2 → parseFieldDescriptor (TX5 k).2.2.1 = some (tyX5 k) := by decide +kernel
abbrev cX5_init : ByteArray := prog_9_method_1_code
def yX5_init : MethodName := ⟨RX5, "<init>", "(LLehrBelt;)V"⟩
def dkwX5_init_0 : List UInt8 := [42, 43, 181, 0, 1, 42, 43, 183, 0, 7, 177]
abbrev dktX5_init_0 : List UInt8 := dkwX5_init_0 ++ []
theorem dksX5_init_0 : cX5_init.data.toList.drop 0 = dktX5_init_0 := by decide +kernel
theorem dX5_init_0 : decode cX5_init 0 = .ok (.aload_n 0, 1) := dk_42 (dk_at dksX5_init_0 0 rfl rfl)
theorem dX5_init_1 : decode cX5_init 1 = .ok (.aload_n 1, 1) := dk_43 (dk_at dksX5_init_0 1 rfl rfl)
theorem dX5_init_2 : decode cX5_init 2 = .ok (.putfield 1, 3) := dk_181 0 1 (dk_at dksX5_init_0 2 rfl rfl)
theorem dX5_init_5 : decode cX5_init 5 = .ok (.aload_n 0, 1) := dk_42 (dk_at dksX5_init_0 5 rfl rfl)
theorem dX5_init_6 : decode cX5_init 6 = .ok (.aload_n 1, 1) := dk_43 (dk_at dksX5_init_0 6 rfl rfl)
theorem dX5_init_7 : decode cX5_init 7 = .ok (.invokespecial 7, 3) := dk_183 0 7 (dk_at dksX5_init_0 7 rfl rfl)
theorem dX5_init_10 : decode cX5_init 10 = .ok (.return_, 1) := dk_177 (dk_at dksX5_init_0 10 rfl rfl)
abbrev cX5_goes : ByteArray := prog_9_method_2_code
def yX5_goes : MethodName := ⟨RX5, "goes", "(I)I"⟩
def dkwX5_goes_0 : List UInt8 := [27, 6, 108, 172]
abbrev dktX5_goes_0 : List UInt8 := dkwX5_goes_0 ++ []
theorem dksX5_goes_0 : cX5_goes.data.toList.drop 0 = dktX5_goes_0 := by decide +kernel
theorem dX5_goes_0 : decode cX5_goes 0 = .ok (.iload_n 1, 1) := dk_27 (dk_at dksX5_goes_0 0 rfl rfl)
theorem dX5_goes_1 : decode cX5_goes 1 = .ok (.iconst 3, 1) := dk_6 (dk_at dksX5_goes_0 1 rfl rfl)
theorem dX5_goes_2 : decode cX5_goes 2 = .ok (.idiv, 1) := dk_108 (dk_at dksX5_goes_0 2 rfl rfl)
theorem dX5_goes_3 : decode cX5_goes 3 = .ok (.ireturn, 1) := dk_172 (dk_at dksX5_goes_0 3 rfl rfl)
theorem q142 : (Jvm.Cond.initialized "LehrBelt$Thirds") ∈ lw_all := lw_g (lw_at lw_m1 6 rfl) rfl
theorem q295 : (Jvm.Cond.instantiable "LehrBelt$Thirds" (2 : Nat)) ∈ lw_all := lw_g (lw_at lw_m1 159 rfl) rfl
theorem q297 : (Jvm.Cond.instanceMethod ({ cls := "LehrBelt$Thirds", name := "<init>", desc := "(LLehrBelt;)V" } : Jvm.MethodName)) ∈ lw_all := lw_g (lw_at lw_m1 161 rfl) rfl
theorem q298 : (Jvm.Cond.code ({ cls := "LehrBelt$Thirds", name := "<init>", desc := "(LLehrBelt;)V" } : Jvm.MethodName) prog_9_method_1_code (2 : Nat) (Option.none : Option Jvm.ClassFile.FieldType)) ∈ lw_all := lw_g (lw_at lw_m1 162 rfl) rfl
theorem q299 : (Jvm.Cond.methodLinkNest "LehrBelt$Thirds" (7 : Nat) ({ cls := "LehrBelt$Cooling", name := "<init>", desc := "(LLehrBelt;)V" } : Jvm.MethodName) "LehrBelt") ∈ lw_tbl := lw_at lw_m1 163 rfl
theorem q300 : (Jvm.Cond.fieldLink "LehrBelt$Thirds" (1 : Nat) "LehrBelt$Thirds" "this$0" "LLehrBelt;") ∈ lw_all := lw_g (lw_at lw_m1 164 rfl) rfl
theorem q301 : (Jvm.Cond.laysFinal "LehrBelt$Thirds" "LehrBelt$Thirds" "this$0" "LLehrBelt;") ∈ lw_all := lw_g (lw_at lw_m1 165 rfl) rfl
theorem q302 : (Jvm.Cond.soleField "LehrBelt$Thirds" "this$0") ∈ lw_all := lw_g (lw_at lw_m1 166 rfl) rfl
theorem q303 : (Jvm.Cond.laysFinal "LehrBelt$Thirds" "LehrBelt$Cooling" "this$0" "LLehrBelt;") ∈ lw_all := lw_g (lw_at lw_m1 167 rfl) rfl
theorem q304 : (Jvm.Cond.superclass "LehrBelt$Thirds" "LehrBelt$Cooling") ∈ lw_all := lw_g (lw_at lw_m1 168 rfl) rfl
theorem q788 : (Jvm.Cond.selects "LehrBelt$Thirds" ({ cls := "LehrBelt$Cooling", name := "goal", desc := "(III)I" } : Jvm.MethodName) ({ cls := "LehrBelt$Cooling", name := "goal", desc := "(III)I" } : Jvm.MethodName)) ∈ lw_all := lw_g (lw_at lw_m3 172 rfl) rfl
theorem q816 : (Jvm.Cond.selects "LehrBelt$Thirds" ({ cls := "LehrBelt$Cooling", name := "goes", desc := "(I)I" } : Jvm.MethodName) ({ cls := "LehrBelt$Thirds", name := "goes", desc := "(I)I" } : Jvm.MethodName)) ∈ lw_all := lw_g (lw_at lw_m3 200 rfl) rfl
theorem q817 : (Jvm.Cond.instanceMethod ({ cls := "LehrBelt$Thirds", name := "goes", desc := "(I)I" } : Jvm.MethodName)) ∈ lw_all := lw_g (lw_at lw_m3 201 rfl) rfl
theorem q818 : (Jvm.Cond.code ({ cls := "LehrBelt$Thirds", name := "goes", desc := "(I)I" } : Jvm.MethodName) prog_9_method_2_code (2 : Nat) (Option.some Jvm.ClassFile.FieldType.int)) ∈ lw_all := lw_g (lw_at lw_m3 202 rfl) rfl
theorem q1399 : (Jvm.Cond.selects "LehrBelt$Thirds" ({ cls := "java/lang/Object", name := "getClass", desc := "()Ljava/lang/Class;" } : Jvm.MethodName) ({ cls := "java/lang/Object", name := "getClass", desc := "()Ljava/lang/Class;" } : Jvm.MethodName)) ∈ lw_all := lw_g (lw_at lw_m6 63 rfl) rfl
theorem q2349 : (Jvm.Cond.castable "LehrBelt$Thirds" "java/lang/Object") ∈ lw_tbl := lw_at lw_m10 53 rfl
theorem q2363 : (Jvm.Cond.castable "LehrBelt$Thirds" "LehrBelt$Cooling") ∈ lw_tbl := lw_at lw_m10 67 rfl
theorem in_X5 : ∀ w ∈ wsX50, w ∈ lw_all := lw_in wsX50 [303, 301] (by decide +kernel) (by decide +kernel)

/-! LehrBelt$Slot -/
set_option maxRecDepth 100000
def RX6 : String := "LehrBelt$Slot"
def TX6 : u_T := fun k => match k with
  | _ => ("LehrBelt$Slot", "row", "Ljava/lang/Object;", false)
def tyX6 : Nat → FieldType := fun k => match k with
  | _ => .object "java/lang/Object"
abbrev wsX60 : List Cond := u_ws RX6 TX6 1
theorem nmX6 : ∀ a, a < 1 → ∀ b, b < 1 → a ≠ b → (TX6 a).2.1 ≠ (TX6 b).2.1 := by decide +kernel
theorem tyX6_ok : ∀ k, k < 1 → parseFieldDescriptor (TX6 k).2.2.1 = some (tyX6 k) := by decide +kernel
abbrev cX6_init : ByteArray := prog_8_method_1_code
def yX6_init : MethodName := ⟨RX6, "<init>", "()V"⟩
theorem dX6_init_0 : decode cX6_init 0 = .ok (.aload_n 0, 1) := by decide +kernel
theorem dX6_init_1 : decode cX6_init 1 = .ok (.invokespecial 1, 3) := by decide +kernel
theorem dX6_init_4 : decode cX6_init 4 = .ok (.return_, 1) := by decide +kernel
abbrev cX6_size : ByteArray := prog_8_method_3_code
def yX6_size : MethodName := ⟨RX6, "size", "()I"⟩
def dkwX6_size_3 : List UInt8 := [190, 172]
abbrev dktX6_size_3 : List UInt8 := dkwX6_size_3 ++ []
def dkwX6_size_2 : List UInt8 := [193, 0, 17, 153, 0, 14, 42, 180, 0, 7, 192, 0, 17, 190, 167, 0, 11, 42, 180, 0, 7, 192, 0, 19]
abbrev dktX6_size_2 : List UInt8 := dkwX6_size_2 ++ dktX6_size_3
def dkwX6_size_1 : List UInt8 := [180, 0, 7, 193, 0, 15, 153, 0, 14, 42, 180, 0, 7, 192, 0, 15, 190, 167, 0, 32, 42, 180, 0, 7]
abbrev dktX6_size_1 : List UInt8 := dkwX6_size_1 ++ dktX6_size_2
def dkwX6_size_0 : List UInt8 := [42, 180, 0, 7, 193, 0, 13, 153, 0, 14, 42, 180, 0, 7, 192, 0, 13, 190, 167, 0, 53, 42]
abbrev dktX6_size_0 : List UInt8 := dkwX6_size_0 ++ dktX6_size_1
theorem dksX6_size_0 : cX6_size.data.toList.drop 0 = dktX6_size_0 := by decide +kernel
theorem dksX6_size_1 : cX6_size.data.toList.drop 22 = dktX6_size_1 := dk_seg dksX6_size_0 22 rfl rfl
theorem dksX6_size_2 : cX6_size.data.toList.drop 46 = dktX6_size_2 := dk_seg dksX6_size_1 24 rfl rfl
theorem dksX6_size_3 : cX6_size.data.toList.drop 70 = dktX6_size_3 := dk_seg dksX6_size_2 24 rfl rfl
theorem dX6_size_0 : decode cX6_size 0 = .ok (.aload_n 0, 1) := dk_42 (dk_at dksX6_size_0 0 rfl rfl)
theorem dX6_size_1 : decode cX6_size 1 = .ok (.getfield 7, 3) := dk_180 0 7 (dk_at dksX6_size_0 1 rfl rfl)
theorem dX6_size_4 : decode cX6_size 4 = .ok (.instanceof 13, 3) := dk_193 0 13 (dk_at dksX6_size_0 4 rfl rfl)
theorem dX6_size_7 : decode cX6_size 7 = .ok (.ifCond .eq 14, 3) := dk_153 0 14 (dk_at dksX6_size_0 7 rfl rfl)
theorem dX6_size_10 : decode cX6_size 10 = .ok (.aload_n 0, 1) := dk_42 (dk_at dksX6_size_0 10 rfl rfl)
theorem dX6_size_11 : decode cX6_size 11 = .ok (.getfield 7, 3) := dk_180 0 7 (dk_at dksX6_size_0 11 rfl rfl)
theorem dX6_size_14 : decode cX6_size 14 = .ok (.checkcast 13, 3) := dk_192 0 13 (dk_at dksX6_size_0 14 rfl rfl)
theorem dX6_size_17 : decode cX6_size 17 = .ok (.arraylength, 1) := dk_190 (dk_at dksX6_size_0 17 rfl rfl)
theorem dX6_size_18 : decode cX6_size 18 = .ok (.goto 53, 3) := dk_167 0 53 (dk_at dksX6_size_0 18 rfl rfl)
theorem dX6_size_21 : decode cX6_size 21 = .ok (.aload_n 0, 1) := dk_42 (dk_at dksX6_size_0 21 rfl rfl)
theorem dX6_size_22 : decode cX6_size 22 = .ok (.getfield 7, 3) := dk_180 0 7 (dk_at dksX6_size_1 0 rfl rfl)
theorem dX6_size_25 : decode cX6_size 25 = .ok (.instanceof 15, 3) := dk_193 0 15 (dk_at dksX6_size_1 3 rfl rfl)
theorem dX6_size_28 : decode cX6_size 28 = .ok (.ifCond .eq 14, 3) := dk_153 0 14 (dk_at dksX6_size_1 6 rfl rfl)
theorem dX6_size_31 : decode cX6_size 31 = .ok (.aload_n 0, 1) := dk_42 (dk_at dksX6_size_1 9 rfl rfl)
theorem dX6_size_32 : decode cX6_size 32 = .ok (.getfield 7, 3) := dk_180 0 7 (dk_at dksX6_size_1 10 rfl rfl)
theorem dX6_size_35 : decode cX6_size 35 = .ok (.checkcast 15, 3) := dk_192 0 15 (dk_at dksX6_size_1 13 rfl rfl)
theorem dX6_size_38 : decode cX6_size 38 = .ok (.arraylength, 1) := dk_190 (dk_at dksX6_size_1 16 rfl rfl)
theorem dX6_size_39 : decode cX6_size 39 = .ok (.goto 32, 3) := dk_167 0 32 (dk_at dksX6_size_1 17 rfl rfl)
theorem dX6_size_42 : decode cX6_size 42 = .ok (.aload_n 0, 1) := dk_42 (dk_at dksX6_size_1 20 rfl rfl)
theorem dX6_size_43 : decode cX6_size 43 = .ok (.getfield 7, 3) := dk_180 0 7 (dk_at dksX6_size_1 21 rfl rfl)
theorem dX6_size_46 : decode cX6_size 46 = .ok (.instanceof 17, 3) := dk_193 0 17 (dk_at dksX6_size_2 0 rfl rfl)
theorem dX6_size_49 : decode cX6_size 49 = .ok (.ifCond .eq 14, 3) := dk_153 0 14 (dk_at dksX6_size_2 3 rfl rfl)
theorem dX6_size_52 : decode cX6_size 52 = .ok (.aload_n 0, 1) := dk_42 (dk_at dksX6_size_2 6 rfl rfl)
theorem dX6_size_53 : decode cX6_size 53 = .ok (.getfield 7, 3) := dk_180 0 7 (dk_at dksX6_size_2 7 rfl rfl)
theorem dX6_size_56 : decode cX6_size 56 = .ok (.checkcast 17, 3) := dk_192 0 17 (dk_at dksX6_size_2 10 rfl rfl)
theorem dX6_size_59 : decode cX6_size 59 = .ok (.arraylength, 1) := dk_190 (dk_at dksX6_size_2 13 rfl rfl)
theorem dX6_size_60 : decode cX6_size 60 = .ok (.goto 11, 3) := dk_167 0 11 (dk_at dksX6_size_2 14 rfl rfl)
theorem dX6_size_63 : decode cX6_size 63 = .ok (.aload_n 0, 1) := dk_42 (dk_at dksX6_size_2 17 rfl rfl)
theorem dX6_size_64 : decode cX6_size 64 = .ok (.getfield 7, 3) := dk_180 0 7 (dk_at dksX6_size_2 18 rfl rfl)
theorem dX6_size_67 : decode cX6_size 67 = .ok (.checkcast 19, 3) := dk_192 0 19 (dk_at dksX6_size_2 21 rfl rfl)
theorem dX6_size_70 : decode cX6_size 70 = .ok (.arraylength, 1) := dk_190 (dk_at dksX6_size_3 0 rfl rfl)
theorem dX6_size_71 : decode cX6_size 71 = .ok (.ireturn, 1) := dk_172 (dk_at dksX6_size_3 1 rfl rfl)
abbrev cX6_at : ByteArray := prog_8_method_4_code
def yX6_at : MethodName := ⟨RX6, "at", "(I)J"⟩
def dkwX6_at_3 : List UInt8 := [180, 0, 7, 192, 0, 19, 27, 47, 173]
abbrev dktX6_at_3 : List UInt8 := dkwX6_at_3 ++ []
def dkwX6_at_2 : List UInt8 := [180, 0, 7, 193, 0, 17, 153, 0, 16, 42, 180, 0, 7, 192, 0, 17, 27, 46, 133, 167, 0, 12, 42]
abbrev dktX6_at_2 : List UInt8 := dkwX6_at_2 ++ dktX6_at_3
def dkwX6_at_1 : List UInt8 := [180, 0, 7, 193, 0, 15, 153, 0, 16, 42, 180, 0, 7, 192, 0, 15, 27, 53, 133, 167, 0, 35, 42]
abbrev dktX6_at_1 : List UInt8 := dkwX6_at_1 ++ dktX6_at_2
def dkwX6_at_0 : List UInt8 := [42, 180, 0, 7, 193, 0, 13, 153, 0, 16, 42, 180, 0, 7, 192, 0, 13, 27, 51, 133, 167, 0, 58, 42]
abbrev dktX6_at_0 : List UInt8 := dkwX6_at_0 ++ dktX6_at_1
theorem dksX6_at_0 : cX6_at.data.toList.drop 0 = dktX6_at_0 := by decide +kernel
theorem dksX6_at_1 : cX6_at.data.toList.drop 24 = dktX6_at_1 := dk_seg dksX6_at_0 24 rfl rfl
theorem dksX6_at_2 : cX6_at.data.toList.drop 47 = dktX6_at_2 := dk_seg dksX6_at_1 23 rfl rfl
theorem dksX6_at_3 : cX6_at.data.toList.drop 70 = dktX6_at_3 := dk_seg dksX6_at_2 23 rfl rfl
theorem dX6_at_0 : decode cX6_at 0 = .ok (.aload_n 0, 1) := dk_42 (dk_at dksX6_at_0 0 rfl rfl)
theorem dX6_at_1 : decode cX6_at 1 = .ok (.getfield 7, 3) := dk_180 0 7 (dk_at dksX6_at_0 1 rfl rfl)
theorem dX6_at_4 : decode cX6_at 4 = .ok (.instanceof 13, 3) := dk_193 0 13 (dk_at dksX6_at_0 4 rfl rfl)
theorem dX6_at_7 : decode cX6_at 7 = .ok (.ifCond .eq 16, 3) := dk_153 0 16 (dk_at dksX6_at_0 7 rfl rfl)
theorem dX6_at_10 : decode cX6_at 10 = .ok (.aload_n 0, 1) := dk_42 (dk_at dksX6_at_0 10 rfl rfl)
theorem dX6_at_11 : decode cX6_at 11 = .ok (.getfield 7, 3) := dk_180 0 7 (dk_at dksX6_at_0 11 rfl rfl)
theorem dX6_at_14 : decode cX6_at 14 = .ok (.checkcast 13, 3) := dk_192 0 13 (dk_at dksX6_at_0 14 rfl rfl)
theorem dX6_at_17 : decode cX6_at 17 = .ok (.iload_n 1, 1) := dk_27 (dk_at dksX6_at_0 17 rfl rfl)
theorem dX6_at_18 : decode cX6_at 18 = .ok (.baload, 1) := dk_51 (dk_at dksX6_at_0 18 rfl rfl)
theorem dX6_at_19 : decode cX6_at 19 = .ok (.i2l, 1) := dk_133 (dk_at dksX6_at_0 19 rfl rfl)
theorem dX6_at_20 : decode cX6_at 20 = .ok (.goto 58, 3) := dk_167 0 58 (dk_at dksX6_at_0 20 rfl rfl)
theorem dX6_at_23 : decode cX6_at 23 = .ok (.aload_n 0, 1) := dk_42 (dk_at dksX6_at_0 23 rfl rfl)
theorem dX6_at_24 : decode cX6_at 24 = .ok (.getfield 7, 3) := dk_180 0 7 (dk_at dksX6_at_1 0 rfl rfl)
theorem dX6_at_27 : decode cX6_at 27 = .ok (.instanceof 15, 3) := dk_193 0 15 (dk_at dksX6_at_1 3 rfl rfl)
theorem dX6_at_30 : decode cX6_at 30 = .ok (.ifCond .eq 16, 3) := dk_153 0 16 (dk_at dksX6_at_1 6 rfl rfl)
theorem dX6_at_33 : decode cX6_at 33 = .ok (.aload_n 0, 1) := dk_42 (dk_at dksX6_at_1 9 rfl rfl)
theorem dX6_at_34 : decode cX6_at 34 = .ok (.getfield 7, 3) := dk_180 0 7 (dk_at dksX6_at_1 10 rfl rfl)
theorem dX6_at_37 : decode cX6_at 37 = .ok (.checkcast 15, 3) := dk_192 0 15 (dk_at dksX6_at_1 13 rfl rfl)
theorem dX6_at_40 : decode cX6_at 40 = .ok (.iload_n 1, 1) := dk_27 (dk_at dksX6_at_1 16 rfl rfl)
theorem dX6_at_41 : decode cX6_at 41 = .ok (.saload, 1) := dk_53 (dk_at dksX6_at_1 17 rfl rfl)
theorem dX6_at_42 : decode cX6_at 42 = .ok (.i2l, 1) := dk_133 (dk_at dksX6_at_1 18 rfl rfl)
theorem dX6_at_43 : decode cX6_at 43 = .ok (.goto 35, 3) := dk_167 0 35 (dk_at dksX6_at_1 19 rfl rfl)
theorem dX6_at_46 : decode cX6_at 46 = .ok (.aload_n 0, 1) := dk_42 (dk_at dksX6_at_1 22 rfl rfl)
theorem dX6_at_47 : decode cX6_at 47 = .ok (.getfield 7, 3) := dk_180 0 7 (dk_at dksX6_at_2 0 rfl rfl)
theorem dX6_at_50 : decode cX6_at 50 = .ok (.instanceof 17, 3) := dk_193 0 17 (dk_at dksX6_at_2 3 rfl rfl)
theorem dX6_at_53 : decode cX6_at 53 = .ok (.ifCond .eq 16, 3) := dk_153 0 16 (dk_at dksX6_at_2 6 rfl rfl)
theorem dX6_at_56 : decode cX6_at 56 = .ok (.aload_n 0, 1) := dk_42 (dk_at dksX6_at_2 9 rfl rfl)
theorem dX6_at_57 : decode cX6_at 57 = .ok (.getfield 7, 3) := dk_180 0 7 (dk_at dksX6_at_2 10 rfl rfl)
theorem dX6_at_60 : decode cX6_at 60 = .ok (.checkcast 17, 3) := dk_192 0 17 (dk_at dksX6_at_2 13 rfl rfl)
theorem dX6_at_63 : decode cX6_at 63 = .ok (.iload_n 1, 1) := dk_27 (dk_at dksX6_at_2 16 rfl rfl)
theorem dX6_at_64 : decode cX6_at 64 = .ok (.iaload, 1) := dk_46 (dk_at dksX6_at_2 17 rfl rfl)
theorem dX6_at_65 : decode cX6_at 65 = .ok (.i2l, 1) := dk_133 (dk_at dksX6_at_2 18 rfl rfl)
theorem dX6_at_66 : decode cX6_at 66 = .ok (.goto 12, 3) := dk_167 0 12 (dk_at dksX6_at_2 19 rfl rfl)
theorem dX6_at_69 : decode cX6_at 69 = .ok (.aload_n 0, 1) := dk_42 (dk_at dksX6_at_2 22 rfl rfl)
theorem dX6_at_70 : decode cX6_at 70 = .ok (.getfield 7, 3) := dk_180 0 7 (dk_at dksX6_at_3 0 rfl rfl)
theorem dX6_at_73 : decode cX6_at 73 = .ok (.checkcast 19, 3) := dk_192 0 19 (dk_at dksX6_at_3 3 rfl rfl)
theorem dX6_at_76 : decode cX6_at 76 = .ok (.iload_n 1, 1) := dk_27 (dk_at dksX6_at_3 6 rfl rfl)
theorem dX6_at_77 : decode cX6_at 77 = .ok (.laload, 1) := dk_47 (dk_at dksX6_at_3 7 rfl rfl)
theorem dX6_at_78 : decode cX6_at 78 = .ok (.lreturn, 1) := dk_173 (dk_at dksX6_at_3 8 rfl rfl)
abbrev cX6_make : ByteArray := prog_8_method_2_code
def yX6_make : MethodName := ⟨RX6, "make", "(II)V"⟩
def dkwX6_make_1 : List UInt8 := [160, 0, 9, 28, 188, 10, 167, 0, 6, 28, 188, 11, 181, 0, 7, 177]
abbrev dktX6_make_1 : List UInt8 := dkwX6_make_1 ++ []
def dkwX6_make_0 : List UInt8 := [42, 27, 154, 0, 9, 28, 188, 8, 167, 0, 28, 27, 4, 160, 0, 9, 28, 188, 9, 167, 0, 17, 27, 5]
abbrev dktX6_make_0 : List UInt8 := dkwX6_make_0 ++ dktX6_make_1
theorem dksX6_make_0 : cX6_make.data.toList.drop 0 = dktX6_make_0 := by decide +kernel
theorem dksX6_make_1 : cX6_make.data.toList.drop 24 = dktX6_make_1 := dk_seg dksX6_make_0 24 rfl rfl
theorem dX6_make_0 : decode cX6_make 0 = .ok (.aload_n 0, 1) := dk_42 (dk_at dksX6_make_0 0 rfl rfl)
theorem dX6_make_1 : decode cX6_make 1 = .ok (.iload_n 1, 1) := dk_27 (dk_at dksX6_make_0 1 rfl rfl)
theorem dX6_make_2 : decode cX6_make 2 = .ok (.ifCond .ne 9, 3) := dk_154 0 9 (dk_at dksX6_make_0 2 rfl rfl)
theorem dX6_make_5 : decode cX6_make 5 = .ok (.iload_n 2, 1) := dk_28 (dk_at dksX6_make_0 5 rfl rfl)
theorem dX6_make_6 : decode cX6_make 6 = .ok (.newarray .byte, 2) := dk_188_8 (dk_at dksX6_make_0 6 rfl rfl)
theorem dX6_make_8 : decode cX6_make 8 = .ok (.goto 28, 3) := dk_167 0 28 (dk_at dksX6_make_0 8 rfl rfl)
theorem dX6_make_11 : decode cX6_make 11 = .ok (.iload_n 1, 1) := dk_27 (dk_at dksX6_make_0 11 rfl rfl)
theorem dX6_make_12 : decode cX6_make 12 = .ok (.iconst 1, 1) := dk_4 (dk_at dksX6_make_0 12 rfl rfl)
theorem dX6_make_13 : decode cX6_make 13 = .ok (.if_icmp .ne 9, 3) := dk_160 0 9 (dk_at dksX6_make_0 13 rfl rfl)
theorem dX6_make_16 : decode cX6_make 16 = .ok (.iload_n 2, 1) := dk_28 (dk_at dksX6_make_0 16 rfl rfl)
theorem dX6_make_17 : decode cX6_make 17 = .ok (.newarray .short, 2) := dk_188_9 (dk_at dksX6_make_0 17 rfl rfl)
theorem dX6_make_19 : decode cX6_make 19 = .ok (.goto 17, 3) := dk_167 0 17 (dk_at dksX6_make_0 19 rfl rfl)
theorem dX6_make_22 : decode cX6_make 22 = .ok (.iload_n 1, 1) := dk_27 (dk_at dksX6_make_0 22 rfl rfl)
theorem dX6_make_23 : decode cX6_make 23 = .ok (.iconst 2, 1) := dk_5 (dk_at dksX6_make_0 23 rfl rfl)
theorem dX6_make_24 : decode cX6_make 24 = .ok (.if_icmp .ne 9, 3) := dk_160 0 9 (dk_at dksX6_make_1 0 rfl rfl)
theorem dX6_make_27 : decode cX6_make 27 = .ok (.iload_n 2, 1) := dk_28 (dk_at dksX6_make_1 3 rfl rfl)
theorem dX6_make_28 : decode cX6_make 28 = .ok (.newarray .int, 2) := dk_188_10 (dk_at dksX6_make_1 4 rfl rfl)
theorem dX6_make_30 : decode cX6_make 30 = .ok (.goto 6, 3) := dk_167 0 6 (dk_at dksX6_make_1 6 rfl rfl)
theorem dX6_make_33 : decode cX6_make 33 = .ok (.iload_n 2, 1) := dk_28 (dk_at dksX6_make_1 9 rfl rfl)
theorem dX6_make_34 : decode cX6_make 34 = .ok (.newarray .long, 2) := dk_188_11 (dk_at dksX6_make_1 10 rfl rfl)
theorem dX6_make_36 : decode cX6_make 36 = .ok (.putfield 7, 3) := dk_181 0 7 (dk_at dksX6_make_1 12 rfl rfl)
theorem dX6_make_39 : decode cX6_make 39 = .ok (.return_, 1) := dk_177 (dk_at dksX6_make_1 15 rfl rfl)
abbrev cX6_put : ByteArray := prog_8_method_5_code
def yX6_put : MethodName := ⟨RX6, "put", "(IJ)V"⟩
def dkwX6_put_3 : List UInt8 := [79, 167, 0, 13, 42, 180, 0, 7, 192, 0, 19, 27, 32, 80, 177]
abbrev dktX6_put_3 : List UInt8 := dkwX6_put_3 ++ []
def dkwX6_put_2 : List UInt8 := [86, 167, 0, 37, 42, 180, 0, 7, 193, 0, 17, 153, 0, 17, 42, 180, 0, 7, 192, 0, 17, 27, 32, 136]
abbrev dktX6_put_2 : List UInt8 := dkwX6_put_2 ++ dktX6_put_3
def dkwX6_put_1 : List UInt8 := [167, 0, 62, 42, 180, 0, 7, 193, 0, 15, 153, 0, 18, 42, 180, 0, 7, 192, 0, 15, 27, 32, 136, 147]
abbrev dktX6_put_1 : List UInt8 := dkwX6_put_1 ++ dktX6_put_2
def dkwX6_put_0 : List UInt8 := [42, 180, 0, 7, 193, 0, 13, 153, 0, 18, 42, 180, 0, 7, 192, 0, 13, 27, 32, 136, 145, 84]
abbrev dktX6_put_0 : List UInt8 := dkwX6_put_0 ++ dktX6_put_1
theorem dksX6_put_0 : cX6_put.data.toList.drop 0 = dktX6_put_0 := by decide +kernel
theorem dksX6_put_1 : cX6_put.data.toList.drop 22 = dktX6_put_1 := dk_seg dksX6_put_0 22 rfl rfl
theorem dksX6_put_2 : cX6_put.data.toList.drop 46 = dktX6_put_2 := dk_seg dksX6_put_1 24 rfl rfl
theorem dksX6_put_3 : cX6_put.data.toList.drop 70 = dktX6_put_3 := dk_seg dksX6_put_2 24 rfl rfl
theorem dX6_put_0 : decode cX6_put 0 = .ok (.aload_n 0, 1) := dk_42 (dk_at dksX6_put_0 0 rfl rfl)
theorem dX6_put_1 : decode cX6_put 1 = .ok (.getfield 7, 3) := dk_180 0 7 (dk_at dksX6_put_0 1 rfl rfl)
theorem dX6_put_4 : decode cX6_put 4 = .ok (.instanceof 13, 3) := dk_193 0 13 (dk_at dksX6_put_0 4 rfl rfl)
theorem dX6_put_7 : decode cX6_put 7 = .ok (.ifCond .eq 18, 3) := dk_153 0 18 (dk_at dksX6_put_0 7 rfl rfl)
theorem dX6_put_10 : decode cX6_put 10 = .ok (.aload_n 0, 1) := dk_42 (dk_at dksX6_put_0 10 rfl rfl)
theorem dX6_put_11 : decode cX6_put 11 = .ok (.getfield 7, 3) := dk_180 0 7 (dk_at dksX6_put_0 11 rfl rfl)
theorem dX6_put_14 : decode cX6_put 14 = .ok (.checkcast 13, 3) := dk_192 0 13 (dk_at dksX6_put_0 14 rfl rfl)
theorem dX6_put_17 : decode cX6_put 17 = .ok (.iload_n 1, 1) := dk_27 (dk_at dksX6_put_0 17 rfl rfl)
theorem dX6_put_18 : decode cX6_put 18 = .ok (.lload_n 2, 1) := dk_32 (dk_at dksX6_put_0 18 rfl rfl)
theorem dX6_put_19 : decode cX6_put 19 = .ok (.l2i, 1) := dk_136 (dk_at dksX6_put_0 19 rfl rfl)
theorem dX6_put_20 : decode cX6_put 20 = .ok (.i2b, 1) := dk_145 (dk_at dksX6_put_0 20 rfl rfl)
theorem dX6_put_21 : decode cX6_put 21 = .ok (.bastore, 1) := dk_84 (dk_at dksX6_put_0 21 rfl rfl)
theorem dX6_put_22 : decode cX6_put 22 = .ok (.goto 62, 3) := dk_167 0 62 (dk_at dksX6_put_1 0 rfl rfl)
theorem dX6_put_25 : decode cX6_put 25 = .ok (.aload_n 0, 1) := dk_42 (dk_at dksX6_put_1 3 rfl rfl)
theorem dX6_put_26 : decode cX6_put 26 = .ok (.getfield 7, 3) := dk_180 0 7 (dk_at dksX6_put_1 4 rfl rfl)
theorem dX6_put_29 : decode cX6_put 29 = .ok (.instanceof 15, 3) := dk_193 0 15 (dk_at dksX6_put_1 7 rfl rfl)
theorem dX6_put_32 : decode cX6_put 32 = .ok (.ifCond .eq 18, 3) := dk_153 0 18 (dk_at dksX6_put_1 10 rfl rfl)
theorem dX6_put_35 : decode cX6_put 35 = .ok (.aload_n 0, 1) := dk_42 (dk_at dksX6_put_1 13 rfl rfl)
theorem dX6_put_36 : decode cX6_put 36 = .ok (.getfield 7, 3) := dk_180 0 7 (dk_at dksX6_put_1 14 rfl rfl)
theorem dX6_put_39 : decode cX6_put 39 = .ok (.checkcast 15, 3) := dk_192 0 15 (dk_at dksX6_put_1 17 rfl rfl)
theorem dX6_put_42 : decode cX6_put 42 = .ok (.iload_n 1, 1) := dk_27 (dk_at dksX6_put_1 20 rfl rfl)
theorem dX6_put_43 : decode cX6_put 43 = .ok (.lload_n 2, 1) := dk_32 (dk_at dksX6_put_1 21 rfl rfl)
theorem dX6_put_44 : decode cX6_put 44 = .ok (.l2i, 1) := dk_136 (dk_at dksX6_put_1 22 rfl rfl)
theorem dX6_put_45 : decode cX6_put 45 = .ok (.i2s, 1) := dk_147 (dk_at dksX6_put_1 23 rfl rfl)
theorem dX6_put_46 : decode cX6_put 46 = .ok (.sastore, 1) := dk_86 (dk_at dksX6_put_2 0 rfl rfl)
theorem dX6_put_47 : decode cX6_put 47 = .ok (.goto 37, 3) := dk_167 0 37 (dk_at dksX6_put_2 1 rfl rfl)
theorem dX6_put_50 : decode cX6_put 50 = .ok (.aload_n 0, 1) := dk_42 (dk_at dksX6_put_2 4 rfl rfl)
theorem dX6_put_51 : decode cX6_put 51 = .ok (.getfield 7, 3) := dk_180 0 7 (dk_at dksX6_put_2 5 rfl rfl)
theorem dX6_put_54 : decode cX6_put 54 = .ok (.instanceof 17, 3) := dk_193 0 17 (dk_at dksX6_put_2 8 rfl rfl)
theorem dX6_put_57 : decode cX6_put 57 = .ok (.ifCond .eq 17, 3) := dk_153 0 17 (dk_at dksX6_put_2 11 rfl rfl)
theorem dX6_put_60 : decode cX6_put 60 = .ok (.aload_n 0, 1) := dk_42 (dk_at dksX6_put_2 14 rfl rfl)
theorem dX6_put_61 : decode cX6_put 61 = .ok (.getfield 7, 3) := dk_180 0 7 (dk_at dksX6_put_2 15 rfl rfl)
theorem dX6_put_64 : decode cX6_put 64 = .ok (.checkcast 17, 3) := dk_192 0 17 (dk_at dksX6_put_2 18 rfl rfl)
theorem dX6_put_67 : decode cX6_put 67 = .ok (.iload_n 1, 1) := dk_27 (dk_at dksX6_put_2 21 rfl rfl)
theorem dX6_put_68 : decode cX6_put 68 = .ok (.lload_n 2, 1) := dk_32 (dk_at dksX6_put_2 22 rfl rfl)
theorem dX6_put_69 : decode cX6_put 69 = .ok (.l2i, 1) := dk_136 (dk_at dksX6_put_2 23 rfl rfl)
theorem dX6_put_70 : decode cX6_put 70 = .ok (.iastore, 1) := dk_79 (dk_at dksX6_put_3 0 rfl rfl)
theorem dX6_put_71 : decode cX6_put 71 = .ok (.goto 13, 3) := dk_167 0 13 (dk_at dksX6_put_3 1 rfl rfl)
theorem dX6_put_74 : decode cX6_put 74 = .ok (.aload_n 0, 1) := dk_42 (dk_at dksX6_put_3 4 rfl rfl)
theorem dX6_put_75 : decode cX6_put 75 = .ok (.getfield 7, 3) := dk_180 0 7 (dk_at dksX6_put_3 5 rfl rfl)
theorem dX6_put_78 : decode cX6_put 78 = .ok (.checkcast 19, 3) := dk_192 0 19 (dk_at dksX6_put_3 8 rfl rfl)
theorem dX6_put_81 : decode cX6_put 81 = .ok (.iload_n 1, 1) := dk_27 (dk_at dksX6_put_3 11 rfl rfl)
theorem dX6_put_82 : decode cX6_put 82 = .ok (.lload_n 2, 1) := dk_32 (dk_at dksX6_put_3 12 rfl rfl)
theorem dX6_put_83 : decode cX6_put 83 = .ok (.lastore, 1) := dk_80 (dk_at dksX6_put_3 13 rfl rfl)
theorem dX6_put_84 : decode cX6_put 84 = .ok (.return_, 1) := dk_177 (dk_at dksX6_put_3 14 rfl rfl)
theorem q143 : (Jvm.Cond.initialized "LehrBelt$Slot") ∈ lw_all := lw_g (lw_at lw_m1 7 rfl) rfl
theorem q307 : (Jvm.Cond.instantiable "LehrBelt$Slot" (1 : Nat)) ∈ lw_all := lw_g (lw_at lw_m1 171 rfl) rfl
theorem q309 : (Jvm.Cond.instanceMethod ({ cls := "LehrBelt$Slot", name := "<init>", desc := "()V" } : Jvm.MethodName)) ∈ lw_all := lw_g (lw_at lw_m1 173 rfl) rfl
theorem q310 : (Jvm.Cond.code ({ cls := "LehrBelt$Slot", name := "<init>", desc := "()V" } : Jvm.MethodName) prog_8_method_1_code (1 : Nat) (Option.none : Option Jvm.ClassFile.FieldType)) ∈ lw_all := lw_g (lw_at lw_m1 174 rfl) rfl
theorem q311 : (Jvm.Cond.methodLink "LehrBelt$Slot" (1 : Nat) ({ cls := "java/lang/Object", name := "<init>", desc := "()V" } : Jvm.MethodName)) ∈ lw_all := lw_g (lw_at lw_m1 175 rfl) rfl
theorem q312 : (Jvm.Cond.fieldLink "LehrBelt$Slot" (7 : Nat) "LehrBelt$Slot" "row" "Ljava/lang/Object;") ∈ lw_all := lw_g (lw_at lw_m1 176 rfl) rfl
theorem q314 : (Jvm.Cond.lays "LehrBelt$Slot" "LehrBelt$Slot" "row" "Ljava/lang/Object;") ∈ lw_all := lw_g (lw_at lw_m1 178 rfl) rfl
theorem q315 : (Jvm.Cond.soleField "LehrBelt$Slot" "row") ∈ lw_all := lw_g (lw_at lw_m1 179 rfl) rfl
theorem q316 : (Jvm.Cond.superclass "LehrBelt$Slot" "java/lang/Object") ∈ lw_all := lw_g (lw_at lw_m1 180 rfl) rfl
theorem q1186 : (Jvm.Cond.instanceMethod ({ cls := "LehrBelt$Slot", name := "size", desc := "()I" } : Jvm.MethodName)) ∈ lw_all := lw_g (lw_at lw_m5 90 rfl) rfl
theorem q1187 : (Jvm.Cond.selects "LehrBelt$Slot" ({ cls := "LehrBelt$Slot", name := "size", desc := "()I" } : Jvm.MethodName) ({ cls := "LehrBelt$Slot", name := "size", desc := "()I" } : Jvm.MethodName)) ∈ lw_all := lw_g (lw_at lw_m5 91 rfl) rfl
theorem q1188 : (Jvm.Cond.code ({ cls := "LehrBelt$Slot", name := "size", desc := "()I" } : Jvm.MethodName) prog_8_method_3_code (1 : Nat) (Option.some Jvm.ClassFile.FieldType.int)) ∈ lw_all := lw_g (lw_at lw_m5 92 rfl) rfl
theorem q1189 : (Jvm.Cond.classLink "LehrBelt$Slot" (13 : Nat) "[B") ∈ lw_all := lw_g (lw_at lw_m5 93 rfl) rfl
theorem q1190 : (Jvm.Cond.classLink "LehrBelt$Slot" (15 : Nat) "[S") ∈ lw_all := lw_g (lw_at lw_m5 94 rfl) rfl
theorem q1191 : (Jvm.Cond.classLink "LehrBelt$Slot" (17 : Nat) "[I") ∈ lw_all := lw_g (lw_at lw_m5 95 rfl) rfl
theorem q1192 : (Jvm.Cond.classLink "LehrBelt$Slot" (19 : Nat) "[J") ∈ lw_all := lw_g (lw_at lw_m5 96 rfl) rfl
theorem q1194 : (Jvm.Cond.instanceMethod ({ cls := "LehrBelt$Slot", name := "at", desc := "(I)J" } : Jvm.MethodName)) ∈ lw_all := lw_g (lw_at lw_m5 98 rfl) rfl
theorem q1195 : (Jvm.Cond.selects "LehrBelt$Slot" ({ cls := "LehrBelt$Slot", name := "at", desc := "(I)J" } : Jvm.MethodName) ({ cls := "LehrBelt$Slot", name := "at", desc := "(I)J" } : Jvm.MethodName)) ∈ lw_all := lw_g (lw_at lw_m5 99 rfl) rfl
theorem q1196 : (Jvm.Cond.code ({ cls := "LehrBelt$Slot", name := "at", desc := "(I)J" } : Jvm.MethodName) prog_8_method_4_code (2 : Nat) (Option.some Jvm.ClassFile.FieldType.long)) ∈ lw_all := lw_g (lw_at lw_m5 100 rfl) rfl
theorem q1398 : (Jvm.Cond.selects "LehrBelt$Slot" ({ cls := "java/lang/Object", name := "getClass", desc := "()Ljava/lang/Class;" } : Jvm.MethodName) ({ cls := "java/lang/Object", name := "getClass", desc := "()Ljava/lang/Class;" } : Jvm.MethodName)) ∈ lw_all := lw_g (lw_at lw_m6 62 rfl) rfl
theorem q1481 : (Jvm.Cond.instanceMethod ({ cls := "LehrBelt$Slot", name := "make", desc := "(II)V" } : Jvm.MethodName)) ∈ lw_all := lw_g (lw_at lw_m6 145 rfl) rfl
theorem q1482 : (Jvm.Cond.selects "LehrBelt$Slot" ({ cls := "LehrBelt$Slot", name := "make", desc := "(II)V" } : Jvm.MethodName) ({ cls := "LehrBelt$Slot", name := "make", desc := "(II)V" } : Jvm.MethodName)) ∈ lw_all := lw_g (lw_at lw_m6 146 rfl) rfl
theorem q1483 : (Jvm.Cond.code ({ cls := "LehrBelt$Slot", name := "make", desc := "(II)V" } : Jvm.MethodName) prog_8_method_2_code (3 : Nat) (Option.none : Option Jvm.ClassFile.FieldType)) ∈ lw_all := lw_g (lw_at lw_m6 147 rfl) rfl
theorem q1510 : (Jvm.Cond.instanceMethod ({ cls := "LehrBelt$Slot", name := "put", desc := "(IJ)V" } : Jvm.MethodName)) ∈ lw_all := lw_g (lw_at lw_m6 174 rfl) rfl
theorem q1511 : (Jvm.Cond.selects "LehrBelt$Slot" ({ cls := "LehrBelt$Slot", name := "put", desc := "(IJ)V" } : Jvm.MethodName) ({ cls := "LehrBelt$Slot", name := "put", desc := "(IJ)V" } : Jvm.MethodName)) ∈ lw_all := lw_g (lw_at lw_m6 175 rfl) rfl
theorem q1512 : (Jvm.Cond.code ({ cls := "LehrBelt$Slot", name := "put", desc := "(IJ)V" } : Jvm.MethodName) prog_8_method_5_code (4 : Nat) (Option.none : Option Jvm.ClassFile.FieldType)) ∈ lw_all := lw_g (lw_at lw_m6 176 rfl) rfl
theorem q2344 : (Jvm.Cond.castable "LehrBelt$Slot" "java/lang/Object") ∈ lw_tbl := lw_at lw_m10 48 rfl
theorem in_X6 : ∀ w ∈ wsX60, w ∈ lw_all := lw_in wsX60 [314] (by decide +kernel) (by decide +kernel)

/-! LehrBelt$Reader -/
set_option maxRecDepth 100000
def RX8 : String := "LehrBelt$Reader"
def TX8 : u_T := fun k => match k with
  | 0 => ("LehrBelt$Reader", "size", "I", true)
  | 1 => ("LehrBelt$Reader", "lehr", "LLehrBelt$Lehr;", true)
  | 2 => ("LehrBelt$Reader", "at", "I", false)
  | 3 => ("LehrBelt$Reader", "from", "I", false)
  | 4 => ("LehrBelt$Reader", "value", "I", false)
  | 5 => ("LehrBelt$Reader", "token", "LLehrBelt$Token;", false)
  | _ => ("LehrBelt$Reader", "this$0", "LLehrBelt;", true)
def tyX8 : Nat → FieldType := fun k => match k with
  | 0 => .int
  | 1 => .object "LehrBelt$Lehr"
  | 2 => .int
  | 3 => .int
  | 4 => .int
  | 5 => .object "LehrBelt$Token"
  | _ => .object "LehrBelt"
abbrev wsX80 : List Cond := u_ws RX8 TX8 7
theorem nmX8 : ∀ a, a < 7 → ∀ b, b < 7 → a ≠ b → (TX8 a).2.1 ≠ (TX8 b).2.1 := by decide +kernel
theorem tyX8_ok : ∀ k, k < 7 → parseFieldDescriptor (TX8 k).2.2.1 = some (tyX8 k) := by decide +kernel
abbrev cX8_init : ByteArray := prog_7_method_1_code
def yX8_init : MethodName := ⟨RX8, "<init>", "(LLehrBelt;)V"⟩
def dkwX8_init_1 : List UInt8 := [89, 183, 0, 24, 181, 0, 25, 42, 178, 0, 29, 181, 0, 35, 42, 182, 0, 38, 177]
abbrev dktX8_init_1 : List UInt8 := dkwX8_init_1 ++ []
def dkwX8_init_0 : List UInt8 := [42, 43, 181, 0, 3, 42, 183, 0, 9, 42, 42, 180, 0, 3, 180, 0, 15, 181, 0, 19, 42, 187, 0, 22]
abbrev dktX8_init_0 : List UInt8 := dkwX8_init_0 ++ dktX8_init_1
theorem dksX8_init_0 : cX8_init.data.toList.drop 0 = dktX8_init_0 := by decide +kernel
theorem dksX8_init_1 : cX8_init.data.toList.drop 24 = dktX8_init_1 := dk_seg dksX8_init_0 24 rfl rfl
theorem dX8_init_0 : decode cX8_init 0 = .ok (.aload_n 0, 1) := dk_42 (dk_at dksX8_init_0 0 rfl rfl)
theorem dX8_init_1 : decode cX8_init 1 = .ok (.aload_n 1, 1) := dk_43 (dk_at dksX8_init_0 1 rfl rfl)
theorem dX8_init_2 : decode cX8_init 2 = .ok (.putfield 3, 3) := dk_181 0 3 (dk_at dksX8_init_0 2 rfl rfl)
theorem dX8_init_5 : decode cX8_init 5 = .ok (.aload_n 0, 1) := dk_42 (dk_at dksX8_init_0 5 rfl rfl)
theorem dX8_init_6 : decode cX8_init 6 = .ok (.invokespecial 9, 3) := dk_183 0 9 (dk_at dksX8_init_0 6 rfl rfl)
theorem dX8_init_9 : decode cX8_init 9 = .ok (.aload_n 0, 1) := dk_42 (dk_at dksX8_init_0 9 rfl rfl)
theorem dX8_init_10 : decode cX8_init 10 = .ok (.aload_n 0, 1) := dk_42 (dk_at dksX8_init_0 10 rfl rfl)
theorem dX8_init_11 : decode cX8_init 11 = .ok (.getfield 3, 3) := dk_180 0 3 (dk_at dksX8_init_0 11 rfl rfl)
theorem dX8_init_14 : decode cX8_init 14 = .ok (.getfield 15, 3) := dk_180 0 15 (dk_at dksX8_init_0 14 rfl rfl)
theorem dX8_init_17 : decode cX8_init 17 = .ok (.putfield 19, 3) := dk_181 0 19 (dk_at dksX8_init_0 17 rfl rfl)
theorem dX8_init_20 : decode cX8_init 20 = .ok (.aload_n 0, 1) := dk_42 (dk_at dksX8_init_0 20 rfl rfl)
theorem dX8_init_21 : decode cX8_init 21 = .ok (.new 22, 3) := dk_187 0 22 (dk_at dksX8_init_0 21 rfl rfl)
theorem dX8_init_24 : decode cX8_init 24 = .ok (.dup, 1) := dk_89 (dk_at dksX8_init_1 0 rfl rfl)
theorem dX8_init_25 : decode cX8_init 25 = .ok (.invokespecial 24, 3) := dk_183 0 24 (dk_at dksX8_init_1 1 rfl rfl)
theorem dX8_init_28 : decode cX8_init 28 = .ok (.putfield 25, 3) := dk_181 0 25 (dk_at dksX8_init_1 4 rfl rfl)
theorem dX8_init_31 : decode cX8_init 31 = .ok (.aload_n 0, 1) := dk_42 (dk_at dksX8_init_1 7 rfl rfl)
theorem dX8_init_32 : decode cX8_init 32 = .ok (.getstatic 29, 3) := dk_178 0 29 (dk_at dksX8_init_1 8 rfl rfl)
theorem dX8_init_35 : decode cX8_init 35 = .ok (.putfield 35, 3) := dk_181 0 35 (dk_at dksX8_init_1 11 rfl rfl)
theorem dX8_init_38 : decode cX8_init 38 = .ok (.aload_n 0, 1) := dk_42 (dk_at dksX8_init_1 14 rfl rfl)
theorem dX8_init_39 : decode cX8_init 39 = .ok (.invokevirtual 38, 3) := dk_182 0 38 (dk_at dksX8_init_1 15 rfl rfl)
theorem dX8_init_42 : decode cX8_init 42 = .ok (.return_, 1) := dk_177 (dk_at dksX8_init_1 18 rfl rfl)
abbrev cX8_next : ByteArray := prog_7_method_3_code
def yX8_next : MethodName := ⟨RX8, "next", "()V"⟩
def dkwX8_next_10 : List UInt8 := [167, 0, 6, 178, 0, 78, 181, 0, 35, 42, 89, 180, 0, 41, 4, 96, 181, 0, 41, 177]
abbrev dktX8_next_10 : List UInt8 := dkwX8_next_10 ++ []
def dkwX8_next_9 : List UInt8 := [167, 0, 43, 42, 42, 180, 0, 3, 180, 0, 44, 42, 180, 0, 41, 51, 16, 59, 160, 0, 9, 178, 0, 75]
abbrev dktX8_next_9 : List UInt8 := dkwX8_next_9 ++ dktX8_next_10
def dkwX8_next_8 : List UInt8 := [181, 0, 62, 42, 89, 180, 0, 41, 4, 96, 181, 0, 41, 167, 255, 203, 42, 178, 0, 72, 181, 0, 35]
abbrev dktX8_next_8 : List UInt8 := dkwX8_next_8 ++ dktX8_next_9
def dkwX8_next_7 : List UInt8 := [180, 0, 62, 104, 42, 180, 0, 3, 180, 0, 44, 42, 180, 0, 41, 51, 96, 16, 48, 100, 184, 0, 66]
abbrev dktX8_next_7 : List UInt8 := dkwX8_next_7 ++ dktX8_next_8
def dkwX8_next_6 : List UInt8 := [42, 3, 181, 0, 62, 42, 16, 48, 16, 57, 182, 0, 55, 153, 0, 48, 42, 18, 65, 16, 10, 42]
abbrev dktX8_next_6 : List UInt8 := dkwX8_next_6 ++ dktX8_next_7
def dkwX8_next_5 : List UInt8 := [167, 255, 235, 42, 178, 0, 59, 181, 0, 35, 167, 0, 125, 42, 16, 48, 16, 57, 182, 0, 55, 153, 0, 74]
abbrev dktX8_next_5 : List UInt8 := dkwX8_next_5 ++ dktX8_next_6
def dkwX8_next_4 : List UInt8 := [153, 0, 37, 42, 16, 97, 16, 122, 182, 0, 55, 153, 0, 16, 42, 89, 180, 0, 41, 4, 96, 181, 0, 41]
abbrev dktX8_next_4 : List UInt8 := dkwX8_next_4 ++ dktX8_next_5
def dkwX8_next_3 : List UInt8 := [180, 0, 19, 160, 0, 13, 42, 178, 0, 29, 181, 0, 35, 167, 0, 170, 42, 16, 97, 16, 122, 182, 0, 55]
abbrev dktX8_next_3 : List UInt8 := dkwX8_next_3 ++ dktX8_next_4
def dkwX8_next_2 : List UInt8 := [180, 0, 41, 4, 96, 181, 0, 41, 167, 255, 201, 42, 42, 180, 0, 41, 181, 0, 52, 42, 180, 0, 41, 42]
abbrev dktX8_next_2 : List UInt8 := dkwX8_next_2 ++ dktX8_next_3
def dkwX8_next_1 : List UInt8 := [16, 32, 159, 0, 20, 42, 180, 0, 3, 180, 0, 44, 42, 180, 0, 41, 51, 16, 10, 160, 0, 16, 42, 89]
abbrev dktX8_next_1 : List UInt8 := dkwX8_next_1 ++ dktX8_next_2
def dkwX8_next_0 : List UInt8 := [42, 180, 0, 41, 42, 180, 0, 19, 162, 0, 50, 42, 180, 0, 3, 180, 0, 44, 42, 180, 0, 41, 51]
abbrev dktX8_next_0 : List UInt8 := dkwX8_next_0 ++ dktX8_next_1
theorem dksX8_next_0 : cX8_next.data.toList.drop 0 = dktX8_next_0 := by decide +kernel
theorem dksX8_next_1 : cX8_next.data.toList.drop 23 = dktX8_next_1 := dk_seg dksX8_next_0 23 rfl rfl
theorem dksX8_next_2 : cX8_next.data.toList.drop 47 = dktX8_next_2 := dk_seg dksX8_next_1 24 rfl rfl
theorem dksX8_next_3 : cX8_next.data.toList.drop 71 = dktX8_next_3 := dk_seg dksX8_next_2 24 rfl rfl
theorem dksX8_next_4 : cX8_next.data.toList.drop 95 = dktX8_next_4 := dk_seg dksX8_next_3 24 rfl rfl
theorem dksX8_next_5 : cX8_next.data.toList.drop 119 = dktX8_next_5 := dk_seg dksX8_next_4 24 rfl rfl
theorem dksX8_next_6 : cX8_next.data.toList.drop 143 = dktX8_next_6 := dk_seg dksX8_next_5 24 rfl rfl
theorem dksX8_next_7 : cX8_next.data.toList.drop 165 = dktX8_next_7 := dk_seg dksX8_next_6 22 rfl rfl
theorem dksX8_next_8 : cX8_next.data.toList.drop 188 = dktX8_next_8 := dk_seg dksX8_next_7 23 rfl rfl
theorem dksX8_next_9 : cX8_next.data.toList.drop 211 = dktX8_next_9 := dk_seg dksX8_next_8 23 rfl rfl
theorem dksX8_next_10 : cX8_next.data.toList.drop 235 = dktX8_next_10 := dk_seg dksX8_next_9 24 rfl rfl
theorem dX8_next_0 : decode cX8_next 0 = .ok (.aload_n 0, 1) := dk_42 (dk_at dksX8_next_0 0 rfl rfl)
theorem dX8_next_1 : decode cX8_next 1 = .ok (.getfield 41, 3) := dk_180 0 41 (dk_at dksX8_next_0 1 rfl rfl)
theorem dX8_next_4 : decode cX8_next 4 = .ok (.aload_n 0, 1) := dk_42 (dk_at dksX8_next_0 4 rfl rfl)
theorem dX8_next_5 : decode cX8_next 5 = .ok (.getfield 19, 3) := dk_180 0 19 (dk_at dksX8_next_0 5 rfl rfl)
theorem dX8_next_8 : decode cX8_next 8 = .ok (.if_icmp .ge 50, 3) := dk_162 0 50 (dk_at dksX8_next_0 8 rfl rfl)
theorem dX8_next_11 : decode cX8_next 11 = .ok (.aload_n 0, 1) := dk_42 (dk_at dksX8_next_0 11 rfl rfl)
theorem dX8_next_12 : decode cX8_next 12 = .ok (.getfield 3, 3) := dk_180 0 3 (dk_at dksX8_next_0 12 rfl rfl)
theorem dX8_next_15 : decode cX8_next 15 = .ok (.getfield 44, 3) := dk_180 0 44 (dk_at dksX8_next_0 15 rfl rfl)
theorem dX8_next_18 : decode cX8_next 18 = .ok (.aload_n 0, 1) := dk_42 (dk_at dksX8_next_0 18 rfl rfl)
theorem dX8_next_19 : decode cX8_next 19 = .ok (.getfield 41, 3) := dk_180 0 41 (dk_at dksX8_next_0 19 rfl rfl)
theorem dX8_next_22 : decode cX8_next 22 = .ok (.baload, 1) := dk_51 (dk_at dksX8_next_0 22 rfl rfl)
theorem dX8_next_23 : decode cX8_next 23 = .ok (.bipush 32, 2) := dk_16 32 (dk_at dksX8_next_1 0 rfl rfl)
theorem dX8_next_25 : decode cX8_next 25 = .ok (.if_icmp .eq 20, 3) := dk_159 0 20 (dk_at dksX8_next_1 2 rfl rfl)
theorem dX8_next_28 : decode cX8_next 28 = .ok (.aload_n 0, 1) := dk_42 (dk_at dksX8_next_1 5 rfl rfl)
theorem dX8_next_29 : decode cX8_next 29 = .ok (.getfield 3, 3) := dk_180 0 3 (dk_at dksX8_next_1 6 rfl rfl)
theorem dX8_next_32 : decode cX8_next 32 = .ok (.getfield 44, 3) := dk_180 0 44 (dk_at dksX8_next_1 9 rfl rfl)
theorem dX8_next_35 : decode cX8_next 35 = .ok (.aload_n 0, 1) := dk_42 (dk_at dksX8_next_1 12 rfl rfl)
theorem dX8_next_36 : decode cX8_next 36 = .ok (.getfield 41, 3) := dk_180 0 41 (dk_at dksX8_next_1 13 rfl rfl)
theorem dX8_next_39 : decode cX8_next 39 = .ok (.baload, 1) := dk_51 (dk_at dksX8_next_1 16 rfl rfl)
theorem dX8_next_40 : decode cX8_next 40 = .ok (.bipush 10, 2) := dk_16 10 (dk_at dksX8_next_1 17 rfl rfl)
theorem dX8_next_42 : decode cX8_next 42 = .ok (.if_icmp .ne 16, 3) := dk_160 0 16 (dk_at dksX8_next_1 19 rfl rfl)
theorem dX8_next_45 : decode cX8_next 45 = .ok (.aload_n 0, 1) := dk_42 (dk_at dksX8_next_1 22 rfl rfl)
theorem dX8_next_46 : decode cX8_next 46 = .ok (.dup, 1) := dk_89 (dk_at dksX8_next_1 23 rfl rfl)
theorem dX8_next_47 : decode cX8_next 47 = .ok (.getfield 41, 3) := dk_180 0 41 (dk_at dksX8_next_2 0 rfl rfl)
theorem dX8_next_50 : decode cX8_next 50 = .ok (.iconst 1, 1) := dk_4 (dk_at dksX8_next_2 3 rfl rfl)
theorem dX8_next_51 : decode cX8_next 51 = .ok (.iadd, 1) := dk_96 (dk_at dksX8_next_2 4 rfl rfl)
theorem dX8_next_52 : decode cX8_next 52 = .ok (.putfield 41, 3) := dk_181 0 41 (dk_at dksX8_next_2 5 rfl rfl)
theorem dX8_next_55 : decode cX8_next 55 = .ok (.goto (-55), 3) := dk_167 255 201 (dk_at dksX8_next_2 8 rfl rfl)
theorem dX8_next_58 : decode cX8_next 58 = .ok (.aload_n 0, 1) := dk_42 (dk_at dksX8_next_2 11 rfl rfl)
theorem dX8_next_59 : decode cX8_next 59 = .ok (.aload_n 0, 1) := dk_42 (dk_at dksX8_next_2 12 rfl rfl)
theorem dX8_next_60 : decode cX8_next 60 = .ok (.getfield 41, 3) := dk_180 0 41 (dk_at dksX8_next_2 13 rfl rfl)
theorem dX8_next_63 : decode cX8_next 63 = .ok (.putfield 52, 3) := dk_181 0 52 (dk_at dksX8_next_2 16 rfl rfl)
theorem dX8_next_66 : decode cX8_next 66 = .ok (.aload_n 0, 1) := dk_42 (dk_at dksX8_next_2 19 rfl rfl)
theorem dX8_next_67 : decode cX8_next 67 = .ok (.getfield 41, 3) := dk_180 0 41 (dk_at dksX8_next_2 20 rfl rfl)
theorem dX8_next_70 : decode cX8_next 70 = .ok (.aload_n 0, 1) := dk_42 (dk_at dksX8_next_2 23 rfl rfl)
theorem dX8_next_71 : decode cX8_next 71 = .ok (.getfield 19, 3) := dk_180 0 19 (dk_at dksX8_next_3 0 rfl rfl)
theorem dX8_next_74 : decode cX8_next 74 = .ok (.if_icmp .ne 13, 3) := dk_160 0 13 (dk_at dksX8_next_3 3 rfl rfl)
theorem dX8_next_77 : decode cX8_next 77 = .ok (.aload_n 0, 1) := dk_42 (dk_at dksX8_next_3 6 rfl rfl)
theorem dX8_next_78 : decode cX8_next 78 = .ok (.getstatic 29, 3) := dk_178 0 29 (dk_at dksX8_next_3 7 rfl rfl)
theorem dX8_next_81 : decode cX8_next 81 = .ok (.putfield 35, 3) := dk_181 0 35 (dk_at dksX8_next_3 10 rfl rfl)
theorem dX8_next_84 : decode cX8_next 84 = .ok (.goto 170, 3) := dk_167 0 170 (dk_at dksX8_next_3 13 rfl rfl)
theorem dX8_next_87 : decode cX8_next 87 = .ok (.aload_n 0, 1) := dk_42 (dk_at dksX8_next_3 16 rfl rfl)
theorem dX8_next_88 : decode cX8_next 88 = .ok (.bipush 97, 2) := dk_16 97 (dk_at dksX8_next_3 17 rfl rfl)
theorem dX8_next_90 : decode cX8_next 90 = .ok (.bipush 122, 2) := dk_16 122 (dk_at dksX8_next_3 19 rfl rfl)
theorem dX8_next_92 : decode cX8_next 92 = .ok (.invokevirtual 55, 3) := dk_182 0 55 (dk_at dksX8_next_3 21 rfl rfl)
theorem dX8_next_95 : decode cX8_next 95 = .ok (.ifCond .eq 37, 3) := dk_153 0 37 (dk_at dksX8_next_4 0 rfl rfl)
theorem dX8_next_98 : decode cX8_next 98 = .ok (.aload_n 0, 1) := dk_42 (dk_at dksX8_next_4 3 rfl rfl)
theorem dX8_next_99 : decode cX8_next 99 = .ok (.bipush 97, 2) := dk_16 97 (dk_at dksX8_next_4 4 rfl rfl)
theorem dX8_next_101 : decode cX8_next 101 = .ok (.bipush 122, 2) := dk_16 122 (dk_at dksX8_next_4 6 rfl rfl)
theorem dX8_next_103 : decode cX8_next 103 = .ok (.invokevirtual 55, 3) := dk_182 0 55 (dk_at dksX8_next_4 8 rfl rfl)
theorem dX8_next_106 : decode cX8_next 106 = .ok (.ifCond .eq 16, 3) := dk_153 0 16 (dk_at dksX8_next_4 11 rfl rfl)
theorem dX8_next_109 : decode cX8_next 109 = .ok (.aload_n 0, 1) := dk_42 (dk_at dksX8_next_4 14 rfl rfl)
theorem dX8_next_110 : decode cX8_next 110 = .ok (.dup, 1) := dk_89 (dk_at dksX8_next_4 15 rfl rfl)
theorem dX8_next_111 : decode cX8_next 111 = .ok (.getfield 41, 3) := dk_180 0 41 (dk_at dksX8_next_4 16 rfl rfl)
theorem dX8_next_114 : decode cX8_next 114 = .ok (.iconst 1, 1) := dk_4 (dk_at dksX8_next_4 19 rfl rfl)
theorem dX8_next_115 : decode cX8_next 115 = .ok (.iadd, 1) := dk_96 (dk_at dksX8_next_4 20 rfl rfl)
theorem dX8_next_116 : decode cX8_next 116 = .ok (.putfield 41, 3) := dk_181 0 41 (dk_at dksX8_next_4 21 rfl rfl)
theorem dX8_next_119 : decode cX8_next 119 = .ok (.goto (-21), 3) := dk_167 255 235 (dk_at dksX8_next_5 0 rfl rfl)
theorem dX8_next_122 : decode cX8_next 122 = .ok (.aload_n 0, 1) := dk_42 (dk_at dksX8_next_5 3 rfl rfl)
theorem dX8_next_123 : decode cX8_next 123 = .ok (.getstatic 59, 3) := dk_178 0 59 (dk_at dksX8_next_5 4 rfl rfl)
theorem dX8_next_126 : decode cX8_next 126 = .ok (.putfield 35, 3) := dk_181 0 35 (dk_at dksX8_next_5 7 rfl rfl)
theorem dX8_next_129 : decode cX8_next 129 = .ok (.goto 125, 3) := dk_167 0 125 (dk_at dksX8_next_5 10 rfl rfl)
theorem dX8_next_132 : decode cX8_next 132 = .ok (.aload_n 0, 1) := dk_42 (dk_at dksX8_next_5 13 rfl rfl)
theorem dX8_next_133 : decode cX8_next 133 = .ok (.bipush 48, 2) := dk_16 48 (dk_at dksX8_next_5 14 rfl rfl)
theorem dX8_next_135 : decode cX8_next 135 = .ok (.bipush 57, 2) := dk_16 57 (dk_at dksX8_next_5 16 rfl rfl)
theorem dX8_next_137 : decode cX8_next 137 = .ok (.invokevirtual 55, 3) := dk_182 0 55 (dk_at dksX8_next_5 18 rfl rfl)
theorem dX8_next_140 : decode cX8_next 140 = .ok (.ifCond .eq 74, 3) := dk_153 0 74 (dk_at dksX8_next_5 21 rfl rfl)
theorem dX8_next_143 : decode cX8_next 143 = .ok (.aload_n 0, 1) := dk_42 (dk_at dksX8_next_6 0 rfl rfl)
theorem dX8_next_144 : decode cX8_next 144 = .ok (.iconst 0, 1) := dk_3 (dk_at dksX8_next_6 1 rfl rfl)
theorem dX8_next_145 : decode cX8_next 145 = .ok (.putfield 62, 3) := dk_181 0 62 (dk_at dksX8_next_6 2 rfl rfl)
theorem dX8_next_148 : decode cX8_next 148 = .ok (.aload_n 0, 1) := dk_42 (dk_at dksX8_next_6 5 rfl rfl)
theorem dX8_next_149 : decode cX8_next 149 = .ok (.bipush 48, 2) := dk_16 48 (dk_at dksX8_next_6 6 rfl rfl)
theorem dX8_next_151 : decode cX8_next 151 = .ok (.bipush 57, 2) := dk_16 57 (dk_at dksX8_next_6 8 rfl rfl)
theorem dX8_next_153 : decode cX8_next 153 = .ok (.invokevirtual 55, 3) := dk_182 0 55 (dk_at dksX8_next_6 10 rfl rfl)
theorem dX8_next_156 : decode cX8_next 156 = .ok (.ifCond .eq 48, 3) := dk_153 0 48 (dk_at dksX8_next_6 13 rfl rfl)
theorem dX8_next_159 : decode cX8_next 159 = .ok (.aload_n 0, 1) := dk_42 (dk_at dksX8_next_6 16 rfl rfl)
theorem dX8_next_160 : decode cX8_next 160 = .ok (.ldc 65, 2) := dk_18 65 (dk_at dksX8_next_6 17 rfl rfl)
theorem dX8_next_162 : decode cX8_next 162 = .ok (.bipush 10, 2) := dk_16 10 (dk_at dksX8_next_6 19 rfl rfl)
theorem dX8_next_164 : decode cX8_next 164 = .ok (.aload_n 0, 1) := dk_42 (dk_at dksX8_next_6 21 rfl rfl)
theorem dX8_next_165 : decode cX8_next 165 = .ok (.getfield 62, 3) := dk_180 0 62 (dk_at dksX8_next_7 0 rfl rfl)
theorem dX8_next_168 : decode cX8_next 168 = .ok (.imul, 1) := dk_104 (dk_at dksX8_next_7 3 rfl rfl)
theorem dX8_next_169 : decode cX8_next 169 = .ok (.aload_n 0, 1) := dk_42 (dk_at dksX8_next_7 4 rfl rfl)
theorem dX8_next_170 : decode cX8_next 170 = .ok (.getfield 3, 3) := dk_180 0 3 (dk_at dksX8_next_7 5 rfl rfl)
theorem dX8_next_173 : decode cX8_next 173 = .ok (.getfield 44, 3) := dk_180 0 44 (dk_at dksX8_next_7 8 rfl rfl)
theorem dX8_next_176 : decode cX8_next 176 = .ok (.aload_n 0, 1) := dk_42 (dk_at dksX8_next_7 11 rfl rfl)
theorem dX8_next_177 : decode cX8_next 177 = .ok (.getfield 41, 3) := dk_180 0 41 (dk_at dksX8_next_7 12 rfl rfl)
theorem dX8_next_180 : decode cX8_next 180 = .ok (.baload, 1) := dk_51 (dk_at dksX8_next_7 15 rfl rfl)
theorem dX8_next_181 : decode cX8_next 181 = .ok (.iadd, 1) := dk_96 (dk_at dksX8_next_7 16 rfl rfl)
theorem dX8_next_182 : decode cX8_next 182 = .ok (.bipush 48, 2) := dk_16 48 (dk_at dksX8_next_7 17 rfl rfl)
theorem dX8_next_184 : decode cX8_next 184 = .ok (.isub, 1) := dk_100 (dk_at dksX8_next_7 19 rfl rfl)
theorem dX8_next_185 : decode cX8_next 185 = .ok (.invokestatic 66, 3) := dk_184 0 66 (dk_at dksX8_next_7 20 rfl rfl)
theorem dX8_next_188 : decode cX8_next 188 = .ok (.putfield 62, 3) := dk_181 0 62 (dk_at dksX8_next_8 0 rfl rfl)
theorem dX8_next_191 : decode cX8_next 191 = .ok (.aload_n 0, 1) := dk_42 (dk_at dksX8_next_8 3 rfl rfl)
theorem dX8_next_192 : decode cX8_next 192 = .ok (.dup, 1) := dk_89 (dk_at dksX8_next_8 4 rfl rfl)
theorem dX8_next_193 : decode cX8_next 193 = .ok (.getfield 41, 3) := dk_180 0 41 (dk_at dksX8_next_8 5 rfl rfl)
theorem dX8_next_196 : decode cX8_next 196 = .ok (.iconst 1, 1) := dk_4 (dk_at dksX8_next_8 8 rfl rfl)
theorem dX8_next_197 : decode cX8_next 197 = .ok (.iadd, 1) := dk_96 (dk_at dksX8_next_8 9 rfl rfl)
theorem dX8_next_198 : decode cX8_next 198 = .ok (.putfield 41, 3) := dk_181 0 41 (dk_at dksX8_next_8 10 rfl rfl)
theorem dX8_next_201 : decode cX8_next 201 = .ok (.goto (-53), 3) := dk_167 255 203 (dk_at dksX8_next_8 13 rfl rfl)
theorem dX8_next_204 : decode cX8_next 204 = .ok (.aload_n 0, 1) := dk_42 (dk_at dksX8_next_8 16 rfl rfl)
theorem dX8_next_205 : decode cX8_next 205 = .ok (.getstatic 72, 3) := dk_178 0 72 (dk_at dksX8_next_8 17 rfl rfl)
theorem dX8_next_208 : decode cX8_next 208 = .ok (.putfield 35, 3) := dk_181 0 35 (dk_at dksX8_next_8 20 rfl rfl)
theorem dX8_next_211 : decode cX8_next 211 = .ok (.goto 43, 3) := dk_167 0 43 (dk_at dksX8_next_9 0 rfl rfl)
theorem dX8_next_214 : decode cX8_next 214 = .ok (.aload_n 0, 1) := dk_42 (dk_at dksX8_next_9 3 rfl rfl)
theorem dX8_next_215 : decode cX8_next 215 = .ok (.aload_n 0, 1) := dk_42 (dk_at dksX8_next_9 4 rfl rfl)
theorem dX8_next_216 : decode cX8_next 216 = .ok (.getfield 3, 3) := dk_180 0 3 (dk_at dksX8_next_9 5 rfl rfl)
theorem dX8_next_219 : decode cX8_next 219 = .ok (.getfield 44, 3) := dk_180 0 44 (dk_at dksX8_next_9 8 rfl rfl)
theorem dX8_next_222 : decode cX8_next 222 = .ok (.aload_n 0, 1) := dk_42 (dk_at dksX8_next_9 11 rfl rfl)
theorem dX8_next_223 : decode cX8_next 223 = .ok (.getfield 41, 3) := dk_180 0 41 (dk_at dksX8_next_9 12 rfl rfl)
theorem dX8_next_226 : decode cX8_next 226 = .ok (.baload, 1) := dk_51 (dk_at dksX8_next_9 15 rfl rfl)
theorem dX8_next_227 : decode cX8_next 227 = .ok (.bipush 59, 2) := dk_16 59 (dk_at dksX8_next_9 16 rfl rfl)
theorem dX8_next_229 : decode cX8_next 229 = .ok (.if_icmp .ne 9, 3) := dk_160 0 9 (dk_at dksX8_next_9 18 rfl rfl)
theorem dX8_next_232 : decode cX8_next 232 = .ok (.getstatic 75, 3) := dk_178 0 75 (dk_at dksX8_next_9 21 rfl rfl)
theorem dX8_next_235 : decode cX8_next 235 = .ok (.goto 6, 3) := dk_167 0 6 (dk_at dksX8_next_10 0 rfl rfl)
theorem dX8_next_238 : decode cX8_next 238 = .ok (.getstatic 78, 3) := dk_178 0 78 (dk_at dksX8_next_10 3 rfl rfl)
theorem dX8_next_241 : decode cX8_next 241 = .ok (.putfield 35, 3) := dk_181 0 35 (dk_at dksX8_next_10 6 rfl rfl)
theorem dX8_next_244 : decode cX8_next 244 = .ok (.aload_n 0, 1) := dk_42 (dk_at dksX8_next_10 9 rfl rfl)
theorem dX8_next_245 : decode cX8_next 245 = .ok (.dup, 1) := dk_89 (dk_at dksX8_next_10 10 rfl rfl)
theorem dX8_next_246 : decode cX8_next 246 = .ok (.getfield 41, 3) := dk_180 0 41 (dk_at dksX8_next_10 11 rfl rfl)
theorem dX8_next_249 : decode cX8_next 249 = .ok (.iconst 1, 1) := dk_4 (dk_at dksX8_next_10 14 rfl rfl)
theorem dX8_next_250 : decode cX8_next 250 = .ok (.iadd, 1) := dk_96 (dk_at dksX8_next_10 15 rfl rfl)
theorem dX8_next_251 : decode cX8_next 251 = .ok (.putfield 41, 3) := dk_181 0 41 (dk_at dksX8_next_10 16 rfl rfl)
theorem dX8_next_254 : decode cX8_next 254 = .ok (.return_, 1) := dk_177 (dk_at dksX8_next_10 19 rfl rfl)
abbrev cX8_isNext : ByteArray := prog_7_method_2_code
def yX8_isNext : MethodName := ⟨RX8, "isNext", "(II)Z"⟩
def dkwX8_isNext_1 : List UInt8 := [27, 133, 28, 133, 184, 0, 48, 153, 0, 7, 4, 167, 0, 4, 3, 172]
abbrev dktX8_isNext_1 : List UInt8 := dkwX8_isNext_1 ++ []
def dkwX8_isNext_0 : List UInt8 := [42, 180, 0, 41, 42, 180, 0, 19, 162, 0, 30, 42, 180, 0, 3, 180, 0, 44, 42, 180, 0, 41, 51, 133]
abbrev dktX8_isNext_0 : List UInt8 := dkwX8_isNext_0 ++ dktX8_isNext_1
theorem dksX8_isNext_0 : cX8_isNext.data.toList.drop 0 = dktX8_isNext_0 := by decide +kernel
theorem dksX8_isNext_1 : cX8_isNext.data.toList.drop 24 = dktX8_isNext_1 := dk_seg dksX8_isNext_0 24 rfl rfl
theorem dX8_isNext_0 : decode cX8_isNext 0 = .ok (.aload_n 0, 1) := dk_42 (dk_at dksX8_isNext_0 0 rfl rfl)
theorem dX8_isNext_1 : decode cX8_isNext 1 = .ok (.getfield 41, 3) := dk_180 0 41 (dk_at dksX8_isNext_0 1 rfl rfl)
theorem dX8_isNext_4 : decode cX8_isNext 4 = .ok (.aload_n 0, 1) := dk_42 (dk_at dksX8_isNext_0 4 rfl rfl)
theorem dX8_isNext_5 : decode cX8_isNext 5 = .ok (.getfield 19, 3) := dk_180 0 19 (dk_at dksX8_isNext_0 5 rfl rfl)
theorem dX8_isNext_8 : decode cX8_isNext 8 = .ok (.if_icmp .ge 30, 3) := dk_162 0 30 (dk_at dksX8_isNext_0 8 rfl rfl)
theorem dX8_isNext_11 : decode cX8_isNext 11 = .ok (.aload_n 0, 1) := dk_42 (dk_at dksX8_isNext_0 11 rfl rfl)
theorem dX8_isNext_12 : decode cX8_isNext 12 = .ok (.getfield 3, 3) := dk_180 0 3 (dk_at dksX8_isNext_0 12 rfl rfl)
theorem dX8_isNext_15 : decode cX8_isNext 15 = .ok (.getfield 44, 3) := dk_180 0 44 (dk_at dksX8_isNext_0 15 rfl rfl)
theorem dX8_isNext_18 : decode cX8_isNext 18 = .ok (.aload_n 0, 1) := dk_42 (dk_at dksX8_isNext_0 18 rfl rfl)
theorem dX8_isNext_19 : decode cX8_isNext 19 = .ok (.getfield 41, 3) := dk_180 0 41 (dk_at dksX8_isNext_0 19 rfl rfl)
theorem dX8_isNext_22 : decode cX8_isNext 22 = .ok (.baload, 1) := dk_51 (dk_at dksX8_isNext_0 22 rfl rfl)
theorem dX8_isNext_23 : decode cX8_isNext 23 = .ok (.i2l, 1) := dk_133 (dk_at dksX8_isNext_0 23 rfl rfl)
theorem dX8_isNext_24 : decode cX8_isNext 24 = .ok (.iload_n 1, 1) := dk_27 (dk_at dksX8_isNext_1 0 rfl rfl)
theorem dX8_isNext_25 : decode cX8_isNext 25 = .ok (.i2l, 1) := dk_133 (dk_at dksX8_isNext_1 1 rfl rfl)
theorem dX8_isNext_26 : decode cX8_isNext 26 = .ok (.iload_n 2, 1) := dk_28 (dk_at dksX8_isNext_1 2 rfl rfl)
theorem dX8_isNext_27 : decode cX8_isNext 27 = .ok (.i2l, 1) := dk_133 (dk_at dksX8_isNext_1 3 rfl rfl)
theorem dX8_isNext_28 : decode cX8_isNext 28 = .ok (.invokestatic 48, 3) := dk_184 0 48 (dk_at dksX8_isNext_1 4 rfl rfl)
theorem dX8_isNext_31 : decode cX8_isNext 31 = .ok (.ifCond .eq 7, 3) := dk_153 0 7 (dk_at dksX8_isNext_1 7 rfl rfl)
theorem dX8_isNext_34 : decode cX8_isNext 34 = .ok (.iconst 1, 1) := dk_4 (dk_at dksX8_isNext_1 10 rfl rfl)
theorem dX8_isNext_35 : decode cX8_isNext 35 = .ok (.goto 4, 3) := dk_167 0 4 (dk_at dksX8_isNext_1 11 rfl rfl)
theorem dX8_isNext_38 : decode cX8_isNext 38 = .ok (.iconst 0, 1) := dk_3 (dk_at dksX8_isNext_1 14 rfl rfl)
theorem dX8_isNext_39 : decode cX8_isNext 39 = .ok (.ireturn, 1) := dk_172 (dk_at dksX8_isNext_1 15 rfl rfl)
abbrev cX8_whole : ByteArray := prog_7_method_15_code
def yX8_whole : MethodName := ⟨RX8, "whole", "()LLehrBelt$Lehr;"⟩
def dkwX8_whole_2 : List UInt8 := [182, 0, 38, 42, 180, 0, 25, 89, 180, 0, 179, 4, 96, 181, 0, 179, 167, 255, 192, 42, 180, 0, 25, 176]
abbrev dktX8_whole_2 : List UInt8 := dkwX8_whole_2 ++ []
def dkwX8_whole_1 : List UInt8 := [167, 0, 7, 42, 182, 0, 185, 42, 180, 0, 35, 178, 0, 75, 165, 0, 9, 42, 4, 182, 0, 103, 191, 42]
abbrev dktX8_whole_1 : List UInt8 := dkwX8_whole_1 ++ dktX8_whole_2
def dkwX8_whole_0 : List UInt8 := [42, 180, 0, 35, 178, 0, 29, 165, 0, 60, 42, 180, 0, 25, 180, 0, 179, 154, 0, 10, 42, 182, 0, 182]
abbrev dktX8_whole_0 : List UInt8 := dkwX8_whole_0 ++ dktX8_whole_1
theorem dksX8_whole_0 : cX8_whole.data.toList.drop 0 = dktX8_whole_0 := by decide +kernel
theorem dksX8_whole_1 : cX8_whole.data.toList.drop 24 = dktX8_whole_1 := dk_seg dksX8_whole_0 24 rfl rfl
theorem dksX8_whole_2 : cX8_whole.data.toList.drop 48 = dktX8_whole_2 := dk_seg dksX8_whole_1 24 rfl rfl
theorem dX8_whole_0 : decode cX8_whole 0 = .ok (.aload_n 0, 1) := dk_42 (dk_at dksX8_whole_0 0 rfl rfl)
theorem dX8_whole_1 : decode cX8_whole 1 = .ok (.getfield 35, 3) := dk_180 0 35 (dk_at dksX8_whole_0 1 rfl rfl)
theorem dX8_whole_4 : decode cX8_whole 4 = .ok (.getstatic 29, 3) := dk_178 0 29 (dk_at dksX8_whole_0 4 rfl rfl)
theorem dX8_whole_7 : decode cX8_whole 7 = .ok (.if_acmp .eq 60, 3) := dk_165 0 60 (dk_at dksX8_whole_0 7 rfl rfl)
theorem dX8_whole_10 : decode cX8_whole 10 = .ok (.aload_n 0, 1) := dk_42 (dk_at dksX8_whole_0 10 rfl rfl)
theorem dX8_whole_11 : decode cX8_whole 11 = .ok (.getfield 25, 3) := dk_180 0 25 (dk_at dksX8_whole_0 11 rfl rfl)
theorem dX8_whole_14 : decode cX8_whole 14 = .ok (.getfield 179, 3) := dk_180 0 179 (dk_at dksX8_whole_0 14 rfl rfl)
theorem dX8_whole_17 : decode cX8_whole 17 = .ok (.ifCond .ne 10, 3) := dk_154 0 10 (dk_at dksX8_whole_0 17 rfl rfl)
theorem dX8_whole_20 : decode cX8_whole 20 = .ok (.aload_n 0, 1) := dk_42 (dk_at dksX8_whole_0 20 rfl rfl)
theorem dX8_whole_21 : decode cX8_whole 21 = .ok (.invokevirtual 182, 3) := dk_182 0 182 (dk_at dksX8_whole_0 21 rfl rfl)
theorem dX8_whole_24 : decode cX8_whole 24 = .ok (.goto 7, 3) := dk_167 0 7 (dk_at dksX8_whole_1 0 rfl rfl)
theorem dX8_whole_27 : decode cX8_whole 27 = .ok (.aload_n 0, 1) := dk_42 (dk_at dksX8_whole_1 3 rfl rfl)
theorem dX8_whole_28 : decode cX8_whole 28 = .ok (.invokevirtual 185, 3) := dk_182 0 185 (dk_at dksX8_whole_1 4 rfl rfl)
theorem dX8_whole_31 : decode cX8_whole 31 = .ok (.aload_n 0, 1) := dk_42 (dk_at dksX8_whole_1 7 rfl rfl)
theorem dX8_whole_32 : decode cX8_whole 32 = .ok (.getfield 35, 3) := dk_180 0 35 (dk_at dksX8_whole_1 8 rfl rfl)
theorem dX8_whole_35 : decode cX8_whole 35 = .ok (.getstatic 75, 3) := dk_178 0 75 (dk_at dksX8_whole_1 11 rfl rfl)
theorem dX8_whole_38 : decode cX8_whole 38 = .ok (.if_acmp .eq 9, 3) := dk_165 0 9 (dk_at dksX8_whole_1 14 rfl rfl)
theorem dX8_whole_41 : decode cX8_whole 41 = .ok (.aload_n 0, 1) := dk_42 (dk_at dksX8_whole_1 17 rfl rfl)
theorem dX8_whole_42 : decode cX8_whole 42 = .ok (.iconst 1, 1) := dk_4 (dk_at dksX8_whole_1 18 rfl rfl)
theorem dX8_whole_43 : decode cX8_whole 43 = .ok (.invokevirtual 103, 3) := dk_182 0 103 (dk_at dksX8_whole_1 19 rfl rfl)
theorem dX8_whole_46 : decode cX8_whole 46 = .ok (.athrow, 1) := dk_191 (dk_at dksX8_whole_1 22 rfl rfl)
theorem dX8_whole_47 : decode cX8_whole 47 = .ok (.aload_n 0, 1) := dk_42 (dk_at dksX8_whole_1 23 rfl rfl)
theorem dX8_whole_48 : decode cX8_whole 48 = .ok (.invokevirtual 38, 3) := dk_182 0 38 (dk_at dksX8_whole_2 0 rfl rfl)
theorem dX8_whole_51 : decode cX8_whole 51 = .ok (.aload_n 0, 1) := dk_42 (dk_at dksX8_whole_2 3 rfl rfl)
theorem dX8_whole_52 : decode cX8_whole 52 = .ok (.getfield 25, 3) := dk_180 0 25 (dk_at dksX8_whole_2 4 rfl rfl)
theorem dX8_whole_55 : decode cX8_whole 55 = .ok (.dup, 1) := dk_89 (dk_at dksX8_whole_2 7 rfl rfl)
theorem dX8_whole_56 : decode cX8_whole 56 = .ok (.getfield 179, 3) := dk_180 0 179 (dk_at dksX8_whole_2 8 rfl rfl)
theorem dX8_whole_59 : decode cX8_whole 59 = .ok (.iconst 1, 1) := dk_4 (dk_at dksX8_whole_2 11 rfl rfl)
theorem dX8_whole_60 : decode cX8_whole 60 = .ok (.iadd, 1) := dk_96 (dk_at dksX8_whole_2 12 rfl rfl)
theorem dX8_whole_61 : decode cX8_whole 61 = .ok (.putfield 179, 3) := dk_181 0 179 (dk_at dksX8_whole_2 13 rfl rfl)
theorem dX8_whole_64 : decode cX8_whole 64 = .ok (.goto (-64), 3) := dk_167 255 192 (dk_at dksX8_whole_2 16 rfl rfl)
theorem dX8_whole_67 : decode cX8_whole 67 = .ok (.aload_n 0, 1) := dk_42 (dk_at dksX8_whole_2 19 rfl rfl)
theorem dX8_whole_68 : decode cX8_whole 68 = .ok (.getfield 25, 3) := dk_180 0 25 (dk_at dksX8_whole_2 20 rfl rfl)
theorem dX8_whole_71 : decode cX8_whole 71 = .ok (.areturn, 1) := dk_176 (dk_at dksX8_whole_2 23 rfl rfl)
abbrev cX8_head : ByteArray := prog_7_method_10_code
def yX8_head : MethodName := ⟨RX8, "head", "()V"⟩
def dkwX8_head_3 : List UInt8 := [180, 0, 25, 42, 18, 135, 3, 17, 2, 88, 182, 0, 117, 181, 0, 137, 177]
abbrev dktX8_head_3 : List UInt8 := dkwX8_head_3 ++ []
def dkwX8_head_2 : List UInt8 := [182, 0, 117, 181, 0, 129, 42, 180, 0, 25, 42, 18, 131, 4, 7, 182, 0, 117, 181, 0, 133, 42]
abbrev dktX8_head_2 : List UInt8 := dkwX8_head_2 ++ dktX8_head_3
def dkwX8_head_1 : List UInt8 := [180, 0, 25, 42, 18, 123, 3, 6, 182, 0, 117, 181, 0, 125, 42, 180, 0, 25, 42, 18, 127, 3, 16, 10]
abbrev dktX8_head_1 : List UInt8 := dkwX8_head_1 ++ dktX8_head_2
def dkwX8_head_0 : List UInt8 := [42, 18, 114, 182, 0, 107, 42, 180, 0, 25, 42, 18, 115, 4, 16, 14, 182, 0, 117, 181, 0, 121, 42]
abbrev dktX8_head_0 : List UInt8 := dkwX8_head_0 ++ dktX8_head_1
theorem dksX8_head_0 : cX8_head.data.toList.drop 0 = dktX8_head_0 := by decide +kernel
theorem dksX8_head_1 : cX8_head.data.toList.drop 23 = dktX8_head_1 := dk_seg dksX8_head_0 23 rfl rfl
theorem dksX8_head_2 : cX8_head.data.toList.drop 47 = dktX8_head_2 := dk_seg dksX8_head_1 24 rfl rfl
theorem dksX8_head_3 : cX8_head.data.toList.drop 69 = dktX8_head_3 := dk_seg dksX8_head_2 22 rfl rfl
theorem dX8_head_0 : decode cX8_head 0 = .ok (.aload_n 0, 1) := dk_42 (dk_at dksX8_head_0 0 rfl rfl)
theorem dX8_head_1 : decode cX8_head 1 = .ok (.ldc 114, 2) := dk_18 114 (dk_at dksX8_head_0 1 rfl rfl)
theorem dX8_head_3 : decode cX8_head 3 = .ok (.invokevirtual 107, 3) := dk_182 0 107 (dk_at dksX8_head_0 3 rfl rfl)
theorem dX8_head_6 : decode cX8_head 6 = .ok (.aload_n 0, 1) := dk_42 (dk_at dksX8_head_0 6 rfl rfl)
theorem dX8_head_7 : decode cX8_head 7 = .ok (.getfield 25, 3) := dk_180 0 25 (dk_at dksX8_head_0 7 rfl rfl)
theorem dX8_head_10 : decode cX8_head 10 = .ok (.aload_n 0, 1) := dk_42 (dk_at dksX8_head_0 10 rfl rfl)
theorem dX8_head_11 : decode cX8_head 11 = .ok (.ldc 115, 2) := dk_18 115 (dk_at dksX8_head_0 11 rfl rfl)
theorem dX8_head_13 : decode cX8_head 13 = .ok (.iconst 1, 1) := dk_4 (dk_at dksX8_head_0 13 rfl rfl)
theorem dX8_head_14 : decode cX8_head 14 = .ok (.bipush 14, 2) := dk_16 14 (dk_at dksX8_head_0 14 rfl rfl)
theorem dX8_head_16 : decode cX8_head 16 = .ok (.invokevirtual 117, 3) := dk_182 0 117 (dk_at dksX8_head_0 16 rfl rfl)
theorem dX8_head_19 : decode cX8_head 19 = .ok (.putfield 121, 3) := dk_181 0 121 (dk_at dksX8_head_0 19 rfl rfl)
theorem dX8_head_22 : decode cX8_head 22 = .ok (.aload_n 0, 1) := dk_42 (dk_at dksX8_head_0 22 rfl rfl)
theorem dX8_head_23 : decode cX8_head 23 = .ok (.getfield 25, 3) := dk_180 0 25 (dk_at dksX8_head_1 0 rfl rfl)
theorem dX8_head_26 : decode cX8_head 26 = .ok (.aload_n 0, 1) := dk_42 (dk_at dksX8_head_1 3 rfl rfl)
theorem dX8_head_27 : decode cX8_head 27 = .ok (.ldc 123, 2) := dk_18 123 (dk_at dksX8_head_1 4 rfl rfl)
theorem dX8_head_29 : decode cX8_head 29 = .ok (.iconst 0, 1) := dk_3 (dk_at dksX8_head_1 6 rfl rfl)
theorem dX8_head_30 : decode cX8_head 30 = .ok (.iconst 3, 1) := dk_6 (dk_at dksX8_head_1 7 rfl rfl)
theorem dX8_head_31 : decode cX8_head 31 = .ok (.invokevirtual 117, 3) := dk_182 0 117 (dk_at dksX8_head_1 8 rfl rfl)
theorem dX8_head_34 : decode cX8_head 34 = .ok (.putfield 125, 3) := dk_181 0 125 (dk_at dksX8_head_1 11 rfl rfl)
theorem dX8_head_37 : decode cX8_head 37 = .ok (.aload_n 0, 1) := dk_42 (dk_at dksX8_head_1 14 rfl rfl)
theorem dX8_head_38 : decode cX8_head 38 = .ok (.getfield 25, 3) := dk_180 0 25 (dk_at dksX8_head_1 15 rfl rfl)
theorem dX8_head_41 : decode cX8_head 41 = .ok (.aload_n 0, 1) := dk_42 (dk_at dksX8_head_1 18 rfl rfl)
theorem dX8_head_42 : decode cX8_head 42 = .ok (.ldc 127, 2) := dk_18 127 (dk_at dksX8_head_1 19 rfl rfl)
theorem dX8_head_44 : decode cX8_head 44 = .ok (.iconst 0, 1) := dk_3 (dk_at dksX8_head_1 21 rfl rfl)
theorem dX8_head_45 : decode cX8_head 45 = .ok (.bipush 10, 2) := dk_16 10 (dk_at dksX8_head_1 22 rfl rfl)
theorem dX8_head_47 : decode cX8_head 47 = .ok (.invokevirtual 117, 3) := dk_182 0 117 (dk_at dksX8_head_2 0 rfl rfl)
theorem dX8_head_50 : decode cX8_head 50 = .ok (.putfield 129, 3) := dk_181 0 129 (dk_at dksX8_head_2 3 rfl rfl)
theorem dX8_head_53 : decode cX8_head 53 = .ok (.aload_n 0, 1) := dk_42 (dk_at dksX8_head_2 6 rfl rfl)
theorem dX8_head_54 : decode cX8_head 54 = .ok (.getfield 25, 3) := dk_180 0 25 (dk_at dksX8_head_2 7 rfl rfl)
theorem dX8_head_57 : decode cX8_head 57 = .ok (.aload_n 0, 1) := dk_42 (dk_at dksX8_head_2 10 rfl rfl)
theorem dX8_head_58 : decode cX8_head 58 = .ok (.ldc 131, 2) := dk_18 131 (dk_at dksX8_head_2 11 rfl rfl)
theorem dX8_head_60 : decode cX8_head 60 = .ok (.iconst 1, 1) := dk_4 (dk_at dksX8_head_2 13 rfl rfl)
theorem dX8_head_61 : decode cX8_head 61 = .ok (.iconst 4, 1) := dk_7 (dk_at dksX8_head_2 14 rfl rfl)
theorem dX8_head_62 : decode cX8_head 62 = .ok (.invokevirtual 117, 3) := dk_182 0 117 (dk_at dksX8_head_2 15 rfl rfl)
theorem dX8_head_65 : decode cX8_head 65 = .ok (.putfield 133, 3) := dk_181 0 133 (dk_at dksX8_head_2 18 rfl rfl)
theorem dX8_head_68 : decode cX8_head 68 = .ok (.aload_n 0, 1) := dk_42 (dk_at dksX8_head_2 21 rfl rfl)
theorem dX8_head_69 : decode cX8_head 69 = .ok (.getfield 25, 3) := dk_180 0 25 (dk_at dksX8_head_3 0 rfl rfl)
theorem dX8_head_72 : decode cX8_head 72 = .ok (.aload_n 0, 1) := dk_42 (dk_at dksX8_head_3 3 rfl rfl)
theorem dX8_head_73 : decode cX8_head 73 = .ok (.ldc 135, 2) := dk_18 135 (dk_at dksX8_head_3 4 rfl rfl)
theorem dX8_head_75 : decode cX8_head 75 = .ok (.iconst 0, 1) := dk_3 (dk_at dksX8_head_3 6 rfl rfl)
theorem dX8_head_76 : decode cX8_head 76 = .ok (.sipush 600, 3) := dk_17 2 88 (dk_at dksX8_head_3 7 rfl rfl)
theorem dX8_head_79 : decode cX8_head 79 = .ok (.invokevirtual 117, 3) := dk_182 0 117 (dk_at dksX8_head_3 10 rfl rfl)
theorem dX8_head_82 : decode cX8_head 82 = .ok (.putfield 137, 3) := dk_181 0 137 (dk_at dksX8_head_3 13 rfl rfl)
theorem dX8_head_85 : decode cX8_head 85 = .ok (.return_, 1) := dk_177 (dk_at dksX8_head_3 16 rfl rfl)
abbrev cX8_expects : ByteArray := prog_7_method_7_code
def yX8_expects : MethodName := ⟨RX8, "expects", "(Ljava/lang/String;)V"⟩
def dkwX8_expects_0 : List UInt8 := [42, 43, 182, 0, 100, 154, 0, 9, 42, 4, 182, 0, 103, 191, 177]
abbrev dktX8_expects_0 : List UInt8 := dkwX8_expects_0 ++ []
theorem dksX8_expects_0 : cX8_expects.data.toList.drop 0 = dktX8_expects_0 := by decide +kernel
theorem dX8_expects_0 : decode cX8_expects 0 = .ok (.aload_n 0, 1) := dk_42 (dk_at dksX8_expects_0 0 rfl rfl)
theorem dX8_expects_1 : decode cX8_expects 1 = .ok (.aload_n 1, 1) := dk_43 (dk_at dksX8_expects_0 1 rfl rfl)
theorem dX8_expects_2 : decode cX8_expects 2 = .ok (.invokevirtual 100, 3) := dk_182 0 100 (dk_at dksX8_expects_0 2 rfl rfl)
theorem dX8_expects_5 : decode cX8_expects 5 = .ok (.ifCond .ne 9, 3) := dk_154 0 9 (dk_at dksX8_expects_0 5 rfl rfl)
theorem dX8_expects_8 : decode cX8_expects 8 = .ok (.aload_n 0, 1) := dk_42 (dk_at dksX8_expects_0 8 rfl rfl)
theorem dX8_expects_9 : decode cX8_expects 9 = .ok (.iconst 1, 1) := dk_4 (dk_at dksX8_expects_0 9 rfl rfl)
theorem dX8_expects_10 : decode cX8_expects 10 = .ok (.invokevirtual 103, 3) := dk_182 0 103 (dk_at dksX8_expects_0 10 rfl rfl)
theorem dX8_expects_13 : decode cX8_expects 13 = .ok (.athrow, 1) := dk_191 (dk_at dksX8_expects_0 13 rfl rfl)
theorem dX8_expects_14 : decode cX8_expects 14 = .ok (.return_, 1) := dk_177 (dk_at dksX8_expects_0 14 rfl rfl)
abbrev cX8_takes : ByteArray := prog_7_method_6_code
def yX8_takes : MethodName := ⟨RX8, "takes", "(Ljava/lang/String;)Z"⟩
def dkwX8_takes_0 : List UInt8 := [42, 43, 182, 0, 96, 61, 28, 153, 0, 7, 42, 182, 0, 38, 28, 172]
abbrev dktX8_takes_0 : List UInt8 := dkwX8_takes_0 ++ []
theorem dksX8_takes_0 : cX8_takes.data.toList.drop 0 = dktX8_takes_0 := by decide +kernel
theorem dX8_takes_0 : decode cX8_takes 0 = .ok (.aload_n 0, 1) := dk_42 (dk_at dksX8_takes_0 0 rfl rfl)
theorem dX8_takes_1 : decode cX8_takes 1 = .ok (.aload_n 1, 1) := dk_43 (dk_at dksX8_takes_0 1 rfl rfl)
theorem dX8_takes_2 : decode cX8_takes 2 = .ok (.invokevirtual 96, 3) := dk_182 0 96 (dk_at dksX8_takes_0 2 rfl rfl)
theorem dX8_takes_5 : decode cX8_takes 5 = .ok (.istore_n 2, 1) := dk_61 (dk_at dksX8_takes_0 5 rfl rfl)
theorem dX8_takes_6 : decode cX8_takes 6 = .ok (.iload_n 2, 1) := dk_28 (dk_at dksX8_takes_0 6 rfl rfl)
theorem dX8_takes_7 : decode cX8_takes 7 = .ok (.ifCond .eq 7, 3) := dk_153 0 7 (dk_at dksX8_takes_0 7 rfl rfl)
theorem dX8_takes_10 : decode cX8_takes 10 = .ok (.aload_n 0, 1) := dk_42 (dk_at dksX8_takes_0 10 rfl rfl)
theorem dX8_takes_11 : decode cX8_takes 11 = .ok (.invokevirtual 38, 3) := dk_182 0 38 (dk_at dksX8_takes_0 11 rfl rfl)
theorem dX8_takes_14 : decode cX8_takes 14 = .ok (.iload_n 2, 1) := dk_28 (dk_at dksX8_takes_0 14 rfl rfl)
theorem dX8_takes_15 : decode cX8_takes 15 = .ok (.ireturn, 1) := dk_172 (dk_at dksX8_takes_0 15 rfl rfl)
abbrev cX8_is : ByteArray := prog_7_method_5_code
def yX8_is : MethodName := ⟨RX8, "is", "(Ljava/lang/String;)Z"⟩
def dkwX8_is_2 : List UInt8 := [180, 0, 52, 28, 96, 51, 43, 28, 182, 0, 92, 159, 0, 5, 3, 172, 132, 2, 1, 167, 255, 221, 4, 172]
abbrev dktX8_is_2 : List UInt8 := dkwX8_is_2 ++ []
def dkwX8_is_1 : List UInt8 := [159, 0, 5, 3, 172, 3, 61, 28, 43, 182, 0, 86, 162, 0, 33, 42, 180, 0, 3, 180, 0, 44, 42]
abbrev dktX8_is_1 : List UInt8 := dkwX8_is_1 ++ dktX8_is_2
def dkwX8_is_0 : List UInt8 := [42, 180, 0, 35, 178, 0, 59, 166, 0, 19, 42, 180, 0, 41, 42, 180, 0, 52, 100, 43, 182, 0, 86]
abbrev dktX8_is_0 : List UInt8 := dkwX8_is_0 ++ dktX8_is_1
theorem dksX8_is_0 : cX8_is.data.toList.drop 0 = dktX8_is_0 := by decide +kernel
theorem dksX8_is_1 : cX8_is.data.toList.drop 23 = dktX8_is_1 := dk_seg dksX8_is_0 23 rfl rfl
theorem dksX8_is_2 : cX8_is.data.toList.drop 46 = dktX8_is_2 := dk_seg dksX8_is_1 23 rfl rfl
theorem dX8_is_0 : decode cX8_is 0 = .ok (.aload_n 0, 1) := dk_42 (dk_at dksX8_is_0 0 rfl rfl)
theorem dX8_is_1 : decode cX8_is 1 = .ok (.getfield 35, 3) := dk_180 0 35 (dk_at dksX8_is_0 1 rfl rfl)
theorem dX8_is_4 : decode cX8_is 4 = .ok (.getstatic 59, 3) := dk_178 0 59 (dk_at dksX8_is_0 4 rfl rfl)
theorem dX8_is_7 : decode cX8_is 7 = .ok (.if_acmp .ne 19, 3) := dk_166 0 19 (dk_at dksX8_is_0 7 rfl rfl)
theorem dX8_is_10 : decode cX8_is 10 = .ok (.aload_n 0, 1) := dk_42 (dk_at dksX8_is_0 10 rfl rfl)
theorem dX8_is_11 : decode cX8_is 11 = .ok (.getfield 41, 3) := dk_180 0 41 (dk_at dksX8_is_0 11 rfl rfl)
theorem dX8_is_14 : decode cX8_is 14 = .ok (.aload_n 0, 1) := dk_42 (dk_at dksX8_is_0 14 rfl rfl)
theorem dX8_is_15 : decode cX8_is 15 = .ok (.getfield 52, 3) := dk_180 0 52 (dk_at dksX8_is_0 15 rfl rfl)
theorem dX8_is_18 : decode cX8_is 18 = .ok (.isub, 1) := dk_100 (dk_at dksX8_is_0 18 rfl rfl)
theorem dX8_is_19 : decode cX8_is 19 = .ok (.aload_n 1, 1) := dk_43 (dk_at dksX8_is_0 19 rfl rfl)
theorem dX8_is_20 : decode cX8_is 20 = .ok (.invokevirtual 86, 3) := dk_182 0 86 (dk_at dksX8_is_0 20 rfl rfl)
theorem dX8_is_23 : decode cX8_is 23 = .ok (.if_icmp .eq 5, 3) := dk_159 0 5 (dk_at dksX8_is_1 0 rfl rfl)
theorem dX8_is_26 : decode cX8_is 26 = .ok (.iconst 0, 1) := dk_3 (dk_at dksX8_is_1 3 rfl rfl)
theorem dX8_is_27 : decode cX8_is 27 = .ok (.ireturn, 1) := dk_172 (dk_at dksX8_is_1 4 rfl rfl)
theorem dX8_is_28 : decode cX8_is 28 = .ok (.iconst 0, 1) := dk_3 (dk_at dksX8_is_1 5 rfl rfl)
theorem dX8_is_29 : decode cX8_is 29 = .ok (.istore_n 2, 1) := dk_61 (dk_at dksX8_is_1 6 rfl rfl)
theorem dX8_is_30 : decode cX8_is 30 = .ok (.iload_n 2, 1) := dk_28 (dk_at dksX8_is_1 7 rfl rfl)
theorem dX8_is_31 : decode cX8_is 31 = .ok (.aload_n 1, 1) := dk_43 (dk_at dksX8_is_1 8 rfl rfl)
theorem dX8_is_32 : decode cX8_is 32 = .ok (.invokevirtual 86, 3) := dk_182 0 86 (dk_at dksX8_is_1 9 rfl rfl)
theorem dX8_is_35 : decode cX8_is 35 = .ok (.if_icmp .ge 33, 3) := dk_162 0 33 (dk_at dksX8_is_1 12 rfl rfl)
theorem dX8_is_38 : decode cX8_is 38 = .ok (.aload_n 0, 1) := dk_42 (dk_at dksX8_is_1 15 rfl rfl)
theorem dX8_is_39 : decode cX8_is 39 = .ok (.getfield 3, 3) := dk_180 0 3 (dk_at dksX8_is_1 16 rfl rfl)
theorem dX8_is_42 : decode cX8_is 42 = .ok (.getfield 44, 3) := dk_180 0 44 (dk_at dksX8_is_1 19 rfl rfl)
theorem dX8_is_45 : decode cX8_is 45 = .ok (.aload_n 0, 1) := dk_42 (dk_at dksX8_is_1 22 rfl rfl)
theorem dX8_is_46 : decode cX8_is 46 = .ok (.getfield 52, 3) := dk_180 0 52 (dk_at dksX8_is_2 0 rfl rfl)
theorem dX8_is_49 : decode cX8_is 49 = .ok (.iload_n 2, 1) := dk_28 (dk_at dksX8_is_2 3 rfl rfl)
theorem dX8_is_50 : decode cX8_is 50 = .ok (.iadd, 1) := dk_96 (dk_at dksX8_is_2 4 rfl rfl)
theorem dX8_is_51 : decode cX8_is 51 = .ok (.baload, 1) := dk_51 (dk_at dksX8_is_2 5 rfl rfl)
theorem dX8_is_52 : decode cX8_is 52 = .ok (.aload_n 1, 1) := dk_43 (dk_at dksX8_is_2 6 rfl rfl)
theorem dX8_is_53 : decode cX8_is 53 = .ok (.iload_n 2, 1) := dk_28 (dk_at dksX8_is_2 7 rfl rfl)
theorem dX8_is_54 : decode cX8_is 54 = .ok (.invokevirtual 92, 3) := dk_182 0 92 (dk_at dksX8_is_2 8 rfl rfl)
theorem dX8_is_57 : decode cX8_is 57 = .ok (.if_icmp .eq 5, 3) := dk_159 0 5 (dk_at dksX8_is_2 11 rfl rfl)
theorem dX8_is_60 : decode cX8_is 60 = .ok (.iconst 0, 1) := dk_3 (dk_at dksX8_is_2 14 rfl rfl)
theorem dX8_is_61 : decode cX8_is 61 = .ok (.ireturn, 1) := dk_172 (dk_at dksX8_is_2 15 rfl rfl)
theorem dX8_is_62 : decode cX8_is 62 = .ok (.iinc 2 1, 3) := dk_132 2 1 (dk_at dksX8_is_2 16 rfl rfl)
theorem dX8_is_65 : decode cX8_is 65 = .ok (.goto (-35), 3) := dk_167 255 221 (dk_at dksX8_is_2 19 rfl rfl)
theorem dX8_is_68 : decode cX8_is 68 = .ok (.iconst 1, 1) := dk_4 (dk_at dksX8_is_2 22 rfl rfl)
theorem dX8_is_69 : decode cX8_is 69 = .ok (.ireturn, 1) := dk_172 (dk_at dksX8_is_2 23 rfl rfl)
abbrev cX8_wrong : ByteArray := prog_7_method_4_code
def yX8_wrong : MethodName := ⟨RX8, "wrong", "(I)LLehrBelt$Fault;"⟩
def dkwX8_wrong_0 : List UInt8 := [187, 0, 81, 89, 27, 42, 180, 0, 52, 183, 0, 83, 176]
abbrev dktX8_wrong_0 : List UInt8 := dkwX8_wrong_0 ++ []
theorem dksX8_wrong_0 : cX8_wrong.data.toList.drop 0 = dktX8_wrong_0 := by decide +kernel
theorem dX8_wrong_0 : decode cX8_wrong 0 = .ok (.new 81, 3) := dk_187 0 81 (dk_at dksX8_wrong_0 0 rfl rfl)
theorem dX8_wrong_3 : decode cX8_wrong 3 = .ok (.dup, 1) := dk_89 (dk_at dksX8_wrong_0 3 rfl rfl)
theorem dX8_wrong_4 : decode cX8_wrong 4 = .ok (.iload_n 1, 1) := dk_27 (dk_at dksX8_wrong_0 4 rfl rfl)
theorem dX8_wrong_5 : decode cX8_wrong 5 = .ok (.aload_n 0, 1) := dk_42 (dk_at dksX8_wrong_0 5 rfl rfl)
theorem dX8_wrong_6 : decode cX8_wrong 6 = .ok (.getfield 52, 3) := dk_180 0 52 (dk_at dksX8_wrong_0 6 rfl rfl)
theorem dX8_wrong_9 : decode cX8_wrong 9 = .ok (.invokespecial 83, 3) := dk_183 0 83 (dk_at dksX8_wrong_0 9 rfl rfl)
theorem dX8_wrong_12 : decode cX8_wrong 12 = .ok (.areturn, 1) := dk_176 (dk_at dksX8_wrong_0 12 rfl rfl)
abbrev cX8_told : ByteArray := prog_7_method_9_code
def yX8_told : MethodName := ⟨RX8, "told", "(Ljava/lang/String;II)I"⟩
def dkwX8_told_0 : List UInt8 := [42, 43, 182, 0, 107, 42, 28, 29, 182, 0, 111, 172]
abbrev dktX8_told_0 : List UInt8 := dkwX8_told_0 ++ []
theorem dksX8_told_0 : cX8_told.data.toList.drop 0 = dktX8_told_0 := by decide +kernel
theorem dX8_told_0 : decode cX8_told 0 = .ok (.aload_n 0, 1) := dk_42 (dk_at dksX8_told_0 0 rfl rfl)
theorem dX8_told_1 : decode cX8_told 1 = .ok (.aload_n 1, 1) := dk_43 (dk_at dksX8_told_0 1 rfl rfl)
theorem dX8_told_2 : decode cX8_told 2 = .ok (.invokevirtual 107, 3) := dk_182 0 107 (dk_at dksX8_told_0 2 rfl rfl)
theorem dX8_told_5 : decode cX8_told 5 = .ok (.aload_n 0, 1) := dk_42 (dk_at dksX8_told_0 5 rfl rfl)
theorem dX8_told_6 : decode cX8_told 6 = .ok (.iload_n 2, 1) := dk_28 (dk_at dksX8_told_0 6 rfl rfl)
theorem dX8_told_7 : decode cX8_told 7 = .ok (.iload_n 3, 1) := dk_29 (dk_at dksX8_told_0 7 rfl rfl)
theorem dX8_told_8 : decode cX8_told 8 = .ok (.invokevirtual 111, 3) := dk_182 0 111 (dk_at dksX8_told_0 8 rfl rfl)
theorem dX8_told_11 : decode cX8_told 11 = .ok (.ireturn, 1) := dk_172 (dk_at dksX8_told_0 11 rfl rfl)
abbrev cX8_number : ByteArray := prog_7_method_8_code
def yX8_number : MethodName := ⟨RX8, "number", "(II)I"⟩
def dkwX8_number_1 : List UInt8 := [133, 184, 0, 48, 154, 0, 9, 42, 5, 182, 0, 103, 191, 42, 180, 0, 62, 62, 42, 182, 0, 38, 29, 172]
abbrev dktX8_number_1 : List UInt8 := dkwX8_number_1 ++ []
def dkwX8_number_0 : List UInt8 := [42, 180, 0, 35, 178, 0, 72, 165, 0, 9, 42, 4, 182, 0, 103, 191, 42, 180, 0, 62, 133, 27, 133, 28]
abbrev dktX8_number_0 : List UInt8 := dkwX8_number_0 ++ dktX8_number_1
theorem dksX8_number_0 : cX8_number.data.toList.drop 0 = dktX8_number_0 := by decide +kernel
theorem dksX8_number_1 : cX8_number.data.toList.drop 24 = dktX8_number_1 := dk_seg dksX8_number_0 24 rfl rfl
theorem dX8_number_0 : decode cX8_number 0 = .ok (.aload_n 0, 1) := dk_42 (dk_at dksX8_number_0 0 rfl rfl)
theorem dX8_number_1 : decode cX8_number 1 = .ok (.getfield 35, 3) := dk_180 0 35 (dk_at dksX8_number_0 1 rfl rfl)
theorem dX8_number_4 : decode cX8_number 4 = .ok (.getstatic 72, 3) := dk_178 0 72 (dk_at dksX8_number_0 4 rfl rfl)
theorem dX8_number_7 : decode cX8_number 7 = .ok (.if_acmp .eq 9, 3) := dk_165 0 9 (dk_at dksX8_number_0 7 rfl rfl)
theorem dX8_number_10 : decode cX8_number 10 = .ok (.aload_n 0, 1) := dk_42 (dk_at dksX8_number_0 10 rfl rfl)
theorem dX8_number_11 : decode cX8_number 11 = .ok (.iconst 1, 1) := dk_4 (dk_at dksX8_number_0 11 rfl rfl)
theorem dX8_number_12 : decode cX8_number 12 = .ok (.invokevirtual 103, 3) := dk_182 0 103 (dk_at dksX8_number_0 12 rfl rfl)
theorem dX8_number_15 : decode cX8_number 15 = .ok (.athrow, 1) := dk_191 (dk_at dksX8_number_0 15 rfl rfl)
theorem dX8_number_16 : decode cX8_number 16 = .ok (.aload_n 0, 1) := dk_42 (dk_at dksX8_number_0 16 rfl rfl)
theorem dX8_number_17 : decode cX8_number 17 = .ok (.getfield 62, 3) := dk_180 0 62 (dk_at dksX8_number_0 17 rfl rfl)
theorem dX8_number_20 : decode cX8_number 20 = .ok (.i2l, 1) := dk_133 (dk_at dksX8_number_0 20 rfl rfl)
theorem dX8_number_21 : decode cX8_number 21 = .ok (.iload_n 1, 1) := dk_27 (dk_at dksX8_number_0 21 rfl rfl)
theorem dX8_number_22 : decode cX8_number 22 = .ok (.i2l, 1) := dk_133 (dk_at dksX8_number_0 22 rfl rfl)
theorem dX8_number_23 : decode cX8_number 23 = .ok (.iload_n 2, 1) := dk_28 (dk_at dksX8_number_0 23 rfl rfl)
theorem dX8_number_24 : decode cX8_number 24 = .ok (.i2l, 1) := dk_133 (dk_at dksX8_number_1 0 rfl rfl)
theorem dX8_number_25 : decode cX8_number 25 = .ok (.invokestatic 48, 3) := dk_184 0 48 (dk_at dksX8_number_1 1 rfl rfl)
theorem dX8_number_28 : decode cX8_number 28 = .ok (.ifCond .ne 9, 3) := dk_154 0 9 (dk_at dksX8_number_1 4 rfl rfl)
theorem dX8_number_31 : decode cX8_number 31 = .ok (.aload_n 0, 1) := dk_42 (dk_at dksX8_number_1 7 rfl rfl)
theorem dX8_number_32 : decode cX8_number 32 = .ok (.iconst 2, 1) := dk_5 (dk_at dksX8_number_1 8 rfl rfl)
theorem dX8_number_33 : decode cX8_number 33 = .ok (.invokevirtual 103, 3) := dk_182 0 103 (dk_at dksX8_number_1 9 rfl rfl)
theorem dX8_number_36 : decode cX8_number 36 = .ok (.athrow, 1) := dk_191 (dk_at dksX8_number_1 12 rfl rfl)
theorem dX8_number_37 : decode cX8_number 37 = .ok (.aload_n 0, 1) := dk_42 (dk_at dksX8_number_1 13 rfl rfl)
theorem dX8_number_38 : decode cX8_number 38 = .ok (.getfield 62, 3) := dk_180 0 62 (dk_at dksX8_number_1 14 rfl rfl)
theorem dX8_number_41 : decode cX8_number 41 = .ok (.istore_n 3, 1) := dk_62 (dk_at dksX8_number_1 17 rfl rfl)
theorem dX8_number_42 : decode cX8_number 42 = .ok (.aload_n 0, 1) := dk_42 (dk_at dksX8_number_1 18 rfl rfl)
theorem dX8_number_43 : decode cX8_number 43 = .ok (.invokevirtual 38, 3) := dk_182 0 38 (dk_at dksX8_number_1 19 rfl rfl)
theorem dX8_number_46 : decode cX8_number 46 = .ok (.iload_n 3, 1) := dk_29 (dk_at dksX8_number_1 22 rfl rfl)
theorem dX8_number_47 : decode cX8_number 47 = .ok (.ireturn, 1) := dk_172 (dk_at dksX8_number_1 23 rfl rfl)
abbrev cX8_line : ByteArray := prog_7_method_14_code
def yX8_line : MethodName := ⟨RX8, "line", "()V"⟩
def dkwX8_line_3 : List UInt8 := [182, 0, 103, 191, 177]
abbrev dktX8_line_3 : List UInt8 := dkwX8_line_3 ++ []
def dkwX8_line_2 : List UInt8 := [160, 0, 7, 4, 167, 0, 4, 3, 182, 0, 167, 153, 0, 10, 42, 182, 0, 176, 167, 0, 9, 42, 4]
abbrev dktX8_line_2 : List UInt8 := dkwX8_line_2 ++ dktX8_line_3
def dkwX8_line_1 : List UInt8 := [153, 0, 10, 42, 182, 0, 171, 167, 0, 42, 42, 18, 174, 42, 180, 0, 25, 180, 0, 146, 16, 6]
abbrev dktX8_line_1 : List UInt8 := dkwX8_line_1 ++ dktX8_line_2
def dkwX8_line_0 : List UInt8 := [42, 18, 165, 42, 180, 0, 25, 180, 0, 143, 16, 7, 160, 0, 7, 4, 167, 0, 4, 3, 182, 0, 167]
abbrev dktX8_line_0 : List UInt8 := dkwX8_line_0 ++ dktX8_line_1
theorem dksX8_line_0 : cX8_line.data.toList.drop 0 = dktX8_line_0 := by decide +kernel
theorem dksX8_line_1 : cX8_line.data.toList.drop 23 = dktX8_line_1 := dk_seg dksX8_line_0 23 rfl rfl
theorem dksX8_line_2 : cX8_line.data.toList.drop 45 = dktX8_line_2 := dk_seg dksX8_line_1 22 rfl rfl
theorem dksX8_line_3 : cX8_line.data.toList.drop 68 = dktX8_line_3 := dk_seg dksX8_line_2 23 rfl rfl
theorem dX8_line_0 : decode cX8_line 0 = .ok (.aload_n 0, 1) := dk_42 (dk_at dksX8_line_0 0 rfl rfl)
theorem dX8_line_1 : decode cX8_line 1 = .ok (.ldc 165, 2) := dk_18 165 (dk_at dksX8_line_0 1 rfl rfl)
theorem dX8_line_3 : decode cX8_line 3 = .ok (.aload_n 0, 1) := dk_42 (dk_at dksX8_line_0 3 rfl rfl)
theorem dX8_line_4 : decode cX8_line 4 = .ok (.getfield 25, 3) := dk_180 0 25 (dk_at dksX8_line_0 4 rfl rfl)
theorem dX8_line_7 : decode cX8_line 7 = .ok (.getfield 143, 3) := dk_180 0 143 (dk_at dksX8_line_0 7 rfl rfl)
theorem dX8_line_10 : decode cX8_line 10 = .ok (.bipush 7, 2) := dk_16 7 (dk_at dksX8_line_0 10 rfl rfl)
theorem dX8_line_12 : decode cX8_line 12 = .ok (.if_icmp .ne 7, 3) := dk_160 0 7 (dk_at dksX8_line_0 12 rfl rfl)
theorem dX8_line_15 : decode cX8_line 15 = .ok (.iconst 1, 1) := dk_4 (dk_at dksX8_line_0 15 rfl rfl)
theorem dX8_line_16 : decode cX8_line 16 = .ok (.goto 4, 3) := dk_167 0 4 (dk_at dksX8_line_0 16 rfl rfl)
theorem dX8_line_19 : decode cX8_line 19 = .ok (.iconst 0, 1) := dk_3 (dk_at dksX8_line_0 19 rfl rfl)
theorem dX8_line_20 : decode cX8_line 20 = .ok (.invokevirtual 167, 3) := dk_182 0 167 (dk_at dksX8_line_0 20 rfl rfl)
theorem dX8_line_23 : decode cX8_line 23 = .ok (.ifCond .eq 10, 3) := dk_153 0 10 (dk_at dksX8_line_1 0 rfl rfl)
theorem dX8_line_26 : decode cX8_line 26 = .ok (.aload_n 0, 1) := dk_42 (dk_at dksX8_line_1 3 rfl rfl)
theorem dX8_line_27 : decode cX8_line 27 = .ok (.invokevirtual 171, 3) := dk_182 0 171 (dk_at dksX8_line_1 4 rfl rfl)
theorem dX8_line_30 : decode cX8_line 30 = .ok (.goto 42, 3) := dk_167 0 42 (dk_at dksX8_line_1 7 rfl rfl)
theorem dX8_line_33 : decode cX8_line 33 = .ok (.aload_n 0, 1) := dk_42 (dk_at dksX8_line_1 10 rfl rfl)
theorem dX8_line_34 : decode cX8_line 34 = .ok (.ldc 174, 2) := dk_18 174 (dk_at dksX8_line_1 11 rfl rfl)
theorem dX8_line_36 : decode cX8_line 36 = .ok (.aload_n 0, 1) := dk_42 (dk_at dksX8_line_1 13 rfl rfl)
theorem dX8_line_37 : decode cX8_line 37 = .ok (.getfield 25, 3) := dk_180 0 25 (dk_at dksX8_line_1 14 rfl rfl)
theorem dX8_line_40 : decode cX8_line 40 = .ok (.getfield 146, 3) := dk_180 0 146 (dk_at dksX8_line_1 17 rfl rfl)
theorem dX8_line_43 : decode cX8_line 43 = .ok (.bipush 6, 2) := dk_16 6 (dk_at dksX8_line_1 20 rfl rfl)
theorem dX8_line_45 : decode cX8_line 45 = .ok (.if_icmp .ne 7, 3) := dk_160 0 7 (dk_at dksX8_line_2 0 rfl rfl)
theorem dX8_line_48 : decode cX8_line 48 = .ok (.iconst 1, 1) := dk_4 (dk_at dksX8_line_2 3 rfl rfl)
theorem dX8_line_49 : decode cX8_line 49 = .ok (.goto 4, 3) := dk_167 0 4 (dk_at dksX8_line_2 4 rfl rfl)
theorem dX8_line_52 : decode cX8_line 52 = .ok (.iconst 0, 1) := dk_3 (dk_at dksX8_line_2 7 rfl rfl)
theorem dX8_line_53 : decode cX8_line 53 = .ok (.invokevirtual 167, 3) := dk_182 0 167 (dk_at dksX8_line_2 8 rfl rfl)
theorem dX8_line_56 : decode cX8_line 56 = .ok (.ifCond .eq 10, 3) := dk_153 0 10 (dk_at dksX8_line_2 11 rfl rfl)
theorem dX8_line_59 : decode cX8_line 59 = .ok (.aload_n 0, 1) := dk_42 (dk_at dksX8_line_2 14 rfl rfl)
theorem dX8_line_60 : decode cX8_line 60 = .ok (.invokevirtual 176, 3) := dk_182 0 176 (dk_at dksX8_line_2 15 rfl rfl)
theorem dX8_line_63 : decode cX8_line 63 = .ok (.goto 9, 3) := dk_167 0 9 (dk_at dksX8_line_2 18 rfl rfl)
theorem dX8_line_66 : decode cX8_line 66 = .ok (.aload_n 0, 1) := dk_42 (dk_at dksX8_line_2 21 rfl rfl)
theorem dX8_line_67 : decode cX8_line 67 = .ok (.iconst 1, 1) := dk_4 (dk_at dksX8_line_2 22 rfl rfl)
theorem dX8_line_68 : decode cX8_line 68 = .ok (.invokevirtual 103, 3) := dk_182 0 103 (dk_at dksX8_line_3 0 rfl rfl)
theorem dX8_line_71 : decode cX8_line 71 = .ok (.athrow, 1) := dk_191 (dk_at dksX8_line_3 3 rfl rfl)
theorem dX8_line_72 : decode cX8_line 72 = .ok (.return_, 1) := dk_177 (dk_at dksX8_line_3 4 rfl rfl)
abbrev cX8_begins : ByteArray := prog_7_method_13_code
def yX8_begins : MethodName := ⟨RX8, "begins", "(Ljava/lang/String;Z)Z"⟩
def dkwX8_begins_0 : List UInt8 := [42, 43, 182, 0, 96, 153, 0, 13, 28, 153, 0, 9, 42, 6, 182, 0, 103, 191, 42, 43, 182, 0, 100, 172]
abbrev dktX8_begins_0 : List UInt8 := dkwX8_begins_0 ++ []
theorem dksX8_begins_0 : cX8_begins.data.toList.drop 0 = dktX8_begins_0 := by decide +kernel
theorem dX8_begins_0 : decode cX8_begins 0 = .ok (.aload_n 0, 1) := dk_42 (dk_at dksX8_begins_0 0 rfl rfl)
theorem dX8_begins_1 : decode cX8_begins 1 = .ok (.aload_n 1, 1) := dk_43 (dk_at dksX8_begins_0 1 rfl rfl)
theorem dX8_begins_2 : decode cX8_begins 2 = .ok (.invokevirtual 96, 3) := dk_182 0 96 (dk_at dksX8_begins_0 2 rfl rfl)
theorem dX8_begins_5 : decode cX8_begins 5 = .ok (.ifCond .eq 13, 3) := dk_153 0 13 (dk_at dksX8_begins_0 5 rfl rfl)
theorem dX8_begins_8 : decode cX8_begins 8 = .ok (.iload_n 2, 1) := dk_28 (dk_at dksX8_begins_0 8 rfl rfl)
theorem dX8_begins_9 : decode cX8_begins 9 = .ok (.ifCond .eq 9, 3) := dk_153 0 9 (dk_at dksX8_begins_0 9 rfl rfl)
theorem dX8_begins_12 : decode cX8_begins 12 = .ok (.aload_n 0, 1) := dk_42 (dk_at dksX8_begins_0 12 rfl rfl)
theorem dX8_begins_13 : decode cX8_begins 13 = .ok (.iconst 3, 1) := dk_6 (dk_at dksX8_begins_0 13 rfl rfl)
theorem dX8_begins_14 : decode cX8_begins 14 = .ok (.invokevirtual 103, 3) := dk_182 0 103 (dk_at dksX8_begins_0 14 rfl rfl)
theorem dX8_begins_17 : decode cX8_begins 17 = .ok (.athrow, 1) := dk_191 (dk_at dksX8_begins_0 17 rfl rfl)
theorem dX8_begins_18 : decode cX8_begins 18 = .ok (.aload_n 0, 1) := dk_42 (dk_at dksX8_begins_0 18 rfl rfl)
theorem dX8_begins_19 : decode cX8_begins 19 = .ok (.aload_n 1, 1) := dk_43 (dk_at dksX8_begins_0 19 rfl rfl)
theorem dX8_begins_20 : decode cX8_begins 20 = .ok (.invokevirtual 100, 3) := dk_182 0 100 (dk_at dksX8_begins_0 20 rfl rfl)
theorem dX8_begins_23 : decode cX8_begins 23 = .ok (.ireturn, 1) := dk_172 (dk_at dksX8_begins_0 23 rfl rfl)
abbrev cX8_newZone : ByteArray := prog_7_method_11_code
def yX8_newZone : MethodName := ⟨RX8, "newZone", "()V"⟩
def dkwX8_newZone_1 : List UInt8 := [180, 0, 25, 89, 180, 0, 143, 4, 96, 181, 0, 143, 177]
abbrev dktX8_newZone_1 : List UInt8 := dkwX8_newZone_1 ++ []
def dkwX8_newZone_0 : List UInt8 := [42, 180, 0, 25, 180, 0, 139, 42, 180, 0, 25, 180, 0, 143, 42, 3, 17, 2, 88, 182, 0, 111, 79, 42]
abbrev dktX8_newZone_0 : List UInt8 := dkwX8_newZone_0 ++ dktX8_newZone_1
theorem dksX8_newZone_0 : cX8_newZone.data.toList.drop 0 = dktX8_newZone_0 := by decide +kernel
theorem dksX8_newZone_1 : cX8_newZone.data.toList.drop 24 = dktX8_newZone_1 := dk_seg dksX8_newZone_0 24 rfl rfl
theorem dX8_newZone_0 : decode cX8_newZone 0 = .ok (.aload_n 0, 1) := dk_42 (dk_at dksX8_newZone_0 0 rfl rfl)
theorem dX8_newZone_1 : decode cX8_newZone 1 = .ok (.getfield 25, 3) := dk_180 0 25 (dk_at dksX8_newZone_0 1 rfl rfl)
theorem dX8_newZone_4 : decode cX8_newZone 4 = .ok (.getfield 139, 3) := dk_180 0 139 (dk_at dksX8_newZone_0 4 rfl rfl)
theorem dX8_newZone_7 : decode cX8_newZone 7 = .ok (.aload_n 0, 1) := dk_42 (dk_at dksX8_newZone_0 7 rfl rfl)
theorem dX8_newZone_8 : decode cX8_newZone 8 = .ok (.getfield 25, 3) := dk_180 0 25 (dk_at dksX8_newZone_0 8 rfl rfl)
theorem dX8_newZone_11 : decode cX8_newZone 11 = .ok (.getfield 143, 3) := dk_180 0 143 (dk_at dksX8_newZone_0 11 rfl rfl)
theorem dX8_newZone_14 : decode cX8_newZone 14 = .ok (.aload_n 0, 1) := dk_42 (dk_at dksX8_newZone_0 14 rfl rfl)
theorem dX8_newZone_15 : decode cX8_newZone 15 = .ok (.iconst 0, 1) := dk_3 (dk_at dksX8_newZone_0 15 rfl rfl)
theorem dX8_newZone_16 : decode cX8_newZone 16 = .ok (.sipush 600, 3) := dk_17 2 88 (dk_at dksX8_newZone_0 16 rfl rfl)
theorem dX8_newZone_19 : decode cX8_newZone 19 = .ok (.invokevirtual 111, 3) := dk_182 0 111 (dk_at dksX8_newZone_0 19 rfl rfl)
theorem dX8_newZone_22 : decode cX8_newZone 22 = .ok (.iastore, 1) := dk_79 (dk_at dksX8_newZone_0 22 rfl rfl)
theorem dX8_newZone_23 : decode cX8_newZone 23 = .ok (.aload_n 0, 1) := dk_42 (dk_at dksX8_newZone_0 23 rfl rfl)
theorem dX8_newZone_24 : decode cX8_newZone 24 = .ok (.getfield 25, 3) := dk_180 0 25 (dk_at dksX8_newZone_1 0 rfl rfl)
theorem dX8_newZone_27 : decode cX8_newZone 27 = .ok (.dup, 1) := dk_89 (dk_at dksX8_newZone_1 3 rfl rfl)
theorem dX8_newZone_28 : decode cX8_newZone 28 = .ok (.getfield 143, 3) := dk_180 0 143 (dk_at dksX8_newZone_1 4 rfl rfl)
theorem dX8_newZone_31 : decode cX8_newZone 31 = .ok (.iconst 1, 1) := dk_4 (dk_at dksX8_newZone_1 7 rfl rfl)
theorem dX8_newZone_32 : decode cX8_newZone 32 = .ok (.iadd, 1) := dk_96 (dk_at dksX8_newZone_1 8 rfl rfl)
theorem dX8_newZone_33 : decode cX8_newZone 33 = .ok (.putfield 143, 3) := dk_181 0 143 (dk_at dksX8_newZone_1 9 rfl rfl)
theorem dX8_newZone_36 : decode cX8_newZone 36 = .ok (.return_, 1) := dk_177 (dk_at dksX8_newZone_1 12 rfl rfl)
abbrev cX8_newPiece : ByteArray := prog_7_method_12_code
def yX8_newPiece : MethodName := ⟨RX8, "newPiece", "()V"⟩
def dkwX8_newPiece_4 : List UInt8 := [181, 0, 146, 177]
abbrev dktX8_newPiece_4 : List UInt8 := dkwX8_newPiece_4 ++ []
def dkwX8_newPiece_3 : List UInt8 := [180, 0, 161, 27, 42, 18, 164, 3, 16, 14, 182, 0, 117, 79, 42, 180, 0, 25, 89, 180, 0, 146, 4, 96]
abbrev dktX8_newPiece_3 : List UInt8 := dkwX8_newPiece_3 ++ dktX8_newPiece_4
def dkwX8_newPiece_2 : List UInt8 := [180, 0, 25, 180, 0, 157, 27, 42, 18, 160, 3, 17, 1, 44, 182, 0, 117, 79, 42, 180, 0, 25]
abbrev dktX8_newPiece_2 : List UInt8 := dkwX8_newPiece_2 ++ dktX8_newPiece_3
def dkwX8_newPiece_1 : List UInt8 := [182, 0, 117, 79, 42, 180, 0, 25, 180, 0, 153, 27, 42, 18, 156, 4, 16, 9, 182, 0, 117, 79, 42]
abbrev dktX8_newPiece_1 : List UInt8 := dkwX8_newPiece_1 ++ dktX8_newPiece_2
def dkwX8_newPiece_0 : List UInt8 := [42, 180, 0, 25, 180, 0, 146, 60, 42, 180, 0, 25, 180, 0, 149, 27, 42, 18, 152, 3, 17, 2, 88]
abbrev dktX8_newPiece_0 : List UInt8 := dkwX8_newPiece_0 ++ dktX8_newPiece_1
theorem dksX8_newPiece_0 : cX8_newPiece.data.toList.drop 0 = dktX8_newPiece_0 := by decide +kernel
theorem dksX8_newPiece_1 : cX8_newPiece.data.toList.drop 23 = dktX8_newPiece_1 := dk_seg dksX8_newPiece_0 23 rfl rfl
theorem dksX8_newPiece_2 : cX8_newPiece.data.toList.drop 46 = dktX8_newPiece_2 := dk_seg dksX8_newPiece_1 23 rfl rfl
theorem dksX8_newPiece_3 : cX8_newPiece.data.toList.drop 68 = dktX8_newPiece_3 := dk_seg dksX8_newPiece_2 22 rfl rfl
theorem dksX8_newPiece_4 : cX8_newPiece.data.toList.drop 92 = dktX8_newPiece_4 := dk_seg dksX8_newPiece_3 24 rfl rfl
theorem dX8_newPiece_0 : decode cX8_newPiece 0 = .ok (.aload_n 0, 1) := dk_42 (dk_at dksX8_newPiece_0 0 rfl rfl)
theorem dX8_newPiece_1 : decode cX8_newPiece 1 = .ok (.getfield 25, 3) := dk_180 0 25 (dk_at dksX8_newPiece_0 1 rfl rfl)
theorem dX8_newPiece_4 : decode cX8_newPiece 4 = .ok (.getfield 146, 3) := dk_180 0 146 (dk_at dksX8_newPiece_0 4 rfl rfl)
theorem dX8_newPiece_7 : decode cX8_newPiece 7 = .ok (.istore_n 1, 1) := dk_60 (dk_at dksX8_newPiece_0 7 rfl rfl)
theorem dX8_newPiece_8 : decode cX8_newPiece 8 = .ok (.aload_n 0, 1) := dk_42 (dk_at dksX8_newPiece_0 8 rfl rfl)
theorem dX8_newPiece_9 : decode cX8_newPiece 9 = .ok (.getfield 25, 3) := dk_180 0 25 (dk_at dksX8_newPiece_0 9 rfl rfl)
theorem dX8_newPiece_12 : decode cX8_newPiece 12 = .ok (.getfield 149, 3) := dk_180 0 149 (dk_at dksX8_newPiece_0 12 rfl rfl)
theorem dX8_newPiece_15 : decode cX8_newPiece 15 = .ok (.iload_n 1, 1) := dk_27 (dk_at dksX8_newPiece_0 15 rfl rfl)
theorem dX8_newPiece_16 : decode cX8_newPiece 16 = .ok (.aload_n 0, 1) := dk_42 (dk_at dksX8_newPiece_0 16 rfl rfl)
theorem dX8_newPiece_17 : decode cX8_newPiece 17 = .ok (.ldc 152, 2) := dk_18 152 (dk_at dksX8_newPiece_0 17 rfl rfl)
theorem dX8_newPiece_19 : decode cX8_newPiece 19 = .ok (.iconst 0, 1) := dk_3 (dk_at dksX8_newPiece_0 19 rfl rfl)
theorem dX8_newPiece_20 : decode cX8_newPiece 20 = .ok (.sipush 600, 3) := dk_17 2 88 (dk_at dksX8_newPiece_0 20 rfl rfl)
theorem dX8_newPiece_23 : decode cX8_newPiece 23 = .ok (.invokevirtual 117, 3) := dk_182 0 117 (dk_at dksX8_newPiece_1 0 rfl rfl)
theorem dX8_newPiece_26 : decode cX8_newPiece 26 = .ok (.iastore, 1) := dk_79 (dk_at dksX8_newPiece_1 3 rfl rfl)
theorem dX8_newPiece_27 : decode cX8_newPiece 27 = .ok (.aload_n 0, 1) := dk_42 (dk_at dksX8_newPiece_1 4 rfl rfl)
theorem dX8_newPiece_28 : decode cX8_newPiece 28 = .ok (.getfield 25, 3) := dk_180 0 25 (dk_at dksX8_newPiece_1 5 rfl rfl)
theorem dX8_newPiece_31 : decode cX8_newPiece 31 = .ok (.getfield 153, 3) := dk_180 0 153 (dk_at dksX8_newPiece_1 8 rfl rfl)
theorem dX8_newPiece_34 : decode cX8_newPiece 34 = .ok (.iload_n 1, 1) := dk_27 (dk_at dksX8_newPiece_1 11 rfl rfl)
theorem dX8_newPiece_35 : decode cX8_newPiece 35 = .ok (.aload_n 0, 1) := dk_42 (dk_at dksX8_newPiece_1 12 rfl rfl)
theorem dX8_newPiece_36 : decode cX8_newPiece 36 = .ok (.ldc 156, 2) := dk_18 156 (dk_at dksX8_newPiece_1 13 rfl rfl)
theorem dX8_newPiece_38 : decode cX8_newPiece 38 = .ok (.iconst 1, 1) := dk_4 (dk_at dksX8_newPiece_1 15 rfl rfl)
theorem dX8_newPiece_39 : decode cX8_newPiece 39 = .ok (.bipush 9, 2) := dk_16 9 (dk_at dksX8_newPiece_1 16 rfl rfl)
theorem dX8_newPiece_41 : decode cX8_newPiece 41 = .ok (.invokevirtual 117, 3) := dk_182 0 117 (dk_at dksX8_newPiece_1 18 rfl rfl)
theorem dX8_newPiece_44 : decode cX8_newPiece 44 = .ok (.iastore, 1) := dk_79 (dk_at dksX8_newPiece_1 21 rfl rfl)
theorem dX8_newPiece_45 : decode cX8_newPiece 45 = .ok (.aload_n 0, 1) := dk_42 (dk_at dksX8_newPiece_1 22 rfl rfl)
theorem dX8_newPiece_46 : decode cX8_newPiece 46 = .ok (.getfield 25, 3) := dk_180 0 25 (dk_at dksX8_newPiece_2 0 rfl rfl)
theorem dX8_newPiece_49 : decode cX8_newPiece 49 = .ok (.getfield 157, 3) := dk_180 0 157 (dk_at dksX8_newPiece_2 3 rfl rfl)
theorem dX8_newPiece_52 : decode cX8_newPiece 52 = .ok (.iload_n 1, 1) := dk_27 (dk_at dksX8_newPiece_2 6 rfl rfl)
theorem dX8_newPiece_53 : decode cX8_newPiece 53 = .ok (.aload_n 0, 1) := dk_42 (dk_at dksX8_newPiece_2 7 rfl rfl)
theorem dX8_newPiece_54 : decode cX8_newPiece 54 = .ok (.ldc 160, 2) := dk_18 160 (dk_at dksX8_newPiece_2 8 rfl rfl)
theorem dX8_newPiece_56 : decode cX8_newPiece 56 = .ok (.iconst 0, 1) := dk_3 (dk_at dksX8_newPiece_2 10 rfl rfl)
theorem dX8_newPiece_57 : decode cX8_newPiece 57 = .ok (.sipush 300, 3) := dk_17 1 44 (dk_at dksX8_newPiece_2 11 rfl rfl)
theorem dX8_newPiece_60 : decode cX8_newPiece 60 = .ok (.invokevirtual 117, 3) := dk_182 0 117 (dk_at dksX8_newPiece_2 14 rfl rfl)
theorem dX8_newPiece_63 : decode cX8_newPiece 63 = .ok (.iastore, 1) := dk_79 (dk_at dksX8_newPiece_2 17 rfl rfl)
theorem dX8_newPiece_64 : decode cX8_newPiece 64 = .ok (.aload_n 0, 1) := dk_42 (dk_at dksX8_newPiece_2 18 rfl rfl)
theorem dX8_newPiece_65 : decode cX8_newPiece 65 = .ok (.getfield 25, 3) := dk_180 0 25 (dk_at dksX8_newPiece_2 19 rfl rfl)
theorem dX8_newPiece_68 : decode cX8_newPiece 68 = .ok (.getfield 161, 3) := dk_180 0 161 (dk_at dksX8_newPiece_3 0 rfl rfl)
theorem dX8_newPiece_71 : decode cX8_newPiece 71 = .ok (.iload_n 1, 1) := dk_27 (dk_at dksX8_newPiece_3 3 rfl rfl)
theorem dX8_newPiece_72 : decode cX8_newPiece 72 = .ok (.aload_n 0, 1) := dk_42 (dk_at dksX8_newPiece_3 4 rfl rfl)
theorem dX8_newPiece_73 : decode cX8_newPiece 73 = .ok (.ldc 164, 2) := dk_18 164 (dk_at dksX8_newPiece_3 5 rfl rfl)
theorem dX8_newPiece_75 : decode cX8_newPiece 75 = .ok (.iconst 0, 1) := dk_3 (dk_at dksX8_newPiece_3 7 rfl rfl)
theorem dX8_newPiece_76 : decode cX8_newPiece 76 = .ok (.bipush 14, 2) := dk_16 14 (dk_at dksX8_newPiece_3 8 rfl rfl)
theorem dX8_newPiece_78 : decode cX8_newPiece 78 = .ok (.invokevirtual 117, 3) := dk_182 0 117 (dk_at dksX8_newPiece_3 10 rfl rfl)
theorem dX8_newPiece_81 : decode cX8_newPiece 81 = .ok (.iastore, 1) := dk_79 (dk_at dksX8_newPiece_3 13 rfl rfl)
theorem dX8_newPiece_82 : decode cX8_newPiece 82 = .ok (.aload_n 0, 1) := dk_42 (dk_at dksX8_newPiece_3 14 rfl rfl)
theorem dX8_newPiece_83 : decode cX8_newPiece 83 = .ok (.getfield 25, 3) := dk_180 0 25 (dk_at dksX8_newPiece_3 15 rfl rfl)
theorem dX8_newPiece_86 : decode cX8_newPiece 86 = .ok (.dup, 1) := dk_89 (dk_at dksX8_newPiece_3 18 rfl rfl)
theorem dX8_newPiece_87 : decode cX8_newPiece 87 = .ok (.getfield 146, 3) := dk_180 0 146 (dk_at dksX8_newPiece_3 19 rfl rfl)
theorem dX8_newPiece_90 : decode cX8_newPiece 90 = .ok (.iconst 1, 1) := dk_4 (dk_at dksX8_newPiece_3 22 rfl rfl)
theorem dX8_newPiece_91 : decode cX8_newPiece 91 = .ok (.iadd, 1) := dk_96 (dk_at dksX8_newPiece_3 23 rfl rfl)
theorem dX8_newPiece_92 : decode cX8_newPiece 92 = .ok (.putfield 146, 3) := dk_181 0 146 (dk_at dksX8_newPiece_4 0 rfl rfl)
theorem dX8_newPiece_95 : decode cX8_newPiece 95 = .ok (.return_, 1) := dk_177 (dk_at dksX8_newPiece_4 3 rfl rfl)
theorem q148 : (Jvm.Cond.initialized "LehrBelt$Reader") ∈ lw_all := lw_g (lw_at lw_m1 12 rfl) rfl
theorem q185 : (Jvm.Cond.fieldLinkNest "LehrBelt$Reader" (121 : Nat) "LehrBelt$Lehr" "steps" "I" "LehrBelt") ∈ lw_tbl := lw_at lw_m1 49 rfl
theorem q188 : (Jvm.Cond.fieldLinkNest "LehrBelt$Reader" (125 : Nat) "LehrBelt$Lehr" "law" "I" "LehrBelt") ∈ lw_tbl := lw_at lw_m1 52 rfl
theorem q191 : (Jvm.Cond.fieldLinkNest "LehrBelt$Reader" (129 : Nat) "LehrBelt$Lehr" "odds" "I" "LehrBelt") ∈ lw_tbl := lw_at lw_m1 55 rfl
theorem q194 : (Jvm.Cond.fieldLinkNest "LehrBelt$Reader" (133 : Nat) "LehrBelt$Lehr" "pace" "I" "LehrBelt") ∈ lw_tbl := lw_at lw_m1 58 rfl
theorem q197 : (Jvm.Cond.fieldLinkNest "LehrBelt$Reader" (137 : Nat) "LehrBelt$Lehr" "set" "I" "LehrBelt") ∈ lw_tbl := lw_at lw_m1 61 rfl
theorem q201 : (Jvm.Cond.fieldLinkNest "LehrBelt$Reader" (179 : Nat) "LehrBelt$Lehr" "lines" "I" "LehrBelt") ∈ lw_tbl := lw_at lw_m1 65 rfl
theorem q204 : (Jvm.Cond.fieldLinkNest "LehrBelt$Reader" (143 : Nat) "LehrBelt$Lehr" "zones" "I" "LehrBelt") ∈ lw_tbl := lw_at lw_m1 68 rfl
theorem q208 : (Jvm.Cond.fieldLinkNest "LehrBelt$Reader" (146 : Nat) "LehrBelt$Lehr" "pieces" "I" "LehrBelt") ∈ lw_tbl := lw_at lw_m1 72 rfl
theorem q212 : (Jvm.Cond.fieldLinkNest "LehrBelt$Reader" (139 : Nat) "LehrBelt$Lehr" "air" "[I" "LehrBelt") ∈ lw_tbl := lw_at lw_m1 76 rfl
theorem q215 : (Jvm.Cond.fieldLinkNest "LehrBelt$Reader" (149 : Nat) "LehrBelt$Lehr" "heat" "[I" "LehrBelt") ∈ lw_tbl := lw_at lw_m1 79 rfl
theorem q218 : (Jvm.Cond.fieldLinkNest "LehrBelt$Reader" (153 : Nat) "LehrBelt$Lehr" "thick" "[I" "LehrBelt") ∈ lw_tbl := lw_at lw_m1 82 rfl
theorem q221 : (Jvm.Cond.fieldLinkNest "LehrBelt$Reader" (157 : Nat) "LehrBelt$Lehr" "bears" "[I" "LehrBelt") ∈ lw_tbl := lw_at lw_m1 85 rfl
theorem q224 : (Jvm.Cond.fieldLinkNest "LehrBelt$Reader" (161 : Nat) "LehrBelt$Lehr" "comes" "[I" "LehrBelt") ∈ lw_tbl := lw_at lw_m1 88 rfl
theorem q345 : (Jvm.Cond.fieldLinkNest "LehrBelt$Reader" (44 : Nat) "LehrBelt" "tape" "[B" "LehrBelt") ∈ lw_tbl := lw_at lw_m1 209 rfl
theorem q347 : (Jvm.Cond.fieldLinkNest "LehrBelt$Reader" (15 : Nat) "LehrBelt" "taped" "I" "LehrBelt") ∈ lw_tbl := lw_at lw_m1 211 rfl
theorem q465 : (Jvm.Cond.instantiable "LehrBelt$Reader" (7 : Nat)) ∈ lw_all := lw_g (lw_at lw_m2 89 rfl) rfl
theorem q467 : (Jvm.Cond.instanceMethod ({ cls := "LehrBelt$Reader", name := "<init>", desc := "(LLehrBelt;)V" } : Jvm.MethodName)) ∈ lw_all := lw_g (lw_at lw_m2 91 rfl) rfl
theorem q468 : (Jvm.Cond.code ({ cls := "LehrBelt$Reader", name := "<init>", desc := "(LLehrBelt;)V" } : Jvm.MethodName) prog_7_method_1_code (2 : Nat) (Option.none : Option Jvm.ClassFile.FieldType)) ∈ lw_all := lw_g (lw_at lw_m2 92 rfl) rfl
theorem q469 : (Jvm.Cond.methodLink "LehrBelt$Reader" (9 : Nat) ({ cls := "java/lang/Object", name := "<init>", desc := "()V" } : Jvm.MethodName)) ∈ lw_all := lw_g (lw_at lw_m2 93 rfl) rfl
theorem q470 : (Jvm.Cond.classLink "LehrBelt$Reader" (22 : Nat) "LehrBelt$Lehr") ∈ lw_all := lw_g (lw_at lw_m2 94 rfl) rfl
theorem q471 : (Jvm.Cond.methodLinkNest "LehrBelt$Reader" (24 : Nat) ({ cls := "LehrBelt$Lehr", name := "<init>", desc := "()V" } : Jvm.MethodName) "LehrBelt") ∈ lw_tbl := lw_at lw_m2 95 rfl
theorem q472 : (Jvm.Cond.fieldLink "LehrBelt$Reader" (29 : Nat) "LehrBelt$Token" "END" "LLehrBelt$Token;") ∈ lw_all := lw_g (lw_at lw_m2 96 rfl) rfl
theorem q474 : (Jvm.Cond.methodLink "LehrBelt$Reader" (38 : Nat) ({ cls := "LehrBelt$Reader", name := "next", desc := "()V" } : Jvm.MethodName)) ∈ lw_all := lw_g (lw_at lw_m2 98 rfl) rfl
theorem q475 : (Jvm.Cond.privateMethod ({ cls := "LehrBelt$Reader", name := "next", desc := "()V" } : Jvm.MethodName)) ∈ lw_tbl := lw_at lw_m2 99 rfl
theorem q476 : (Jvm.Cond.instanceMethod ({ cls := "LehrBelt$Reader", name := "next", desc := "()V" } : Jvm.MethodName)) ∈ lw_all := lw_g (lw_at lw_m2 100 rfl) rfl
theorem q477 : (Jvm.Cond.code ({ cls := "LehrBelt$Reader", name := "next", desc := "()V" } : Jvm.MethodName) prog_7_method_3_code (1 : Nat) (Option.none : Option Jvm.ClassFile.FieldType)) ∈ lw_all := lw_g (lw_at lw_m2 101 rfl) rfl
theorem q478 : (Jvm.Cond.methodLink "LehrBelt$Reader" (55 : Nat) ({ cls := "LehrBelt$Reader", name := "isNext", desc := "(II)Z" } : Jvm.MethodName)) ∈ lw_all := lw_g (lw_at lw_m2 102 rfl) rfl
theorem q479 : (Jvm.Cond.privateMethod ({ cls := "LehrBelt$Reader", name := "isNext", desc := "(II)Z" } : Jvm.MethodName)) ∈ lw_tbl := lw_at lw_m2 103 rfl
theorem q480 : (Jvm.Cond.instanceMethod ({ cls := "LehrBelt$Reader", name := "isNext", desc := "(II)Z" } : Jvm.MethodName)) ∈ lw_all := lw_g (lw_at lw_m2 104 rfl) rfl
theorem q481 : (Jvm.Cond.code ({ cls := "LehrBelt$Reader", name := "isNext", desc := "(II)Z" } : Jvm.MethodName) prog_7_method_2_code (3 : Nat) (Option.some Jvm.ClassFile.FieldType.boolean)) ∈ lw_all := lw_g (lw_at lw_m2 105 rfl) rfl
theorem q482 : (Jvm.Cond.methodLinkNest "LehrBelt$Reader" (48 : Nat) ({ cls := "LehrBelt", name := "isIn", desc := "(JJJ)Z" } : Jvm.MethodName) "LehrBelt") ∈ lw_tbl := lw_at lw_m2 106 rfl
theorem q483 : (Jvm.Cond.fieldLink "LehrBelt$Reader" (59 : Nat) "LehrBelt$Token" "WORD" "LLehrBelt$Token;") ∈ lw_all := lw_g (lw_at lw_m2 107 rfl) rfl
theorem q485 : (Jvm.Cond.constant "LehrBelt$Reader" (65 : Nat) (99999 : Int32)) ∈ lw_all := lw_g (lw_at lw_m2 109 rfl) rfl
theorem q486 : (Jvm.Cond.methodLink "LehrBelt$Reader" (66 : Nat) ({ cls := "java/lang/Math", name := "min", desc := "(II)I" } : Jvm.MethodName)) ∈ lw_all := lw_g (lw_at lw_m2 110 rfl) rfl
theorem q489 : (Jvm.Cond.fieldLink "LehrBelt$Reader" (72 : Nat) "LehrBelt$Token" "NUMBER" "LLehrBelt$Token;") ∈ lw_all := lw_g (lw_at lw_m2 113 rfl) rfl
theorem q491 : (Jvm.Cond.fieldLink "LehrBelt$Reader" (75 : Nat) "LehrBelt$Token" "STOP" "LLehrBelt$Token;") ∈ lw_all := lw_g (lw_at lw_m2 115 rfl) rfl
theorem q493 : (Jvm.Cond.fieldLink "LehrBelt$Reader" (78 : Nat) "LehrBelt$Token" "NONE" "LLehrBelt$Token;") ∈ lw_all := lw_g (lw_at lw_m2 117 rfl) rfl
theorem q495 : (Jvm.Cond.fieldLink "LehrBelt$Reader" (19 : Nat) "LehrBelt$Reader" "size" "I") ∈ lw_all := lw_g (lw_at lw_m2 119 rfl) rfl
theorem q496 : (Jvm.Cond.fieldLink "LehrBelt$Reader" (25 : Nat) "LehrBelt$Reader" "lehr" "LLehrBelt$Lehr;") ∈ lw_all := lw_g (lw_at lw_m2 120 rfl) rfl
theorem q497 : (Jvm.Cond.fieldLink "LehrBelt$Reader" (41 : Nat) "LehrBelt$Reader" "at" "I") ∈ lw_all := lw_g (lw_at lw_m2 121 rfl) rfl
theorem q498 : (Jvm.Cond.fieldLink "LehrBelt$Reader" (52 : Nat) "LehrBelt$Reader" "from" "I") ∈ lw_all := lw_g (lw_at lw_m2 122 rfl) rfl
theorem q499 : (Jvm.Cond.fieldLink "LehrBelt$Reader" (62 : Nat) "LehrBelt$Reader" "value" "I") ∈ lw_all := lw_g (lw_at lw_m2 123 rfl) rfl
theorem q500 : (Jvm.Cond.fieldLink "LehrBelt$Reader" (35 : Nat) "LehrBelt$Reader" "token" "LLehrBelt$Token;") ∈ lw_all := lw_g (lw_at lw_m2 124 rfl) rfl
theorem q501 : (Jvm.Cond.fieldLink "LehrBelt$Reader" (3 : Nat) "LehrBelt$Reader" "this$0" "LLehrBelt;") ∈ lw_all := lw_g (lw_at lw_m2 125 rfl) rfl
theorem q502 : (Jvm.Cond.laysFinal "LehrBelt$Reader" "LehrBelt$Reader" "size" "I") ∈ lw_all := lw_g (lw_at lw_m2 126 rfl) rfl
theorem q503 : (Jvm.Cond.soleField "LehrBelt$Reader" "size") ∈ lw_all := lw_g (lw_at lw_m2 127 rfl) rfl
theorem q504 : (Jvm.Cond.laysFinal "LehrBelt$Reader" "LehrBelt$Reader" "lehr" "LLehrBelt$Lehr;") ∈ lw_all := lw_g (lw_at lw_m2 128 rfl) rfl
theorem q505 : (Jvm.Cond.soleField "LehrBelt$Reader" "lehr") ∈ lw_all := lw_g (lw_at lw_m2 129 rfl) rfl
theorem q506 : (Jvm.Cond.lays "LehrBelt$Reader" "LehrBelt$Reader" "at" "I") ∈ lw_all := lw_g (lw_at lw_m2 130 rfl) rfl
theorem q507 : (Jvm.Cond.soleField "LehrBelt$Reader" "at") ∈ lw_all := lw_g (lw_at lw_m2 131 rfl) rfl
theorem q508 : (Jvm.Cond.lays "LehrBelt$Reader" "LehrBelt$Reader" "from" "I") ∈ lw_all := lw_g (lw_at lw_m2 132 rfl) rfl
theorem q509 : (Jvm.Cond.soleField "LehrBelt$Reader" "from") ∈ lw_all := lw_g (lw_at lw_m2 133 rfl) rfl
theorem q510 : (Jvm.Cond.lays "LehrBelt$Reader" "LehrBelt$Reader" "value" "I") ∈ lw_all := lw_g (lw_at lw_m2 134 rfl) rfl
theorem q511 : (Jvm.Cond.soleField "LehrBelt$Reader" "value") ∈ lw_all := lw_g (lw_at lw_m2 135 rfl) rfl
theorem q512 : (Jvm.Cond.lays "LehrBelt$Reader" "LehrBelt$Reader" "token" "LLehrBelt$Token;") ∈ lw_all := lw_g (lw_at lw_m2 136 rfl) rfl
theorem q513 : (Jvm.Cond.soleField "LehrBelt$Reader" "token") ∈ lw_all := lw_g (lw_at lw_m2 137 rfl) rfl
theorem q514 : (Jvm.Cond.laysFinal "LehrBelt$Reader" "LehrBelt$Reader" "this$0" "LLehrBelt;") ∈ lw_all := lw_g (lw_at lw_m2 138 rfl) rfl
theorem q515 : (Jvm.Cond.soleField "LehrBelt$Reader" "this$0") ∈ lw_all := lw_g (lw_at lw_m2 139 rfl) rfl
theorem q516 : (Jvm.Cond.superclass "LehrBelt$Reader" "java/lang/Object") ∈ lw_all := lw_g (lw_at lw_m2 140 rfl) rfl
theorem q518 : (Jvm.Cond.instanceMethod ({ cls := "LehrBelt$Reader", name := "whole", desc := "()LLehrBelt$Lehr;" } : Jvm.MethodName)) ∈ lw_all := lw_g (lw_at lw_m2 142 rfl) rfl
theorem q519 : (Jvm.Cond.selects "LehrBelt$Reader" ({ cls := "LehrBelt$Reader", name := "whole", desc := "()LLehrBelt$Lehr;" } : Jvm.MethodName) ({ cls := "LehrBelt$Reader", name := "whole", desc := "()LLehrBelt$Lehr;" } : Jvm.MethodName)) ∈ lw_all := lw_g (lw_at lw_m2 143 rfl) rfl
theorem q520 : (Jvm.Cond.code ({ cls := "LehrBelt$Reader", name := "whole", desc := "()LLehrBelt$Lehr;" } : Jvm.MethodName) prog_7_method_15_code (1 : Nat) (Option.some (Jvm.ClassFile.FieldType.object "LehrBelt$Lehr"))) ∈ lw_all := lw_g (lw_at lw_m2 144 rfl) rfl
theorem q521 : (Jvm.Cond.methodLink "LehrBelt$Reader" (182 : Nat) ({ cls := "LehrBelt$Reader", name := "head", desc := "()V" } : Jvm.MethodName)) ∈ lw_all := lw_g (lw_at lw_m2 145 rfl) rfl
theorem q522 : (Jvm.Cond.privateMethod ({ cls := "LehrBelt$Reader", name := "head", desc := "()V" } : Jvm.MethodName)) ∈ lw_tbl := lw_at lw_m2 146 rfl
theorem q523 : (Jvm.Cond.instanceMethod ({ cls := "LehrBelt$Reader", name := "head", desc := "()V" } : Jvm.MethodName)) ∈ lw_all := lw_g (lw_at lw_m2 147 rfl) rfl
theorem q524 : (Jvm.Cond.code ({ cls := "LehrBelt$Reader", name := "head", desc := "()V" } : Jvm.MethodName) prog_7_method_10_code (1 : Nat) (Option.none : Option Jvm.ClassFile.FieldType)) ∈ lw_all := lw_g (lw_at lw_m2 148 rfl) rfl
theorem q525 : (Jvm.Cond.stringRef "LehrBelt$Reader" (114 : Nat) "lehr") ∈ lw_tbl := lw_at lw_m2 149 rfl
theorem q526 : (Jvm.Cond.methodLink "LehrBelt$Reader" (107 : Nat) ({ cls := "LehrBelt$Reader", name := "expects", desc := "(Ljava/lang/String;)V" } : Jvm.MethodName)) ∈ lw_all := lw_g (lw_at lw_m2 150 rfl) rfl
theorem q527 : (Jvm.Cond.privateMethod ({ cls := "LehrBelt$Reader", name := "expects", desc := "(Ljava/lang/String;)V" } : Jvm.MethodName)) ∈ lw_tbl := lw_at lw_m2 151 rfl
theorem q528 : (Jvm.Cond.instanceMethod ({ cls := "LehrBelt$Reader", name := "expects", desc := "(Ljava/lang/String;)V" } : Jvm.MethodName)) ∈ lw_all := lw_g (lw_at lw_m2 152 rfl) rfl
theorem q529 : (Jvm.Cond.code ({ cls := "LehrBelt$Reader", name := "expects", desc := "(Ljava/lang/String;)V" } : Jvm.MethodName) prog_7_method_7_code (2 : Nat) (Option.none : Option Jvm.ClassFile.FieldType)) ∈ lw_all := lw_g (lw_at lw_m2 153 rfl) rfl
theorem q530 : (Jvm.Cond.methodLink "LehrBelt$Reader" (100 : Nat) ({ cls := "LehrBelt$Reader", name := "takes", desc := "(Ljava/lang/String;)Z" } : Jvm.MethodName)) ∈ lw_all := lw_g (lw_at lw_m2 154 rfl) rfl
theorem q531 : (Jvm.Cond.privateMethod ({ cls := "LehrBelt$Reader", name := "takes", desc := "(Ljava/lang/String;)Z" } : Jvm.MethodName)) ∈ lw_tbl := lw_at lw_m2 155 rfl
theorem q532 : (Jvm.Cond.instanceMethod ({ cls := "LehrBelt$Reader", name := "takes", desc := "(Ljava/lang/String;)Z" } : Jvm.MethodName)) ∈ lw_all := lw_g (lw_at lw_m2 156 rfl) rfl
theorem q533 : (Jvm.Cond.code ({ cls := "LehrBelt$Reader", name := "takes", desc := "(Ljava/lang/String;)Z" } : Jvm.MethodName) prog_7_method_6_code (3 : Nat) (Option.some Jvm.ClassFile.FieldType.boolean)) ∈ lw_all := lw_g (lw_at lw_m2 157 rfl) rfl
theorem q534 : (Jvm.Cond.methodLink "LehrBelt$Reader" (96 : Nat) ({ cls := "LehrBelt$Reader", name := "is", desc := "(Ljava/lang/String;)Z" } : Jvm.MethodName)) ∈ lw_all := lw_g (lw_at lw_m2 158 rfl) rfl
theorem q535 : (Jvm.Cond.privateMethod ({ cls := "LehrBelt$Reader", name := "is", desc := "(Ljava/lang/String;)Z" } : Jvm.MethodName)) ∈ lw_tbl := lw_at lw_m2 159 rfl
theorem q536 : (Jvm.Cond.instanceMethod ({ cls := "LehrBelt$Reader", name := "is", desc := "(Ljava/lang/String;)Z" } : Jvm.MethodName)) ∈ lw_all := lw_g (lw_at lw_m2 160 rfl) rfl
theorem q537 : (Jvm.Cond.code ({ cls := "LehrBelt$Reader", name := "is", desc := "(Ljava/lang/String;)Z" } : Jvm.MethodName) prog_7_method_5_code (3 : Nat) (Option.some Jvm.ClassFile.FieldType.boolean)) ∈ lw_all := lw_g (lw_at lw_m2 161 rfl) rfl
theorem q538 : (Jvm.Cond.methodLink "LehrBelt$Reader" (86 : Nat) ({ cls := "java/lang/String", name := "length", desc := "()I" } : Jvm.MethodName)) ∈ lw_all := lw_g (lw_at lw_m2 162 rfl) rfl
theorem q548 : (Jvm.Cond.methodLink "LehrBelt$Reader" (92 : Nat) ({ cls := "java/lang/String", name := "charAt", desc := "(I)C" } : Jvm.MethodName)) ∈ lw_all := lw_g (lw_at lw_m2 172 rfl) rfl
theorem q586 : (Jvm.Cond.methodLink "LehrBelt$Reader" (103 : Nat) ({ cls := "LehrBelt$Reader", name := "wrong", desc := "(I)LLehrBelt$Fault;" } : Jvm.MethodName)) ∈ lw_all := lw_g (lw_at lw_m2 210 rfl) rfl
theorem q587 : (Jvm.Cond.privateMethod ({ cls := "LehrBelt$Reader", name := "wrong", desc := "(I)LLehrBelt$Fault;" } : Jvm.MethodName)) ∈ lw_tbl := lw_at lw_m2 211 rfl
theorem q588 : (Jvm.Cond.instanceMethod ({ cls := "LehrBelt$Reader", name := "wrong", desc := "(I)LLehrBelt$Fault;" } : Jvm.MethodName)) ∈ lw_all := lw_g (lw_at lw_m2 212 rfl) rfl
theorem q589 : (Jvm.Cond.code ({ cls := "LehrBelt$Reader", name := "wrong", desc := "(I)LLehrBelt$Fault;" } : Jvm.MethodName) prog_7_method_4_code (2 : Nat) (Option.some (Jvm.ClassFile.FieldType.object "LehrBelt$Fault"))) ∈ lw_all := lw_g (lw_at lw_m2 213 rfl) rfl
theorem q590 : (Jvm.Cond.classLink "LehrBelt$Reader" (81 : Nat) "LehrBelt$Fault") ∈ lw_all := lw_g (lw_at lw_m2 214 rfl) rfl
theorem q644 : (Jvm.Cond.methodLink "LehrBelt$Reader" (83 : Nat) ({ cls := "LehrBelt$Fault", name := "<init>", desc := "(II)V" } : Jvm.MethodName)) ∈ lw_all := lw_g (lw_at lw_m3 28 rfl) rfl
theorem q674 : (Jvm.Cond.stringRef "LehrBelt$Reader" (115 : Nat) "steps") ∈ lw_tbl := lw_at lw_m3 58 rfl
theorem q675 : (Jvm.Cond.methodLink "LehrBelt$Reader" (117 : Nat) ({ cls := "LehrBelt$Reader", name := "told", desc := "(Ljava/lang/String;II)I" } : Jvm.MethodName)) ∈ lw_all := lw_g (lw_at lw_m3 59 rfl) rfl
theorem q676 : (Jvm.Cond.privateMethod ({ cls := "LehrBelt$Reader", name := "told", desc := "(Ljava/lang/String;II)I" } : Jvm.MethodName)) ∈ lw_tbl := lw_at lw_m3 60 rfl
theorem q677 : (Jvm.Cond.instanceMethod ({ cls := "LehrBelt$Reader", name := "told", desc := "(Ljava/lang/String;II)I" } : Jvm.MethodName)) ∈ lw_all := lw_g (lw_at lw_m3 61 rfl) rfl
theorem q678 : (Jvm.Cond.code ({ cls := "LehrBelt$Reader", name := "told", desc := "(Ljava/lang/String;II)I" } : Jvm.MethodName) prog_7_method_9_code (4 : Nat) (Option.some Jvm.ClassFile.FieldType.int)) ∈ lw_all := lw_g (lw_at lw_m3 62 rfl) rfl
theorem q679 : (Jvm.Cond.methodLink "LehrBelt$Reader" (111 : Nat) ({ cls := "LehrBelt$Reader", name := "number", desc := "(II)I" } : Jvm.MethodName)) ∈ lw_all := lw_g (lw_at lw_m3 63 rfl) rfl
theorem q680 : (Jvm.Cond.privateMethod ({ cls := "LehrBelt$Reader", name := "number", desc := "(II)I" } : Jvm.MethodName)) ∈ lw_tbl := lw_at lw_m3 64 rfl
theorem q681 : (Jvm.Cond.instanceMethod ({ cls := "LehrBelt$Reader", name := "number", desc := "(II)I" } : Jvm.MethodName)) ∈ lw_all := lw_g (lw_at lw_m3 65 rfl) rfl
theorem q682 : (Jvm.Cond.code ({ cls := "LehrBelt$Reader", name := "number", desc := "(II)I" } : Jvm.MethodName) prog_7_method_8_code (4 : Nat) (Option.some Jvm.ClassFile.FieldType.int)) ∈ lw_all := lw_g (lw_at lw_m3 66 rfl) rfl
theorem q683 : (Jvm.Cond.stringRef "LehrBelt$Reader" (123 : Nat) "law") ∈ lw_tbl := lw_at lw_m3 67 rfl
theorem q684 : (Jvm.Cond.stringRef "LehrBelt$Reader" (127 : Nat) "odds") ∈ lw_tbl := lw_at lw_m3 68 rfl
theorem q685 : (Jvm.Cond.stringRef "LehrBelt$Reader" (131 : Nat) "pace") ∈ lw_tbl := lw_at lw_m3 69 rfl
theorem q686 : (Jvm.Cond.stringRef "LehrBelt$Reader" (135 : Nat) "set") ∈ lw_tbl := lw_at lw_m3 70 rfl
theorem q687 : (Jvm.Cond.methodLink "LehrBelt$Reader" (185 : Nat) ({ cls := "LehrBelt$Reader", name := "line", desc := "()V" } : Jvm.MethodName)) ∈ lw_all := lw_g (lw_at lw_m3 71 rfl) rfl
theorem q688 : (Jvm.Cond.privateMethod ({ cls := "LehrBelt$Reader", name := "line", desc := "()V" } : Jvm.MethodName)) ∈ lw_tbl := lw_at lw_m3 72 rfl
theorem q689 : (Jvm.Cond.instanceMethod ({ cls := "LehrBelt$Reader", name := "line", desc := "()V" } : Jvm.MethodName)) ∈ lw_all := lw_g (lw_at lw_m3 73 rfl) rfl
theorem q690 : (Jvm.Cond.code ({ cls := "LehrBelt$Reader", name := "line", desc := "()V" } : Jvm.MethodName) prog_7_method_14_code (1 : Nat) (Option.none : Option Jvm.ClassFile.FieldType)) ∈ lw_all := lw_g (lw_at lw_m3 74 rfl) rfl
theorem q691 : (Jvm.Cond.stringRef "LehrBelt$Reader" (165 : Nat) "zone") ∈ lw_tbl := lw_at lw_m3 75 rfl
theorem q692 : (Jvm.Cond.methodLink "LehrBelt$Reader" (167 : Nat) ({ cls := "LehrBelt$Reader", name := "begins", desc := "(Ljava/lang/String;Z)Z" } : Jvm.MethodName)) ∈ lw_all := lw_g (lw_at lw_m3 76 rfl) rfl
theorem q693 : (Jvm.Cond.privateMethod ({ cls := "LehrBelt$Reader", name := "begins", desc := "(Ljava/lang/String;Z)Z" } : Jvm.MethodName)) ∈ lw_tbl := lw_at lw_m3 77 rfl
theorem q694 : (Jvm.Cond.instanceMethod ({ cls := "LehrBelt$Reader", name := "begins", desc := "(Ljava/lang/String;Z)Z" } : Jvm.MethodName)) ∈ lw_all := lw_g (lw_at lw_m3 78 rfl) rfl
theorem q695 : (Jvm.Cond.code ({ cls := "LehrBelt$Reader", name := "begins", desc := "(Ljava/lang/String;Z)Z" } : Jvm.MethodName) prog_7_method_13_code (3 : Nat) (Option.some Jvm.ClassFile.FieldType.boolean)) ∈ lw_all := lw_g (lw_at lw_m3 79 rfl) rfl
theorem q696 : (Jvm.Cond.methodLink "LehrBelt$Reader" (171 : Nat) ({ cls := "LehrBelt$Reader", name := "newZone", desc := "()V" } : Jvm.MethodName)) ∈ lw_all := lw_g (lw_at lw_m3 80 rfl) rfl
theorem q697 : (Jvm.Cond.privateMethod ({ cls := "LehrBelt$Reader", name := "newZone", desc := "()V" } : Jvm.MethodName)) ∈ lw_tbl := lw_at lw_m3 81 rfl
theorem q698 : (Jvm.Cond.instanceMethod ({ cls := "LehrBelt$Reader", name := "newZone", desc := "()V" } : Jvm.MethodName)) ∈ lw_all := lw_g (lw_at lw_m3 82 rfl) rfl
theorem q699 : (Jvm.Cond.code ({ cls := "LehrBelt$Reader", name := "newZone", desc := "()V" } : Jvm.MethodName) prog_7_method_11_code (1 : Nat) (Option.none : Option Jvm.ClassFile.FieldType)) ∈ lw_all := lw_g (lw_at lw_m3 83 rfl) rfl
theorem q700 : (Jvm.Cond.stringRef "LehrBelt$Reader" (174 : Nat) "piece") ∈ lw_tbl := lw_at lw_m3 84 rfl
theorem q701 : (Jvm.Cond.methodLink "LehrBelt$Reader" (176 : Nat) ({ cls := "LehrBelt$Reader", name := "newPiece", desc := "()V" } : Jvm.MethodName)) ∈ lw_all := lw_g (lw_at lw_m3 85 rfl) rfl
theorem q702 : (Jvm.Cond.privateMethod ({ cls := "LehrBelt$Reader", name := "newPiece", desc := "()V" } : Jvm.MethodName)) ∈ lw_tbl := lw_at lw_m3 86 rfl
theorem q703 : (Jvm.Cond.instanceMethod ({ cls := "LehrBelt$Reader", name := "newPiece", desc := "()V" } : Jvm.MethodName)) ∈ lw_all := lw_g (lw_at lw_m3 87 rfl) rfl
theorem q704 : (Jvm.Cond.code ({ cls := "LehrBelt$Reader", name := "newPiece", desc := "()V" } : Jvm.MethodName) prog_7_method_12_code (2 : Nat) (Option.none : Option Jvm.ClassFile.FieldType)) ∈ lw_all := lw_g (lw_at lw_m3 88 rfl) rfl
theorem q705 : (Jvm.Cond.stringRef "LehrBelt$Reader" (152 : Nat) "heat") ∈ lw_tbl := lw_at lw_m3 89 rfl
theorem q706 : (Jvm.Cond.stringRef "LehrBelt$Reader" (156 : Nat) "thick") ∈ lw_tbl := lw_at lw_m3 90 rfl
theorem q707 : (Jvm.Cond.stringRef "LehrBelt$Reader" (160 : Nat) "bears") ∈ lw_tbl := lw_at lw_m3 91 rfl
theorem q708 : (Jvm.Cond.stringRef "LehrBelt$Reader" (164 : Nat) "at") ∈ lw_tbl := lw_at lw_m3 92 rfl
theorem q1397 : (Jvm.Cond.selects "LehrBelt$Reader" ({ cls := "java/lang/Object", name := "getClass", desc := "()Ljava/lang/Class;" } : Jvm.MethodName) ({ cls := "java/lang/Object", name := "getClass", desc := "()Ljava/lang/Class;" } : Jvm.MethodName)) ∈ lw_all := lw_g (lw_at lw_m6 61 rfl) rfl
theorem q2352 : (Jvm.Cond.castable "LehrBelt$Reader" "java/lang/Object") ∈ lw_tbl := lw_at lw_m10 56 rfl
theorem in_X8 : ∀ w ∈ wsX80, w ∈ lw_all := lw_in wsX80 [502, 504, 506, 508, 510, 512, 514] (by decide +kernel) (by decide +kernel)

/-! LehrBelt$Fault -/
set_option maxRecDepth 100000
def RX9 : String := "LehrBelt$Fault"
def TX9 : u_T := fun k => match k with
  | 0 => ("java/lang/Throwable", "cause", "Ljava/lang/Throwable;", false)
  | 1 => ("java/lang/Throwable", "stackTrace", "[Ljava/lang/StackTraceElement;", false)
  | 2 => ("java/lang/Throwable", "suppressedExceptions", "Ljava/util/List;", false)
  | 3 => ("java/lang/Throwable", "detailMessage", "Ljava/lang/String;", false)
  | 4 => ("java/lang/Throwable", "backtrace", "Ljava/lang/Object;", false)
  | 5 => ("java/lang/Throwable", "depth", "I", false)
  | 6 => ("LehrBelt$Fault", "kind", "I", true)
  | _ => ("LehrBelt$Fault", "place", "I", true)
def tyX9 : Nat → FieldType := fun k => match k with
  | 0 => .object "java/lang/Throwable"
  | 1 => .array (.object "java/lang/StackTraceElement")
  | 2 => .object "java/util/List"
  | 3 => .object "java/lang/String"
  | 4 => .object "java/lang/Object"
  | 5 => .int
  | 6 => .int
  | _ => .int
abbrev wsX90 : List Cond := u_ws RX9 TX9 8
theorem nmX9 : ∀ a, a < 8 → ∀ b, b < 8 → a ≠ b → (TX9 a).2.1 ≠ (TX9 b).2.1 := by decide +kernel
theorem tyX9_ok : ∀ k, k < 8 → parseFieldDescriptor (TX9 k).2.2.1 = some (tyX9 k) := by decide +kernel
abbrev cX9_init : ByteArray := prog_4_method_1_code
def yX9_init : MethodName := ⟨RX9, "<init>", "(II)V"⟩
def dkwX9_init_0 : List UInt8 := [42, 1, 1, 3, 3, 183, 0, 1, 42, 27, 181, 0, 7, 42, 28, 181, 0, 13, 177]
abbrev dktX9_init_0 : List UInt8 := dkwX9_init_0 ++ []
theorem dksX9_init_0 : cX9_init.data.toList.drop 0 = dktX9_init_0 := by decide +kernel
theorem dX9_init_0 : decode cX9_init 0 = .ok (.aload_n 0, 1) := dk_42 (dk_at dksX9_init_0 0 rfl rfl)
theorem dX9_init_1 : decode cX9_init 1 = .ok (.aconst_null, 1) := dk_1 (dk_at dksX9_init_0 1 rfl rfl)
theorem dX9_init_2 : decode cX9_init 2 = .ok (.aconst_null, 1) := dk_1 (dk_at dksX9_init_0 2 rfl rfl)
theorem dX9_init_3 : decode cX9_init 3 = .ok (.iconst 0, 1) := dk_3 (dk_at dksX9_init_0 3 rfl rfl)
theorem dX9_init_4 : decode cX9_init 4 = .ok (.iconst 0, 1) := dk_3 (dk_at dksX9_init_0 4 rfl rfl)
theorem dX9_init_5 : decode cX9_init 5 = .ok (.invokespecial 1, 3) := dk_183 0 1 (dk_at dksX9_init_0 5 rfl rfl)
theorem dX9_init_8 : decode cX9_init 8 = .ok (.aload_n 0, 1) := dk_42 (dk_at dksX9_init_0 8 rfl rfl)
theorem dX9_init_9 : decode cX9_init 9 = .ok (.iload_n 1, 1) := dk_27 (dk_at dksX9_init_0 9 rfl rfl)
theorem dX9_init_10 : decode cX9_init 10 = .ok (.putfield 7, 3) := dk_181 0 7 (dk_at dksX9_init_0 10 rfl rfl)
theorem dX9_init_13 : decode cX9_init 13 = .ok (.aload_n 0, 1) := dk_42 (dk_at dksX9_init_0 13 rfl rfl)
theorem dX9_init_14 : decode cX9_init 14 = .ok (.iload_n 2, 1) := dk_28 (dk_at dksX9_init_0 14 rfl rfl)
theorem dX9_init_15 : decode cX9_init 15 = .ok (.putfield 13, 3) := dk_181 0 13 (dk_at dksX9_init_0 15 rfl rfl)
theorem dX9_init_18 : decode cX9_init 18 = .ok (.return_, 1) := dk_177 (dk_at dksX9_init_0 18 rfl rfl)
theorem q158 : (Jvm.Cond.initialized "LehrBelt$Fault") ∈ lw_all := lw_g (lw_at lw_m1 22 rfl) rfl
theorem q591 : (Jvm.Cond.instantiable "LehrBelt$Fault" (8 : Nat)) ∈ lw_all := lw_g (lw_at lw_m2 215 rfl) rfl
theorem q592 : (Jvm.Cond.castable "LehrBelt$Fault" "LehrBelt$Fault") ∈ lw_tbl := lw_at lw_m2 216 rfl
theorem q597 : (Jvm.Cond.selects "LehrBelt$Fault" ({ cls := "java/lang/Throwable", name := "fillInStackTrace", desc := "(I)Ljava/lang/Throwable;" } : Jvm.MethodName) ({ cls := "java/lang/Throwable", name := "fillInStackTrace", desc := "(I)Ljava/lang/Throwable;" } : Jvm.MethodName)) ∈ lw_all := lw_g (lw_at lw_m2 221 rfl) rfl
theorem q598 : (Jvm.Cond.selects "LehrBelt$Fault" ({ cls := "java/lang/Throwable", name := "fillInStackTrace", desc := "()Ljava/lang/Throwable;" } : Jvm.MethodName) ({ cls := "java/lang/Throwable", name := "fillInStackTrace", desc := "()Ljava/lang/Throwable;" } : Jvm.MethodName)) ∈ lw_all := lw_g (lw_at lw_m2 222 rfl) rfl
theorem q599 : (Jvm.Cond.lays "LehrBelt$Fault" "java/lang/Throwable" "cause" "Ljava/lang/Throwable;") ∈ lw_all := lw_g (lw_at lw_m2 223 rfl) rfl
theorem q601 : (Jvm.Cond.lays "LehrBelt$Fault" "java/lang/Throwable" "stackTrace" "[Ljava/lang/StackTraceElement;") ∈ lw_all := lw_g (lw_at lw_m2 225 rfl) rfl
theorem q603 : (Jvm.Cond.lays "LehrBelt$Fault" "java/lang/Throwable" "suppressedExceptions" "Ljava/util/List;") ∈ lw_all := lw_g (lw_at lw_m2 227 rfl) rfl
theorem q605 : (Jvm.Cond.lays "LehrBelt$Fault" "java/lang/Throwable" "detailMessage" "Ljava/lang/String;") ∈ lw_all := lw_g (lw_at lw_m2 229 rfl) rfl
theorem q607 : (Jvm.Cond.lays "LehrBelt$Fault" "java/lang/Throwable" "backtrace" "Ljava/lang/Object;") ∈ lw_all := lw_g (lw_at lw_m2 231 rfl) rfl
theorem q645 : (Jvm.Cond.instanceMethod ({ cls := "LehrBelt$Fault", name := "<init>", desc := "(II)V" } : Jvm.MethodName)) ∈ lw_all := lw_g (lw_at lw_m3 29 rfl) rfl
theorem q646 : (Jvm.Cond.code ({ cls := "LehrBelt$Fault", name := "<init>", desc := "(II)V" } : Jvm.MethodName) prog_4_method_1_code (3 : Nat) (Option.none : Option Jvm.ClassFile.FieldType)) ∈ lw_all := lw_g (lw_at lw_m3 30 rfl) rfl
theorem q647 : (Jvm.Cond.methodLink "LehrBelt$Fault" (1 : Nat) ({ cls := "java/lang/Exception", name := "<init>", desc := "(Ljava/lang/String;Ljava/lang/Throwable;ZZ)V" } : Jvm.MethodName)) ∈ lw_all := lw_g (lw_at lw_m3 31 rfl) rfl
theorem q653 : (Jvm.Cond.fieldLink "LehrBelt$Fault" (7 : Nat) "LehrBelt$Fault" "kind" "I") ∈ lw_all := lw_g (lw_at lw_m3 37 rfl) rfl
theorem q655 : (Jvm.Cond.fieldLink "LehrBelt$Fault" (13 : Nat) "LehrBelt$Fault" "place" "I") ∈ lw_all := lw_g (lw_at lw_m3 39 rfl) rfl
theorem q662 : (Jvm.Cond.laysFinal "LehrBelt$Fault" "LehrBelt$Fault" "kind" "I") ∈ lw_all := lw_g (lw_at lw_m3 46 rfl) rfl
theorem q663 : (Jvm.Cond.soleField "LehrBelt$Fault" "kind") ∈ lw_all := lw_g (lw_at lw_m3 47 rfl) rfl
theorem q664 : (Jvm.Cond.laysFinal "LehrBelt$Fault" "LehrBelt$Fault" "place" "I") ∈ lw_all := lw_g (lw_at lw_m3 48 rfl) rfl
theorem q665 : (Jvm.Cond.soleField "LehrBelt$Fault" "place") ∈ lw_all := lw_g (lw_at lw_m3 49 rfl) rfl
theorem q670 : (Jvm.Cond.lays "LehrBelt$Fault" "java/lang/Throwable" "depth" "I") ∈ lw_all := lw_g (lw_at lw_m3 54 rfl) rfl
theorem q673 : (Jvm.Cond.superclass "LehrBelt$Fault" "java/lang/Exception") ∈ lw_all := lw_g (lw_at lw_m3 57 rfl) rfl
theorem q1394 : (Jvm.Cond.selects "LehrBelt$Fault" ({ cls := "java/lang/Object", name := "getClass", desc := "()Ljava/lang/Class;" } : Jvm.MethodName) ({ cls := "java/lang/Object", name := "getClass", desc := "()Ljava/lang/Class;" } : Jvm.MethodName)) ∈ lw_all := lw_g (lw_at lw_m6 58 rfl) rfl
theorem q2354 : (Jvm.Cond.castable "LehrBelt$Fault" "java/lang/Object") ∈ lw_tbl := lw_at lw_m10 58 rfl
theorem in_X9 : ∀ w ∈ wsX90, w ∈ lw_all := lw_in wsX90 [599, 601, 603, 605, 607, 670, 662, 664] (by decide +kernel) (by decide +kernel)
