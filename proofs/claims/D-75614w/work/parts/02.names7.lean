/-! DECODE ROWS BY BYTES: one lemma an opcode; a method's code is cut into short pieces once, and a row reads its own piece alone. -/
set_option maxRecDepth 100000
/-- the code has just these bytes from pc on -/
def DkAt (code : ByteArray) (pc : Nat) (bs : List UInt8) : Prop := ∀ (j : Nat) (b : UInt8), bs[j]? = some b → code.data.toList[pc + j]? = some b
/-- the piece W has the bytes bs from its place j on -/
def dkIn (W : List UInt8) (j : Nat) (bs : List UInt8) : Bool := decide ((W.drop j).take bs.length = bs)
theorem dk_seg {l W T : List UInt8} {o o2 : Nat} (h : l.drop o = W ++ T) (n : Nat) (hn : W.length = n) (ho : o + n = o2) : l.drop o2 = T := by
  subst ho
  rw [← List.drop_drop, h, List.drop_left' hn]
theorem dk_at {code : ByteArray} {W T bs : List UInt8} {o pc : Nat} (h : code.data.toList.drop o = W ++ T) (j : Nat) (hp : o + j = pc) (hw : dkIn W j bs = true) : DkAt code pc bs := by
  subst hp
  intro i b e
  have h1 := of_decide_eq_true hw
  have h2 : i < bs.length := (List.getElem?_eq_some_iff.mp e).1
  have h3 : W[j + i]? = some b := by
    rw [← h1, List.getElem?_take, if_pos h2, List.getElem?_drop] at e
    exact e
  have h4 : j + i < W.length := (List.getElem?_eq_some_iff.mp h3).1
  have h5 : (code.data.toList.drop o)[j + i]? = some b := by
    rw [h, List.getElem?_append_left h4]
    exact h3
  rw [List.getElem?_drop, ← Nat.add_assoc] at h5
  exact h5
theorem dk_u1 {A : ByteArray} {p : Nat} {b : UInt8} (h : A.data.toList[p]? = some b) : (Reader.u1 : Reader DecodeError Nat) A p = .ok (b.toNat, p + 1) := by
  obtain ⟨h1, h2⟩ := List.getElem?_eq_some_iff.mp h
  have h3 : p < A.size := by simpa using h1
  have h4 : A[p]'h3 = b := h2
  have e : (Reader.u1 : Reader DecodeError Nat) A p = (if h : p < A.size then .ok (A[p].toNat, p + 1) else .error (HasTruncated.truncated p)) := by
    show (do if h : p < A.size then do set (p + 1); Pure.pure A[p].toNat else MonadExcept.throw (HasTruncated.truncated p) : Reader DecodeError Nat) A p = _
    by_cases hi : p < A.size
    · rw [dif_pos hi, dif_pos hi]; rfl
    · rw [dif_neg hi, dif_neg hi]; rfl
  rw [e, dif_pos h3, h4]
theorem dk_bind {α β : Type} {r : Reader DecodeError α} {f : α → Reader DecodeError β} {A : ByteArray} {p s : Nat} {a : α} (h : r A p = .ok (a, s)) : (r >>= f) A p = f a A s := by
  show (do let (a, s) ← r A p; f a A s : Except DecodeError (β × Nat)) = _
  rw [h]
  rfl
theorem dk_map {α β : Type} {r : Reader DecodeError α} {g : α → β} {A : ByteArray} {p s : Nat} {a : α} (h : r A p = .ok (a, s)) : (g <$> r) A p = .ok (g a, s) := by
  show (do let (a, s) ← r A p; .ok (g a, s) : Except DecodeError (β × Nat)) = _
  rw [h]
  rfl
theorem dk_u2 {A : ByteArray} {p : Nat} {a b : UInt8} (h : A.data.toList[p]? = some a) (h2 : A.data.toList[p + 1]? = some b) : (Reader.u2 : Reader DecodeError Nat) A p = .ok (a.toNat * 256 + b.toNat, p + 2) := by
  show (Reader.u1 >>= fun hi => Reader.u1 >>= fun lo => Pure.pure (hi * 256 + lo) : Reader DecodeError Nat) A p = _
  rw [dk_bind (dk_u1 h), dk_bind (dk_u1 h2)]
  rfl
theorem dk_of {code : ByteArray} {pc n : Nat} {i : Instr} (h : Decoder.instr pc code pc = .ok (i, pc + n)) : decode code pc = .ok (i, n) := by
  have e : decode code pc = (match Decoder.instr pc code pc with | .error x => .error x | .ok (j, s) => .ok (j, s - pc)) := by
    show (do let (j, s) ← Decoder.instr pc code pc; Pure.pure (j, s - pc) : Except DecodeError (Instr × Nat)) = _
    cases Decoder.instr pc code pc <;> rfl
  rw [e, h]
  show Except.ok (i, pc + n - pc) = _
  rw [Nat.add_sub_cancel_left]
theorem dk_1 {code : ByteArray} {pc : Nat} (h : DkAt code pc [1]) : decode code pc = .ok (.aconst_null, 1) := dk_of ((dk_bind (dk_u1 (h 0 _ rfl))).trans rfl)
theorem dk_2 {code : ByteArray} {pc : Nat} (h : DkAt code pc [2]) : decode code pc = .ok (.iconst (-1), 1) := dk_of ((dk_bind (dk_u1 (h 0 _ rfl))).trans rfl)
theorem dk_3 {code : ByteArray} {pc : Nat} (h : DkAt code pc [3]) : decode code pc = .ok (.iconst 0, 1) := dk_of ((dk_bind (dk_u1 (h 0 _ rfl))).trans rfl)
theorem dk_4 {code : ByteArray} {pc : Nat} (h : DkAt code pc [4]) : decode code pc = .ok (.iconst 1, 1) := dk_of ((dk_bind (dk_u1 (h 0 _ rfl))).trans rfl)
theorem dk_5 {code : ByteArray} {pc : Nat} (h : DkAt code pc [5]) : decode code pc = .ok (.iconst 2, 1) := dk_of ((dk_bind (dk_u1 (h 0 _ rfl))).trans rfl)
theorem dk_6 {code : ByteArray} {pc : Nat} (h : DkAt code pc [6]) : decode code pc = .ok (.iconst 3, 1) := dk_of ((dk_bind (dk_u1 (h 0 _ rfl))).trans rfl)
theorem dk_7 {code : ByteArray} {pc : Nat} (h : DkAt code pc [7]) : decode code pc = .ok (.iconst 4, 1) := dk_of ((dk_bind (dk_u1 (h 0 _ rfl))).trans rfl)
theorem dk_8 {code : ByteArray} {pc : Nat} (h : DkAt code pc [8]) : decode code pc = .ok (.iconst 5, 1) := dk_of ((dk_bind (dk_u1 (h 0 _ rfl))).trans rfl)
theorem dk_9 {code : ByteArray} {pc : Nat} (h : DkAt code pc [9]) : decode code pc = .ok (.lconst 0, 1) := dk_of ((dk_bind (dk_u1 (h 0 _ rfl))).trans rfl)
theorem dk_10 {code : ByteArray} {pc : Nat} (h : DkAt code pc [10]) : decode code pc = .ok (.lconst 1, 1) := dk_of ((dk_bind (dk_u1 (h 0 _ rfl))).trans rfl)
theorem dk_16 {code : ByteArray} {pc : Nat} (a : UInt8) (h : DkAt code pc [16, a]) : decode code pc = .ok (.bipush (Reader.signed 8 a.toNat), 2) := dk_of ((dk_bind (dk_u1 (h 0 _ rfl))).trans ((dk_bind (dk_map (dk_u1 (h 1 _ rfl)))).trans rfl))
theorem dk_17 {code : ByteArray} {pc : Nat} (a b : UInt8) (h : DkAt code pc [17, a, b]) : decode code pc = .ok (.sipush (Reader.signed 16 (a.toNat * 256 + b.toNat)), 3) := dk_of ((dk_bind (dk_u1 (h 0 _ rfl))).trans ((dk_bind (dk_map (dk_u2 (h 1 _ rfl) (h 2 _ rfl)))).trans rfl))
theorem dk_18 {code : ByteArray} {pc : Nat} (a : UInt8) (h : DkAt code pc [18, a]) : decode code pc = .ok (.ldc a.toNat, 2) := dk_of ((dk_bind (dk_u1 (h 0 _ rfl))).trans ((dk_bind (dk_u1 (h 1 _ rfl))).trans rfl))
theorem dk_19 {code : ByteArray} {pc : Nat} (a b : UInt8) (h : DkAt code pc [19, a, b]) : decode code pc = .ok (.ldc_w (a.toNat * 256 + b.toNat), 3) := dk_of ((dk_bind (dk_u1 (h 0 _ rfl))).trans ((dk_bind (dk_u2 (h 1 _ rfl) (h 2 _ rfl))).trans rfl))
theorem dk_20 {code : ByteArray} {pc : Nat} (a b : UInt8) (h : DkAt code pc [20, a, b]) : decode code pc = .ok (.ldc2_w (a.toNat * 256 + b.toNat), 3) := dk_of ((dk_bind (dk_u1 (h 0 _ rfl))).trans ((dk_bind (dk_u2 (h 1 _ rfl) (h 2 _ rfl))).trans rfl))
theorem dk_21 {code : ByteArray} {pc : Nat} (a : UInt8) (h : DkAt code pc [21, a]) : decode code pc = .ok (.iload a.toNat, 2) := dk_of ((dk_bind (dk_u1 (h 0 _ rfl))).trans ((dk_bind (dk_u1 (h 1 _ rfl))).trans rfl))
theorem dk_22 {code : ByteArray} {pc : Nat} (a : UInt8) (h : DkAt code pc [22, a]) : decode code pc = .ok (.lload a.toNat, 2) := dk_of ((dk_bind (dk_u1 (h 0 _ rfl))).trans ((dk_bind (dk_u1 (h 1 _ rfl))).trans rfl))
theorem dk_26 {code : ByteArray} {pc : Nat} (h : DkAt code pc [26]) : decode code pc = .ok (.iload_n 0, 1) := dk_of ((dk_bind (dk_u1 (h 0 _ rfl))).trans rfl)
theorem dk_27 {code : ByteArray} {pc : Nat} (h : DkAt code pc [27]) : decode code pc = .ok (.iload_n 1, 1) := dk_of ((dk_bind (dk_u1 (h 0 _ rfl))).trans rfl)
theorem dk_28 {code : ByteArray} {pc : Nat} (h : DkAt code pc [28]) : decode code pc = .ok (.iload_n 2, 1) := dk_of ((dk_bind (dk_u1 (h 0 _ rfl))).trans rfl)
theorem dk_29 {code : ByteArray} {pc : Nat} (h : DkAt code pc [29]) : decode code pc = .ok (.iload_n 3, 1) := dk_of ((dk_bind (dk_u1 (h 0 _ rfl))).trans rfl)
theorem dk_30 {code : ByteArray} {pc : Nat} (h : DkAt code pc [30]) : decode code pc = .ok (.lload_n 0, 1) := dk_of ((dk_bind (dk_u1 (h 0 _ rfl))).trans rfl)
theorem dk_31 {code : ByteArray} {pc : Nat} (h : DkAt code pc [31]) : decode code pc = .ok (.lload_n 1, 1) := dk_of ((dk_bind (dk_u1 (h 0 _ rfl))).trans rfl)
theorem dk_32 {code : ByteArray} {pc : Nat} (h : DkAt code pc [32]) : decode code pc = .ok (.lload_n 2, 1) := dk_of ((dk_bind (dk_u1 (h 0 _ rfl))).trans rfl)
theorem dk_33 {code : ByteArray} {pc : Nat} (h : DkAt code pc [33]) : decode code pc = .ok (.lload_n 3, 1) := dk_of ((dk_bind (dk_u1 (h 0 _ rfl))).trans rfl)
theorem dk_42 {code : ByteArray} {pc : Nat} (h : DkAt code pc [42]) : decode code pc = .ok (.aload_n 0, 1) := dk_of ((dk_bind (dk_u1 (h 0 _ rfl))).trans rfl)
theorem dk_43 {code : ByteArray} {pc : Nat} (h : DkAt code pc [43]) : decode code pc = .ok (.aload_n 1, 1) := dk_of ((dk_bind (dk_u1 (h 0 _ rfl))).trans rfl)
theorem dk_44 {code : ByteArray} {pc : Nat} (h : DkAt code pc [44]) : decode code pc = .ok (.aload_n 2, 1) := dk_of ((dk_bind (dk_u1 (h 0 _ rfl))).trans rfl)
theorem dk_45 {code : ByteArray} {pc : Nat} (h : DkAt code pc [45]) : decode code pc = .ok (.aload_n 3, 1) := dk_of ((dk_bind (dk_u1 (h 0 _ rfl))).trans rfl)
theorem dk_46 {code : ByteArray} {pc : Nat} (h : DkAt code pc [46]) : decode code pc = .ok (.iaload, 1) := dk_of ((dk_bind (dk_u1 (h 0 _ rfl))).trans rfl)
theorem dk_47 {code : ByteArray} {pc : Nat} (h : DkAt code pc [47]) : decode code pc = .ok (.laload, 1) := dk_of ((dk_bind (dk_u1 (h 0 _ rfl))).trans rfl)
theorem dk_50 {code : ByteArray} {pc : Nat} (h : DkAt code pc [50]) : decode code pc = .ok (.aaload, 1) := dk_of ((dk_bind (dk_u1 (h 0 _ rfl))).trans rfl)
theorem dk_51 {code : ByteArray} {pc : Nat} (h : DkAt code pc [51]) : decode code pc = .ok (.baload, 1) := dk_of ((dk_bind (dk_u1 (h 0 _ rfl))).trans rfl)
theorem dk_53 {code : ByteArray} {pc : Nat} (h : DkAt code pc [53]) : decode code pc = .ok (.saload, 1) := dk_of ((dk_bind (dk_u1 (h 0 _ rfl))).trans rfl)
theorem dk_54 {code : ByteArray} {pc : Nat} (a : UInt8) (h : DkAt code pc [54, a]) : decode code pc = .ok (.istore a.toNat, 2) := dk_of ((dk_bind (dk_u1 (h 0 _ rfl))).trans ((dk_bind (dk_u1 (h 1 _ rfl))).trans rfl))
theorem dk_55 {code : ByteArray} {pc : Nat} (a : UInt8) (h : DkAt code pc [55, a]) : decode code pc = .ok (.lstore a.toNat, 2) := dk_of ((dk_bind (dk_u1 (h 0 _ rfl))).trans ((dk_bind (dk_u1 (h 1 _ rfl))).trans rfl))
theorem dk_58 {code : ByteArray} {pc : Nat} (a : UInt8) (h : DkAt code pc [58, a]) : decode code pc = .ok (.astore a.toNat, 2) := dk_of ((dk_bind (dk_u1 (h 0 _ rfl))).trans ((dk_bind (dk_u1 (h 1 _ rfl))).trans rfl))
theorem dk_59 {code : ByteArray} {pc : Nat} (h : DkAt code pc [59]) : decode code pc = .ok (.istore_n 0, 1) := dk_of ((dk_bind (dk_u1 (h 0 _ rfl))).trans rfl)
theorem dk_60 {code : ByteArray} {pc : Nat} (h : DkAt code pc [60]) : decode code pc = .ok (.istore_n 1, 1) := dk_of ((dk_bind (dk_u1 (h 0 _ rfl))).trans rfl)
theorem dk_61 {code : ByteArray} {pc : Nat} (h : DkAt code pc [61]) : decode code pc = .ok (.istore_n 2, 1) := dk_of ((dk_bind (dk_u1 (h 0 _ rfl))).trans rfl)
theorem dk_62 {code : ByteArray} {pc : Nat} (h : DkAt code pc [62]) : decode code pc = .ok (.istore_n 3, 1) := dk_of ((dk_bind (dk_u1 (h 0 _ rfl))).trans rfl)
theorem dk_64 {code : ByteArray} {pc : Nat} (h : DkAt code pc [64]) : decode code pc = .ok (.lstore_n 1, 1) := dk_of ((dk_bind (dk_u1 (h 0 _ rfl))).trans rfl)
theorem dk_66 {code : ByteArray} {pc : Nat} (h : DkAt code pc [66]) : decode code pc = .ok (.lstore_n 3, 1) := dk_of ((dk_bind (dk_u1 (h 0 _ rfl))).trans rfl)
theorem dk_76 {code : ByteArray} {pc : Nat} (h : DkAt code pc [76]) : decode code pc = .ok (.astore_n 1, 1) := dk_of ((dk_bind (dk_u1 (h 0 _ rfl))).trans rfl)
theorem dk_77 {code : ByteArray} {pc : Nat} (h : DkAt code pc [77]) : decode code pc = .ok (.astore_n 2, 1) := dk_of ((dk_bind (dk_u1 (h 0 _ rfl))).trans rfl)
theorem dk_78 {code : ByteArray} {pc : Nat} (h : DkAt code pc [78]) : decode code pc = .ok (.astore_n 3, 1) := dk_of ((dk_bind (dk_u1 (h 0 _ rfl))).trans rfl)
theorem dk_79 {code : ByteArray} {pc : Nat} (h : DkAt code pc [79]) : decode code pc = .ok (.iastore, 1) := dk_of ((dk_bind (dk_u1 (h 0 _ rfl))).trans rfl)
theorem dk_80 {code : ByteArray} {pc : Nat} (h : DkAt code pc [80]) : decode code pc = .ok (.lastore, 1) := dk_of ((dk_bind (dk_u1 (h 0 _ rfl))).trans rfl)
theorem dk_83 {code : ByteArray} {pc : Nat} (h : DkAt code pc [83]) : decode code pc = .ok (.aastore, 1) := dk_of ((dk_bind (dk_u1 (h 0 _ rfl))).trans rfl)
theorem dk_84 {code : ByteArray} {pc : Nat} (h : DkAt code pc [84]) : decode code pc = .ok (.bastore, 1) := dk_of ((dk_bind (dk_u1 (h 0 _ rfl))).trans rfl)
theorem dk_86 {code : ByteArray} {pc : Nat} (h : DkAt code pc [86]) : decode code pc = .ok (.sastore, 1) := dk_of ((dk_bind (dk_u1 (h 0 _ rfl))).trans rfl)
theorem dk_87 {code : ByteArray} {pc : Nat} (h : DkAt code pc [87]) : decode code pc = .ok (.pop, 1) := dk_of ((dk_bind (dk_u1 (h 0 _ rfl))).trans rfl)
theorem dk_89 {code : ByteArray} {pc : Nat} (h : DkAt code pc [89]) : decode code pc = .ok (.dup, 1) := dk_of ((dk_bind (dk_u1 (h 0 _ rfl))).trans rfl)
theorem dk_90 {code : ByteArray} {pc : Nat} (h : DkAt code pc [90]) : decode code pc = .ok (.dup_x1, 1) := dk_of ((dk_bind (dk_u1 (h 0 _ rfl))).trans rfl)
theorem dk_92 {code : ByteArray} {pc : Nat} (h : DkAt code pc [92]) : decode code pc = .ok (.dup2, 1) := dk_of ((dk_bind (dk_u1 (h 0 _ rfl))).trans rfl)
theorem dk_96 {code : ByteArray} {pc : Nat} (h : DkAt code pc [96]) : decode code pc = .ok (.iadd, 1) := dk_of ((dk_bind (dk_u1 (h 0 _ rfl))).trans rfl)
theorem dk_97 {code : ByteArray} {pc : Nat} (h : DkAt code pc [97]) : decode code pc = .ok (.ladd, 1) := dk_of ((dk_bind (dk_u1 (h 0 _ rfl))).trans rfl)
theorem dk_100 {code : ByteArray} {pc : Nat} (h : DkAt code pc [100]) : decode code pc = .ok (.isub, 1) := dk_of ((dk_bind (dk_u1 (h 0 _ rfl))).trans rfl)
theorem dk_101 {code : ByteArray} {pc : Nat} (h : DkAt code pc [101]) : decode code pc = .ok (.lsub, 1) := dk_of ((dk_bind (dk_u1 (h 0 _ rfl))).trans rfl)
theorem dk_104 {code : ByteArray} {pc : Nat} (h : DkAt code pc [104]) : decode code pc = .ok (.imul, 1) := dk_of ((dk_bind (dk_u1 (h 0 _ rfl))).trans rfl)
theorem dk_105 {code : ByteArray} {pc : Nat} (h : DkAt code pc [105]) : decode code pc = .ok (.lmul, 1) := dk_of ((dk_bind (dk_u1 (h 0 _ rfl))).trans rfl)
theorem dk_108 {code : ByteArray} {pc : Nat} (h : DkAt code pc [108]) : decode code pc = .ok (.idiv, 1) := dk_of ((dk_bind (dk_u1 (h 0 _ rfl))).trans rfl)
theorem dk_109 {code : ByteArray} {pc : Nat} (h : DkAt code pc [109]) : decode code pc = .ok (.ldiv, 1) := dk_of ((dk_bind (dk_u1 (h 0 _ rfl))).trans rfl)
theorem dk_112 {code : ByteArray} {pc : Nat} (h : DkAt code pc [112]) : decode code pc = .ok (.irem, 1) := dk_of ((dk_bind (dk_u1 (h 0 _ rfl))).trans rfl)
theorem dk_113 {code : ByteArray} {pc : Nat} (h : DkAt code pc [113]) : decode code pc = .ok (.lrem, 1) := dk_of ((dk_bind (dk_u1 (h 0 _ rfl))).trans rfl)
theorem dk_116 {code : ByteArray} {pc : Nat} (h : DkAt code pc [116]) : decode code pc = .ok (.ineg, 1) := dk_of ((dk_bind (dk_u1 (h 0 _ rfl))).trans rfl)
theorem dk_117 {code : ByteArray} {pc : Nat} (h : DkAt code pc [117]) : decode code pc = .ok (.lneg, 1) := dk_of ((dk_bind (dk_u1 (h 0 _ rfl))).trans rfl)
theorem dk_120 {code : ByteArray} {pc : Nat} (h : DkAt code pc [120]) : decode code pc = .ok (.ishl, 1) := dk_of ((dk_bind (dk_u1 (h 0 _ rfl))).trans rfl)
theorem dk_121 {code : ByteArray} {pc : Nat} (h : DkAt code pc [121]) : decode code pc = .ok (.lshl, 1) := dk_of ((dk_bind (dk_u1 (h 0 _ rfl))).trans rfl)
theorem dk_122 {code : ByteArray} {pc : Nat} (h : DkAt code pc [122]) : decode code pc = .ok (.ishr, 1) := dk_of ((dk_bind (dk_u1 (h 0 _ rfl))).trans rfl)
theorem dk_124 {code : ByteArray} {pc : Nat} (h : DkAt code pc [124]) : decode code pc = .ok (.iushr, 1) := dk_of ((dk_bind (dk_u1 (h 0 _ rfl))).trans rfl)
theorem dk_126 {code : ByteArray} {pc : Nat} (h : DkAt code pc [126]) : decode code pc = .ok (.iand, 1) := dk_of ((dk_bind (dk_u1 (h 0 _ rfl))).trans rfl)
theorem dk_127 {code : ByteArray} {pc : Nat} (h : DkAt code pc [127]) : decode code pc = .ok (.land, 1) := dk_of ((dk_bind (dk_u1 (h 0 _ rfl))).trans rfl)
theorem dk_128 {code : ByteArray} {pc : Nat} (h : DkAt code pc [128]) : decode code pc = .ok (.ior, 1) := dk_of ((dk_bind (dk_u1 (h 0 _ rfl))).trans rfl)
theorem dk_129 {code : ByteArray} {pc : Nat} (h : DkAt code pc [129]) : decode code pc = .ok (.lor, 1) := dk_of ((dk_bind (dk_u1 (h 0 _ rfl))).trans rfl)
theorem dk_130 {code : ByteArray} {pc : Nat} (h : DkAt code pc [130]) : decode code pc = .ok (.ixor, 1) := dk_of ((dk_bind (dk_u1 (h 0 _ rfl))).trans rfl)
theorem dk_132 {code : ByteArray} {pc : Nat} (a b : UInt8) (h : DkAt code pc [132, a, b]) : decode code pc = .ok (.iinc a.toNat (Reader.signed 8 b.toNat), 3) := dk_of ((dk_bind (dk_u1 (h 0 _ rfl))).trans ((dk_bind (dk_u1 (h 1 _ rfl))).trans ((dk_bind (dk_map (dk_u1 (h 2 _ rfl)))).trans rfl)))
theorem dk_133 {code : ByteArray} {pc : Nat} (h : DkAt code pc [133]) : decode code pc = .ok (.i2l, 1) := dk_of ((dk_bind (dk_u1 (h 0 _ rfl))).trans rfl)
theorem dk_136 {code : ByteArray} {pc : Nat} (h : DkAt code pc [136]) : decode code pc = .ok (.l2i, 1) := dk_of ((dk_bind (dk_u1 (h 0 _ rfl))).trans rfl)
theorem dk_145 {code : ByteArray} {pc : Nat} (h : DkAt code pc [145]) : decode code pc = .ok (.i2b, 1) := dk_of ((dk_bind (dk_u1 (h 0 _ rfl))).trans rfl)
theorem dk_146 {code : ByteArray} {pc : Nat} (h : DkAt code pc [146]) : decode code pc = .ok (.i2c, 1) := dk_of ((dk_bind (dk_u1 (h 0 _ rfl))).trans rfl)
theorem dk_147 {code : ByteArray} {pc : Nat} (h : DkAt code pc [147]) : decode code pc = .ok (.i2s, 1) := dk_of ((dk_bind (dk_u1 (h 0 _ rfl))).trans rfl)
theorem dk_148 {code : ByteArray} {pc : Nat} (h : DkAt code pc [148]) : decode code pc = .ok (.lcmp, 1) := dk_of ((dk_bind (dk_u1 (h 0 _ rfl))).trans rfl)
theorem dk_153 {code : ByteArray} {pc : Nat} (a b : UInt8) (h : DkAt code pc [153, a, b]) : decode code pc = .ok (.ifCond .eq (Reader.signed 16 (a.toNat * 256 + b.toNat)), 3) := dk_of ((dk_bind (dk_u1 (h 0 _ rfl))).trans ((dk_bind (dk_map (dk_u2 (h 1 _ rfl) (h 2 _ rfl)))).trans rfl))
theorem dk_154 {code : ByteArray} {pc : Nat} (a b : UInt8) (h : DkAt code pc [154, a, b]) : decode code pc = .ok (.ifCond .ne (Reader.signed 16 (a.toNat * 256 + b.toNat)), 3) := dk_of ((dk_bind (dk_u1 (h 0 _ rfl))).trans ((dk_bind (dk_map (dk_u2 (h 1 _ rfl) (h 2 _ rfl)))).trans rfl))
theorem dk_155 {code : ByteArray} {pc : Nat} (a b : UInt8) (h : DkAt code pc [155, a, b]) : decode code pc = .ok (.ifCond .lt (Reader.signed 16 (a.toNat * 256 + b.toNat)), 3) := dk_of ((dk_bind (dk_u1 (h 0 _ rfl))).trans ((dk_bind (dk_map (dk_u2 (h 1 _ rfl) (h 2 _ rfl)))).trans rfl))
theorem dk_156 {code : ByteArray} {pc : Nat} (a b : UInt8) (h : DkAt code pc [156, a, b]) : decode code pc = .ok (.ifCond .ge (Reader.signed 16 (a.toNat * 256 + b.toNat)), 3) := dk_of ((dk_bind (dk_u1 (h 0 _ rfl))).trans ((dk_bind (dk_map (dk_u2 (h 1 _ rfl) (h 2 _ rfl)))).trans rfl))
theorem dk_157 {code : ByteArray} {pc : Nat} (a b : UInt8) (h : DkAt code pc [157, a, b]) : decode code pc = .ok (.ifCond .gt (Reader.signed 16 (a.toNat * 256 + b.toNat)), 3) := dk_of ((dk_bind (dk_u1 (h 0 _ rfl))).trans ((dk_bind (dk_map (dk_u2 (h 1 _ rfl) (h 2 _ rfl)))).trans rfl))
theorem dk_158 {code : ByteArray} {pc : Nat} (a b : UInt8) (h : DkAt code pc [158, a, b]) : decode code pc = .ok (.ifCond .le (Reader.signed 16 (a.toNat * 256 + b.toNat)), 3) := dk_of ((dk_bind (dk_u1 (h 0 _ rfl))).trans ((dk_bind (dk_map (dk_u2 (h 1 _ rfl) (h 2 _ rfl)))).trans rfl))
theorem dk_159 {code : ByteArray} {pc : Nat} (a b : UInt8) (h : DkAt code pc [159, a, b]) : decode code pc = .ok (.if_icmp .eq (Reader.signed 16 (a.toNat * 256 + b.toNat)), 3) := dk_of ((dk_bind (dk_u1 (h 0 _ rfl))).trans ((dk_bind (dk_map (dk_u2 (h 1 _ rfl) (h 2 _ rfl)))).trans rfl))
theorem dk_160 {code : ByteArray} {pc : Nat} (a b : UInt8) (h : DkAt code pc [160, a, b]) : decode code pc = .ok (.if_icmp .ne (Reader.signed 16 (a.toNat * 256 + b.toNat)), 3) := dk_of ((dk_bind (dk_u1 (h 0 _ rfl))).trans ((dk_bind (dk_map (dk_u2 (h 1 _ rfl) (h 2 _ rfl)))).trans rfl))
theorem dk_161 {code : ByteArray} {pc : Nat} (a b : UInt8) (h : DkAt code pc [161, a, b]) : decode code pc = .ok (.if_icmp .lt (Reader.signed 16 (a.toNat * 256 + b.toNat)), 3) := dk_of ((dk_bind (dk_u1 (h 0 _ rfl))).trans ((dk_bind (dk_map (dk_u2 (h 1 _ rfl) (h 2 _ rfl)))).trans rfl))
theorem dk_162 {code : ByteArray} {pc : Nat} (a b : UInt8) (h : DkAt code pc [162, a, b]) : decode code pc = .ok (.if_icmp .ge (Reader.signed 16 (a.toNat * 256 + b.toNat)), 3) := dk_of ((dk_bind (dk_u1 (h 0 _ rfl))).trans ((dk_bind (dk_map (dk_u2 (h 1 _ rfl) (h 2 _ rfl)))).trans rfl))
theorem dk_163 {code : ByteArray} {pc : Nat} (a b : UInt8) (h : DkAt code pc [163, a, b]) : decode code pc = .ok (.if_icmp .gt (Reader.signed 16 (a.toNat * 256 + b.toNat)), 3) := dk_of ((dk_bind (dk_u1 (h 0 _ rfl))).trans ((dk_bind (dk_map (dk_u2 (h 1 _ rfl) (h 2 _ rfl)))).trans rfl))
theorem dk_164 {code : ByteArray} {pc : Nat} (a b : UInt8) (h : DkAt code pc [164, a, b]) : decode code pc = .ok (.if_icmp .le (Reader.signed 16 (a.toNat * 256 + b.toNat)), 3) := dk_of ((dk_bind (dk_u1 (h 0 _ rfl))).trans ((dk_bind (dk_map (dk_u2 (h 1 _ rfl) (h 2 _ rfl)))).trans rfl))
theorem dk_165 {code : ByteArray} {pc : Nat} (a b : UInt8) (h : DkAt code pc [165, a, b]) : decode code pc = .ok (.if_acmp .eq (Reader.signed 16 (a.toNat * 256 + b.toNat)), 3) := dk_of ((dk_bind (dk_u1 (h 0 _ rfl))).trans ((dk_bind (dk_map (dk_u2 (h 1 _ rfl) (h 2 _ rfl)))).trans rfl))
theorem dk_166 {code : ByteArray} {pc : Nat} (a b : UInt8) (h : DkAt code pc [166, a, b]) : decode code pc = .ok (.if_acmp .ne (Reader.signed 16 (a.toNat * 256 + b.toNat)), 3) := dk_of ((dk_bind (dk_u1 (h 0 _ rfl))).trans ((dk_bind (dk_map (dk_u2 (h 1 _ rfl) (h 2 _ rfl)))).trans rfl))
theorem dk_167 {code : ByteArray} {pc : Nat} (a b : UInt8) (h : DkAt code pc [167, a, b]) : decode code pc = .ok (.goto (Reader.signed 16 (a.toNat * 256 + b.toNat)), 3) := dk_of ((dk_bind (dk_u1 (h 0 _ rfl))).trans ((dk_bind (dk_map (dk_u2 (h 1 _ rfl) (h 2 _ rfl)))).trans rfl))
theorem dk_172 {code : ByteArray} {pc : Nat} (h : DkAt code pc [172]) : decode code pc = .ok (.ireturn, 1) := dk_of ((dk_bind (dk_u1 (h 0 _ rfl))).trans rfl)
theorem dk_173 {code : ByteArray} {pc : Nat} (h : DkAt code pc [173]) : decode code pc = .ok (.lreturn, 1) := dk_of ((dk_bind (dk_u1 (h 0 _ rfl))).trans rfl)
theorem dk_176 {code : ByteArray} {pc : Nat} (h : DkAt code pc [176]) : decode code pc = .ok (.areturn, 1) := dk_of ((dk_bind (dk_u1 (h 0 _ rfl))).trans rfl)
theorem dk_177 {code : ByteArray} {pc : Nat} (h : DkAt code pc [177]) : decode code pc = .ok (.return_, 1) := dk_of ((dk_bind (dk_u1 (h 0 _ rfl))).trans rfl)
theorem dk_178 {code : ByteArray} {pc : Nat} (a b : UInt8) (h : DkAt code pc [178, a, b]) : decode code pc = .ok (.getstatic (a.toNat * 256 + b.toNat), 3) := dk_of ((dk_bind (dk_u1 (h 0 _ rfl))).trans ((dk_bind (dk_u2 (h 1 _ rfl) (h 2 _ rfl))).trans rfl))
theorem dk_180 {code : ByteArray} {pc : Nat} (a b : UInt8) (h : DkAt code pc [180, a, b]) : decode code pc = .ok (.getfield (a.toNat * 256 + b.toNat), 3) := dk_of ((dk_bind (dk_u1 (h 0 _ rfl))).trans ((dk_bind (dk_u2 (h 1 _ rfl) (h 2 _ rfl))).trans rfl))
theorem dk_181 {code : ByteArray} {pc : Nat} (a b : UInt8) (h : DkAt code pc [181, a, b]) : decode code pc = .ok (.putfield (a.toNat * 256 + b.toNat), 3) := dk_of ((dk_bind (dk_u1 (h 0 _ rfl))).trans ((dk_bind (dk_u2 (h 1 _ rfl) (h 2 _ rfl))).trans rfl))
theorem dk_182 {code : ByteArray} {pc : Nat} (a b : UInt8) (h : DkAt code pc [182, a, b]) : decode code pc = .ok (.invokevirtual (a.toNat * 256 + b.toNat), 3) := dk_of ((dk_bind (dk_u1 (h 0 _ rfl))).trans ((dk_bind (dk_u2 (h 1 _ rfl) (h 2 _ rfl))).trans rfl))
theorem dk_183 {code : ByteArray} {pc : Nat} (a b : UInt8) (h : DkAt code pc [183, a, b]) : decode code pc = .ok (.invokespecial (a.toNat * 256 + b.toNat), 3) := dk_of ((dk_bind (dk_u1 (h 0 _ rfl))).trans ((dk_bind (dk_u2 (h 1 _ rfl) (h 2 _ rfl))).trans rfl))
theorem dk_184 {code : ByteArray} {pc : Nat} (a b : UInt8) (h : DkAt code pc [184, a, b]) : decode code pc = .ok (.invokestatic (a.toNat * 256 + b.toNat), 3) := dk_of ((dk_bind (dk_u1 (h 0 _ rfl))).trans ((dk_bind (dk_u2 (h 1 _ rfl) (h 2 _ rfl))).trans rfl))
theorem dk_187 {code : ByteArray} {pc : Nat} (a b : UInt8) (h : DkAt code pc [187, a, b]) : decode code pc = .ok (.new (a.toNat * 256 + b.toNat), 3) := dk_of ((dk_bind (dk_u1 (h 0 _ rfl))).trans ((dk_bind (dk_u2 (h 1 _ rfl) (h 2 _ rfl))).trans rfl))
theorem dk_188_4 {code : ByteArray} {pc : Nat} (h : DkAt code pc [188, 4]) : decode code pc = .ok (.newarray .boolean, 2) := dk_of ((dk_bind (dk_u1 (h 0 _ rfl))).trans ((dk_bind (dk_u1 (h 1 _ rfl))).trans rfl))
theorem dk_188_8 {code : ByteArray} {pc : Nat} (h : DkAt code pc [188, 8]) : decode code pc = .ok (.newarray .byte, 2) := dk_of ((dk_bind (dk_u1 (h 0 _ rfl))).trans ((dk_bind (dk_u1 (h 1 _ rfl))).trans rfl))
theorem dk_188_9 {code : ByteArray} {pc : Nat} (h : DkAt code pc [188, 9]) : decode code pc = .ok (.newarray .short, 2) := dk_of ((dk_bind (dk_u1 (h 0 _ rfl))).trans ((dk_bind (dk_u1 (h 1 _ rfl))).trans rfl))
theorem dk_188_10 {code : ByteArray} {pc : Nat} (h : DkAt code pc [188, 10]) : decode code pc = .ok (.newarray .int, 2) := dk_of ((dk_bind (dk_u1 (h 0 _ rfl))).trans ((dk_bind (dk_u1 (h 1 _ rfl))).trans rfl))
theorem dk_188_11 {code : ByteArray} {pc : Nat} (h : DkAt code pc [188, 11]) : decode code pc = .ok (.newarray .long, 2) := dk_of ((dk_bind (dk_u1 (h 0 _ rfl))).trans ((dk_bind (dk_u1 (h 1 _ rfl))).trans rfl))
theorem dk_189 {code : ByteArray} {pc : Nat} (a b : UInt8) (h : DkAt code pc [189, a, b]) : decode code pc = .ok (.anewarray (a.toNat * 256 + b.toNat), 3) := dk_of ((dk_bind (dk_u1 (h 0 _ rfl))).trans ((dk_bind (dk_u2 (h 1 _ rfl) (h 2 _ rfl))).trans rfl))
theorem dk_190 {code : ByteArray} {pc : Nat} (h : DkAt code pc [190]) : decode code pc = .ok (.arraylength, 1) := dk_of ((dk_bind (dk_u1 (h 0 _ rfl))).trans rfl)
theorem dk_191 {code : ByteArray} {pc : Nat} (h : DkAt code pc [191]) : decode code pc = .ok (.athrow, 1) := dk_of ((dk_bind (dk_u1 (h 0 _ rfl))).trans rfl)
theorem dk_192 {code : ByteArray} {pc : Nat} (a b : UInt8) (h : DkAt code pc [192, a, b]) : decode code pc = .ok (.checkcast (a.toNat * 256 + b.toNat), 3) := dk_of ((dk_bind (dk_u1 (h 0 _ rfl))).trans ((dk_bind (dk_u2 (h 1 _ rfl) (h 2 _ rfl))).trans rfl))
theorem dk_193 {code : ByteArray} {pc : Nat} (a b : UInt8) (h : DkAt code pc [193, a, b]) : decode code pc = .ok (.instanceof (a.toNat * 256 + b.toNat), 3) := dk_of ((dk_bind (dk_u1 (h 0 _ rfl))).trans ((dk_bind (dk_u2 (h 1 _ rfl) (h 2 _ rfl))).trans rfl))
theorem dk_199 {code : ByteArray} {pc : Nat} (a b : UInt8) (h : DkAt code pc [199, a, b]) : decode code pc = .ok (.ifnonnull (Reader.signed 16 (a.toNat * 256 + b.toNat)), 3) := dk_of ((dk_bind (dk_u1 (h 0 _ rfl))).trans ((dk_bind (dk_map (dk_u2 (h 1 _ rfl) (h 2 _ rfl)))).trans rfl))
/-! GallRegisterModel -/
set_option maxRecDepth 100000
def RX7 : String := "GallRegisterModel"
def TX7 : u_T := fun k => match k with
  | 0 => ("GallRegisterModel", "thrown", "I", false)
  | 1 => ("GallRegisterModel", "width", "[I", true)
  | 2 => ("GallRegisterModel", "many", "[I", true)
  | 3 => ("GallRegisterModel", "cells", "[J", true)
  | 4 => ("GallRegisterModel", "moved", "[J", true)
  | 5 => ("GallRegisterModel", "tape", "[B", true)
  | 6 => ("GallRegisterModel", "taped", "I", false)
  | 7 => ("GallRegisterModel", "spot", "I", false)
  | 8 => ("GallRegisterModel", "token", "I", false)
  | 9 => ("GallRegisterModel", "place", "I", false)
  | 10 => ("GallRegisterModel", "value", "I", false)
  | 11 => ("GallRegisterModel", "word", "J", false)
  | 12 => ("GallRegisterModel", "bad", "I", false)
  | 13 => ("GallRegisterModel", "badPlace", "I", false)
  | 14 => ("GallRegisterModel", "fault", "I", false)
  | 15 => ("GallRegisterModel", "faultPlace", "I", false)
  | 16 => ("GallRegisterModel", "lines", "[I", true)
  | 17 => ("GallRegisterModel", "has", "[I", true)
  | 18 => ("GallRegisterModel", "inkOf", "[I", true)
  | 19 => ("GallRegisterModel", "dampOf", "[I", true)
  | 20 => ("GallRegisterModel", "told", "[I", true)
  | 21 => ("GallRegisterModel", "act", "[I", true)
  | 22 => ("GallRegisterModel", "isKept", "[Z", true)
  | 23 => ("GallRegisterModel", "law", "I", false)
  | 24 => ("GallRegisterModel", "wet", "I", false)
  | 25 => ("GallRegisterModel", "never", "I", false)
  | 26 => ("GallRegisterModel", "bleached", "I", false)
  | 27 => ("GallRegisterModel", "bleachYear", "I", false)
  | 28 => ("GallRegisterModel", "bleachMany", "I", false)
  | 29 => ("GallRegisterModel", "retraced", "I", false)
  | 30 => ("GallRegisterModel", "retraceYear", "I", false)
  | 31 => ("GallRegisterModel", "wrote", "[I", true)
  | 32 => ("GallRegisterModel", "inkTold", "[I", true)
  | 33 => ("GallRegisterModel", "damp", "[I", true)
  | 34 => ("GallRegisterModel", "shadeAt", "[I", true)
  | 35 => ("GallRegisterModel", "risingAt", "[Z", true)
  | 36 => ("GallRegisterModel", "inkNow", "[I", true)
  | 37 => ("GallRegisterModel", "dateBits", "I", false)
  | 38 => ("GallRegisterModel", "askBest", "I", false)
  | 39 => ("GallRegisterModel", "askLeaves", "I", false)
  | _ => ("GallRegisterModel", "often", "[I", true)
def tyX7 : Nat → FieldType := fun k => match k with
  | 0 => .int
  | 1 => .array .int
  | 2 => .array .int
  | 3 => .array .long
  | 4 => .array .long
  | 5 => .array .byte
  | 6 => .int
  | 7 => .int
  | 8 => .int
  | 9 => .int
  | 10 => .int
  | 11 => .long
  | 12 => .int
  | 13 => .int
  | 14 => .int
  | 15 => .int
  | 16 => .array .int
  | 17 => .array .int
  | 18 => .array .int
  | 19 => .array .int
  | 20 => .array .int
  | 21 => .array .int
  | 22 => .array .boolean
  | 23 => .int
  | 24 => .int
  | 25 => .int
  | 26 => .int
  | 27 => .int
  | 28 => .int
  | 29 => .int
  | 30 => .int
  | 31 => .array .int
  | 32 => .array .int
  | 33 => .array .int
  | 34 => .array .int
  | 35 => .array .boolean
  | 36 => .array .int
  | 37 => .int
  | 38 => .int
  | 39 => .int
  | _ => .array .int
abbrev wsX70 : List Cond := u_ws RX7 TX7 41
set_option maxRecDepth 100000 in
theorem nmX7 : ∀ a, a < 41 → ∀ b, b < 41 → a ≠ b → (TX7 a).2.1 ≠ (TX7 b).2.1 := by decide +kernel
set_option maxRecDepth 100000 in
theorem tyX7_ok : ∀ k, k < 41 → parseFieldDescriptor (TX7 k).2.2.1 = some (tyX7 k) := by decide +kernel
abbrev cX7_init : ByteArray := prog_12_method_1_code
def yX7_init : MethodName := ⟨RX7, "<init>", "()V"⟩
def dkwX7_init_7 : List UInt8 := [181, 0, 71, 3, 60, 27, 7, 162, 0, 16, 42, 180, 0, 7, 27, 2, 79, 132, 1, 1, 167, 255, 241, 177]
abbrev dktX7_init_7 : List UInt8 := dkwX7_init_7 ++ []
def dkwX7_init_6 : List UInt8 := [17, 0, 147, 188, 4, 181, 0, 65, 42, 16, 7, 188, 10, 181, 0, 68, 42, 17, 5, 1, 188, 10]
abbrev dktX7_init_6 : List UInt8 := dkwX7_init_6 ++ dktX7_init_7
def dkwX7_init_5 : List UInt8 := [188, 10, 181, 0, 56, 42, 7, 188, 10, 181, 0, 59, 42, 17, 0, 147, 188, 10, 181, 0, 62, 42]
abbrev dktX7_init_5 : List UInt8 := dkwX7_init_5 ++ dktX7_init_6
def dkwX7_init_4 : List UInt8 := [188, 10, 181, 0, 46, 42, 6, 188, 4, 181, 0, 49, 42, 16, 7, 188, 10, 181, 0, 53, 42, 16, 7]
abbrev dktX7_init_4 : List UInt8 := dkwX7_init_4 ++ dktX7_init_5
def dkwX7_init_3 : List UInt8 := [181, 0, 37, 42, 16, 20, 188, 10, 181, 0, 40, 42, 17, 0, 140, 188, 10, 181, 0, 43, 42, 17, 2, 88]
abbrev dktX7_init_3 : List UInt8 := dkwX7_init_3 ++ dktX7_init_4
def dkwX7_init_2 : List UInt8 := [181, 0, 27, 42, 8, 188, 10, 181, 0, 31, 42, 16, 35, 188, 10, 181, 0, 34, 42, 16, 60, 188, 10]
abbrev dktX7_init_2 : List UInt8 := dkwX7_init_2 ++ dktX7_init_3
def dkwX7_init_1 : List UInt8 := [181, 0, 16, 42, 16, 60, 188, 11, 181, 0, 20, 42, 17, 2, 188, 188, 8, 181, 0, 23, 42, 2]
abbrev dktX7_init_1 : List UInt8 := dkwX7_init_1 ++ dktX7_init_2
def dkwX7_init_0 : List UInt8 := [42, 183, 0, 1, 42, 7, 188, 10, 181, 0, 7, 42, 7, 188, 10, 181, 0, 13, 42, 17, 0, 240, 188, 11]
abbrev dktX7_init_0 : List UInt8 := dkwX7_init_0 ++ dktX7_init_1
theorem dksX7_init_0 : cX7_init.data.toList.drop 0 = dktX7_init_0 := by decide +kernel
theorem dksX7_init_1 : cX7_init.data.toList.drop 24 = dktX7_init_1 := dk_seg dksX7_init_0 24 rfl rfl
theorem dksX7_init_2 : cX7_init.data.toList.drop 46 = dktX7_init_2 := dk_seg dksX7_init_1 22 rfl rfl
theorem dksX7_init_3 : cX7_init.data.toList.drop 69 = dktX7_init_3 := dk_seg dksX7_init_2 23 rfl rfl
theorem dksX7_init_4 : cX7_init.data.toList.drop 93 = dktX7_init_4 := dk_seg dksX7_init_3 24 rfl rfl
theorem dksX7_init_5 : cX7_init.data.toList.drop 116 = dktX7_init_5 := dk_seg dksX7_init_4 23 rfl rfl
theorem dksX7_init_6 : cX7_init.data.toList.drop 138 = dktX7_init_6 := dk_seg dksX7_init_5 22 rfl rfl
theorem dksX7_init_7 : cX7_init.data.toList.drop 160 = dktX7_init_7 := dk_seg dksX7_init_6 22 rfl rfl
theorem dX7_init_0 : decode cX7_init 0 = .ok (.aload_n 0, 1) := dk_42 (dk_at dksX7_init_0 0 rfl rfl)
theorem dX7_init_1 : decode cX7_init 1 = .ok (.invokespecial 1, 3) := dk_183 0 1 (dk_at dksX7_init_0 1 rfl rfl)
theorem dX7_init_4 : decode cX7_init 4 = .ok (.aload_n 0, 1) := dk_42 (dk_at dksX7_init_0 4 rfl rfl)
theorem dX7_init_5 : decode cX7_init 5 = .ok (.iconst 4, 1) := dk_7 (dk_at dksX7_init_0 5 rfl rfl)
theorem dX7_init_6 : decode cX7_init 6 = .ok (.newarray .int, 2) := dk_188_10 (dk_at dksX7_init_0 6 rfl rfl)
theorem dX7_init_8 : decode cX7_init 8 = .ok (.putfield 7, 3) := dk_181 0 7 (dk_at dksX7_init_0 8 rfl rfl)
theorem dX7_init_11 : decode cX7_init 11 = .ok (.aload_n 0, 1) := dk_42 (dk_at dksX7_init_0 11 rfl rfl)
theorem dX7_init_12 : decode cX7_init 12 = .ok (.iconst 4, 1) := dk_7 (dk_at dksX7_init_0 12 rfl rfl)
theorem dX7_init_13 : decode cX7_init 13 = .ok (.newarray .int, 2) := dk_188_10 (dk_at dksX7_init_0 13 rfl rfl)
theorem dX7_init_15 : decode cX7_init 15 = .ok (.putfield 13, 3) := dk_181 0 13 (dk_at dksX7_init_0 15 rfl rfl)
theorem dX7_init_18 : decode cX7_init 18 = .ok (.aload_n 0, 1) := dk_42 (dk_at dksX7_init_0 18 rfl rfl)
theorem dX7_init_19 : decode cX7_init 19 = .ok (.sipush 240, 3) := dk_17 0 240 (dk_at dksX7_init_0 19 rfl rfl)
theorem dX7_init_22 : decode cX7_init 22 = .ok (.newarray .long, 2) := dk_188_11 (dk_at dksX7_init_0 22 rfl rfl)
theorem dX7_init_24 : decode cX7_init 24 = .ok (.putfield 16, 3) := dk_181 0 16 (dk_at dksX7_init_1 0 rfl rfl)
theorem dX7_init_27 : decode cX7_init 27 = .ok (.aload_n 0, 1) := dk_42 (dk_at dksX7_init_1 3 rfl rfl)
theorem dX7_init_28 : decode cX7_init 28 = .ok (.bipush 60, 2) := dk_16 60 (dk_at dksX7_init_1 4 rfl rfl)
theorem dX7_init_30 : decode cX7_init 30 = .ok (.newarray .long, 2) := dk_188_11 (dk_at dksX7_init_1 6 rfl rfl)
theorem dX7_init_32 : decode cX7_init 32 = .ok (.putfield 20, 3) := dk_181 0 20 (dk_at dksX7_init_1 8 rfl rfl)
theorem dX7_init_35 : decode cX7_init 35 = .ok (.aload_n 0, 1) := dk_42 (dk_at dksX7_init_1 11 rfl rfl)
theorem dX7_init_36 : decode cX7_init 36 = .ok (.sipush 700, 3) := dk_17 2 188 (dk_at dksX7_init_1 12 rfl rfl)
theorem dX7_init_39 : decode cX7_init 39 = .ok (.newarray .byte, 2) := dk_188_8 (dk_at dksX7_init_1 15 rfl rfl)
theorem dX7_init_41 : decode cX7_init 41 = .ok (.putfield 23, 3) := dk_181 0 23 (dk_at dksX7_init_1 17 rfl rfl)
theorem dX7_init_44 : decode cX7_init 44 = .ok (.aload_n 0, 1) := dk_42 (dk_at dksX7_init_1 20 rfl rfl)
theorem dX7_init_45 : decode cX7_init 45 = .ok (.iconst (-1), 1) := dk_2 (dk_at dksX7_init_1 21 rfl rfl)
theorem dX7_init_46 : decode cX7_init 46 = .ok (.putfield 27, 3) := dk_181 0 27 (dk_at dksX7_init_2 0 rfl rfl)
theorem dX7_init_49 : decode cX7_init 49 = .ok (.aload_n 0, 1) := dk_42 (dk_at dksX7_init_2 3 rfl rfl)
theorem dX7_init_50 : decode cX7_init 50 = .ok (.iconst 5, 1) := dk_8 (dk_at dksX7_init_2 4 rfl rfl)
theorem dX7_init_51 : decode cX7_init 51 = .ok (.newarray .int, 2) := dk_188_10 (dk_at dksX7_init_2 5 rfl rfl)
theorem dX7_init_53 : decode cX7_init 53 = .ok (.putfield 31, 3) := dk_181 0 31 (dk_at dksX7_init_2 7 rfl rfl)
theorem dX7_init_56 : decode cX7_init 56 = .ok (.aload_n 0, 1) := dk_42 (dk_at dksX7_init_2 10 rfl rfl)
theorem dX7_init_57 : decode cX7_init 57 = .ok (.bipush 35, 2) := dk_16 35 (dk_at dksX7_init_2 11 rfl rfl)
theorem dX7_init_59 : decode cX7_init 59 = .ok (.newarray .int, 2) := dk_188_10 (dk_at dksX7_init_2 13 rfl rfl)
theorem dX7_init_61 : decode cX7_init 61 = .ok (.putfield 34, 3) := dk_181 0 34 (dk_at dksX7_init_2 15 rfl rfl)
theorem dX7_init_64 : decode cX7_init 64 = .ok (.aload_n 0, 1) := dk_42 (dk_at dksX7_init_2 18 rfl rfl)
theorem dX7_init_65 : decode cX7_init 65 = .ok (.bipush 60, 2) := dk_16 60 (dk_at dksX7_init_2 19 rfl rfl)
theorem dX7_init_67 : decode cX7_init 67 = .ok (.newarray .int, 2) := dk_188_10 (dk_at dksX7_init_2 21 rfl rfl)
theorem dX7_init_69 : decode cX7_init 69 = .ok (.putfield 37, 3) := dk_181 0 37 (dk_at dksX7_init_3 0 rfl rfl)
theorem dX7_init_72 : decode cX7_init 72 = .ok (.aload_n 0, 1) := dk_42 (dk_at dksX7_init_3 3 rfl rfl)
theorem dX7_init_73 : decode cX7_init 73 = .ok (.bipush 20, 2) := dk_16 20 (dk_at dksX7_init_3 4 rfl rfl)
theorem dX7_init_75 : decode cX7_init 75 = .ok (.newarray .int, 2) := dk_188_10 (dk_at dksX7_init_3 6 rfl rfl)
theorem dX7_init_77 : decode cX7_init 77 = .ok (.putfield 40, 3) := dk_181 0 40 (dk_at dksX7_init_3 8 rfl rfl)
theorem dX7_init_80 : decode cX7_init 80 = .ok (.aload_n 0, 1) := dk_42 (dk_at dksX7_init_3 11 rfl rfl)
theorem dX7_init_81 : decode cX7_init 81 = .ok (.sipush 140, 3) := dk_17 0 140 (dk_at dksX7_init_3 12 rfl rfl)
theorem dX7_init_84 : decode cX7_init 84 = .ok (.newarray .int, 2) := dk_188_10 (dk_at dksX7_init_3 15 rfl rfl)
theorem dX7_init_86 : decode cX7_init 86 = .ok (.putfield 43, 3) := dk_181 0 43 (dk_at dksX7_init_3 17 rfl rfl)
theorem dX7_init_89 : decode cX7_init 89 = .ok (.aload_n 0, 1) := dk_42 (dk_at dksX7_init_3 20 rfl rfl)
theorem dX7_init_90 : decode cX7_init 90 = .ok (.sipush 600, 3) := dk_17 2 88 (dk_at dksX7_init_3 21 rfl rfl)
theorem dX7_init_93 : decode cX7_init 93 = .ok (.newarray .int, 2) := dk_188_10 (dk_at dksX7_init_4 0 rfl rfl)
theorem dX7_init_95 : decode cX7_init 95 = .ok (.putfield 46, 3) := dk_181 0 46 (dk_at dksX7_init_4 2 rfl rfl)
theorem dX7_init_98 : decode cX7_init 98 = .ok (.aload_n 0, 1) := dk_42 (dk_at dksX7_init_4 5 rfl rfl)
theorem dX7_init_99 : decode cX7_init 99 = .ok (.iconst 3, 1) := dk_6 (dk_at dksX7_init_4 6 rfl rfl)
theorem dX7_init_100 : decode cX7_init 100 = .ok (.newarray .boolean, 2) := dk_188_4 (dk_at dksX7_init_4 7 rfl rfl)
theorem dX7_init_102 : decode cX7_init 102 = .ok (.putfield 49, 3) := dk_181 0 49 (dk_at dksX7_init_4 9 rfl rfl)
theorem dX7_init_105 : decode cX7_init 105 = .ok (.aload_n 0, 1) := dk_42 (dk_at dksX7_init_4 12 rfl rfl)
theorem dX7_init_106 : decode cX7_init 106 = .ok (.bipush 7, 2) := dk_16 7 (dk_at dksX7_init_4 13 rfl rfl)
theorem dX7_init_108 : decode cX7_init 108 = .ok (.newarray .int, 2) := dk_188_10 (dk_at dksX7_init_4 15 rfl rfl)
theorem dX7_init_110 : decode cX7_init 110 = .ok (.putfield 53, 3) := dk_181 0 53 (dk_at dksX7_init_4 17 rfl rfl)
theorem dX7_init_113 : decode cX7_init 113 = .ok (.aload_n 0, 1) := dk_42 (dk_at dksX7_init_4 20 rfl rfl)
theorem dX7_init_114 : decode cX7_init 114 = .ok (.bipush 7, 2) := dk_16 7 (dk_at dksX7_init_4 21 rfl rfl)
theorem dX7_init_116 : decode cX7_init 116 = .ok (.newarray .int, 2) := dk_188_10 (dk_at dksX7_init_5 0 rfl rfl)
theorem dX7_init_118 : decode cX7_init 118 = .ok (.putfield 56, 3) := dk_181 0 56 (dk_at dksX7_init_5 2 rfl rfl)
theorem dX7_init_121 : decode cX7_init 121 = .ok (.aload_n 0, 1) := dk_42 (dk_at dksX7_init_5 5 rfl rfl)
theorem dX7_init_122 : decode cX7_init 122 = .ok (.iconst 4, 1) := dk_7 (dk_at dksX7_init_5 6 rfl rfl)
theorem dX7_init_123 : decode cX7_init 123 = .ok (.newarray .int, 2) := dk_188_10 (dk_at dksX7_init_5 7 rfl rfl)
theorem dX7_init_125 : decode cX7_init 125 = .ok (.putfield 59, 3) := dk_181 0 59 (dk_at dksX7_init_5 9 rfl rfl)
theorem dX7_init_128 : decode cX7_init 128 = .ok (.aload_n 0, 1) := dk_42 (dk_at dksX7_init_5 12 rfl rfl)
theorem dX7_init_129 : decode cX7_init 129 = .ok (.sipush 147, 3) := dk_17 0 147 (dk_at dksX7_init_5 13 rfl rfl)
theorem dX7_init_132 : decode cX7_init 132 = .ok (.newarray .int, 2) := dk_188_10 (dk_at dksX7_init_5 16 rfl rfl)
theorem dX7_init_134 : decode cX7_init 134 = .ok (.putfield 62, 3) := dk_181 0 62 (dk_at dksX7_init_5 18 rfl rfl)
theorem dX7_init_137 : decode cX7_init 137 = .ok (.aload_n 0, 1) := dk_42 (dk_at dksX7_init_5 21 rfl rfl)
theorem dX7_init_138 : decode cX7_init 138 = .ok (.sipush 147, 3) := dk_17 0 147 (dk_at dksX7_init_6 0 rfl rfl)
theorem dX7_init_141 : decode cX7_init 141 = .ok (.newarray .boolean, 2) := dk_188_4 (dk_at dksX7_init_6 3 rfl rfl)
theorem dX7_init_143 : decode cX7_init 143 = .ok (.putfield 65, 3) := dk_181 0 65 (dk_at dksX7_init_6 5 rfl rfl)
theorem dX7_init_146 : decode cX7_init 146 = .ok (.aload_n 0, 1) := dk_42 (dk_at dksX7_init_6 8 rfl rfl)
theorem dX7_init_147 : decode cX7_init 147 = .ok (.bipush 7, 2) := dk_16 7 (dk_at dksX7_init_6 9 rfl rfl)
theorem dX7_init_149 : decode cX7_init 149 = .ok (.newarray .int, 2) := dk_188_10 (dk_at dksX7_init_6 11 rfl rfl)
theorem dX7_init_151 : decode cX7_init 151 = .ok (.putfield 68, 3) := dk_181 0 68 (dk_at dksX7_init_6 13 rfl rfl)
theorem dX7_init_154 : decode cX7_init 154 = .ok (.aload_n 0, 1) := dk_42 (dk_at dksX7_init_6 16 rfl rfl)
theorem dX7_init_155 : decode cX7_init 155 = .ok (.sipush 1281, 3) := dk_17 5 1 (dk_at dksX7_init_6 17 rfl rfl)
theorem dX7_init_158 : decode cX7_init 158 = .ok (.newarray .int, 2) := dk_188_10 (dk_at dksX7_init_6 20 rfl rfl)
theorem dX7_init_160 : decode cX7_init 160 = .ok (.putfield 71, 3) := dk_181 0 71 (dk_at dksX7_init_7 0 rfl rfl)
theorem dX7_init_163 : decode cX7_init 163 = .ok (.iconst 0, 1) := dk_3 (dk_at dksX7_init_7 3 rfl rfl)
theorem dX7_init_164 : decode cX7_init 164 = .ok (.istore_n 1, 1) := dk_60 (dk_at dksX7_init_7 4 rfl rfl)
theorem dX7_init_165 : decode cX7_init 165 = .ok (.iload_n 1, 1) := dk_27 (dk_at dksX7_init_7 5 rfl rfl)
theorem dX7_init_166 : decode cX7_init 166 = .ok (.iconst 4, 1) := dk_7 (dk_at dksX7_init_7 6 rfl rfl)
theorem dX7_init_167 : decode cX7_init 167 = .ok (.if_icmp .ge 16, 3) := dk_162 0 16 (dk_at dksX7_init_7 7 rfl rfl)
theorem dX7_init_170 : decode cX7_init 170 = .ok (.aload_n 0, 1) := dk_42 (dk_at dksX7_init_7 10 rfl rfl)
theorem dX7_init_171 : decode cX7_init 171 = .ok (.getfield 7, 3) := dk_180 0 7 (dk_at dksX7_init_7 11 rfl rfl)
theorem dX7_init_174 : decode cX7_init 174 = .ok (.iload_n 1, 1) := dk_27 (dk_at dksX7_init_7 14 rfl rfl)
theorem dX7_init_175 : decode cX7_init 175 = .ok (.iconst (-1), 1) := dk_2 (dk_at dksX7_init_7 15 rfl rfl)
theorem dX7_init_176 : decode cX7_init 176 = .ok (.iastore, 1) := dk_79 (dk_at dksX7_init_7 16 rfl rfl)
theorem dX7_init_177 : decode cX7_init 177 = .ok (.iinc 1 1, 3) := dk_132 1 1 (dk_at dksX7_init_7 17 rfl rfl)
theorem dX7_init_180 : decode cX7_init 180 = .ok (.goto (-15), 3) := dk_167 255 241 (dk_at dksX7_init_7 20 rfl rfl)
theorem dX7_init_183 : decode cX7_init 183 = .ok (.return_, 1) := dk_177 (dk_at dksX7_init_7 23 rfl rfl)
abbrev cX7_row : ByteArray := prog_12_method_5_code
def yX7_row : MethodName := ⟨RX7, "row", "(III)I"⟩
def dkwX7_row_3 : List UInt8 := [21, 4, 96, 9, 80, 132, 4, 1, 167, 255, 234, 3, 172]
abbrev dktX7_row_3 : List UInt8 := dkwX7_row_3 ++ []
def dkwX7_row_2 : List UInt8 := [180, 0, 13, 27, 29, 79, 3, 54, 4, 21, 4, 29, 162, 0, 22, 42, 180, 0, 16, 16, 60, 27, 104]
abbrev dktX7_row_2 : List UInt8 := dkwX7_row_2 ++ dktX7_row_3
def dkwX7_row_1 : List UInt8 := [29, 16, 60, 164, 0, 6, 16, 254, 172, 29, 156, 0, 6, 16, 253, 172, 42, 180, 0, 7, 27, 28, 79, 42]
abbrev dktX7_row_1 : List UInt8 := dkwX7_row_1 ++ dktX7_row_2
def dkwX7_row_0 : List UInt8 := [42, 3, 181, 0, 74, 27, 184, 0, 83, 153, 0, 21, 28, 133, 9, 20, 0, 77, 184, 0, 79, 153, 0, 9]
abbrev dktX7_row_0 : List UInt8 := dkwX7_row_0 ++ dktX7_row_1
theorem dksX7_row_0 : cX7_row.data.toList.drop 0 = dktX7_row_0 := by decide +kernel
theorem dksX7_row_1 : cX7_row.data.toList.drop 24 = dktX7_row_1 := dk_seg dksX7_row_0 24 rfl rfl
theorem dksX7_row_2 : cX7_row.data.toList.drop 48 = dktX7_row_2 := dk_seg dksX7_row_1 24 rfl rfl
theorem dksX7_row_3 : cX7_row.data.toList.drop 71 = dktX7_row_3 := dk_seg dksX7_row_2 23 rfl rfl
theorem dX7_row_0 : decode cX7_row 0 = .ok (.aload_n 0, 1) := dk_42 (dk_at dksX7_row_0 0 rfl rfl)
theorem dX7_row_1 : decode cX7_row 1 = .ok (.iconst 0, 1) := dk_3 (dk_at dksX7_row_0 1 rfl rfl)
theorem dX7_row_2 : decode cX7_row 2 = .ok (.putfield 74, 3) := dk_181 0 74 (dk_at dksX7_row_0 2 rfl rfl)
theorem dX7_row_5 : decode cX7_row 5 = .ok (.iload_n 1, 1) := dk_27 (dk_at dksX7_row_0 5 rfl rfl)
theorem dX7_row_6 : decode cX7_row 6 = .ok (.invokestatic 83, 3) := dk_184 0 83 (dk_at dksX7_row_0 6 rfl rfl)
theorem dX7_row_9 : decode cX7_row 9 = .ok (.ifCond .eq 21, 3) := dk_153 0 21 (dk_at dksX7_row_0 9 rfl rfl)
theorem dX7_row_12 : decode cX7_row 12 = .ok (.iload_n 2, 1) := dk_28 (dk_at dksX7_row_0 12 rfl rfl)
theorem dX7_row_13 : decode cX7_row 13 = .ok (.i2l, 1) := dk_133 (dk_at dksX7_row_0 13 rfl rfl)
theorem dX7_row_14 : decode cX7_row 14 = .ok (.lconst 0, 1) := dk_9 (dk_at dksX7_row_0 14 rfl rfl)
theorem dX7_row_15 : decode cX7_row 15 = .ok (.ldc2_w 77, 3) := dk_20 0 77 (dk_at dksX7_row_0 15 rfl rfl)
theorem dX7_row_18 : decode cX7_row 18 = .ok (.invokestatic 79, 3) := dk_184 0 79 (dk_at dksX7_row_0 18 rfl rfl)
theorem dX7_row_21 : decode cX7_row 21 = .ok (.ifCond .eq 9, 3) := dk_153 0 9 (dk_at dksX7_row_0 21 rfl rfl)
theorem dX7_row_24 : decode cX7_row 24 = .ok (.iload_n 3, 1) := dk_29 (dk_at dksX7_row_1 0 rfl rfl)
theorem dX7_row_25 : decode cX7_row 25 = .ok (.bipush 60, 2) := dk_16 60 (dk_at dksX7_row_1 1 rfl rfl)
theorem dX7_row_27 : decode cX7_row 27 = .ok (.if_icmp .le 6, 3) := dk_164 0 6 (dk_at dksX7_row_1 3 rfl rfl)
theorem dX7_row_30 : decode cX7_row 30 = .ok (.bipush (-2), 2) := dk_16 254 (dk_at dksX7_row_1 6 rfl rfl)
theorem dX7_row_32 : decode cX7_row 32 = .ok (.ireturn, 1) := dk_172 (dk_at dksX7_row_1 8 rfl rfl)
theorem dX7_row_33 : decode cX7_row 33 = .ok (.iload_n 3, 1) := dk_29 (dk_at dksX7_row_1 9 rfl rfl)
theorem dX7_row_34 : decode cX7_row 34 = .ok (.ifCond .ge 6, 3) := dk_156 0 6 (dk_at dksX7_row_1 10 rfl rfl)
theorem dX7_row_37 : decode cX7_row 37 = .ok (.bipush (-3), 2) := dk_16 253 (dk_at dksX7_row_1 13 rfl rfl)
theorem dX7_row_39 : decode cX7_row 39 = .ok (.ireturn, 1) := dk_172 (dk_at dksX7_row_1 15 rfl rfl)
theorem dX7_row_40 : decode cX7_row 40 = .ok (.aload_n 0, 1) := dk_42 (dk_at dksX7_row_1 16 rfl rfl)
theorem dX7_row_41 : decode cX7_row 41 = .ok (.getfield 7, 3) := dk_180 0 7 (dk_at dksX7_row_1 17 rfl rfl)
theorem dX7_row_44 : decode cX7_row 44 = .ok (.iload_n 1, 1) := dk_27 (dk_at dksX7_row_1 20 rfl rfl)
theorem dX7_row_45 : decode cX7_row 45 = .ok (.iload_n 2, 1) := dk_28 (dk_at dksX7_row_1 21 rfl rfl)
theorem dX7_row_46 : decode cX7_row 46 = .ok (.iastore, 1) := dk_79 (dk_at dksX7_row_1 22 rfl rfl)
theorem dX7_row_47 : decode cX7_row 47 = .ok (.aload_n 0, 1) := dk_42 (dk_at dksX7_row_1 23 rfl rfl)
theorem dX7_row_48 : decode cX7_row 48 = .ok (.getfield 13, 3) := dk_180 0 13 (dk_at dksX7_row_2 0 rfl rfl)
theorem dX7_row_51 : decode cX7_row 51 = .ok (.iload_n 1, 1) := dk_27 (dk_at dksX7_row_2 3 rfl rfl)
theorem dX7_row_52 : decode cX7_row 52 = .ok (.iload_n 3, 1) := dk_29 (dk_at dksX7_row_2 4 rfl rfl)
theorem dX7_row_53 : decode cX7_row 53 = .ok (.iastore, 1) := dk_79 (dk_at dksX7_row_2 5 rfl rfl)
theorem dX7_row_54 : decode cX7_row 54 = .ok (.iconst 0, 1) := dk_3 (dk_at dksX7_row_2 6 rfl rfl)
theorem dX7_row_55 : decode cX7_row 55 = .ok (.istore 4, 2) := dk_54 4 (dk_at dksX7_row_2 7 rfl rfl)
theorem dX7_row_57 : decode cX7_row 57 = .ok (.iload 4, 2) := dk_21 4 (dk_at dksX7_row_2 9 rfl rfl)
theorem dX7_row_59 : decode cX7_row 59 = .ok (.iload_n 3, 1) := dk_29 (dk_at dksX7_row_2 11 rfl rfl)
theorem dX7_row_60 : decode cX7_row 60 = .ok (.if_icmp .ge 22, 3) := dk_162 0 22 (dk_at dksX7_row_2 12 rfl rfl)
theorem dX7_row_63 : decode cX7_row 63 = .ok (.aload_n 0, 1) := dk_42 (dk_at dksX7_row_2 15 rfl rfl)
theorem dX7_row_64 : decode cX7_row 64 = .ok (.getfield 16, 3) := dk_180 0 16 (dk_at dksX7_row_2 16 rfl rfl)
theorem dX7_row_67 : decode cX7_row 67 = .ok (.bipush 60, 2) := dk_16 60 (dk_at dksX7_row_2 19 rfl rfl)
theorem dX7_row_69 : decode cX7_row 69 = .ok (.iload_n 1, 1) := dk_27 (dk_at dksX7_row_2 21 rfl rfl)
theorem dX7_row_70 : decode cX7_row 70 = .ok (.imul, 1) := dk_104 (dk_at dksX7_row_2 22 rfl rfl)
theorem dX7_row_71 : decode cX7_row 71 = .ok (.iload 4, 2) := dk_21 4 (dk_at dksX7_row_3 0 rfl rfl)
theorem dX7_row_73 : decode cX7_row 73 = .ok (.iadd, 1) := dk_96 (dk_at dksX7_row_3 2 rfl rfl)
theorem dX7_row_74 : decode cX7_row 74 = .ok (.lconst 0, 1) := dk_9 (dk_at dksX7_row_3 3 rfl rfl)
theorem dX7_row_75 : decode cX7_row 75 = .ok (.lastore, 1) := dk_80 (dk_at dksX7_row_3 4 rfl rfl)
theorem dX7_row_76 : decode cX7_row 76 = .ok (.iinc 4 1, 3) := dk_132 4 1 (dk_at dksX7_row_3 5 rfl rfl)
theorem dX7_row_79 : decode cX7_row 79 = .ok (.goto (-22), 3) := dk_167 255 234 (dk_at dksX7_row_3 8 rfl rfl)
theorem dX7_row_82 : decode cX7_row 82 = .ok (.iconst 0, 1) := dk_3 (dk_at dksX7_row_3 11 rfl rfl)
theorem dX7_row_83 : decode cX7_row 83 = .ok (.ireturn, 1) := dk_172 (dk_at dksX7_row_3 12 rfl rfl)
abbrev cX7_isSlot : ByteArray := prog_12_method_4_code
def yX7_isSlot : MethodName := ⟨RX7, "isSlot", "(I)Z"⟩
def dkwX7_isSlot_0 : List UInt8 := [26, 133, 9, 20, 0, 77, 184, 0, 79, 172]
abbrev dktX7_isSlot_0 : List UInt8 := dkwX7_isSlot_0 ++ []
theorem dksX7_isSlot_0 : cX7_isSlot.data.toList.drop 0 = dktX7_isSlot_0 := by decide +kernel
theorem dX7_isSlot_0 : decode cX7_isSlot 0 = .ok (.iload_n 0, 1) := dk_26 (dk_at dksX7_isSlot_0 0 rfl rfl)
theorem dX7_isSlot_1 : decode cX7_isSlot 1 = .ok (.i2l, 1) := dk_133 (dk_at dksX7_isSlot_0 1 rfl rfl)
theorem dX7_isSlot_2 : decode cX7_isSlot 2 = .ok (.lconst 0, 1) := dk_9 (dk_at dksX7_isSlot_0 2 rfl rfl)
theorem dX7_isSlot_3 : decode cX7_isSlot 3 = .ok (.ldc2_w 77, 3) := dk_20 0 77 (dk_at dksX7_isSlot_0 3 rfl rfl)
theorem dX7_isSlot_6 : decode cX7_isSlot 6 = .ok (.invokestatic 79, 3) := dk_184 0 79 (dk_at dksX7_isSlot_0 6 rfl rfl)
theorem dX7_isSlot_9 : decode cX7_isSlot 9 = .ok (.ireturn, 1) := dk_172 (dk_at dksX7_isSlot_0 9 rfl rfl)
abbrev cX7_in : ByteArray := prog_12_method_3_code
def yX7_in : MethodName := ⟨RX7, "in", "(JJJ)Z"⟩
def dkwX7_in_0 : List UInt8 := [30, 32, 148, 155, 0, 14, 30, 22, 4, 148, 157, 0, 7, 4, 167, 0, 4, 3, 172]
abbrev dktX7_in_0 : List UInt8 := dkwX7_in_0 ++ []
theorem dksX7_in_0 : cX7_in.data.toList.drop 0 = dktX7_in_0 := by decide +kernel
theorem dX7_in_0 : decode cX7_in 0 = .ok (.lload_n 0, 1) := dk_30 (dk_at dksX7_in_0 0 rfl rfl)
theorem dX7_in_1 : decode cX7_in 1 = .ok (.lload_n 2, 1) := dk_32 (dk_at dksX7_in_0 1 rfl rfl)
theorem dX7_in_2 : decode cX7_in 2 = .ok (.lcmp, 1) := dk_148 (dk_at dksX7_in_0 2 rfl rfl)
theorem dX7_in_3 : decode cX7_in 3 = .ok (.ifCond .lt 14, 3) := dk_155 0 14 (dk_at dksX7_in_0 3 rfl rfl)
theorem dX7_in_6 : decode cX7_in 6 = .ok (.lload_n 0, 1) := dk_30 (dk_at dksX7_in_0 6 rfl rfl)
theorem dX7_in_7 : decode cX7_in 7 = .ok (.lload 4, 2) := dk_22 4 (dk_at dksX7_in_0 7 rfl rfl)
theorem dX7_in_9 : decode cX7_in 9 = .ok (.lcmp, 1) := dk_148 (dk_at dksX7_in_0 9 rfl rfl)
theorem dX7_in_10 : decode cX7_in 10 = .ok (.ifCond .gt 7, 3) := dk_157 0 7 (dk_at dksX7_in_0 10 rfl rfl)
theorem dX7_in_13 : decode cX7_in 13 = .ok (.iconst 1, 1) := dk_4 (dk_at dksX7_in_0 13 rfl rfl)
theorem dX7_in_14 : decode cX7_in 14 = .ok (.goto 4, 3) := dk_167 0 4 (dk_at dksX7_in_0 14 rfl rfl)
theorem dX7_in_17 : decode cX7_in 17 = .ok (.iconst 0, 1) := dk_3 (dk_at dksX7_in_0 17 rfl rfl)
theorem dX7_in_18 : decode cX7_in 18 = .ok (.ireturn, 1) := dk_172 (dk_at dksX7_in_0 18 rfl rfl)
abbrev cX7_write : ByteArray := prog_12_method_7_code
def yX7_write : MethodName := ⟨RX7, "write", "(IIJ)I"⟩
def dkwX7_write_3 : List UInt8 := [3, 172]
abbrev dktX7_write_3 : List UInt8 := dkwX7_write_3 ++ []
def dkwX7_write_2 : List UInt8 := [16, 249, 172, 42, 180, 0, 16, 16, 60, 27, 104, 28, 96, 33, 42, 180, 0, 7, 27, 46, 184, 0, 87, 80]
abbrev dktX7_write_2 : List UInt8 := dkwX7_write_2 ++ dktX7_write_3
def dkwX7_write_1 : List UInt8 := [160, 0, 6, 16, 250, 172, 28, 133, 9, 42, 180, 0, 13, 27, 46, 4, 100, 133, 184, 0, 79, 154, 0, 6]
abbrev dktX7_write_1 : List UInt8 := dkwX7_write_1 ++ dktX7_write_2
def dkwX7_write_0 : List UInt8 := [42, 3, 181, 0, 74, 27, 184, 0, 83, 154, 0, 6, 16, 254, 172, 42, 180, 0, 7, 27, 46, 2]
abbrev dktX7_write_0 : List UInt8 := dkwX7_write_0 ++ dktX7_write_1
theorem dksX7_write_0 : cX7_write.data.toList.drop 0 = dktX7_write_0 := by decide +kernel
theorem dksX7_write_1 : cX7_write.data.toList.drop 22 = dktX7_write_1 := dk_seg dksX7_write_0 22 rfl rfl
theorem dksX7_write_2 : cX7_write.data.toList.drop 46 = dktX7_write_2 := dk_seg dksX7_write_1 24 rfl rfl
theorem dksX7_write_3 : cX7_write.data.toList.drop 70 = dktX7_write_3 := dk_seg dksX7_write_2 24 rfl rfl
theorem dX7_write_0 : decode cX7_write 0 = .ok (.aload_n 0, 1) := dk_42 (dk_at dksX7_write_0 0 rfl rfl)
theorem dX7_write_1 : decode cX7_write 1 = .ok (.iconst 0, 1) := dk_3 (dk_at dksX7_write_0 1 rfl rfl)
theorem dX7_write_2 : decode cX7_write 2 = .ok (.putfield 74, 3) := dk_181 0 74 (dk_at dksX7_write_0 2 rfl rfl)
theorem dX7_write_5 : decode cX7_write 5 = .ok (.iload_n 1, 1) := dk_27 (dk_at dksX7_write_0 5 rfl rfl)
theorem dX7_write_6 : decode cX7_write 6 = .ok (.invokestatic 83, 3) := dk_184 0 83 (dk_at dksX7_write_0 6 rfl rfl)
theorem dX7_write_9 : decode cX7_write 9 = .ok (.ifCond .ne 6, 3) := dk_154 0 6 (dk_at dksX7_write_0 9 rfl rfl)
theorem dX7_write_12 : decode cX7_write 12 = .ok (.bipush (-2), 2) := dk_16 254 (dk_at dksX7_write_0 12 rfl rfl)
theorem dX7_write_14 : decode cX7_write 14 = .ok (.ireturn, 1) := dk_172 (dk_at dksX7_write_0 14 rfl rfl)
theorem dX7_write_15 : decode cX7_write 15 = .ok (.aload_n 0, 1) := dk_42 (dk_at dksX7_write_0 15 rfl rfl)
theorem dX7_write_16 : decode cX7_write 16 = .ok (.getfield 7, 3) := dk_180 0 7 (dk_at dksX7_write_0 16 rfl rfl)
theorem dX7_write_19 : decode cX7_write 19 = .ok (.iload_n 1, 1) := dk_27 (dk_at dksX7_write_0 19 rfl rfl)
theorem dX7_write_20 : decode cX7_write 20 = .ok (.iaload, 1) := dk_46 (dk_at dksX7_write_0 20 rfl rfl)
theorem dX7_write_21 : decode cX7_write 21 = .ok (.iconst (-1), 1) := dk_2 (dk_at dksX7_write_0 21 rfl rfl)
theorem dX7_write_22 : decode cX7_write 22 = .ok (.if_icmp .ne 6, 3) := dk_160 0 6 (dk_at dksX7_write_1 0 rfl rfl)
theorem dX7_write_25 : decode cX7_write 25 = .ok (.bipush (-6), 2) := dk_16 250 (dk_at dksX7_write_1 3 rfl rfl)
theorem dX7_write_27 : decode cX7_write 27 = .ok (.ireturn, 1) := dk_172 (dk_at dksX7_write_1 5 rfl rfl)
theorem dX7_write_28 : decode cX7_write 28 = .ok (.iload_n 2, 1) := dk_28 (dk_at dksX7_write_1 6 rfl rfl)
theorem dX7_write_29 : decode cX7_write 29 = .ok (.i2l, 1) := dk_133 (dk_at dksX7_write_1 7 rfl rfl)
theorem dX7_write_30 : decode cX7_write 30 = .ok (.lconst 0, 1) := dk_9 (dk_at dksX7_write_1 8 rfl rfl)
theorem dX7_write_31 : decode cX7_write 31 = .ok (.aload_n 0, 1) := dk_42 (dk_at dksX7_write_1 9 rfl rfl)
theorem dX7_write_32 : decode cX7_write 32 = .ok (.getfield 13, 3) := dk_180 0 13 (dk_at dksX7_write_1 10 rfl rfl)
theorem dX7_write_35 : decode cX7_write 35 = .ok (.iload_n 1, 1) := dk_27 (dk_at dksX7_write_1 13 rfl rfl)
theorem dX7_write_36 : decode cX7_write 36 = .ok (.iaload, 1) := dk_46 (dk_at dksX7_write_1 14 rfl rfl)
theorem dX7_write_37 : decode cX7_write 37 = .ok (.iconst 1, 1) := dk_4 (dk_at dksX7_write_1 15 rfl rfl)
theorem dX7_write_38 : decode cX7_write 38 = .ok (.isub, 1) := dk_100 (dk_at dksX7_write_1 16 rfl rfl)
theorem dX7_write_39 : decode cX7_write 39 = .ok (.i2l, 1) := dk_133 (dk_at dksX7_write_1 17 rfl rfl)
theorem dX7_write_40 : decode cX7_write 40 = .ok (.invokestatic 79, 3) := dk_184 0 79 (dk_at dksX7_write_1 18 rfl rfl)
theorem dX7_write_43 : decode cX7_write 43 = .ok (.ifCond .ne 6, 3) := dk_154 0 6 (dk_at dksX7_write_1 21 rfl rfl)
theorem dX7_write_46 : decode cX7_write 46 = .ok (.bipush (-7), 2) := dk_16 249 (dk_at dksX7_write_2 0 rfl rfl)
theorem dX7_write_48 : decode cX7_write 48 = .ok (.ireturn, 1) := dk_172 (dk_at dksX7_write_2 2 rfl rfl)
theorem dX7_write_49 : decode cX7_write 49 = .ok (.aload_n 0, 1) := dk_42 (dk_at dksX7_write_2 3 rfl rfl)
theorem dX7_write_50 : decode cX7_write 50 = .ok (.getfield 16, 3) := dk_180 0 16 (dk_at dksX7_write_2 4 rfl rfl)
theorem dX7_write_53 : decode cX7_write 53 = .ok (.bipush 60, 2) := dk_16 60 (dk_at dksX7_write_2 7 rfl rfl)
theorem dX7_write_55 : decode cX7_write 55 = .ok (.iload_n 1, 1) := dk_27 (dk_at dksX7_write_2 9 rfl rfl)
theorem dX7_write_56 : decode cX7_write 56 = .ok (.imul, 1) := dk_104 (dk_at dksX7_write_2 10 rfl rfl)
theorem dX7_write_57 : decode cX7_write 57 = .ok (.iload_n 2, 1) := dk_28 (dk_at dksX7_write_2 11 rfl rfl)
theorem dX7_write_58 : decode cX7_write 58 = .ok (.iadd, 1) := dk_96 (dk_at dksX7_write_2 12 rfl rfl)
theorem dX7_write_59 : decode cX7_write 59 = .ok (.lload_n 3, 1) := dk_33 (dk_at dksX7_write_2 13 rfl rfl)
theorem dX7_write_60 : decode cX7_write 60 = .ok (.aload_n 0, 1) := dk_42 (dk_at dksX7_write_2 14 rfl rfl)
theorem dX7_write_61 : decode cX7_write 61 = .ok (.getfield 7, 3) := dk_180 0 7 (dk_at dksX7_write_2 15 rfl rfl)
theorem dX7_write_64 : decode cX7_write 64 = .ok (.iload_n 1, 1) := dk_27 (dk_at dksX7_write_2 18 rfl rfl)
theorem dX7_write_65 : decode cX7_write 65 = .ok (.iaload, 1) := dk_46 (dk_at dksX7_write_2 19 rfl rfl)
theorem dX7_write_66 : decode cX7_write 66 = .ok (.invokestatic 87, 3) := dk_184 0 87 (dk_at dksX7_write_2 20 rfl rfl)
theorem dX7_write_69 : decode cX7_write 69 = .ok (.lastore, 1) := dk_80 (dk_at dksX7_write_2 23 rfl rfl)
theorem dX7_write_70 : decode cX7_write 70 = .ok (.iconst 0, 1) := dk_3 (dk_at dksX7_write_3 0 rfl rfl)
theorem dX7_write_71 : decode cX7_write 71 = .ok (.ireturn, 1) := dk_172 (dk_at dksX7_write_3 1 rfl rfl)
abbrev cX7_cut : ByteArray := prog_12_method_6_code
def yX7_cut : MethodName := ⟨RX7, "cut", "(JI)J"⟩
def dkwX7_cut_1 : List UInt8 := [5, 160, 0, 9, 30, 136, 133, 167, 0, 4, 30, 173]
abbrev dktX7_cut_1 : List UInt8 := dkwX7_cut_1 ++ []
def dkwX7_cut_0 : List UInt8 := [28, 154, 0, 10, 30, 136, 145, 133, 167, 0, 27, 28, 4, 160, 0, 10, 30, 136, 147, 133, 167, 0, 15, 28]
abbrev dktX7_cut_0 : List UInt8 := dkwX7_cut_0 ++ dktX7_cut_1
theorem dksX7_cut_0 : cX7_cut.data.toList.drop 0 = dktX7_cut_0 := by decide +kernel
theorem dksX7_cut_1 : cX7_cut.data.toList.drop 24 = dktX7_cut_1 := dk_seg dksX7_cut_0 24 rfl rfl
theorem dX7_cut_0 : decode cX7_cut 0 = .ok (.iload_n 2, 1) := dk_28 (dk_at dksX7_cut_0 0 rfl rfl)
theorem dX7_cut_1 : decode cX7_cut 1 = .ok (.ifCond .ne 10, 3) := dk_154 0 10 (dk_at dksX7_cut_0 1 rfl rfl)
theorem dX7_cut_4 : decode cX7_cut 4 = .ok (.lload_n 0, 1) := dk_30 (dk_at dksX7_cut_0 4 rfl rfl)
theorem dX7_cut_5 : decode cX7_cut 5 = .ok (.l2i, 1) := dk_136 (dk_at dksX7_cut_0 5 rfl rfl)
theorem dX7_cut_6 : decode cX7_cut 6 = .ok (.i2b, 1) := dk_145 (dk_at dksX7_cut_0 6 rfl rfl)
theorem dX7_cut_7 : decode cX7_cut 7 = .ok (.i2l, 1) := dk_133 (dk_at dksX7_cut_0 7 rfl rfl)
theorem dX7_cut_8 : decode cX7_cut 8 = .ok (.goto 27, 3) := dk_167 0 27 (dk_at dksX7_cut_0 8 rfl rfl)
theorem dX7_cut_11 : decode cX7_cut 11 = .ok (.iload_n 2, 1) := dk_28 (dk_at dksX7_cut_0 11 rfl rfl)
theorem dX7_cut_12 : decode cX7_cut 12 = .ok (.iconst 1, 1) := dk_4 (dk_at dksX7_cut_0 12 rfl rfl)
theorem dX7_cut_13 : decode cX7_cut 13 = .ok (.if_icmp .ne 10, 3) := dk_160 0 10 (dk_at dksX7_cut_0 13 rfl rfl)
theorem dX7_cut_16 : decode cX7_cut 16 = .ok (.lload_n 0, 1) := dk_30 (dk_at dksX7_cut_0 16 rfl rfl)
theorem dX7_cut_17 : decode cX7_cut 17 = .ok (.l2i, 1) := dk_136 (dk_at dksX7_cut_0 17 rfl rfl)
theorem dX7_cut_18 : decode cX7_cut 18 = .ok (.i2s, 1) := dk_147 (dk_at dksX7_cut_0 18 rfl rfl)
theorem dX7_cut_19 : decode cX7_cut 19 = .ok (.i2l, 1) := dk_133 (dk_at dksX7_cut_0 19 rfl rfl)
theorem dX7_cut_20 : decode cX7_cut 20 = .ok (.goto 15, 3) := dk_167 0 15 (dk_at dksX7_cut_0 20 rfl rfl)
theorem dX7_cut_23 : decode cX7_cut 23 = .ok (.iload_n 2, 1) := dk_28 (dk_at dksX7_cut_0 23 rfl rfl)
theorem dX7_cut_24 : decode cX7_cut 24 = .ok (.iconst 2, 1) := dk_5 (dk_at dksX7_cut_1 0 rfl rfl)
theorem dX7_cut_25 : decode cX7_cut 25 = .ok (.if_icmp .ne 9, 3) := dk_160 0 9 (dk_at dksX7_cut_1 1 rfl rfl)
theorem dX7_cut_28 : decode cX7_cut 28 = .ok (.lload_n 0, 1) := dk_30 (dk_at dksX7_cut_1 4 rfl rfl)
theorem dX7_cut_29 : decode cX7_cut 29 = .ok (.l2i, 1) := dk_136 (dk_at dksX7_cut_1 5 rfl rfl)
theorem dX7_cut_30 : decode cX7_cut 30 = .ok (.i2l, 1) := dk_133 (dk_at dksX7_cut_1 6 rfl rfl)
theorem dX7_cut_31 : decode cX7_cut 31 = .ok (.goto 4, 3) := dk_167 0 4 (dk_at dksX7_cut_1 7 rfl rfl)
theorem dX7_cut_34 : decode cX7_cut 34 = .ok (.lload_n 0, 1) := dk_30 (dk_at dksX7_cut_1 10 rfl rfl)
theorem dX7_cut_35 : decode cX7_cut 35 = .ok (.lreturn, 1) := dk_173 (dk_at dksX7_cut_1 11 rfl rfl)
abbrev cX7_paste : ByteArray := prog_12_method_8_code
def yX7_paste : MethodName := ⟨RX7, "paste", "(IIIII)I"⟩
def dkwX7_paste_8 : List UInt8 := [167, 255, 224, 3, 172]
abbrev dktX7_paste_8 : List UInt8 := dkwX7_paste_8 ++ []
def dkwX7_paste_7 : List UInt8 := [180, 0, 16, 16, 60, 29, 104, 21, 4, 96, 21, 6, 96, 42, 180, 0, 20, 21, 6, 47, 80, 132, 6, 1]
abbrev dktX7_paste_7 : List UInt8 := dkwX7_paste_7 ++ dktX7_paste_8
def dkwX7_paste_6 : List UInt8 := [28, 96, 21, 6, 96, 47, 80, 132, 6, 1, 167, 255, 225, 3, 54, 6, 21, 6, 21, 5, 162, 0, 31, 42]
abbrev dktX7_paste_6 : List UInt8 := dkwX7_paste_6 ++ dktX7_paste_7
def dkwX7_paste_5 : List UInt8 := [3, 54, 6, 21, 6, 21, 5, 162, 0, 30, 42, 180, 0, 20, 21, 6, 42, 180, 0, 16, 16, 60, 27, 104]
abbrev dktX7_paste_5 : List UInt8 := dkwX7_paste_5 ++ dktX7_paste_6
def dkwX7_paste_4 : List UInt8 := [157, 0, 21, 21, 4, 133, 21, 5, 133, 97, 42, 180, 0, 13, 29, 46, 133, 148, 158, 0, 6, 16, 249, 172]
abbrev dktX7_paste_4 : List UInt8 := dkwX7_paste_4 ++ dktX7_paste_5
def dkwX7_paste_3 : List UInt8 := [155, 0, 43, 21, 5, 155, 0, 38, 28, 133, 21, 5, 133, 97, 42, 180, 0, 13, 27, 46, 133, 148]
abbrev dktX7_paste_3 : List UInt8 := dkwX7_paste_3 ++ dktX7_paste_4
def dkwX7_paste_2 : List UInt8 := [180, 0, 7, 27, 46, 42, 180, 0, 7, 29, 46, 159, 0, 6, 16, 248, 172, 28, 155, 0, 48, 21, 4]
abbrev dktX7_paste_2 : List UInt8 := dkwX7_paste_2 ++ dktX7_paste_3
def dkwX7_paste_1 : List UInt8 := [180, 0, 7, 27, 46, 2, 159, 0, 13, 42, 180, 0, 7, 29, 46, 2, 160, 0, 6, 16, 250, 172, 42]
abbrev dktX7_paste_1 : List UInt8 := dkwX7_paste_1 ++ dktX7_paste_2
def dkwX7_paste_0 : List UInt8 := [42, 3, 181, 0, 74, 27, 184, 0, 83, 153, 0, 10, 29, 184, 0, 83, 154, 0, 6, 16, 254, 172, 42]
abbrev dktX7_paste_0 : List UInt8 := dkwX7_paste_0 ++ dktX7_paste_1
theorem dksX7_paste_0 : cX7_paste.data.toList.drop 0 = dktX7_paste_0 := by decide +kernel
theorem dksX7_paste_1 : cX7_paste.data.toList.drop 23 = dktX7_paste_1 := dk_seg dksX7_paste_0 23 rfl rfl
theorem dksX7_paste_2 : cX7_paste.data.toList.drop 46 = dktX7_paste_2 := dk_seg dksX7_paste_1 23 rfl rfl
theorem dksX7_paste_3 : cX7_paste.data.toList.drop 69 = dktX7_paste_3 := dk_seg dksX7_paste_2 23 rfl rfl
theorem dksX7_paste_4 : cX7_paste.data.toList.drop 91 = dktX7_paste_4 := dk_seg dksX7_paste_3 22 rfl rfl
theorem dksX7_paste_5 : cX7_paste.data.toList.drop 115 = dktX7_paste_5 := dk_seg dksX7_paste_4 24 rfl rfl
theorem dksX7_paste_6 : cX7_paste.data.toList.drop 139 = dktX7_paste_6 := dk_seg dksX7_paste_5 24 rfl rfl
theorem dksX7_paste_7 : cX7_paste.data.toList.drop 163 = dktX7_paste_7 := dk_seg dksX7_paste_6 24 rfl rfl
theorem dksX7_paste_8 : cX7_paste.data.toList.drop 187 = dktX7_paste_8 := dk_seg dksX7_paste_7 24 rfl rfl
theorem dX7_paste_0 : decode cX7_paste 0 = .ok (.aload_n 0, 1) := dk_42 (dk_at dksX7_paste_0 0 rfl rfl)
theorem dX7_paste_1 : decode cX7_paste 1 = .ok (.iconst 0, 1) := dk_3 (dk_at dksX7_paste_0 1 rfl rfl)
theorem dX7_paste_2 : decode cX7_paste 2 = .ok (.putfield 74, 3) := dk_181 0 74 (dk_at dksX7_paste_0 2 rfl rfl)
theorem dX7_paste_5 : decode cX7_paste 5 = .ok (.iload_n 1, 1) := dk_27 (dk_at dksX7_paste_0 5 rfl rfl)
theorem dX7_paste_6 : decode cX7_paste 6 = .ok (.invokestatic 83, 3) := dk_184 0 83 (dk_at dksX7_paste_0 6 rfl rfl)
theorem dX7_paste_9 : decode cX7_paste 9 = .ok (.ifCond .eq 10, 3) := dk_153 0 10 (dk_at dksX7_paste_0 9 rfl rfl)
theorem dX7_paste_12 : decode cX7_paste 12 = .ok (.iload_n 3, 1) := dk_29 (dk_at dksX7_paste_0 12 rfl rfl)
theorem dX7_paste_13 : decode cX7_paste 13 = .ok (.invokestatic 83, 3) := dk_184 0 83 (dk_at dksX7_paste_0 13 rfl rfl)
theorem dX7_paste_16 : decode cX7_paste 16 = .ok (.ifCond .ne 6, 3) := dk_154 0 6 (dk_at dksX7_paste_0 16 rfl rfl)
theorem dX7_paste_19 : decode cX7_paste 19 = .ok (.bipush (-2), 2) := dk_16 254 (dk_at dksX7_paste_0 19 rfl rfl)
theorem dX7_paste_21 : decode cX7_paste 21 = .ok (.ireturn, 1) := dk_172 (dk_at dksX7_paste_0 21 rfl rfl)
theorem dX7_paste_22 : decode cX7_paste 22 = .ok (.aload_n 0, 1) := dk_42 (dk_at dksX7_paste_0 22 rfl rfl)
theorem dX7_paste_23 : decode cX7_paste 23 = .ok (.getfield 7, 3) := dk_180 0 7 (dk_at dksX7_paste_1 0 rfl rfl)
theorem dX7_paste_26 : decode cX7_paste 26 = .ok (.iload_n 1, 1) := dk_27 (dk_at dksX7_paste_1 3 rfl rfl)
theorem dX7_paste_27 : decode cX7_paste 27 = .ok (.iaload, 1) := dk_46 (dk_at dksX7_paste_1 4 rfl rfl)
theorem dX7_paste_28 : decode cX7_paste 28 = .ok (.iconst (-1), 1) := dk_2 (dk_at dksX7_paste_1 5 rfl rfl)
theorem dX7_paste_29 : decode cX7_paste 29 = .ok (.if_icmp .eq 13, 3) := dk_159 0 13 (dk_at dksX7_paste_1 6 rfl rfl)
theorem dX7_paste_32 : decode cX7_paste 32 = .ok (.aload_n 0, 1) := dk_42 (dk_at dksX7_paste_1 9 rfl rfl)
theorem dX7_paste_33 : decode cX7_paste 33 = .ok (.getfield 7, 3) := dk_180 0 7 (dk_at dksX7_paste_1 10 rfl rfl)
theorem dX7_paste_36 : decode cX7_paste 36 = .ok (.iload_n 3, 1) := dk_29 (dk_at dksX7_paste_1 13 rfl rfl)
theorem dX7_paste_37 : decode cX7_paste 37 = .ok (.iaload, 1) := dk_46 (dk_at dksX7_paste_1 14 rfl rfl)
theorem dX7_paste_38 : decode cX7_paste 38 = .ok (.iconst (-1), 1) := dk_2 (dk_at dksX7_paste_1 15 rfl rfl)
theorem dX7_paste_39 : decode cX7_paste 39 = .ok (.if_icmp .ne 6, 3) := dk_160 0 6 (dk_at dksX7_paste_1 16 rfl rfl)
theorem dX7_paste_42 : decode cX7_paste 42 = .ok (.bipush (-6), 2) := dk_16 250 (dk_at dksX7_paste_1 19 rfl rfl)
theorem dX7_paste_44 : decode cX7_paste 44 = .ok (.ireturn, 1) := dk_172 (dk_at dksX7_paste_1 21 rfl rfl)
theorem dX7_paste_45 : decode cX7_paste 45 = .ok (.aload_n 0, 1) := dk_42 (dk_at dksX7_paste_1 22 rfl rfl)
theorem dX7_paste_46 : decode cX7_paste 46 = .ok (.getfield 7, 3) := dk_180 0 7 (dk_at dksX7_paste_2 0 rfl rfl)
theorem dX7_paste_49 : decode cX7_paste 49 = .ok (.iload_n 1, 1) := dk_27 (dk_at dksX7_paste_2 3 rfl rfl)
theorem dX7_paste_50 : decode cX7_paste 50 = .ok (.iaload, 1) := dk_46 (dk_at dksX7_paste_2 4 rfl rfl)
theorem dX7_paste_51 : decode cX7_paste 51 = .ok (.aload_n 0, 1) := dk_42 (dk_at dksX7_paste_2 5 rfl rfl)
theorem dX7_paste_52 : decode cX7_paste 52 = .ok (.getfield 7, 3) := dk_180 0 7 (dk_at dksX7_paste_2 6 rfl rfl)
theorem dX7_paste_55 : decode cX7_paste 55 = .ok (.iload_n 3, 1) := dk_29 (dk_at dksX7_paste_2 9 rfl rfl)
theorem dX7_paste_56 : decode cX7_paste 56 = .ok (.iaload, 1) := dk_46 (dk_at dksX7_paste_2 10 rfl rfl)
theorem dX7_paste_57 : decode cX7_paste 57 = .ok (.if_icmp .eq 6, 3) := dk_159 0 6 (dk_at dksX7_paste_2 11 rfl rfl)
theorem dX7_paste_60 : decode cX7_paste 60 = .ok (.bipush (-8), 2) := dk_16 248 (dk_at dksX7_paste_2 14 rfl rfl)
theorem dX7_paste_62 : decode cX7_paste 62 = .ok (.ireturn, 1) := dk_172 (dk_at dksX7_paste_2 16 rfl rfl)
theorem dX7_paste_63 : decode cX7_paste 63 = .ok (.iload_n 2, 1) := dk_28 (dk_at dksX7_paste_2 17 rfl rfl)
theorem dX7_paste_64 : decode cX7_paste 64 = .ok (.ifCond .lt 48, 3) := dk_155 0 48 (dk_at dksX7_paste_2 18 rfl rfl)
theorem dX7_paste_67 : decode cX7_paste 67 = .ok (.iload 4, 2) := dk_21 4 (dk_at dksX7_paste_2 21 rfl rfl)
theorem dX7_paste_69 : decode cX7_paste 69 = .ok (.ifCond .lt 43, 3) := dk_155 0 43 (dk_at dksX7_paste_3 0 rfl rfl)
theorem dX7_paste_72 : decode cX7_paste 72 = .ok (.iload 5, 2) := dk_21 5 (dk_at dksX7_paste_3 3 rfl rfl)
theorem dX7_paste_74 : decode cX7_paste 74 = .ok (.ifCond .lt 38, 3) := dk_155 0 38 (dk_at dksX7_paste_3 5 rfl rfl)
theorem dX7_paste_77 : decode cX7_paste 77 = .ok (.iload_n 2, 1) := dk_28 (dk_at dksX7_paste_3 8 rfl rfl)
theorem dX7_paste_78 : decode cX7_paste 78 = .ok (.i2l, 1) := dk_133 (dk_at dksX7_paste_3 9 rfl rfl)
theorem dX7_paste_79 : decode cX7_paste 79 = .ok (.iload 5, 2) := dk_21 5 (dk_at dksX7_paste_3 10 rfl rfl)
theorem dX7_paste_81 : decode cX7_paste 81 = .ok (.i2l, 1) := dk_133 (dk_at dksX7_paste_3 12 rfl rfl)
theorem dX7_paste_82 : decode cX7_paste 82 = .ok (.ladd, 1) := dk_97 (dk_at dksX7_paste_3 13 rfl rfl)
theorem dX7_paste_83 : decode cX7_paste 83 = .ok (.aload_n 0, 1) := dk_42 (dk_at dksX7_paste_3 14 rfl rfl)
theorem dX7_paste_84 : decode cX7_paste 84 = .ok (.getfield 13, 3) := dk_180 0 13 (dk_at dksX7_paste_3 15 rfl rfl)
theorem dX7_paste_87 : decode cX7_paste 87 = .ok (.iload_n 1, 1) := dk_27 (dk_at dksX7_paste_3 18 rfl rfl)
theorem dX7_paste_88 : decode cX7_paste 88 = .ok (.iaload, 1) := dk_46 (dk_at dksX7_paste_3 19 rfl rfl)
theorem dX7_paste_89 : decode cX7_paste 89 = .ok (.i2l, 1) := dk_133 (dk_at dksX7_paste_3 20 rfl rfl)
theorem dX7_paste_90 : decode cX7_paste 90 = .ok (.lcmp, 1) := dk_148 (dk_at dksX7_paste_3 21 rfl rfl)
theorem dX7_paste_91 : decode cX7_paste 91 = .ok (.ifCond .gt 21, 3) := dk_157 0 21 (dk_at dksX7_paste_4 0 rfl rfl)
theorem dX7_paste_94 : decode cX7_paste 94 = .ok (.iload 4, 2) := dk_21 4 (dk_at dksX7_paste_4 3 rfl rfl)
theorem dX7_paste_96 : decode cX7_paste 96 = .ok (.i2l, 1) := dk_133 (dk_at dksX7_paste_4 5 rfl rfl)
theorem dX7_paste_97 : decode cX7_paste 97 = .ok (.iload 5, 2) := dk_21 5 (dk_at dksX7_paste_4 6 rfl rfl)
theorem dX7_paste_99 : decode cX7_paste 99 = .ok (.i2l, 1) := dk_133 (dk_at dksX7_paste_4 8 rfl rfl)
theorem dX7_paste_100 : decode cX7_paste 100 = .ok (.ladd, 1) := dk_97 (dk_at dksX7_paste_4 9 rfl rfl)
theorem dX7_paste_101 : decode cX7_paste 101 = .ok (.aload_n 0, 1) := dk_42 (dk_at dksX7_paste_4 10 rfl rfl)
theorem dX7_paste_102 : decode cX7_paste 102 = .ok (.getfield 13, 3) := dk_180 0 13 (dk_at dksX7_paste_4 11 rfl rfl)
theorem dX7_paste_105 : decode cX7_paste 105 = .ok (.iload_n 3, 1) := dk_29 (dk_at dksX7_paste_4 14 rfl rfl)
theorem dX7_paste_106 : decode cX7_paste 106 = .ok (.iaload, 1) := dk_46 (dk_at dksX7_paste_4 15 rfl rfl)
theorem dX7_paste_107 : decode cX7_paste 107 = .ok (.i2l, 1) := dk_133 (dk_at dksX7_paste_4 16 rfl rfl)
theorem dX7_paste_108 : decode cX7_paste 108 = .ok (.lcmp, 1) := dk_148 (dk_at dksX7_paste_4 17 rfl rfl)
theorem dX7_paste_109 : decode cX7_paste 109 = .ok (.ifCond .le 6, 3) := dk_158 0 6 (dk_at dksX7_paste_4 18 rfl rfl)
theorem dX7_paste_112 : decode cX7_paste 112 = .ok (.bipush (-7), 2) := dk_16 249 (dk_at dksX7_paste_4 21 rfl rfl)
theorem dX7_paste_114 : decode cX7_paste 114 = .ok (.ireturn, 1) := dk_172 (dk_at dksX7_paste_4 23 rfl rfl)
theorem dX7_paste_115 : decode cX7_paste 115 = .ok (.iconst 0, 1) := dk_3 (dk_at dksX7_paste_5 0 rfl rfl)
theorem dX7_paste_116 : decode cX7_paste 116 = .ok (.istore 6, 2) := dk_54 6 (dk_at dksX7_paste_5 1 rfl rfl)
theorem dX7_paste_118 : decode cX7_paste 118 = .ok (.iload 6, 2) := dk_21 6 (dk_at dksX7_paste_5 3 rfl rfl)
theorem dX7_paste_120 : decode cX7_paste 120 = .ok (.iload 5, 2) := dk_21 5 (dk_at dksX7_paste_5 5 rfl rfl)
theorem dX7_paste_122 : decode cX7_paste 122 = .ok (.if_icmp .ge 30, 3) := dk_162 0 30 (dk_at dksX7_paste_5 7 rfl rfl)
theorem dX7_paste_125 : decode cX7_paste 125 = .ok (.aload_n 0, 1) := dk_42 (dk_at dksX7_paste_5 10 rfl rfl)
theorem dX7_paste_126 : decode cX7_paste 126 = .ok (.getfield 20, 3) := dk_180 0 20 (dk_at dksX7_paste_5 11 rfl rfl)
theorem dX7_paste_129 : decode cX7_paste 129 = .ok (.iload 6, 2) := dk_21 6 (dk_at dksX7_paste_5 14 rfl rfl)
theorem dX7_paste_131 : decode cX7_paste 131 = .ok (.aload_n 0, 1) := dk_42 (dk_at dksX7_paste_5 16 rfl rfl)
theorem dX7_paste_132 : decode cX7_paste 132 = .ok (.getfield 16, 3) := dk_180 0 16 (dk_at dksX7_paste_5 17 rfl rfl)
theorem dX7_paste_135 : decode cX7_paste 135 = .ok (.bipush 60, 2) := dk_16 60 (dk_at dksX7_paste_5 20 rfl rfl)
theorem dX7_paste_137 : decode cX7_paste 137 = .ok (.iload_n 1, 1) := dk_27 (dk_at dksX7_paste_5 22 rfl rfl)
theorem dX7_paste_138 : decode cX7_paste 138 = .ok (.imul, 1) := dk_104 (dk_at dksX7_paste_5 23 rfl rfl)
theorem dX7_paste_139 : decode cX7_paste 139 = .ok (.iload_n 2, 1) := dk_28 (dk_at dksX7_paste_6 0 rfl rfl)
theorem dX7_paste_140 : decode cX7_paste 140 = .ok (.iadd, 1) := dk_96 (dk_at dksX7_paste_6 1 rfl rfl)
theorem dX7_paste_141 : decode cX7_paste 141 = .ok (.iload 6, 2) := dk_21 6 (dk_at dksX7_paste_6 2 rfl rfl)
theorem dX7_paste_143 : decode cX7_paste 143 = .ok (.iadd, 1) := dk_96 (dk_at dksX7_paste_6 4 rfl rfl)
theorem dX7_paste_144 : decode cX7_paste 144 = .ok (.laload, 1) := dk_47 (dk_at dksX7_paste_6 5 rfl rfl)
theorem dX7_paste_145 : decode cX7_paste 145 = .ok (.lastore, 1) := dk_80 (dk_at dksX7_paste_6 6 rfl rfl)
theorem dX7_paste_146 : decode cX7_paste 146 = .ok (.iinc 6 1, 3) := dk_132 6 1 (dk_at dksX7_paste_6 7 rfl rfl)
theorem dX7_paste_149 : decode cX7_paste 149 = .ok (.goto (-31), 3) := dk_167 255 225 (dk_at dksX7_paste_6 10 rfl rfl)
theorem dX7_paste_152 : decode cX7_paste 152 = .ok (.iconst 0, 1) := dk_3 (dk_at dksX7_paste_6 13 rfl rfl)
theorem dX7_paste_153 : decode cX7_paste 153 = .ok (.istore 6, 2) := dk_54 6 (dk_at dksX7_paste_6 14 rfl rfl)
theorem dX7_paste_155 : decode cX7_paste 155 = .ok (.iload 6, 2) := dk_21 6 (dk_at dksX7_paste_6 16 rfl rfl)
theorem dX7_paste_157 : decode cX7_paste 157 = .ok (.iload 5, 2) := dk_21 5 (dk_at dksX7_paste_6 18 rfl rfl)
theorem dX7_paste_159 : decode cX7_paste 159 = .ok (.if_icmp .ge 31, 3) := dk_162 0 31 (dk_at dksX7_paste_6 20 rfl rfl)
theorem dX7_paste_162 : decode cX7_paste 162 = .ok (.aload_n 0, 1) := dk_42 (dk_at dksX7_paste_6 23 rfl rfl)
theorem dX7_paste_163 : decode cX7_paste 163 = .ok (.getfield 16, 3) := dk_180 0 16 (dk_at dksX7_paste_7 0 rfl rfl)
theorem dX7_paste_166 : decode cX7_paste 166 = .ok (.bipush 60, 2) := dk_16 60 (dk_at dksX7_paste_7 3 rfl rfl)
theorem dX7_paste_168 : decode cX7_paste 168 = .ok (.iload_n 3, 1) := dk_29 (dk_at dksX7_paste_7 5 rfl rfl)
theorem dX7_paste_169 : decode cX7_paste 169 = .ok (.imul, 1) := dk_104 (dk_at dksX7_paste_7 6 rfl rfl)
theorem dX7_paste_170 : decode cX7_paste 170 = .ok (.iload 4, 2) := dk_21 4 (dk_at dksX7_paste_7 7 rfl rfl)
theorem dX7_paste_172 : decode cX7_paste 172 = .ok (.iadd, 1) := dk_96 (dk_at dksX7_paste_7 9 rfl rfl)
theorem dX7_paste_173 : decode cX7_paste 173 = .ok (.iload 6, 2) := dk_21 6 (dk_at dksX7_paste_7 10 rfl rfl)
theorem dX7_paste_175 : decode cX7_paste 175 = .ok (.iadd, 1) := dk_96 (dk_at dksX7_paste_7 12 rfl rfl)
theorem dX7_paste_176 : decode cX7_paste 176 = .ok (.aload_n 0, 1) := dk_42 (dk_at dksX7_paste_7 13 rfl rfl)
theorem dX7_paste_177 : decode cX7_paste 177 = .ok (.getfield 20, 3) := dk_180 0 20 (dk_at dksX7_paste_7 14 rfl rfl)
theorem dX7_paste_180 : decode cX7_paste 180 = .ok (.iload 6, 2) := dk_21 6 (dk_at dksX7_paste_7 17 rfl rfl)
theorem dX7_paste_182 : decode cX7_paste 182 = .ok (.laload, 1) := dk_47 (dk_at dksX7_paste_7 19 rfl rfl)
theorem dX7_paste_183 : decode cX7_paste 183 = .ok (.lastore, 1) := dk_80 (dk_at dksX7_paste_7 20 rfl rfl)
theorem dX7_paste_184 : decode cX7_paste 184 = .ok (.iinc 6 1, 3) := dk_132 6 1 (dk_at dksX7_paste_7 21 rfl rfl)
theorem dX7_paste_187 : decode cX7_paste 187 = .ok (.goto (-32), 3) := dk_167 255 224 (dk_at dksX7_paste_8 0 rfl rfl)
theorem dX7_paste_190 : decode cX7_paste 190 = .ok (.iconst 0, 1) := dk_3 (dk_at dksX7_paste_8 3 rfl rfl)
theorem dX7_paste_191 : decode cX7_paste 191 = .ok (.ireturn, 1) := dk_172 (dk_at dksX7_paste_8 4 rfl rfl)
abbrev cX7_feed : ByteArray := prog_12_method_9_code
def yX7_feed : MethodName := ⟨RX7, "feed", "(IIIII)I"⟩
def dkwX7_feed_2 : List UInt8 := [182, 0, 94, 42, 180, 0, 91, 172]
abbrev dktX7_feed_2 : List UInt8 := dkwX7_feed_2 ++ []
def dkwX7_feed_1 : List UInt8 := [182, 0, 94, 42, 28, 182, 0, 94, 42, 29, 182, 0, 94, 42, 21, 4, 182, 0, 94, 42, 21, 5]
abbrev dktX7_feed_1 : List UInt8 := dkwX7_feed_1 ++ dktX7_feed_2
def dkwX7_feed_0 : List UInt8 := [42, 3, 181, 0, 74, 42, 180, 0, 91, 16, 20, 96, 17, 2, 188, 164, 0, 5, 2, 172, 42, 27]
abbrev dktX7_feed_0 : List UInt8 := dkwX7_feed_0 ++ dktX7_feed_1
theorem dksX7_feed_0 : cX7_feed.data.toList.drop 0 = dktX7_feed_0 := by decide +kernel
theorem dksX7_feed_1 : cX7_feed.data.toList.drop 22 = dktX7_feed_1 := dk_seg dksX7_feed_0 22 rfl rfl
theorem dksX7_feed_2 : cX7_feed.data.toList.drop 44 = dktX7_feed_2 := dk_seg dksX7_feed_1 22 rfl rfl
theorem dX7_feed_0 : decode cX7_feed 0 = .ok (.aload_n 0, 1) := dk_42 (dk_at dksX7_feed_0 0 rfl rfl)
theorem dX7_feed_1 : decode cX7_feed 1 = .ok (.iconst 0, 1) := dk_3 (dk_at dksX7_feed_0 1 rfl rfl)
theorem dX7_feed_2 : decode cX7_feed 2 = .ok (.putfield 74, 3) := dk_181 0 74 (dk_at dksX7_feed_0 2 rfl rfl)
theorem dX7_feed_5 : decode cX7_feed 5 = .ok (.aload_n 0, 1) := dk_42 (dk_at dksX7_feed_0 5 rfl rfl)
theorem dX7_feed_6 : decode cX7_feed 6 = .ok (.getfield 91, 3) := dk_180 0 91 (dk_at dksX7_feed_0 6 rfl rfl)
theorem dX7_feed_9 : decode cX7_feed 9 = .ok (.bipush 20, 2) := dk_16 20 (dk_at dksX7_feed_0 9 rfl rfl)
theorem dX7_feed_11 : decode cX7_feed 11 = .ok (.iadd, 1) := dk_96 (dk_at dksX7_feed_0 11 rfl rfl)
theorem dX7_feed_12 : decode cX7_feed 12 = .ok (.sipush 700, 3) := dk_17 2 188 (dk_at dksX7_feed_0 12 rfl rfl)
theorem dX7_feed_15 : decode cX7_feed 15 = .ok (.if_icmp .le 5, 3) := dk_164 0 5 (dk_at dksX7_feed_0 15 rfl rfl)
theorem dX7_feed_18 : decode cX7_feed 18 = .ok (.iconst (-1), 1) := dk_2 (dk_at dksX7_feed_0 18 rfl rfl)
theorem dX7_feed_19 : decode cX7_feed 19 = .ok (.ireturn, 1) := dk_172 (dk_at dksX7_feed_0 19 rfl rfl)
theorem dX7_feed_20 : decode cX7_feed 20 = .ok (.aload_n 0, 1) := dk_42 (dk_at dksX7_feed_0 20 rfl rfl)
theorem dX7_feed_21 : decode cX7_feed 21 = .ok (.iload_n 1, 1) := dk_27 (dk_at dksX7_feed_0 21 rfl rfl)
theorem dX7_feed_22 : decode cX7_feed 22 = .ok (.invokevirtual 94, 3) := dk_182 0 94 (dk_at dksX7_feed_1 0 rfl rfl)
theorem dX7_feed_25 : decode cX7_feed 25 = .ok (.aload_n 0, 1) := dk_42 (dk_at dksX7_feed_1 3 rfl rfl)
theorem dX7_feed_26 : decode cX7_feed 26 = .ok (.iload_n 2, 1) := dk_28 (dk_at dksX7_feed_1 4 rfl rfl)
theorem dX7_feed_27 : decode cX7_feed 27 = .ok (.invokevirtual 94, 3) := dk_182 0 94 (dk_at dksX7_feed_1 5 rfl rfl)
theorem dX7_feed_30 : decode cX7_feed 30 = .ok (.aload_n 0, 1) := dk_42 (dk_at dksX7_feed_1 8 rfl rfl)
theorem dX7_feed_31 : decode cX7_feed 31 = .ok (.iload_n 3, 1) := dk_29 (dk_at dksX7_feed_1 9 rfl rfl)
theorem dX7_feed_32 : decode cX7_feed 32 = .ok (.invokevirtual 94, 3) := dk_182 0 94 (dk_at dksX7_feed_1 10 rfl rfl)
theorem dX7_feed_35 : decode cX7_feed 35 = .ok (.aload_n 0, 1) := dk_42 (dk_at dksX7_feed_1 13 rfl rfl)
theorem dX7_feed_36 : decode cX7_feed 36 = .ok (.iload 4, 2) := dk_21 4 (dk_at dksX7_feed_1 14 rfl rfl)
theorem dX7_feed_38 : decode cX7_feed 38 = .ok (.invokevirtual 94, 3) := dk_182 0 94 (dk_at dksX7_feed_1 16 rfl rfl)
theorem dX7_feed_41 : decode cX7_feed 41 = .ok (.aload_n 0, 1) := dk_42 (dk_at dksX7_feed_1 19 rfl rfl)
theorem dX7_feed_42 : decode cX7_feed 42 = .ok (.iload 5, 2) := dk_21 5 (dk_at dksX7_feed_1 20 rfl rfl)
theorem dX7_feed_44 : decode cX7_feed 44 = .ok (.invokevirtual 94, 3) := dk_182 0 94 (dk_at dksX7_feed_2 0 rfl rfl)
theorem dX7_feed_47 : decode cX7_feed 47 = .ok (.aload_n 0, 1) := dk_42 (dk_at dksX7_feed_2 3 rfl rfl)
theorem dX7_feed_48 : decode cX7_feed 48 = .ok (.getfield 91, 3) := dk_180 0 91 (dk_at dksX7_feed_2 4 rfl rfl)
theorem dX7_feed_51 : decode cX7_feed 51 = .ok (.ireturn, 1) := dk_172 (dk_at dksX7_feed_2 7 rfl rfl)
abbrev cX7_four : ByteArray := prog_12_method_10_code
def yX7_four : MethodName := ⟨RX7, "four", "(I)V"⟩
def dkwX7_four_1 : List UInt8 := [180, 0, 91, 4, 96, 181, 0, 91, 132, 2, 248, 167, 255, 226, 177]
abbrev dktX7_four_1 : List UInt8 := dkwX7_four_1 ++ []
def dkwX7_four_0 : List UInt8 := [16, 24, 61, 28, 155, 0, 32, 42, 180, 0, 23, 42, 180, 0, 91, 27, 28, 122, 145, 84, 42, 89]
abbrev dktX7_four_0 : List UInt8 := dkwX7_four_0 ++ dktX7_four_1
theorem dksX7_four_0 : cX7_four.data.toList.drop 0 = dktX7_four_0 := by decide +kernel
theorem dksX7_four_1 : cX7_four.data.toList.drop 22 = dktX7_four_1 := dk_seg dksX7_four_0 22 rfl rfl
theorem dX7_four_0 : decode cX7_four 0 = .ok (.bipush 24, 2) := dk_16 24 (dk_at dksX7_four_0 0 rfl rfl)
theorem dX7_four_2 : decode cX7_four 2 = .ok (.istore_n 2, 1) := dk_61 (dk_at dksX7_four_0 2 rfl rfl)
theorem dX7_four_3 : decode cX7_four 3 = .ok (.iload_n 2, 1) := dk_28 (dk_at dksX7_four_0 3 rfl rfl)
theorem dX7_four_4 : decode cX7_four 4 = .ok (.ifCond .lt 32, 3) := dk_155 0 32 (dk_at dksX7_four_0 4 rfl rfl)
theorem dX7_four_7 : decode cX7_four 7 = .ok (.aload_n 0, 1) := dk_42 (dk_at dksX7_four_0 7 rfl rfl)
theorem dX7_four_8 : decode cX7_four 8 = .ok (.getfield 23, 3) := dk_180 0 23 (dk_at dksX7_four_0 8 rfl rfl)
theorem dX7_four_11 : decode cX7_four 11 = .ok (.aload_n 0, 1) := dk_42 (dk_at dksX7_four_0 11 rfl rfl)
theorem dX7_four_12 : decode cX7_four 12 = .ok (.getfield 91, 3) := dk_180 0 91 (dk_at dksX7_four_0 12 rfl rfl)
theorem dX7_four_15 : decode cX7_four 15 = .ok (.iload_n 1, 1) := dk_27 (dk_at dksX7_four_0 15 rfl rfl)
theorem dX7_four_16 : decode cX7_four 16 = .ok (.iload_n 2, 1) := dk_28 (dk_at dksX7_four_0 16 rfl rfl)
theorem dX7_four_17 : decode cX7_four 17 = .ok (.ishr, 1) := dk_122 (dk_at dksX7_four_0 17 rfl rfl)
theorem dX7_four_18 : decode cX7_four 18 = .ok (.i2b, 1) := dk_145 (dk_at dksX7_four_0 18 rfl rfl)
theorem dX7_four_19 : decode cX7_four 19 = .ok (.bastore, 1) := dk_84 (dk_at dksX7_four_0 19 rfl rfl)
theorem dX7_four_20 : decode cX7_four 20 = .ok (.aload_n 0, 1) := dk_42 (dk_at dksX7_four_0 20 rfl rfl)
theorem dX7_four_21 : decode cX7_four 21 = .ok (.dup, 1) := dk_89 (dk_at dksX7_four_0 21 rfl rfl)
theorem dX7_four_22 : decode cX7_four 22 = .ok (.getfield 91, 3) := dk_180 0 91 (dk_at dksX7_four_1 0 rfl rfl)
theorem dX7_four_25 : decode cX7_four 25 = .ok (.iconst 1, 1) := dk_4 (dk_at dksX7_four_1 3 rfl rfl)
theorem dX7_four_26 : decode cX7_four 26 = .ok (.iadd, 1) := dk_96 (dk_at dksX7_four_1 4 rfl rfl)
theorem dX7_four_27 : decode cX7_four 27 = .ok (.putfield 91, 3) := dk_181 0 91 (dk_at dksX7_four_1 5 rfl rfl)
theorem dX7_four_30 : decode cX7_four 30 = .ok (.iinc 2 (-8), 3) := dk_132 2 248 (dk_at dksX7_four_1 8 rfl rfl)
theorem dX7_four_33 : decode cX7_four 33 = .ok (.goto (-30), 3) := dk_167 255 226 (dk_at dksX7_four_1 11 rfl rfl)
theorem dX7_four_36 : decode cX7_four 36 = .ok (.return_, 1) := dk_177 (dk_at dksX7_four_1 14 rfl rfl)
abbrev cX7_end : ByteArray := prog_12_method_11_code
def yX7_end : MethodName := ⟨RX7, "end", "(I)I"⟩
def dkwX7_end_1 : List UInt8 := [181, 0, 91, 27, 172]
abbrev dktX7_end_1 : List UInt8 := dkwX7_end_1 ++ []
def dkwX7_end_0 : List UInt8 := [42, 3, 181, 0, 74, 27, 133, 9, 42, 180, 0, 91, 133, 184, 0, 79, 154, 0, 5, 2, 172, 42, 27]
abbrev dktX7_end_0 : List UInt8 := dkwX7_end_0 ++ dktX7_end_1
theorem dksX7_end_0 : cX7_end.data.toList.drop 0 = dktX7_end_0 := by decide +kernel
theorem dksX7_end_1 : cX7_end.data.toList.drop 23 = dktX7_end_1 := dk_seg dksX7_end_0 23 rfl rfl
theorem dX7_end_0 : decode cX7_end 0 = .ok (.aload_n 0, 1) := dk_42 (dk_at dksX7_end_0 0 rfl rfl)
theorem dX7_end_1 : decode cX7_end 1 = .ok (.iconst 0, 1) := dk_3 (dk_at dksX7_end_0 1 rfl rfl)
theorem dX7_end_2 : decode cX7_end 2 = .ok (.putfield 74, 3) := dk_181 0 74 (dk_at dksX7_end_0 2 rfl rfl)
theorem dX7_end_5 : decode cX7_end 5 = .ok (.iload_n 1, 1) := dk_27 (dk_at dksX7_end_0 5 rfl rfl)
theorem dX7_end_6 : decode cX7_end 6 = .ok (.i2l, 1) := dk_133 (dk_at dksX7_end_0 6 rfl rfl)
theorem dX7_end_7 : decode cX7_end 7 = .ok (.lconst 0, 1) := dk_9 (dk_at dksX7_end_0 7 rfl rfl)
theorem dX7_end_8 : decode cX7_end 8 = .ok (.aload_n 0, 1) := dk_42 (dk_at dksX7_end_0 8 rfl rfl)
theorem dX7_end_9 : decode cX7_end 9 = .ok (.getfield 91, 3) := dk_180 0 91 (dk_at dksX7_end_0 9 rfl rfl)
theorem dX7_end_12 : decode cX7_end 12 = .ok (.i2l, 1) := dk_133 (dk_at dksX7_end_0 12 rfl rfl)
theorem dX7_end_13 : decode cX7_end 13 = .ok (.invokestatic 79, 3) := dk_184 0 79 (dk_at dksX7_end_0 13 rfl rfl)
theorem dX7_end_16 : decode cX7_end 16 = .ok (.ifCond .ne 5, 3) := dk_154 0 5 (dk_at dksX7_end_0 16 rfl rfl)
theorem dX7_end_19 : decode cX7_end 19 = .ok (.iconst (-1), 1) := dk_2 (dk_at dksX7_end_0 19 rfl rfl)
theorem dX7_end_20 : decode cX7_end 20 = .ok (.ireturn, 1) := dk_172 (dk_at dksX7_end_0 20 rfl rfl)
theorem dX7_end_21 : decode cX7_end 21 = .ok (.aload_n 0, 1) := dk_42 (dk_at dksX7_end_0 21 rfl rfl)
theorem dX7_end_22 : decode cX7_end 22 = .ok (.iload_n 1, 1) := dk_27 (dk_at dksX7_end_0 22 rfl rfl)
theorem dX7_end_23 : decode cX7_end 23 = .ok (.putfield 91, 3) := dk_181 0 91 (dk_at dksX7_end_1 0 rfl rfl)
theorem dX7_end_26 : decode cX7_end 26 = .ok (.iload_n 1, 1) := dk_27 (dk_at dksX7_end_1 3 rfl rfl)
theorem dX7_end_27 : decode cX7_end 27 = .ok (.ireturn, 1) := dk_172 (dk_at dksX7_end_1 4 rfl rfl)
abbrev cX7_fault : ByteArray := prog_12_method_24_code
def yX7_fault : MethodName := ⟨RX7, "fault", "(I)I"⟩
def dkwX7_fault_1 : List UInt8 := [180, 0, 27, 167, 0, 4, 2, 172]
abbrev dktX7_fault_1 : List UInt8 := dkwX7_fault_1 ++ []
def dkwX7_fault_0 : List UInt8 := [42, 3, 181, 0, 74, 27, 154, 0, 10, 42, 180, 0, 153, 167, 0, 16, 27, 4, 160, 0, 10, 42]
abbrev dktX7_fault_0 : List UInt8 := dkwX7_fault_0 ++ dktX7_fault_1
theorem dksX7_fault_0 : cX7_fault.data.toList.drop 0 = dktX7_fault_0 := by decide +kernel
theorem dksX7_fault_1 : cX7_fault.data.toList.drop 22 = dktX7_fault_1 := dk_seg dksX7_fault_0 22 rfl rfl
theorem dX7_fault_0 : decode cX7_fault 0 = .ok (.aload_n 0, 1) := dk_42 (dk_at dksX7_fault_0 0 rfl rfl)
theorem dX7_fault_1 : decode cX7_fault 1 = .ok (.iconst 0, 1) := dk_3 (dk_at dksX7_fault_0 1 rfl rfl)
theorem dX7_fault_2 : decode cX7_fault 2 = .ok (.putfield 74, 3) := dk_181 0 74 (dk_at dksX7_fault_0 2 rfl rfl)
theorem dX7_fault_5 : decode cX7_fault 5 = .ok (.iload_n 1, 1) := dk_27 (dk_at dksX7_fault_0 5 rfl rfl)
theorem dX7_fault_6 : decode cX7_fault 6 = .ok (.ifCond .ne 10, 3) := dk_154 0 10 (dk_at dksX7_fault_0 6 rfl rfl)
theorem dX7_fault_9 : decode cX7_fault 9 = .ok (.aload_n 0, 1) := dk_42 (dk_at dksX7_fault_0 9 rfl rfl)
theorem dX7_fault_10 : decode cX7_fault 10 = .ok (.getfield 153, 3) := dk_180 0 153 (dk_at dksX7_fault_0 10 rfl rfl)
theorem dX7_fault_13 : decode cX7_fault 13 = .ok (.goto 16, 3) := dk_167 0 16 (dk_at dksX7_fault_0 13 rfl rfl)
theorem dX7_fault_16 : decode cX7_fault 16 = .ok (.iload_n 1, 1) := dk_27 (dk_at dksX7_fault_0 16 rfl rfl)
theorem dX7_fault_17 : decode cX7_fault 17 = .ok (.iconst 1, 1) := dk_4 (dk_at dksX7_fault_0 17 rfl rfl)
theorem dX7_fault_18 : decode cX7_fault 18 = .ok (.if_icmp .ne 10, 3) := dk_160 0 10 (dk_at dksX7_fault_0 18 rfl rfl)
theorem dX7_fault_21 : decode cX7_fault 21 = .ok (.aload_n 0, 1) := dk_42 (dk_at dksX7_fault_0 21 rfl rfl)
theorem dX7_fault_22 : decode cX7_fault 22 = .ok (.getfield 27, 3) := dk_180 0 27 (dk_at dksX7_fault_1 0 rfl rfl)
theorem dX7_fault_25 : decode cX7_fault 25 = .ok (.goto 4, 3) := dk_167 0 4 (dk_at dksX7_fault_1 3 rfl rfl)
theorem dX7_fault_28 : decode cX7_fault 28 = .ok (.iconst (-1), 1) := dk_2 (dk_at dksX7_fault_1 6 rfl rfl)
theorem dX7_fault_29 : decode cX7_fault 29 = .ok (.ireturn, 1) := dk_172 (dk_at dksX7_fault_1 7 rfl rfl)
abbrev cX7_book : ByteArray := prog_12_method_33_code
def yX7_book : MethodName := ⟨RX7, "book", "()I"⟩
def dkwX7_book_6 : List UInt8 := [180, 0, 31, 3, 46, 172]
abbrev dktX7_book_6 : List UInt8 := dkwX7_book_6 ++ []
def dkwX7_book_5 : List UInt8 := [167, 255, 154, 42, 182, 0, 226, 42, 180, 0, 126, 153, 0, 6, 16, 252, 172, 42, 7, 3, 182, 0, 229, 42]
abbrev dktX7_book_5 : List UInt8 := dkwX7_book_5 ++ dktX7_book_6
def dkwX7_book_4 : List UInt8 := [182, 0, 220, 42, 182, 0, 208, 153, 0, 7, 42, 182, 0, 223, 42, 180, 0, 31, 7, 92, 46, 4, 96, 79]
abbrev dktX7_book_4 : List UInt8 := dkwX7_book_4 ++ dktX7_book_5
def dkwX7_book_3 : List UInt8 := [182, 0, 169, 42, 5, 42, 20, 0, 218, 3, 16, 10, 182, 0, 162, 182, 0, 169, 167, 0, 7, 42]
abbrev dktX7_book_3 : List UInt8 := dkwX7_book_3 ++ dktX7_book_4
def dkwX7_book_2 : List UInt8 := [20, 0, 214, 4, 16, 20, 182, 0, 162, 182, 0, 169, 42, 4, 42, 20, 0, 216, 3, 6, 182, 0, 162]
abbrev dktX7_book_2 : List UInt8 := dkwX7_book_2 ++ dktX7_book_3
def dkwX7_book_1 : List UInt8 := [153, 0, 94, 42, 180, 0, 31, 7, 46, 154, 0, 57, 42, 20, 0, 212, 182, 0, 145, 42, 3, 42]
abbrev dktX7_book_1 : List UInt8 := dkwX7_book_1 ++ dktX7_book_2
def dkwX7_book_0 : List UInt8 := [42, 3, 181, 0, 74, 42, 182, 0, 202, 42, 182, 0, 205, 42, 182, 0, 208, 153, 0, 101, 42, 180, 0, 115]
abbrev dktX7_book_0 : List UInt8 := dkwX7_book_0 ++ dktX7_book_1
theorem dksX7_book_0 : cX7_book.data.toList.drop 0 = dktX7_book_0 := by decide +kernel
theorem dksX7_book_1 : cX7_book.data.toList.drop 24 = dktX7_book_1 := dk_seg dksX7_book_0 24 rfl rfl
theorem dksX7_book_2 : cX7_book.data.toList.drop 46 = dktX7_book_2 := dk_seg dksX7_book_1 22 rfl rfl
theorem dksX7_book_3 : cX7_book.data.toList.drop 69 = dktX7_book_3 := dk_seg dksX7_book_2 23 rfl rfl
theorem dksX7_book_4 : cX7_book.data.toList.drop 91 = dktX7_book_4 := dk_seg dksX7_book_3 22 rfl rfl
theorem dksX7_book_5 : cX7_book.data.toList.drop 115 = dktX7_book_5 := dk_seg dksX7_book_4 24 rfl rfl
theorem dksX7_book_6 : cX7_book.data.toList.drop 139 = dktX7_book_6 := dk_seg dksX7_book_5 24 rfl rfl
theorem dX7_book_0 : decode cX7_book 0 = .ok (.aload_n 0, 1) := dk_42 (dk_at dksX7_book_0 0 rfl rfl)
theorem dX7_book_1 : decode cX7_book 1 = .ok (.iconst 0, 1) := dk_3 (dk_at dksX7_book_0 1 rfl rfl)
theorem dX7_book_2 : decode cX7_book 2 = .ok (.putfield 74, 3) := dk_181 0 74 (dk_at dksX7_book_0 2 rfl rfl)
theorem dX7_book_5 : decode cX7_book 5 = .ok (.aload_n 0, 1) := dk_42 (dk_at dksX7_book_0 5 rfl rfl)
theorem dX7_book_6 : decode cX7_book 6 = .ok (.invokevirtual 202, 3) := dk_182 0 202 (dk_at dksX7_book_0 6 rfl rfl)
theorem dX7_book_9 : decode cX7_book 9 = .ok (.aload_n 0, 1) := dk_42 (dk_at dksX7_book_0 9 rfl rfl)
theorem dX7_book_10 : decode cX7_book 10 = .ok (.invokevirtual 205, 3) := dk_182 0 205 (dk_at dksX7_book_0 10 rfl rfl)
theorem dX7_book_13 : decode cX7_book 13 = .ok (.aload_n 0, 1) := dk_42 (dk_at dksX7_book_0 13 rfl rfl)
theorem dX7_book_14 : decode cX7_book 14 = .ok (.invokevirtual 208, 3) := dk_182 0 208 (dk_at dksX7_book_0 14 rfl rfl)
theorem dX7_book_17 : decode cX7_book 17 = .ok (.ifCond .eq 101, 3) := dk_153 0 101 (dk_at dksX7_book_0 17 rfl rfl)
theorem dX7_book_20 : decode cX7_book 20 = .ok (.aload_n 0, 1) := dk_42 (dk_at dksX7_book_0 20 rfl rfl)
theorem dX7_book_21 : decode cX7_book 21 = .ok (.getfield 115, 3) := dk_180 0 115 (dk_at dksX7_book_0 21 rfl rfl)
theorem dX7_book_24 : decode cX7_book 24 = .ok (.ifCond .eq 94, 3) := dk_153 0 94 (dk_at dksX7_book_1 0 rfl rfl)
theorem dX7_book_27 : decode cX7_book 27 = .ok (.aload_n 0, 1) := dk_42 (dk_at dksX7_book_1 3 rfl rfl)
theorem dX7_book_28 : decode cX7_book 28 = .ok (.getfield 31, 3) := dk_180 0 31 (dk_at dksX7_book_1 4 rfl rfl)
theorem dX7_book_31 : decode cX7_book 31 = .ok (.iconst 4, 1) := dk_7 (dk_at dksX7_book_1 7 rfl rfl)
theorem dX7_book_32 : decode cX7_book 32 = .ok (.iaload, 1) := dk_46 (dk_at dksX7_book_1 8 rfl rfl)
theorem dX7_book_33 : decode cX7_book 33 = .ok (.ifCond .ne 57, 3) := dk_154 0 57 (dk_at dksX7_book_1 9 rfl rfl)
theorem dX7_book_36 : decode cX7_book 36 = .ok (.aload_n 0, 1) := dk_42 (dk_at dksX7_book_1 12 rfl rfl)
theorem dX7_book_37 : decode cX7_book 37 = .ok (.ldc2_w 212, 3) := dk_20 0 212 (dk_at dksX7_book_1 13 rfl rfl)
theorem dX7_book_40 : decode cX7_book 40 = .ok (.invokevirtual 145, 3) := dk_182 0 145 (dk_at dksX7_book_1 16 rfl rfl)
theorem dX7_book_43 : decode cX7_book 43 = .ok (.aload_n 0, 1) := dk_42 (dk_at dksX7_book_1 19 rfl rfl)
theorem dX7_book_44 : decode cX7_book 44 = .ok (.iconst 0, 1) := dk_3 (dk_at dksX7_book_1 20 rfl rfl)
theorem dX7_book_45 : decode cX7_book 45 = .ok (.aload_n 0, 1) := dk_42 (dk_at dksX7_book_1 21 rfl rfl)
theorem dX7_book_46 : decode cX7_book 46 = .ok (.ldc2_w 214, 3) := dk_20 0 214 (dk_at dksX7_book_2 0 rfl rfl)
theorem dX7_book_49 : decode cX7_book 49 = .ok (.iconst 1, 1) := dk_4 (dk_at dksX7_book_2 3 rfl rfl)
theorem dX7_book_50 : decode cX7_book 50 = .ok (.bipush 20, 2) := dk_16 20 (dk_at dksX7_book_2 4 rfl rfl)
theorem dX7_book_52 : decode cX7_book 52 = .ok (.invokevirtual 162, 3) := dk_182 0 162 (dk_at dksX7_book_2 6 rfl rfl)
theorem dX7_book_55 : decode cX7_book 55 = .ok (.invokevirtual 169, 3) := dk_182 0 169 (dk_at dksX7_book_2 9 rfl rfl)
theorem dX7_book_58 : decode cX7_book 58 = .ok (.aload_n 0, 1) := dk_42 (dk_at dksX7_book_2 12 rfl rfl)
theorem dX7_book_59 : decode cX7_book 59 = .ok (.iconst 1, 1) := dk_4 (dk_at dksX7_book_2 13 rfl rfl)
theorem dX7_book_60 : decode cX7_book 60 = .ok (.aload_n 0, 1) := dk_42 (dk_at dksX7_book_2 14 rfl rfl)
theorem dX7_book_61 : decode cX7_book 61 = .ok (.ldc2_w 216, 3) := dk_20 0 216 (dk_at dksX7_book_2 15 rfl rfl)
theorem dX7_book_64 : decode cX7_book 64 = .ok (.iconst 0, 1) := dk_3 (dk_at dksX7_book_2 18 rfl rfl)
theorem dX7_book_65 : decode cX7_book 65 = .ok (.iconst 3, 1) := dk_6 (dk_at dksX7_book_2 19 rfl rfl)
theorem dX7_book_66 : decode cX7_book 66 = .ok (.invokevirtual 162, 3) := dk_182 0 162 (dk_at dksX7_book_2 20 rfl rfl)
theorem dX7_book_69 : decode cX7_book 69 = .ok (.invokevirtual 169, 3) := dk_182 0 169 (dk_at dksX7_book_3 0 rfl rfl)
theorem dX7_book_72 : decode cX7_book 72 = .ok (.aload_n 0, 1) := dk_42 (dk_at dksX7_book_3 3 rfl rfl)
theorem dX7_book_73 : decode cX7_book 73 = .ok (.iconst 2, 1) := dk_5 (dk_at dksX7_book_3 4 rfl rfl)
theorem dX7_book_74 : decode cX7_book 74 = .ok (.aload_n 0, 1) := dk_42 (dk_at dksX7_book_3 5 rfl rfl)
theorem dX7_book_75 : decode cX7_book 75 = .ok (.ldc2_w 218, 3) := dk_20 0 218 (dk_at dksX7_book_3 6 rfl rfl)
theorem dX7_book_78 : decode cX7_book 78 = .ok (.iconst 0, 1) := dk_3 (dk_at dksX7_book_3 9 rfl rfl)
theorem dX7_book_79 : decode cX7_book 79 = .ok (.bipush 10, 2) := dk_16 10 (dk_at dksX7_book_3 10 rfl rfl)
theorem dX7_book_81 : decode cX7_book 81 = .ok (.invokevirtual 162, 3) := dk_182 0 162 (dk_at dksX7_book_3 12 rfl rfl)
theorem dX7_book_84 : decode cX7_book 84 = .ok (.invokevirtual 169, 3) := dk_182 0 169 (dk_at dksX7_book_3 15 rfl rfl)
theorem dX7_book_87 : decode cX7_book 87 = .ok (.goto 7, 3) := dk_167 0 7 (dk_at dksX7_book_3 18 rfl rfl)
theorem dX7_book_90 : decode cX7_book 90 = .ok (.aload_n 0, 1) := dk_42 (dk_at dksX7_book_3 21 rfl rfl)
theorem dX7_book_91 : decode cX7_book 91 = .ok (.invokevirtual 220, 3) := dk_182 0 220 (dk_at dksX7_book_4 0 rfl rfl)
theorem dX7_book_94 : decode cX7_book 94 = .ok (.aload_n 0, 1) := dk_42 (dk_at dksX7_book_4 3 rfl rfl)
theorem dX7_book_95 : decode cX7_book 95 = .ok (.invokevirtual 208, 3) := dk_182 0 208 (dk_at dksX7_book_4 4 rfl rfl)
theorem dX7_book_98 : decode cX7_book 98 = .ok (.ifCond .eq 7, 3) := dk_153 0 7 (dk_at dksX7_book_4 7 rfl rfl)
theorem dX7_book_101 : decode cX7_book 101 = .ok (.aload_n 0, 1) := dk_42 (dk_at dksX7_book_4 10 rfl rfl)
theorem dX7_book_102 : decode cX7_book 102 = .ok (.invokevirtual 223, 3) := dk_182 0 223 (dk_at dksX7_book_4 11 rfl rfl)
theorem dX7_book_105 : decode cX7_book 105 = .ok (.aload_n 0, 1) := dk_42 (dk_at dksX7_book_4 14 rfl rfl)
theorem dX7_book_106 : decode cX7_book 106 = .ok (.getfield 31, 3) := dk_180 0 31 (dk_at dksX7_book_4 15 rfl rfl)
theorem dX7_book_109 : decode cX7_book 109 = .ok (.iconst 4, 1) := dk_7 (dk_at dksX7_book_4 18 rfl rfl)
theorem dX7_book_110 : decode cX7_book 110 = .ok (.dup2, 1) := dk_92 (dk_at dksX7_book_4 19 rfl rfl)
theorem dX7_book_111 : decode cX7_book 111 = .ok (.iaload, 1) := dk_46 (dk_at dksX7_book_4 20 rfl rfl)
theorem dX7_book_112 : decode cX7_book 112 = .ok (.iconst 1, 1) := dk_4 (dk_at dksX7_book_4 21 rfl rfl)
theorem dX7_book_113 : decode cX7_book 113 = .ok (.iadd, 1) := dk_96 (dk_at dksX7_book_4 22 rfl rfl)
theorem dX7_book_114 : decode cX7_book 114 = .ok (.iastore, 1) := dk_79 (dk_at dksX7_book_4 23 rfl rfl)
theorem dX7_book_115 : decode cX7_book 115 = .ok (.goto (-102), 3) := dk_167 255 154 (dk_at dksX7_book_5 0 rfl rfl)
theorem dX7_book_118 : decode cX7_book 118 = .ok (.aload_n 0, 1) := dk_42 (dk_at dksX7_book_5 3 rfl rfl)
theorem dX7_book_119 : decode cX7_book 119 = .ok (.invokevirtual 226, 3) := dk_182 0 226 (dk_at dksX7_book_5 4 rfl rfl)
theorem dX7_book_122 : decode cX7_book 122 = .ok (.aload_n 0, 1) := dk_42 (dk_at dksX7_book_5 7 rfl rfl)
theorem dX7_book_123 : decode cX7_book 123 = .ok (.getfield 126, 3) := dk_180 0 126 (dk_at dksX7_book_5 8 rfl rfl)
theorem dX7_book_126 : decode cX7_book 126 = .ok (.ifCond .eq 6, 3) := dk_153 0 6 (dk_at dksX7_book_5 11 rfl rfl)
theorem dX7_book_129 : decode cX7_book 129 = .ok (.bipush (-4), 2) := dk_16 252 (dk_at dksX7_book_5 14 rfl rfl)
theorem dX7_book_131 : decode cX7_book 131 = .ok (.ireturn, 1) := dk_172 (dk_at dksX7_book_5 16 rfl rfl)
theorem dX7_book_132 : decode cX7_book 132 = .ok (.aload_n 0, 1) := dk_42 (dk_at dksX7_book_5 17 rfl rfl)
theorem dX7_book_133 : decode cX7_book 133 = .ok (.iconst 4, 1) := dk_7 (dk_at dksX7_book_5 18 rfl rfl)
theorem dX7_book_134 : decode cX7_book 134 = .ok (.iconst 0, 1) := dk_3 (dk_at dksX7_book_5 19 rfl rfl)
theorem dX7_book_135 : decode cX7_book 135 = .ok (.invokevirtual 229, 3) := dk_182 0 229 (dk_at dksX7_book_5 20 rfl rfl)
theorem dX7_book_138 : decode cX7_book 138 = .ok (.aload_n 0, 1) := dk_42 (dk_at dksX7_book_5 23 rfl rfl)
theorem dX7_book_139 : decode cX7_book 139 = .ok (.getfield 31, 3) := dk_180 0 31 (dk_at dksX7_book_6 0 rfl rfl)
theorem dX7_book_142 : decode cX7_book 142 = .ok (.iconst 0, 1) := dk_3 (dk_at dksX7_book_6 3 rfl rfl)
theorem dX7_book_143 : decode cX7_book 143 = .ok (.iaload, 1) := dk_46 (dk_at dksX7_book_6 4 rfl rfl)
theorem dX7_book_144 : decode cX7_book 144 = .ok (.ireturn, 1) := dk_172 (dk_at dksX7_book_6 5 rfl rfl)
abbrev cX7_clears : ByteArray := prog_12_method_32_code
def yX7_clears : MethodName := ⟨RX7, "clears", "()V"⟩
def dkwX7_clears_1 : List UInt8 := [167, 255, 241, 177]
abbrev dktX7_clears_1 : List UInt8 := dkwX7_clears_1 ++ []
def dkwX7_clears_0 : List UInt8 := [42, 180, 0, 31, 7, 3, 79, 3, 60, 27, 16, 7, 162, 0, 15, 42, 27, 3, 182, 0, 169, 132, 1, 1]
abbrev dktX7_clears_0 : List UInt8 := dkwX7_clears_0 ++ dktX7_clears_1
theorem dksX7_clears_0 : cX7_clears.data.toList.drop 0 = dktX7_clears_0 := by decide +kernel
theorem dksX7_clears_1 : cX7_clears.data.toList.drop 24 = dktX7_clears_1 := dk_seg dksX7_clears_0 24 rfl rfl
theorem dX7_clears_0 : decode cX7_clears 0 = .ok (.aload_n 0, 1) := dk_42 (dk_at dksX7_clears_0 0 rfl rfl)
theorem dX7_clears_1 : decode cX7_clears 1 = .ok (.getfield 31, 3) := dk_180 0 31 (dk_at dksX7_clears_0 1 rfl rfl)
theorem dX7_clears_4 : decode cX7_clears 4 = .ok (.iconst 4, 1) := dk_7 (dk_at dksX7_clears_0 4 rfl rfl)
theorem dX7_clears_5 : decode cX7_clears 5 = .ok (.iconst 0, 1) := dk_3 (dk_at dksX7_clears_0 5 rfl rfl)
theorem dX7_clears_6 : decode cX7_clears 6 = .ok (.iastore, 1) := dk_79 (dk_at dksX7_clears_0 6 rfl rfl)
theorem dX7_clears_7 : decode cX7_clears 7 = .ok (.iconst 0, 1) := dk_3 (dk_at dksX7_clears_0 7 rfl rfl)
theorem dX7_clears_8 : decode cX7_clears 8 = .ok (.istore_n 1, 1) := dk_60 (dk_at dksX7_clears_0 8 rfl rfl)
theorem dX7_clears_9 : decode cX7_clears 9 = .ok (.iload_n 1, 1) := dk_27 (dk_at dksX7_clears_0 9 rfl rfl)
theorem dX7_clears_10 : decode cX7_clears 10 = .ok (.bipush 7, 2) := dk_16 7 (dk_at dksX7_clears_0 10 rfl rfl)
theorem dX7_clears_12 : decode cX7_clears 12 = .ok (.if_icmp .ge 15, 3) := dk_162 0 15 (dk_at dksX7_clears_0 12 rfl rfl)
theorem dX7_clears_15 : decode cX7_clears 15 = .ok (.aload_n 0, 1) := dk_42 (dk_at dksX7_clears_0 15 rfl rfl)
theorem dX7_clears_16 : decode cX7_clears 16 = .ok (.iload_n 1, 1) := dk_27 (dk_at dksX7_clears_0 16 rfl rfl)
theorem dX7_clears_17 : decode cX7_clears 17 = .ok (.iconst 0, 1) := dk_3 (dk_at dksX7_clears_0 17 rfl rfl)
theorem dX7_clears_18 : decode cX7_clears 18 = .ok (.invokevirtual 169, 3) := dk_182 0 169 (dk_at dksX7_clears_0 18 rfl rfl)
theorem dX7_clears_21 : decode cX7_clears 21 = .ok (.iinc 1 1, 3) := dk_132 1 1 (dk_at dksX7_clears_0 21 rfl rfl)
theorem dX7_clears_24 : decode cX7_clears 24 = .ok (.goto (-15), 3) := dk_167 255 241 (dk_at dksX7_clears_1 0 rfl rfl)
theorem dX7_clears_27 : decode cX7_clears 27 = .ok (.return_, 1) := dk_177 (dk_at dksX7_clears_1 3 rfl rfl)
abbrev cX7_tells : ByteArray := prog_12_method_26_code
def yX7_tells : MethodName := ⟨RX7, "tells", "(II)V"⟩
def dkwX7_tells_0 : List UInt8 := [42, 180, 0, 34, 16, 28, 27, 96, 28, 79, 177]
abbrev dktX7_tells_0 : List UInt8 := dkwX7_tells_0 ++ []
theorem dksX7_tells_0 : cX7_tells.data.toList.drop 0 = dktX7_tells_0 := by decide +kernel
theorem dX7_tells_0 : decode cX7_tells 0 = .ok (.aload_n 0, 1) := dk_42 (dk_at dksX7_tells_0 0 rfl rfl)
theorem dX7_tells_1 : decode cX7_tells 1 = .ok (.getfield 34, 3) := dk_180 0 34 (dk_at dksX7_tells_0 1 rfl rfl)
theorem dX7_tells_4 : decode cX7_tells 4 = .ok (.bipush 28, 2) := dk_16 28 (dk_at dksX7_tells_0 4 rfl rfl)
theorem dX7_tells_6 : decode cX7_tells 6 = .ok (.iload_n 1, 1) := dk_27 (dk_at dksX7_tells_0 6 rfl rfl)
theorem dX7_tells_7 : decode cX7_tells 7 = .ok (.iadd, 1) := dk_96 (dk_at dksX7_tells_0 7 rfl rfl)
theorem dX7_tells_8 : decode cX7_tells 8 = .ok (.iload_n 2, 1) := dk_28 (dk_at dksX7_tells_0 8 rfl rfl)
theorem dX7_tells_9 : decode cX7_tells 9 = .ok (.iastore, 1) := dk_79 (dk_at dksX7_tells_0 9 rfl rfl)
theorem dX7_tells_10 : decode cX7_tells 10 = .ok (.return_, 1) := dk_177 (dk_at dksX7_tells_0 10 rfl rfl)
abbrev cX7_begins : ByteArray := prog_12_method_22_code
def yX7_begins : MethodName := ⟨RX7, "begins", "()V"⟩
def dkwX7_begins_0 : List UInt8 := [42, 3, 181, 0, 126, 42, 2, 181, 0, 129, 42, 3, 181, 0, 98, 42, 182, 0, 136, 177]
abbrev dktX7_begins_0 : List UInt8 := dkwX7_begins_0 ++ []
theorem dksX7_begins_0 : cX7_begins.data.toList.drop 0 = dktX7_begins_0 := by decide +kernel
theorem dX7_begins_0 : decode cX7_begins 0 = .ok (.aload_n 0, 1) := dk_42 (dk_at dksX7_begins_0 0 rfl rfl)
theorem dX7_begins_1 : decode cX7_begins 1 = .ok (.iconst 0, 1) := dk_3 (dk_at dksX7_begins_0 1 rfl rfl)
theorem dX7_begins_2 : decode cX7_begins 2 = .ok (.putfield 126, 3) := dk_181 0 126 (dk_at dksX7_begins_0 2 rfl rfl)
theorem dX7_begins_5 : decode cX7_begins 5 = .ok (.aload_n 0, 1) := dk_42 (dk_at dksX7_begins_0 5 rfl rfl)
theorem dX7_begins_6 : decode cX7_begins 6 = .ok (.iconst (-1), 1) := dk_2 (dk_at dksX7_begins_0 6 rfl rfl)
theorem dX7_begins_7 : decode cX7_begins 7 = .ok (.putfield 129, 3) := dk_181 0 129 (dk_at dksX7_begins_0 7 rfl rfl)
theorem dX7_begins_10 : decode cX7_begins 10 = .ok (.aload_n 0, 1) := dk_42 (dk_at dksX7_begins_0 10 rfl rfl)
theorem dX7_begins_11 : decode cX7_begins 11 = .ok (.iconst 0, 1) := dk_3 (dk_at dksX7_begins_0 11 rfl rfl)
theorem dX7_begins_12 : decode cX7_begins 12 = .ok (.putfield 98, 3) := dk_181 0 98 (dk_at dksX7_begins_0 12 rfl rfl)
theorem dX7_begins_15 : decode cX7_begins 15 = .ok (.aload_n 0, 1) := dk_42 (dk_at dksX7_begins_0 15 rfl rfl)
theorem dX7_begins_16 : decode cX7_begins 16 = .ok (.invokevirtual 136, 3) := dk_182 0 136 (dk_at dksX7_begins_0 16 rfl rfl)
theorem dX7_begins_19 : decode cX7_begins 19 = .ok (.return_, 1) := dk_177 (dk_at dksX7_begins_0 19 rfl rfl)
abbrev cX7_next : ByteArray := prog_12_method_13_code
def yX7_next : MethodName := ⟨RX7, "next", "()V"⟩
def dkwX7_next_13 : List UInt8 := [181, 0, 98, 177]
abbrev dktX7_next_13 : List UInt8 := dkwX7_next_13 ++ []
def dkwX7_next_12 : List UInt8 := [180, 0, 98, 51, 16, 59, 160, 0, 7, 6, 167, 0, 4, 7, 181, 0, 115, 42, 89, 180, 0, 98, 4, 96]
abbrev dktX7_next_12 : List UInt8 := dkwX7_next_12 ++ dktX7_next_13
def dkwX7_next_11 : List UInt8 := [181, 0, 108, 42, 89, 180, 0, 98, 4, 96, 181, 0, 98, 167, 255, 193, 42, 42, 180, 0, 23, 42]
abbrev dktX7_next_11 : List UInt8 := dkwX7_next_11 ++ dktX7_next_12
def dkwX7_next_10 : List UInt8 := [167, 0, 23, 16, 10, 42, 180, 0, 108, 104, 42, 180, 0, 23, 42, 180, 0, 98, 51, 96, 16, 48, 100]
abbrev dktX7_next_10 : List UInt8 := dkwX7_next_10 ++ dktX7_next_11
def dkwX7_next_9 : List UInt8 := [16, 48, 16, 57, 182, 0, 101, 153, 0, 87, 42, 42, 180, 0, 108, 18, 124, 164, 0, 8, 18, 125]
abbrev dktX7_next_9 : List UInt8 := dkwX7_next_9 ++ dktX7_next_10
def dkwX7_next_8 : List UInt8 := [180, 0, 98, 16, 48, 16, 57, 182, 0, 101, 153, 0, 74, 42, 5, 181, 0, 115, 42, 42, 180, 0, 98]
abbrev dktX7_next_8 : List UInt8 := dkwX7_next_8 ++ dktX7_next_9
def dkwX7_next_7 : List UInt8 := [181, 0, 111, 42, 89, 180, 0, 98, 4, 96, 181, 0, 98, 132, 1, 1, 167, 255, 176, 167, 0, 122, 42, 42]
abbrev dktX7_next_7 : List UInt8 := dkwX7_next_7 ++ dktX7_next_8
def dkwX7_next_6 : List UInt8 := [180, 0, 98, 51, 133, 97, 20, 0, 122, 101, 181, 0, 111, 27, 16, 11, 164, 0, 10, 42, 20, 0, 118]
abbrev dktX7_next_6 : List UInt8 := dkwX7_next_6 ++ dktX7_next_7
def dkwX7_next_5 : List UInt8 := [16, 11, 164, 0, 9, 20, 0, 118, 167, 0, 26, 20, 0, 120, 42, 180, 0, 111, 105, 42, 180, 0, 23, 42]
abbrev dktX7_next_5 : List UInt8 := dkwX7_next_5 ++ dktX7_next_6
def dkwX7_next_4 : List UInt8 := [4, 181, 0, 115, 3, 60, 42, 42, 180, 0, 98, 16, 97, 16, 122, 182, 0, 101, 153, 0, 71, 42, 27]
abbrev dktX7_next_4 : List UInt8 := dkwX7_next_4 ++ dktX7_next_5
def dkwX7_next_3 : List UInt8 := [42, 3, 181, 0, 115, 167, 0, 230, 42, 42, 180, 0, 98, 16, 97, 16, 122, 182, 0, 101, 153, 0, 96, 42]
abbrev dktX7_next_3 : List UInt8 := dkwX7_next_3 ++ dktX7_next_4
def dkwX7_next_2 : List UInt8 := [181, 0, 105, 42, 3, 181, 0, 108, 42, 9, 181, 0, 111, 42, 180, 0, 98, 42, 180, 0, 91, 160, 0, 11]
abbrev dktX7_next_2 : List UInt8 := dkwX7_next_2 ++ dktX7_next_3
def dkwX7_next_1 : List UInt8 := [182, 0, 101, 153, 0, 16, 42, 89, 180, 0, 98, 4, 96, 181, 0, 98, 167, 255, 216, 42, 42, 180, 0, 98]
abbrev dktX7_next_1 : List UInt8 := dkwX7_next_1 ++ dktX7_next_2
def dkwX7_next_0 : List UInt8 := [42, 42, 180, 0, 98, 16, 32, 16, 32, 182, 0, 101, 154, 0, 18, 42, 42, 180, 0, 98, 16, 10, 16, 10]
abbrev dktX7_next_0 : List UInt8 := dkwX7_next_0 ++ dktX7_next_1
theorem dksX7_next_0 : cX7_next.data.toList.drop 0 = dktX7_next_0 := by decide +kernel
theorem dksX7_next_1 : cX7_next.data.toList.drop 24 = dktX7_next_1 := dk_seg dksX7_next_0 24 rfl rfl
theorem dksX7_next_2 : cX7_next.data.toList.drop 48 = dktX7_next_2 := dk_seg dksX7_next_1 24 rfl rfl
theorem dksX7_next_3 : cX7_next.data.toList.drop 72 = dktX7_next_3 := dk_seg dksX7_next_2 24 rfl rfl
theorem dksX7_next_4 : cX7_next.data.toList.drop 96 = dktX7_next_4 := dk_seg dksX7_next_3 24 rfl rfl
theorem dksX7_next_5 : cX7_next.data.toList.drop 119 = dktX7_next_5 := dk_seg dksX7_next_4 23 rfl rfl
theorem dksX7_next_6 : cX7_next.data.toList.drop 143 = dktX7_next_6 := dk_seg dksX7_next_5 24 rfl rfl
theorem dksX7_next_7 : cX7_next.data.toList.drop 166 = dktX7_next_7 := dk_seg dksX7_next_6 23 rfl rfl
theorem dksX7_next_8 : cX7_next.data.toList.drop 190 = dktX7_next_8 := dk_seg dksX7_next_7 24 rfl rfl
theorem dksX7_next_9 : cX7_next.data.toList.drop 213 = dktX7_next_9 := dk_seg dksX7_next_8 23 rfl rfl
theorem dksX7_next_10 : cX7_next.data.toList.drop 235 = dktX7_next_10 := dk_seg dksX7_next_9 22 rfl rfl
theorem dksX7_next_11 : cX7_next.data.toList.drop 258 = dktX7_next_11 := dk_seg dksX7_next_10 23 rfl rfl
theorem dksX7_next_12 : cX7_next.data.toList.drop 280 = dktX7_next_12 := dk_seg dksX7_next_11 22 rfl rfl
theorem dksX7_next_13 : cX7_next.data.toList.drop 304 = dktX7_next_13 := dk_seg dksX7_next_12 24 rfl rfl
theorem dX7_next_0 : decode cX7_next 0 = .ok (.aload_n 0, 1) := dk_42 (dk_at dksX7_next_0 0 rfl rfl)
theorem dX7_next_1 : decode cX7_next 1 = .ok (.aload_n 0, 1) := dk_42 (dk_at dksX7_next_0 1 rfl rfl)
theorem dX7_next_2 : decode cX7_next 2 = .ok (.getfield 98, 3) := dk_180 0 98 (dk_at dksX7_next_0 2 rfl rfl)
theorem dX7_next_5 : decode cX7_next 5 = .ok (.bipush 32, 2) := dk_16 32 (dk_at dksX7_next_0 5 rfl rfl)
theorem dX7_next_7 : decode cX7_next 7 = .ok (.bipush 32, 2) := dk_16 32 (dk_at dksX7_next_0 7 rfl rfl)
theorem dX7_next_9 : decode cX7_next 9 = .ok (.invokevirtual 101, 3) := dk_182 0 101 (dk_at dksX7_next_0 9 rfl rfl)
theorem dX7_next_12 : decode cX7_next 12 = .ok (.ifCond .ne 18, 3) := dk_154 0 18 (dk_at dksX7_next_0 12 rfl rfl)
theorem dX7_next_15 : decode cX7_next 15 = .ok (.aload_n 0, 1) := dk_42 (dk_at dksX7_next_0 15 rfl rfl)
theorem dX7_next_16 : decode cX7_next 16 = .ok (.aload_n 0, 1) := dk_42 (dk_at dksX7_next_0 16 rfl rfl)
theorem dX7_next_17 : decode cX7_next 17 = .ok (.getfield 98, 3) := dk_180 0 98 (dk_at dksX7_next_0 17 rfl rfl)
theorem dX7_next_20 : decode cX7_next 20 = .ok (.bipush 10, 2) := dk_16 10 (dk_at dksX7_next_0 20 rfl rfl)
theorem dX7_next_22 : decode cX7_next 22 = .ok (.bipush 10, 2) := dk_16 10 (dk_at dksX7_next_0 22 rfl rfl)
theorem dX7_next_24 : decode cX7_next 24 = .ok (.invokevirtual 101, 3) := dk_182 0 101 (dk_at dksX7_next_1 0 rfl rfl)
theorem dX7_next_27 : decode cX7_next 27 = .ok (.ifCond .eq 16, 3) := dk_153 0 16 (dk_at dksX7_next_1 3 rfl rfl)
theorem dX7_next_30 : decode cX7_next 30 = .ok (.aload_n 0, 1) := dk_42 (dk_at dksX7_next_1 6 rfl rfl)
theorem dX7_next_31 : decode cX7_next 31 = .ok (.dup, 1) := dk_89 (dk_at dksX7_next_1 7 rfl rfl)
theorem dX7_next_32 : decode cX7_next 32 = .ok (.getfield 98, 3) := dk_180 0 98 (dk_at dksX7_next_1 8 rfl rfl)
theorem dX7_next_35 : decode cX7_next 35 = .ok (.iconst 1, 1) := dk_4 (dk_at dksX7_next_1 11 rfl rfl)
theorem dX7_next_36 : decode cX7_next 36 = .ok (.iadd, 1) := dk_96 (dk_at dksX7_next_1 12 rfl rfl)
theorem dX7_next_37 : decode cX7_next 37 = .ok (.putfield 98, 3) := dk_181 0 98 (dk_at dksX7_next_1 13 rfl rfl)
theorem dX7_next_40 : decode cX7_next 40 = .ok (.goto (-40), 3) := dk_167 255 216 (dk_at dksX7_next_1 16 rfl rfl)
theorem dX7_next_43 : decode cX7_next 43 = .ok (.aload_n 0, 1) := dk_42 (dk_at dksX7_next_1 19 rfl rfl)
theorem dX7_next_44 : decode cX7_next 44 = .ok (.aload_n 0, 1) := dk_42 (dk_at dksX7_next_1 20 rfl rfl)
theorem dX7_next_45 : decode cX7_next 45 = .ok (.getfield 98, 3) := dk_180 0 98 (dk_at dksX7_next_1 21 rfl rfl)
theorem dX7_next_48 : decode cX7_next 48 = .ok (.putfield 105, 3) := dk_181 0 105 (dk_at dksX7_next_2 0 rfl rfl)
theorem dX7_next_51 : decode cX7_next 51 = .ok (.aload_n 0, 1) := dk_42 (dk_at dksX7_next_2 3 rfl rfl)
theorem dX7_next_52 : decode cX7_next 52 = .ok (.iconst 0, 1) := dk_3 (dk_at dksX7_next_2 4 rfl rfl)
theorem dX7_next_53 : decode cX7_next 53 = .ok (.putfield 108, 3) := dk_181 0 108 (dk_at dksX7_next_2 5 rfl rfl)
theorem dX7_next_56 : decode cX7_next 56 = .ok (.aload_n 0, 1) := dk_42 (dk_at dksX7_next_2 8 rfl rfl)
theorem dX7_next_57 : decode cX7_next 57 = .ok (.lconst 0, 1) := dk_9 (dk_at dksX7_next_2 9 rfl rfl)
theorem dX7_next_58 : decode cX7_next 58 = .ok (.putfield 111, 3) := dk_181 0 111 (dk_at dksX7_next_2 10 rfl rfl)
theorem dX7_next_61 : decode cX7_next 61 = .ok (.aload_n 0, 1) := dk_42 (dk_at dksX7_next_2 13 rfl rfl)
theorem dX7_next_62 : decode cX7_next 62 = .ok (.getfield 98, 3) := dk_180 0 98 (dk_at dksX7_next_2 14 rfl rfl)
theorem dX7_next_65 : decode cX7_next 65 = .ok (.aload_n 0, 1) := dk_42 (dk_at dksX7_next_2 17 rfl rfl)
theorem dX7_next_66 : decode cX7_next 66 = .ok (.getfield 91, 3) := dk_180 0 91 (dk_at dksX7_next_2 18 rfl rfl)
theorem dX7_next_69 : decode cX7_next 69 = .ok (.if_icmp .ne 11, 3) := dk_160 0 11 (dk_at dksX7_next_2 21 rfl rfl)
theorem dX7_next_72 : decode cX7_next 72 = .ok (.aload_n 0, 1) := dk_42 (dk_at dksX7_next_3 0 rfl rfl)
theorem dX7_next_73 : decode cX7_next 73 = .ok (.iconst 0, 1) := dk_3 (dk_at dksX7_next_3 1 rfl rfl)
theorem dX7_next_74 : decode cX7_next 74 = .ok (.putfield 115, 3) := dk_181 0 115 (dk_at dksX7_next_3 2 rfl rfl)
theorem dX7_next_77 : decode cX7_next 77 = .ok (.goto 230, 3) := dk_167 0 230 (dk_at dksX7_next_3 5 rfl rfl)
theorem dX7_next_80 : decode cX7_next 80 = .ok (.aload_n 0, 1) := dk_42 (dk_at dksX7_next_3 8 rfl rfl)
theorem dX7_next_81 : decode cX7_next 81 = .ok (.aload_n 0, 1) := dk_42 (dk_at dksX7_next_3 9 rfl rfl)
theorem dX7_next_82 : decode cX7_next 82 = .ok (.getfield 98, 3) := dk_180 0 98 (dk_at dksX7_next_3 10 rfl rfl)
theorem dX7_next_85 : decode cX7_next 85 = .ok (.bipush 97, 2) := dk_16 97 (dk_at dksX7_next_3 13 rfl rfl)
theorem dX7_next_87 : decode cX7_next 87 = .ok (.bipush 122, 2) := dk_16 122 (dk_at dksX7_next_3 15 rfl rfl)
theorem dX7_next_89 : decode cX7_next 89 = .ok (.invokevirtual 101, 3) := dk_182 0 101 (dk_at dksX7_next_3 17 rfl rfl)
theorem dX7_next_92 : decode cX7_next 92 = .ok (.ifCond .eq 96, 3) := dk_153 0 96 (dk_at dksX7_next_3 20 rfl rfl)
theorem dX7_next_95 : decode cX7_next 95 = .ok (.aload_n 0, 1) := dk_42 (dk_at dksX7_next_3 23 rfl rfl)
theorem dX7_next_96 : decode cX7_next 96 = .ok (.iconst 1, 1) := dk_4 (dk_at dksX7_next_4 0 rfl rfl)
theorem dX7_next_97 : decode cX7_next 97 = .ok (.putfield 115, 3) := dk_181 0 115 (dk_at dksX7_next_4 1 rfl rfl)
theorem dX7_next_100 : decode cX7_next 100 = .ok (.iconst 0, 1) := dk_3 (dk_at dksX7_next_4 4 rfl rfl)
theorem dX7_next_101 : decode cX7_next 101 = .ok (.istore_n 1, 1) := dk_60 (dk_at dksX7_next_4 5 rfl rfl)
theorem dX7_next_102 : decode cX7_next 102 = .ok (.aload_n 0, 1) := dk_42 (dk_at dksX7_next_4 6 rfl rfl)
theorem dX7_next_103 : decode cX7_next 103 = .ok (.aload_n 0, 1) := dk_42 (dk_at dksX7_next_4 7 rfl rfl)
theorem dX7_next_104 : decode cX7_next 104 = .ok (.getfield 98, 3) := dk_180 0 98 (dk_at dksX7_next_4 8 rfl rfl)
theorem dX7_next_107 : decode cX7_next 107 = .ok (.bipush 97, 2) := dk_16 97 (dk_at dksX7_next_4 11 rfl rfl)
theorem dX7_next_109 : decode cX7_next 109 = .ok (.bipush 122, 2) := dk_16 122 (dk_at dksX7_next_4 13 rfl rfl)
theorem dX7_next_111 : decode cX7_next 111 = .ok (.invokevirtual 101, 3) := dk_182 0 101 (dk_at dksX7_next_4 15 rfl rfl)
theorem dX7_next_114 : decode cX7_next 114 = .ok (.ifCond .eq 71, 3) := dk_153 0 71 (dk_at dksX7_next_4 18 rfl rfl)
theorem dX7_next_117 : decode cX7_next 117 = .ok (.aload_n 0, 1) := dk_42 (dk_at dksX7_next_4 21 rfl rfl)
theorem dX7_next_118 : decode cX7_next 118 = .ok (.iload_n 1, 1) := dk_27 (dk_at dksX7_next_4 22 rfl rfl)
theorem dX7_next_119 : decode cX7_next 119 = .ok (.bipush 11, 2) := dk_16 11 (dk_at dksX7_next_5 0 rfl rfl)
theorem dX7_next_121 : decode cX7_next 121 = .ok (.if_icmp .le 9, 3) := dk_164 0 9 (dk_at dksX7_next_5 2 rfl rfl)
theorem dX7_next_124 : decode cX7_next 124 = .ok (.ldc2_w 118, 3) := dk_20 0 118 (dk_at dksX7_next_5 5 rfl rfl)
theorem dX7_next_127 : decode cX7_next 127 = .ok (.goto 26, 3) := dk_167 0 26 (dk_at dksX7_next_5 8 rfl rfl)
theorem dX7_next_130 : decode cX7_next 130 = .ok (.ldc2_w 120, 3) := dk_20 0 120 (dk_at dksX7_next_5 11 rfl rfl)
theorem dX7_next_133 : decode cX7_next 133 = .ok (.aload_n 0, 1) := dk_42 (dk_at dksX7_next_5 14 rfl rfl)
theorem dX7_next_134 : decode cX7_next 134 = .ok (.getfield 111, 3) := dk_180 0 111 (dk_at dksX7_next_5 15 rfl rfl)
theorem dX7_next_137 : decode cX7_next 137 = .ok (.lmul, 1) := dk_105 (dk_at dksX7_next_5 18 rfl rfl)
theorem dX7_next_138 : decode cX7_next 138 = .ok (.aload_n 0, 1) := dk_42 (dk_at dksX7_next_5 19 rfl rfl)
theorem dX7_next_139 : decode cX7_next 139 = .ok (.getfield 23, 3) := dk_180 0 23 (dk_at dksX7_next_5 20 rfl rfl)
theorem dX7_next_142 : decode cX7_next 142 = .ok (.aload_n 0, 1) := dk_42 (dk_at dksX7_next_5 23 rfl rfl)
theorem dX7_next_143 : decode cX7_next 143 = .ok (.getfield 98, 3) := dk_180 0 98 (dk_at dksX7_next_6 0 rfl rfl)
theorem dX7_next_146 : decode cX7_next 146 = .ok (.baload, 1) := dk_51 (dk_at dksX7_next_6 3 rfl rfl)
theorem dX7_next_147 : decode cX7_next 147 = .ok (.i2l, 1) := dk_133 (dk_at dksX7_next_6 4 rfl rfl)
theorem dX7_next_148 : decode cX7_next 148 = .ok (.ladd, 1) := dk_97 (dk_at dksX7_next_6 5 rfl rfl)
theorem dX7_next_149 : decode cX7_next 149 = .ok (.ldc2_w 122, 3) := dk_20 0 122 (dk_at dksX7_next_6 6 rfl rfl)
theorem dX7_next_152 : decode cX7_next 152 = .ok (.lsub, 1) := dk_101 (dk_at dksX7_next_6 9 rfl rfl)
theorem dX7_next_153 : decode cX7_next 153 = .ok (.putfield 111, 3) := dk_181 0 111 (dk_at dksX7_next_6 10 rfl rfl)
theorem dX7_next_156 : decode cX7_next 156 = .ok (.iload_n 1, 1) := dk_27 (dk_at dksX7_next_6 13 rfl rfl)
theorem dX7_next_157 : decode cX7_next 157 = .ok (.bipush 11, 2) := dk_16 11 (dk_at dksX7_next_6 14 rfl rfl)
theorem dX7_next_159 : decode cX7_next 159 = .ok (.if_icmp .le 10, 3) := dk_164 0 10 (dk_at dksX7_next_6 16 rfl rfl)
theorem dX7_next_162 : decode cX7_next 162 = .ok (.aload_n 0, 1) := dk_42 (dk_at dksX7_next_6 19 rfl rfl)
theorem dX7_next_163 : decode cX7_next 163 = .ok (.ldc2_w 118, 3) := dk_20 0 118 (dk_at dksX7_next_6 20 rfl rfl)
theorem dX7_next_166 : decode cX7_next 166 = .ok (.putfield 111, 3) := dk_181 0 111 (dk_at dksX7_next_7 0 rfl rfl)
theorem dX7_next_169 : decode cX7_next 169 = .ok (.aload_n 0, 1) := dk_42 (dk_at dksX7_next_7 3 rfl rfl)
theorem dX7_next_170 : decode cX7_next 170 = .ok (.dup, 1) := dk_89 (dk_at dksX7_next_7 4 rfl rfl)
theorem dX7_next_171 : decode cX7_next 171 = .ok (.getfield 98, 3) := dk_180 0 98 (dk_at dksX7_next_7 5 rfl rfl)
theorem dX7_next_174 : decode cX7_next 174 = .ok (.iconst 1, 1) := dk_4 (dk_at dksX7_next_7 8 rfl rfl)
theorem dX7_next_175 : decode cX7_next 175 = .ok (.iadd, 1) := dk_96 (dk_at dksX7_next_7 9 rfl rfl)
theorem dX7_next_176 : decode cX7_next 176 = .ok (.putfield 98, 3) := dk_181 0 98 (dk_at dksX7_next_7 10 rfl rfl)
theorem dX7_next_179 : decode cX7_next 179 = .ok (.iinc 1 1, 3) := dk_132 1 1 (dk_at dksX7_next_7 13 rfl rfl)
theorem dX7_next_182 : decode cX7_next 182 = .ok (.goto (-80), 3) := dk_167 255 176 (dk_at dksX7_next_7 16 rfl rfl)
theorem dX7_next_185 : decode cX7_next 185 = .ok (.goto 122, 3) := dk_167 0 122 (dk_at dksX7_next_7 19 rfl rfl)
theorem dX7_next_188 : decode cX7_next 188 = .ok (.aload_n 0, 1) := dk_42 (dk_at dksX7_next_7 22 rfl rfl)
theorem dX7_next_189 : decode cX7_next 189 = .ok (.aload_n 0, 1) := dk_42 (dk_at dksX7_next_7 23 rfl rfl)
theorem dX7_next_190 : decode cX7_next 190 = .ok (.getfield 98, 3) := dk_180 0 98 (dk_at dksX7_next_8 0 rfl rfl)
theorem dX7_next_193 : decode cX7_next 193 = .ok (.bipush 48, 2) := dk_16 48 (dk_at dksX7_next_8 3 rfl rfl)
theorem dX7_next_195 : decode cX7_next 195 = .ok (.bipush 57, 2) := dk_16 57 (dk_at dksX7_next_8 5 rfl rfl)
theorem dX7_next_197 : decode cX7_next 197 = .ok (.invokevirtual 101, 3) := dk_182 0 101 (dk_at dksX7_next_8 7 rfl rfl)
theorem dX7_next_200 : decode cX7_next 200 = .ok (.ifCond .eq 74, 3) := dk_153 0 74 (dk_at dksX7_next_8 10 rfl rfl)
theorem dX7_next_203 : decode cX7_next 203 = .ok (.aload_n 0, 1) := dk_42 (dk_at dksX7_next_8 13 rfl rfl)
theorem dX7_next_204 : decode cX7_next 204 = .ok (.iconst 2, 1) := dk_5 (dk_at dksX7_next_8 14 rfl rfl)
theorem dX7_next_205 : decode cX7_next 205 = .ok (.putfield 115, 3) := dk_181 0 115 (dk_at dksX7_next_8 15 rfl rfl)
theorem dX7_next_208 : decode cX7_next 208 = .ok (.aload_n 0, 1) := dk_42 (dk_at dksX7_next_8 18 rfl rfl)
theorem dX7_next_209 : decode cX7_next 209 = .ok (.aload_n 0, 1) := dk_42 (dk_at dksX7_next_8 19 rfl rfl)
theorem dX7_next_210 : decode cX7_next 210 = .ok (.getfield 98, 3) := dk_180 0 98 (dk_at dksX7_next_8 20 rfl rfl)
theorem dX7_next_213 : decode cX7_next 213 = .ok (.bipush 48, 2) := dk_16 48 (dk_at dksX7_next_9 0 rfl rfl)
theorem dX7_next_215 : decode cX7_next 215 = .ok (.bipush 57, 2) := dk_16 57 (dk_at dksX7_next_9 2 rfl rfl)
theorem dX7_next_217 : decode cX7_next 217 = .ok (.invokevirtual 101, 3) := dk_182 0 101 (dk_at dksX7_next_9 4 rfl rfl)
theorem dX7_next_220 : decode cX7_next 220 = .ok (.ifCond .eq 87, 3) := dk_153 0 87 (dk_at dksX7_next_9 7 rfl rfl)
theorem dX7_next_223 : decode cX7_next 223 = .ok (.aload_n 0, 1) := dk_42 (dk_at dksX7_next_9 10 rfl rfl)
theorem dX7_next_224 : decode cX7_next 224 = .ok (.aload_n 0, 1) := dk_42 (dk_at dksX7_next_9 11 rfl rfl)
theorem dX7_next_225 : decode cX7_next 225 = .ok (.getfield 108, 3) := dk_180 0 108 (dk_at dksX7_next_9 12 rfl rfl)
theorem dX7_next_228 : decode cX7_next 228 = .ok (.ldc 124, 2) := dk_18 124 (dk_at dksX7_next_9 15 rfl rfl)
theorem dX7_next_230 : decode cX7_next 230 = .ok (.if_icmp .le 8, 3) := dk_164 0 8 (dk_at dksX7_next_9 17 rfl rfl)
theorem dX7_next_233 : decode cX7_next 233 = .ok (.ldc 125, 2) := dk_18 125 (dk_at dksX7_next_9 20 rfl rfl)
theorem dX7_next_235 : decode cX7_next 235 = .ok (.goto 23, 3) := dk_167 0 23 (dk_at dksX7_next_10 0 rfl rfl)
theorem dX7_next_238 : decode cX7_next 238 = .ok (.bipush 10, 2) := dk_16 10 (dk_at dksX7_next_10 3 rfl rfl)
theorem dX7_next_240 : decode cX7_next 240 = .ok (.aload_n 0, 1) := dk_42 (dk_at dksX7_next_10 5 rfl rfl)
theorem dX7_next_241 : decode cX7_next 241 = .ok (.getfield 108, 3) := dk_180 0 108 (dk_at dksX7_next_10 6 rfl rfl)
theorem dX7_next_244 : decode cX7_next 244 = .ok (.imul, 1) := dk_104 (dk_at dksX7_next_10 9 rfl rfl)
theorem dX7_next_245 : decode cX7_next 245 = .ok (.aload_n 0, 1) := dk_42 (dk_at dksX7_next_10 10 rfl rfl)
theorem dX7_next_246 : decode cX7_next 246 = .ok (.getfield 23, 3) := dk_180 0 23 (dk_at dksX7_next_10 11 rfl rfl)
theorem dX7_next_249 : decode cX7_next 249 = .ok (.aload_n 0, 1) := dk_42 (dk_at dksX7_next_10 14 rfl rfl)
theorem dX7_next_250 : decode cX7_next 250 = .ok (.getfield 98, 3) := dk_180 0 98 (dk_at dksX7_next_10 15 rfl rfl)
theorem dX7_next_253 : decode cX7_next 253 = .ok (.baload, 1) := dk_51 (dk_at dksX7_next_10 18 rfl rfl)
theorem dX7_next_254 : decode cX7_next 254 = .ok (.iadd, 1) := dk_96 (dk_at dksX7_next_10 19 rfl rfl)
theorem dX7_next_255 : decode cX7_next 255 = .ok (.bipush 48, 2) := dk_16 48 (dk_at dksX7_next_10 20 rfl rfl)
theorem dX7_next_257 : decode cX7_next 257 = .ok (.isub, 1) := dk_100 (dk_at dksX7_next_10 22 rfl rfl)
theorem dX7_next_258 : decode cX7_next 258 = .ok (.putfield 108, 3) := dk_181 0 108 (dk_at dksX7_next_11 0 rfl rfl)
theorem dX7_next_261 : decode cX7_next 261 = .ok (.aload_n 0, 1) := dk_42 (dk_at dksX7_next_11 3 rfl rfl)
theorem dX7_next_262 : decode cX7_next 262 = .ok (.dup, 1) := dk_89 (dk_at dksX7_next_11 4 rfl rfl)
theorem dX7_next_263 : decode cX7_next 263 = .ok (.getfield 98, 3) := dk_180 0 98 (dk_at dksX7_next_11 5 rfl rfl)
theorem dX7_next_266 : decode cX7_next 266 = .ok (.iconst 1, 1) := dk_4 (dk_at dksX7_next_11 8 rfl rfl)
theorem dX7_next_267 : decode cX7_next 267 = .ok (.iadd, 1) := dk_96 (dk_at dksX7_next_11 9 rfl rfl)
theorem dX7_next_268 : decode cX7_next 268 = .ok (.putfield 98, 3) := dk_181 0 98 (dk_at dksX7_next_11 10 rfl rfl)
theorem dX7_next_271 : decode cX7_next 271 = .ok (.goto (-63), 3) := dk_167 255 193 (dk_at dksX7_next_11 13 rfl rfl)
theorem dX7_next_274 : decode cX7_next 274 = .ok (.aload_n 0, 1) := dk_42 (dk_at dksX7_next_11 16 rfl rfl)
theorem dX7_next_275 : decode cX7_next 275 = .ok (.aload_n 0, 1) := dk_42 (dk_at dksX7_next_11 17 rfl rfl)
theorem dX7_next_276 : decode cX7_next 276 = .ok (.getfield 23, 3) := dk_180 0 23 (dk_at dksX7_next_11 18 rfl rfl)
theorem dX7_next_279 : decode cX7_next 279 = .ok (.aload_n 0, 1) := dk_42 (dk_at dksX7_next_11 21 rfl rfl)
theorem dX7_next_280 : decode cX7_next 280 = .ok (.getfield 98, 3) := dk_180 0 98 (dk_at dksX7_next_12 0 rfl rfl)
theorem dX7_next_283 : decode cX7_next 283 = .ok (.baload, 1) := dk_51 (dk_at dksX7_next_12 3 rfl rfl)
theorem dX7_next_284 : decode cX7_next 284 = .ok (.bipush 59, 2) := dk_16 59 (dk_at dksX7_next_12 4 rfl rfl)
theorem dX7_next_286 : decode cX7_next 286 = .ok (.if_icmp .ne 7, 3) := dk_160 0 7 (dk_at dksX7_next_12 6 rfl rfl)
theorem dX7_next_289 : decode cX7_next 289 = .ok (.iconst 3, 1) := dk_6 (dk_at dksX7_next_12 9 rfl rfl)
theorem dX7_next_290 : decode cX7_next 290 = .ok (.goto 4, 3) := dk_167 0 4 (dk_at dksX7_next_12 10 rfl rfl)
theorem dX7_next_293 : decode cX7_next 293 = .ok (.iconst 4, 1) := dk_7 (dk_at dksX7_next_12 13 rfl rfl)
theorem dX7_next_294 : decode cX7_next 294 = .ok (.putfield 115, 3) := dk_181 0 115 (dk_at dksX7_next_12 14 rfl rfl)
theorem dX7_next_297 : decode cX7_next 297 = .ok (.aload_n 0, 1) := dk_42 (dk_at dksX7_next_12 17 rfl rfl)
theorem dX7_next_298 : decode cX7_next 298 = .ok (.dup, 1) := dk_89 (dk_at dksX7_next_12 18 rfl rfl)
theorem dX7_next_299 : decode cX7_next 299 = .ok (.getfield 98, 3) := dk_180 0 98 (dk_at dksX7_next_12 19 rfl rfl)
theorem dX7_next_302 : decode cX7_next 302 = .ok (.iconst 1, 1) := dk_4 (dk_at dksX7_next_12 22 rfl rfl)
theorem dX7_next_303 : decode cX7_next 303 = .ok (.iadd, 1) := dk_96 (dk_at dksX7_next_12 23 rfl rfl)
theorem dX7_next_304 : decode cX7_next 304 = .ok (.putfield 98, 3) := dk_181 0 98 (dk_at dksX7_next_13 0 rfl rfl)
theorem dX7_next_307 : decode cX7_next 307 = .ok (.return_, 1) := dk_177 (dk_at dksX7_next_13 3 rfl rfl)
abbrev cX7_isByte : ByteArray := prog_12_method_12_code
def yX7_isByte : MethodName := ⟨RX7, "isByte", "(III)Z"⟩
def dkwX7_isByte_1 : List UInt8 := [29, 163, 0, 7, 4, 167, 0, 4, 3, 172]
abbrev dktX7_isByte_1 : List UInt8 := dkwX7_isByte_1 ++ []
def dkwX7_isByte_0 : List UInt8 := [27, 42, 180, 0, 91, 162, 0, 27, 42, 180, 0, 23, 27, 51, 28, 161, 0, 17, 42, 180, 0, 23, 27, 51]
abbrev dktX7_isByte_0 : List UInt8 := dkwX7_isByte_0 ++ dktX7_isByte_1
theorem dksX7_isByte_0 : cX7_isByte.data.toList.drop 0 = dktX7_isByte_0 := by decide +kernel
theorem dksX7_isByte_1 : cX7_isByte.data.toList.drop 24 = dktX7_isByte_1 := dk_seg dksX7_isByte_0 24 rfl rfl
theorem dX7_isByte_0 : decode cX7_isByte 0 = .ok (.iload_n 1, 1) := dk_27 (dk_at dksX7_isByte_0 0 rfl rfl)
theorem dX7_isByte_1 : decode cX7_isByte 1 = .ok (.aload_n 0, 1) := dk_42 (dk_at dksX7_isByte_0 1 rfl rfl)
theorem dX7_isByte_2 : decode cX7_isByte 2 = .ok (.getfield 91, 3) := dk_180 0 91 (dk_at dksX7_isByte_0 2 rfl rfl)
theorem dX7_isByte_5 : decode cX7_isByte 5 = .ok (.if_icmp .ge 27, 3) := dk_162 0 27 (dk_at dksX7_isByte_0 5 rfl rfl)
theorem dX7_isByte_8 : decode cX7_isByte 8 = .ok (.aload_n 0, 1) := dk_42 (dk_at dksX7_isByte_0 8 rfl rfl)
theorem dX7_isByte_9 : decode cX7_isByte 9 = .ok (.getfield 23, 3) := dk_180 0 23 (dk_at dksX7_isByte_0 9 rfl rfl)
theorem dX7_isByte_12 : decode cX7_isByte 12 = .ok (.iload_n 1, 1) := dk_27 (dk_at dksX7_isByte_0 12 rfl rfl)
theorem dX7_isByte_13 : decode cX7_isByte 13 = .ok (.baload, 1) := dk_51 (dk_at dksX7_isByte_0 13 rfl rfl)
theorem dX7_isByte_14 : decode cX7_isByte 14 = .ok (.iload_n 2, 1) := dk_28 (dk_at dksX7_isByte_0 14 rfl rfl)
theorem dX7_isByte_15 : decode cX7_isByte 15 = .ok (.if_icmp .lt 17, 3) := dk_161 0 17 (dk_at dksX7_isByte_0 15 rfl rfl)
theorem dX7_isByte_18 : decode cX7_isByte 18 = .ok (.aload_n 0, 1) := dk_42 (dk_at dksX7_isByte_0 18 rfl rfl)
theorem dX7_isByte_19 : decode cX7_isByte 19 = .ok (.getfield 23, 3) := dk_180 0 23 (dk_at dksX7_isByte_0 19 rfl rfl)
theorem dX7_isByte_22 : decode cX7_isByte 22 = .ok (.iload_n 1, 1) := dk_27 (dk_at dksX7_isByte_0 22 rfl rfl)
theorem dX7_isByte_23 : decode cX7_isByte 23 = .ok (.baload, 1) := dk_51 (dk_at dksX7_isByte_0 23 rfl rfl)
theorem dX7_isByte_24 : decode cX7_isByte 24 = .ok (.iload_n 3, 1) := dk_29 (dk_at dksX7_isByte_1 0 rfl rfl)
theorem dX7_isByte_25 : decode cX7_isByte 25 = .ok (.if_icmp .gt 7, 3) := dk_163 0 7 (dk_at dksX7_isByte_1 1 rfl rfl)
theorem dX7_isByte_28 : decode cX7_isByte 28 = .ok (.iconst 1, 1) := dk_4 (dk_at dksX7_isByte_1 4 rfl rfl)
theorem dX7_isByte_29 : decode cX7_isByte 29 = .ok (.goto 4, 3) := dk_167 0 4 (dk_at dksX7_isByte_1 5 rfl rfl)
theorem dX7_isByte_32 : decode cX7_isByte 32 = .ok (.iconst 0, 1) := dk_3 (dk_at dksX7_isByte_1 8 rfl rfl)
theorem dX7_isByte_33 : decode cX7_isByte 33 = .ok (.ireturn, 1) := dk_172 (dk_at dksX7_isByte_1 9 rfl rfl)
abbrev cX7_isGood : ByteArray := prog_12_method_14_code
def yX7_isGood : MethodName := ⟨RX7, "isGood", "()Z"⟩
def dkwX7_isGood_0 : List UInt8 := [42, 180, 0, 126, 154, 0, 7, 4, 167, 0, 4, 3, 172]
abbrev dktX7_isGood_0 : List UInt8 := dkwX7_isGood_0 ++ []
theorem dksX7_isGood_0 : cX7_isGood.data.toList.drop 0 = dktX7_isGood_0 := by decide +kernel
theorem dX7_isGood_0 : decode cX7_isGood 0 = .ok (.aload_n 0, 1) := dk_42 (dk_at dksX7_isGood_0 0 rfl rfl)
theorem dX7_isGood_1 : decode cX7_isGood 1 = .ok (.getfield 126, 3) := dk_180 0 126 (dk_at dksX7_isGood_0 1 rfl rfl)
theorem dX7_isGood_4 : decode cX7_isGood 4 = .ok (.ifCond .ne 7, 3) := dk_154 0 7 (dk_at dksX7_isGood_0 4 rfl rfl)
theorem dX7_isGood_7 : decode cX7_isGood 7 = .ok (.iconst 1, 1) := dk_4 (dk_at dksX7_isGood_0 7 rfl rfl)
theorem dX7_isGood_8 : decode cX7_isGood 8 = .ok (.goto 4, 3) := dk_167 0 4 (dk_at dksX7_isGood_0 8 rfl rfl)
theorem dX7_isGood_11 : decode cX7_isGood 11 = .ok (.iconst 0, 1) := dk_3 (dk_at dksX7_isGood_0 11 rfl rfl)
theorem dX7_isGood_12 : decode cX7_isGood 12 = .ok (.ireturn, 1) := dk_172 (dk_at dksX7_isGood_0 12 rfl rfl)
abbrev cX7_asks : ByteArray := prog_12_method_18_code
def yX7_asks : MethodName := ⟨RX7, "asks", "(J)V"⟩
def dkwX7_asks_0 : List UInt8 := [42, 31, 182, 0, 139, 154, 0, 8, 42, 4, 182, 0, 142, 177]
abbrev dktX7_asks_0 : List UInt8 := dkwX7_asks_0 ++ []
theorem dksX7_asks_0 : cX7_asks.data.toList.drop 0 = dktX7_asks_0 := by decide +kernel
theorem dX7_asks_0 : decode cX7_asks 0 = .ok (.aload_n 0, 1) := dk_42 (dk_at dksX7_asks_0 0 rfl rfl)
theorem dX7_asks_1 : decode cX7_asks 1 = .ok (.lload_n 1, 1) := dk_31 (dk_at dksX7_asks_0 1 rfl rfl)
theorem dX7_asks_2 : decode cX7_asks 2 = .ok (.invokevirtual 139, 3) := dk_182 0 139 (dk_at dksX7_asks_0 2 rfl rfl)
theorem dX7_asks_5 : decode cX7_asks 5 = .ok (.ifCond .ne 8, 3) := dk_154 0 8 (dk_at dksX7_asks_0 5 rfl rfl)
theorem dX7_asks_8 : decode cX7_asks 8 = .ok (.aload_n 0, 1) := dk_42 (dk_at dksX7_asks_0 8 rfl rfl)
theorem dX7_asks_9 : decode cX7_asks 9 = .ok (.iconst 1, 1) := dk_4 (dk_at dksX7_asks_0 9 rfl rfl)
theorem dX7_asks_10 : decode cX7_asks 10 = .ok (.invokevirtual 142, 3) := dk_182 0 142 (dk_at dksX7_asks_0 10 rfl rfl)
theorem dX7_asks_13 : decode cX7_asks 13 = .ok (.return_, 1) := dk_177 (dk_at dksX7_asks_0 13 rfl rfl)
abbrev cX7_takesWord : ByteArray := prog_12_method_17_code
def yX7_takesWord : MethodName := ⟨RX7, "takesWord", "(J)Z"⟩
def dkwX7_takesWord_0 : List UInt8 := [42, 31, 182, 0, 132, 154, 0, 5, 3, 172, 42, 182, 0, 136, 4, 172]
abbrev dktX7_takesWord_0 : List UInt8 := dkwX7_takesWord_0 ++ []
theorem dksX7_takesWord_0 : cX7_takesWord.data.toList.drop 0 = dktX7_takesWord_0 := by decide +kernel
theorem dX7_takesWord_0 : decode cX7_takesWord 0 = .ok (.aload_n 0, 1) := dk_42 (dk_at dksX7_takesWord_0 0 rfl rfl)
theorem dX7_takesWord_1 : decode cX7_takesWord 1 = .ok (.lload_n 1, 1) := dk_31 (dk_at dksX7_takesWord_0 1 rfl rfl)
theorem dX7_takesWord_2 : decode cX7_takesWord 2 = .ok (.invokevirtual 132, 3) := dk_182 0 132 (dk_at dksX7_takesWord_0 2 rfl rfl)
theorem dX7_takesWord_5 : decode cX7_takesWord 5 = .ok (.ifCond .ne 5, 3) := dk_154 0 5 (dk_at dksX7_takesWord_0 5 rfl rfl)
theorem dX7_takesWord_8 : decode cX7_takesWord 8 = .ok (.iconst 0, 1) := dk_3 (dk_at dksX7_takesWord_0 8 rfl rfl)
theorem dX7_takesWord_9 : decode cX7_takesWord 9 = .ok (.ireturn, 1) := dk_172 (dk_at dksX7_takesWord_0 9 rfl rfl)
theorem dX7_takesWord_10 : decode cX7_takesWord 10 = .ok (.aload_n 0, 1) := dk_42 (dk_at dksX7_takesWord_0 10 rfl rfl)
theorem dX7_takesWord_11 : decode cX7_takesWord 11 = .ok (.invokevirtual 136, 3) := dk_182 0 136 (dk_at dksX7_takesWord_0 11 rfl rfl)
theorem dX7_takesWord_14 : decode cX7_takesWord 14 = .ok (.iconst 1, 1) := dk_4 (dk_at dksX7_takesWord_0 14 rfl rfl)
theorem dX7_takesWord_15 : decode cX7_takesWord 15 = .ok (.ireturn, 1) := dk_172 (dk_at dksX7_takesWord_0 15 rfl rfl)
abbrev cX7_is : ByteArray := prog_12_method_16_code
def yX7_is : MethodName := ⟨RX7, "is", "(J)Z"⟩
def dkwX7_is_1 : List UInt8 := [4, 167, 0, 4, 3, 172]
abbrev dktX7_is_1 : List UInt8 := dkwX7_is_1 ++ []
def dkwX7_is_0 : List UInt8 := [42, 180, 0, 126, 154, 0, 24, 42, 180, 0, 115, 4, 160, 0, 16, 42, 180, 0, 111, 31, 148, 154, 0, 7]
abbrev dktX7_is_0 : List UInt8 := dkwX7_is_0 ++ dktX7_is_1
theorem dksX7_is_0 : cX7_is.data.toList.drop 0 = dktX7_is_0 := by decide +kernel
theorem dksX7_is_1 : cX7_is.data.toList.drop 24 = dktX7_is_1 := dk_seg dksX7_is_0 24 rfl rfl
theorem dX7_is_0 : decode cX7_is 0 = .ok (.aload_n 0, 1) := dk_42 (dk_at dksX7_is_0 0 rfl rfl)
theorem dX7_is_1 : decode cX7_is 1 = .ok (.getfield 126, 3) := dk_180 0 126 (dk_at dksX7_is_0 1 rfl rfl)
theorem dX7_is_4 : decode cX7_is 4 = .ok (.ifCond .ne 24, 3) := dk_154 0 24 (dk_at dksX7_is_0 4 rfl rfl)
theorem dX7_is_7 : decode cX7_is 7 = .ok (.aload_n 0, 1) := dk_42 (dk_at dksX7_is_0 7 rfl rfl)
theorem dX7_is_8 : decode cX7_is 8 = .ok (.getfield 115, 3) := dk_180 0 115 (dk_at dksX7_is_0 8 rfl rfl)
theorem dX7_is_11 : decode cX7_is 11 = .ok (.iconst 1, 1) := dk_4 (dk_at dksX7_is_0 11 rfl rfl)
theorem dX7_is_12 : decode cX7_is 12 = .ok (.if_icmp .ne 16, 3) := dk_160 0 16 (dk_at dksX7_is_0 12 rfl rfl)
theorem dX7_is_15 : decode cX7_is 15 = .ok (.aload_n 0, 1) := dk_42 (dk_at dksX7_is_0 15 rfl rfl)
theorem dX7_is_16 : decode cX7_is 16 = .ok (.getfield 111, 3) := dk_180 0 111 (dk_at dksX7_is_0 16 rfl rfl)
theorem dX7_is_19 : decode cX7_is 19 = .ok (.lload_n 1, 1) := dk_31 (dk_at dksX7_is_0 19 rfl rfl)
theorem dX7_is_20 : decode cX7_is 20 = .ok (.lcmp, 1) := dk_148 (dk_at dksX7_is_0 20 rfl rfl)
theorem dX7_is_21 : decode cX7_is 21 = .ok (.ifCond .ne 7, 3) := dk_154 0 7 (dk_at dksX7_is_0 21 rfl rfl)
theorem dX7_is_24 : decode cX7_is 24 = .ok (.iconst 1, 1) := dk_4 (dk_at dksX7_is_1 0 rfl rfl)
theorem dX7_is_25 : decode cX7_is 25 = .ok (.goto 4, 3) := dk_167 0 4 (dk_at dksX7_is_1 1 rfl rfl)
theorem dX7_is_28 : decode cX7_is 28 = .ok (.iconst 0, 1) := dk_3 (dk_at dksX7_is_1 4 rfl rfl)
theorem dX7_is_29 : decode cX7_is 29 = .ok (.ireturn, 1) := dk_172 (dk_at dksX7_is_1 5 rfl rfl)
abbrev cX7_fails : ByteArray := prog_12_method_15_code
def yX7_fails : MethodName := ⟨RX7, "fails", "(I)V"⟩
def dkwX7_fails_0 : List UInt8 := [42, 180, 0, 126, 153, 0, 4, 177, 42, 27, 181, 0, 126, 42, 42, 180, 0, 105, 181, 0, 129, 177]
abbrev dktX7_fails_0 : List UInt8 := dkwX7_fails_0 ++ []
theorem dksX7_fails_0 : cX7_fails.data.toList.drop 0 = dktX7_fails_0 := by decide +kernel
theorem dX7_fails_0 : decode cX7_fails 0 = .ok (.aload_n 0, 1) := dk_42 (dk_at dksX7_fails_0 0 rfl rfl)
theorem dX7_fails_1 : decode cX7_fails 1 = .ok (.getfield 126, 3) := dk_180 0 126 (dk_at dksX7_fails_0 1 rfl rfl)
theorem dX7_fails_4 : decode cX7_fails 4 = .ok (.ifCond .eq 4, 3) := dk_153 0 4 (dk_at dksX7_fails_0 4 rfl rfl)
theorem dX7_fails_7 : decode cX7_fails 7 = .ok (.return_, 1) := dk_177 (dk_at dksX7_fails_0 7 rfl rfl)
theorem dX7_fails_8 : decode cX7_fails 8 = .ok (.aload_n 0, 1) := dk_42 (dk_at dksX7_fails_0 8 rfl rfl)
theorem dX7_fails_9 : decode cX7_fails 9 = .ok (.iload_n 1, 1) := dk_27 (dk_at dksX7_fails_0 9 rfl rfl)
theorem dX7_fails_10 : decode cX7_fails 10 = .ok (.putfield 126, 3) := dk_181 0 126 (dk_at dksX7_fails_0 10 rfl rfl)
theorem dX7_fails_13 : decode cX7_fails 13 = .ok (.aload_n 0, 1) := dk_42 (dk_at dksX7_fails_0 13 rfl rfl)
theorem dX7_fails_14 : decode cX7_fails 14 = .ok (.aload_n 0, 1) := dk_42 (dk_at dksX7_fails_0 14 rfl rfl)
theorem dX7_fails_15 : decode cX7_fails 15 = .ok (.getfield 105, 3) := dk_180 0 105 (dk_at dksX7_fails_0 15 rfl rfl)
theorem dX7_fails_18 : decode cX7_fails 18 = .ok (.putfield 129, 3) := dk_181 0 129 (dk_at dksX7_fails_0 18 rfl rfl)
theorem dX7_fails_21 : decode cX7_fails 21 = .ok (.return_, 1) := dk_177 (dk_at dksX7_fails_0 21 rfl rfl)
abbrev cX7_number : ByteArray := prog_12_method_20_code
def yX7_number : MethodName := ⟨RX7, "number", "(JII)I"⟩
def dkwX7_number_0 : List UInt8 := [42, 31, 182, 0, 145, 42, 29, 21, 4, 182, 0, 149, 172]
abbrev dktX7_number_0 : List UInt8 := dkwX7_number_0 ++ []
theorem dksX7_number_0 : cX7_number.data.toList.drop 0 = dktX7_number_0 := by decide +kernel
theorem dX7_number_0 : decode cX7_number 0 = .ok (.aload_n 0, 1) := dk_42 (dk_at dksX7_number_0 0 rfl rfl)
theorem dX7_number_1 : decode cX7_number 1 = .ok (.lload_n 1, 1) := dk_31 (dk_at dksX7_number_0 1 rfl rfl)
theorem dX7_number_2 : decode cX7_number 2 = .ok (.invokevirtual 145, 3) := dk_182 0 145 (dk_at dksX7_number_0 2 rfl rfl)
theorem dX7_number_5 : decode cX7_number 5 = .ok (.aload_n 0, 1) := dk_42 (dk_at dksX7_number_0 5 rfl rfl)
theorem dX7_number_6 : decode cX7_number 6 = .ok (.iload_n 3, 1) := dk_29 (dk_at dksX7_number_0 6 rfl rfl)
theorem dX7_number_7 : decode cX7_number 7 = .ok (.iload 4, 2) := dk_21 4 (dk_at dksX7_number_0 7 rfl rfl)
theorem dX7_number_9 : decode cX7_number 9 = .ok (.invokevirtual 149, 3) := dk_182 0 149 (dk_at dksX7_number_0 9 rfl rfl)
theorem dX7_number_12 : decode cX7_number 12 = .ok (.ireturn, 1) := dk_172 (dk_at dksX7_number_0 12 rfl rfl)
abbrev cX7_number_2 : ByteArray := prog_12_method_19_code
def yX7_number_2 : MethodName := ⟨RX7, "number", "(II)I"⟩
def dkwX7_number_2_2 : List UInt8 := [180, 0, 108, 62, 42, 182, 0, 136, 29, 172]
abbrev dktX7_number_2_2 : List UInt8 := dkwX7_number_2_2 ++ []
def dkwX7_number_2_1 : List UInt8 := [42, 180, 0, 108, 133, 27, 133, 28, 133, 184, 0, 79, 154, 0, 10, 42, 5, 182, 0, 142, 27, 172, 42]
abbrev dktX7_number_2_1 : List UInt8 := dkwX7_number_2_1 ++ dktX7_number_2_2
def dkwX7_number_2_0 : List UInt8 := [42, 180, 0, 126, 153, 0, 5, 27, 172, 42, 180, 0, 115, 5, 159, 0, 10, 42, 4, 182, 0, 142, 27, 172]
abbrev dktX7_number_2_0 : List UInt8 := dkwX7_number_2_0 ++ dktX7_number_2_1
theorem dksX7_number_2_0 : cX7_number_2.data.toList.drop 0 = dktX7_number_2_0 := by decide +kernel
theorem dksX7_number_2_1 : cX7_number_2.data.toList.drop 24 = dktX7_number_2_1 := dk_seg dksX7_number_2_0 24 rfl rfl
theorem dksX7_number_2_2 : cX7_number_2.data.toList.drop 47 = dktX7_number_2_2 := dk_seg dksX7_number_2_1 23 rfl rfl
theorem dX7_number_2_0 : decode cX7_number_2 0 = .ok (.aload_n 0, 1) := dk_42 (dk_at dksX7_number_2_0 0 rfl rfl)
theorem dX7_number_2_1 : decode cX7_number_2 1 = .ok (.getfield 126, 3) := dk_180 0 126 (dk_at dksX7_number_2_0 1 rfl rfl)
theorem dX7_number_2_4 : decode cX7_number_2 4 = .ok (.ifCond .eq 5, 3) := dk_153 0 5 (dk_at dksX7_number_2_0 4 rfl rfl)
theorem dX7_number_2_7 : decode cX7_number_2 7 = .ok (.iload_n 1, 1) := dk_27 (dk_at dksX7_number_2_0 7 rfl rfl)
theorem dX7_number_2_8 : decode cX7_number_2 8 = .ok (.ireturn, 1) := dk_172 (dk_at dksX7_number_2_0 8 rfl rfl)
theorem dX7_number_2_9 : decode cX7_number_2 9 = .ok (.aload_n 0, 1) := dk_42 (dk_at dksX7_number_2_0 9 rfl rfl)
theorem dX7_number_2_10 : decode cX7_number_2 10 = .ok (.getfield 115, 3) := dk_180 0 115 (dk_at dksX7_number_2_0 10 rfl rfl)
theorem dX7_number_2_13 : decode cX7_number_2 13 = .ok (.iconst 2, 1) := dk_5 (dk_at dksX7_number_2_0 13 rfl rfl)
theorem dX7_number_2_14 : decode cX7_number_2 14 = .ok (.if_icmp .eq 10, 3) := dk_159 0 10 (dk_at dksX7_number_2_0 14 rfl rfl)
theorem dX7_number_2_17 : decode cX7_number_2 17 = .ok (.aload_n 0, 1) := dk_42 (dk_at dksX7_number_2_0 17 rfl rfl)
theorem dX7_number_2_18 : decode cX7_number_2 18 = .ok (.iconst 1, 1) := dk_4 (dk_at dksX7_number_2_0 18 rfl rfl)
theorem dX7_number_2_19 : decode cX7_number_2 19 = .ok (.invokevirtual 142, 3) := dk_182 0 142 (dk_at dksX7_number_2_0 19 rfl rfl)
theorem dX7_number_2_22 : decode cX7_number_2 22 = .ok (.iload_n 1, 1) := dk_27 (dk_at dksX7_number_2_0 22 rfl rfl)
theorem dX7_number_2_23 : decode cX7_number_2 23 = .ok (.ireturn, 1) := dk_172 (dk_at dksX7_number_2_0 23 rfl rfl)
theorem dX7_number_2_24 : decode cX7_number_2 24 = .ok (.aload_n 0, 1) := dk_42 (dk_at dksX7_number_2_1 0 rfl rfl)
theorem dX7_number_2_25 : decode cX7_number_2 25 = .ok (.getfield 108, 3) := dk_180 0 108 (dk_at dksX7_number_2_1 1 rfl rfl)
theorem dX7_number_2_28 : decode cX7_number_2 28 = .ok (.i2l, 1) := dk_133 (dk_at dksX7_number_2_1 4 rfl rfl)
theorem dX7_number_2_29 : decode cX7_number_2 29 = .ok (.iload_n 1, 1) := dk_27 (dk_at dksX7_number_2_1 5 rfl rfl)
theorem dX7_number_2_30 : decode cX7_number_2 30 = .ok (.i2l, 1) := dk_133 (dk_at dksX7_number_2_1 6 rfl rfl)
theorem dX7_number_2_31 : decode cX7_number_2 31 = .ok (.iload_n 2, 1) := dk_28 (dk_at dksX7_number_2_1 7 rfl rfl)
theorem dX7_number_2_32 : decode cX7_number_2 32 = .ok (.i2l, 1) := dk_133 (dk_at dksX7_number_2_1 8 rfl rfl)
theorem dX7_number_2_33 : decode cX7_number_2 33 = .ok (.invokestatic 79, 3) := dk_184 0 79 (dk_at dksX7_number_2_1 9 rfl rfl)
theorem dX7_number_2_36 : decode cX7_number_2 36 = .ok (.ifCond .ne 10, 3) := dk_154 0 10 (dk_at dksX7_number_2_1 12 rfl rfl)
theorem dX7_number_2_39 : decode cX7_number_2 39 = .ok (.aload_n 0, 1) := dk_42 (dk_at dksX7_number_2_1 15 rfl rfl)
theorem dX7_number_2_40 : decode cX7_number_2 40 = .ok (.iconst 2, 1) := dk_5 (dk_at dksX7_number_2_1 16 rfl rfl)
theorem dX7_number_2_41 : decode cX7_number_2 41 = .ok (.invokevirtual 142, 3) := dk_182 0 142 (dk_at dksX7_number_2_1 17 rfl rfl)
theorem dX7_number_2_44 : decode cX7_number_2 44 = .ok (.iload_n 1, 1) := dk_27 (dk_at dksX7_number_2_1 20 rfl rfl)
theorem dX7_number_2_45 : decode cX7_number_2 45 = .ok (.ireturn, 1) := dk_172 (dk_at dksX7_number_2_1 21 rfl rfl)
theorem dX7_number_2_46 : decode cX7_number_2 46 = .ok (.aload_n 0, 1) := dk_42 (dk_at dksX7_number_2_1 22 rfl rfl)
theorem dX7_number_2_47 : decode cX7_number_2 47 = .ok (.getfield 108, 3) := dk_180 0 108 (dk_at dksX7_number_2_2 0 rfl rfl)
theorem dX7_number_2_50 : decode cX7_number_2 50 = .ok (.istore_n 3, 1) := dk_62 (dk_at dksX7_number_2_2 3 rfl rfl)
theorem dX7_number_2_51 : decode cX7_number_2 51 = .ok (.aload_n 0, 1) := dk_42 (dk_at dksX7_number_2_2 4 rfl rfl)
theorem dX7_number_2_52 : decode cX7_number_2 52 = .ok (.invokevirtual 136, 3) := dk_182 0 136 (dk_at dksX7_number_2_2 5 rfl rfl)
theorem dX7_number_2_55 : decode cX7_number_2 55 = .ok (.iload_n 3, 1) := dk_29 (dk_at dksX7_number_2_2 8 rfl rfl)
theorem dX7_number_2_56 : decode cX7_number_2 56 = .ok (.ireturn, 1) := dk_172 (dk_at dksX7_number_2_2 9 rfl rfl)
abbrev cX7_lineHere : ByteArray := prog_12_method_31_code
def yX7_lineHere : MethodName := ⟨RX7, "lineHere", "()V"⟩
def dkwX7_lineHere_4 : List UInt8 := [182, 0, 142, 177]
abbrev dktX7_lineHere_4 : List UInt8 := dkwX7_lineHere_4 ++ []
def dkwX7_lineHere_3 : List UInt8 := [182, 0, 185, 153, 0, 10, 42, 182, 0, 199, 167, 0, 15, 42, 180, 0, 126, 154, 0, 8, 42, 4]
abbrev dktX7_lineHere_3 : List UInt8 := dkwX7_lineHere_3 ++ dktX7_lineHere_4
def dkwX7_lineHere_2 : List UInt8 := [182, 0, 194, 167, 0, 46, 42, 180, 0, 126, 154, 0, 27, 42, 42, 20, 0, 197, 182, 0, 132, 8, 16, 7]
abbrev dktX7_lineHere_2 : List UInt8 := dkwX7_lineHere_2 ++ dktX7_lineHere_3
def dkwX7_lineHere_1 : List UInt8 := [180, 0, 126, 154, 0, 26, 42, 42, 20, 0, 192, 182, 0, 132, 7, 7, 182, 0, 185, 153, 0, 10, 42]
abbrev dktX7_lineHere_1 : List UInt8 := dkwX7_lineHere_1 ++ dktX7_lineHere_2
def dkwX7_lineHere_0 : List UInt8 := [42, 42, 20, 0, 183, 182, 0, 132, 6, 7, 182, 0, 185, 153, 0, 10, 42, 182, 0, 189, 167, 0, 76, 42]
abbrev dktX7_lineHere_0 : List UInt8 := dkwX7_lineHere_0 ++ dktX7_lineHere_1
theorem dksX7_lineHere_0 : cX7_lineHere.data.toList.drop 0 = dktX7_lineHere_0 := by decide +kernel
theorem dksX7_lineHere_1 : cX7_lineHere.data.toList.drop 24 = dktX7_lineHere_1 := dk_seg dksX7_lineHere_0 24 rfl rfl
theorem dksX7_lineHere_2 : cX7_lineHere.data.toList.drop 47 = dktX7_lineHere_2 := dk_seg dksX7_lineHere_1 23 rfl rfl
theorem dksX7_lineHere_3 : cX7_lineHere.data.toList.drop 71 = dktX7_lineHere_3 := dk_seg dksX7_lineHere_2 24 rfl rfl
theorem dksX7_lineHere_4 : cX7_lineHere.data.toList.drop 93 = dktX7_lineHere_4 := dk_seg dksX7_lineHere_3 22 rfl rfl
theorem dX7_lineHere_0 : decode cX7_lineHere 0 = .ok (.aload_n 0, 1) := dk_42 (dk_at dksX7_lineHere_0 0 rfl rfl)
theorem dX7_lineHere_1 : decode cX7_lineHere 1 = .ok (.aload_n 0, 1) := dk_42 (dk_at dksX7_lineHere_0 1 rfl rfl)
theorem dX7_lineHere_2 : decode cX7_lineHere 2 = .ok (.ldc2_w 183, 3) := dk_20 0 183 (dk_at dksX7_lineHere_0 2 rfl rfl)
theorem dX7_lineHere_5 : decode cX7_lineHere 5 = .ok (.invokevirtual 132, 3) := dk_182 0 132 (dk_at dksX7_lineHere_0 5 rfl rfl)
theorem dX7_lineHere_8 : decode cX7_lineHere 8 = .ok (.iconst 3, 1) := dk_6 (dk_at dksX7_lineHere_0 8 rfl rfl)
theorem dX7_lineHere_9 : decode cX7_lineHere 9 = .ok (.iconst 4, 1) := dk_7 (dk_at dksX7_lineHere_0 9 rfl rfl)
theorem dX7_lineHere_10 : decode cX7_lineHere 10 = .ok (.invokevirtual 185, 3) := dk_182 0 185 (dk_at dksX7_lineHere_0 10 rfl rfl)
theorem dX7_lineHere_13 : decode cX7_lineHere 13 = .ok (.ifCond .eq 10, 3) := dk_153 0 10 (dk_at dksX7_lineHere_0 13 rfl rfl)
theorem dX7_lineHere_16 : decode cX7_lineHere 16 = .ok (.aload_n 0, 1) := dk_42 (dk_at dksX7_lineHere_0 16 rfl rfl)
theorem dX7_lineHere_17 : decode cX7_lineHere 17 = .ok (.invokevirtual 189, 3) := dk_182 0 189 (dk_at dksX7_lineHere_0 17 rfl rfl)
theorem dX7_lineHere_20 : decode cX7_lineHere 20 = .ok (.goto 76, 3) := dk_167 0 76 (dk_at dksX7_lineHere_0 20 rfl rfl)
theorem dX7_lineHere_23 : decode cX7_lineHere 23 = .ok (.aload_n 0, 1) := dk_42 (dk_at dksX7_lineHere_0 23 rfl rfl)
theorem dX7_lineHere_24 : decode cX7_lineHere 24 = .ok (.getfield 126, 3) := dk_180 0 126 (dk_at dksX7_lineHere_1 0 rfl rfl)
theorem dX7_lineHere_27 : decode cX7_lineHere 27 = .ok (.ifCond .ne 26, 3) := dk_154 0 26 (dk_at dksX7_lineHere_1 3 rfl rfl)
theorem dX7_lineHere_30 : decode cX7_lineHere 30 = .ok (.aload_n 0, 1) := dk_42 (dk_at dksX7_lineHere_1 6 rfl rfl)
theorem dX7_lineHere_31 : decode cX7_lineHere 31 = .ok (.aload_n 0, 1) := dk_42 (dk_at dksX7_lineHere_1 7 rfl rfl)
theorem dX7_lineHere_32 : decode cX7_lineHere 32 = .ok (.ldc2_w 192, 3) := dk_20 0 192 (dk_at dksX7_lineHere_1 8 rfl rfl)
theorem dX7_lineHere_35 : decode cX7_lineHere 35 = .ok (.invokevirtual 132, 3) := dk_182 0 132 (dk_at dksX7_lineHere_1 11 rfl rfl)
theorem dX7_lineHere_38 : decode cX7_lineHere 38 = .ok (.iconst 4, 1) := dk_7 (dk_at dksX7_lineHere_1 14 rfl rfl)
theorem dX7_lineHere_39 : decode cX7_lineHere 39 = .ok (.iconst 4, 1) := dk_7 (dk_at dksX7_lineHere_1 15 rfl rfl)
theorem dX7_lineHere_40 : decode cX7_lineHere 40 = .ok (.invokevirtual 185, 3) := dk_182 0 185 (dk_at dksX7_lineHere_1 16 rfl rfl)
theorem dX7_lineHere_43 : decode cX7_lineHere 43 = .ok (.ifCond .eq 10, 3) := dk_153 0 10 (dk_at dksX7_lineHere_1 19 rfl rfl)
theorem dX7_lineHere_46 : decode cX7_lineHere 46 = .ok (.aload_n 0, 1) := dk_42 (dk_at dksX7_lineHere_1 22 rfl rfl)
theorem dX7_lineHere_47 : decode cX7_lineHere 47 = .ok (.invokevirtual 194, 3) := dk_182 0 194 (dk_at dksX7_lineHere_2 0 rfl rfl)
theorem dX7_lineHere_50 : decode cX7_lineHere 50 = .ok (.goto 46, 3) := dk_167 0 46 (dk_at dksX7_lineHere_2 3 rfl rfl)
theorem dX7_lineHere_53 : decode cX7_lineHere 53 = .ok (.aload_n 0, 1) := dk_42 (dk_at dksX7_lineHere_2 6 rfl rfl)
theorem dX7_lineHere_54 : decode cX7_lineHere 54 = .ok (.getfield 126, 3) := dk_180 0 126 (dk_at dksX7_lineHere_2 7 rfl rfl)
theorem dX7_lineHere_57 : decode cX7_lineHere 57 = .ok (.ifCond .ne 27, 3) := dk_154 0 27 (dk_at dksX7_lineHere_2 10 rfl rfl)
theorem dX7_lineHere_60 : decode cX7_lineHere 60 = .ok (.aload_n 0, 1) := dk_42 (dk_at dksX7_lineHere_2 13 rfl rfl)
theorem dX7_lineHere_61 : decode cX7_lineHere 61 = .ok (.aload_n 0, 1) := dk_42 (dk_at dksX7_lineHere_2 14 rfl rfl)
theorem dX7_lineHere_62 : decode cX7_lineHere 62 = .ok (.ldc2_w 197, 3) := dk_20 0 197 (dk_at dksX7_lineHere_2 15 rfl rfl)
theorem dX7_lineHere_65 : decode cX7_lineHere 65 = .ok (.invokevirtual 132, 3) := dk_182 0 132 (dk_at dksX7_lineHere_2 18 rfl rfl)
theorem dX7_lineHere_68 : decode cX7_lineHere 68 = .ok (.iconst 5, 1) := dk_8 (dk_at dksX7_lineHere_2 21 rfl rfl)
theorem dX7_lineHere_69 : decode cX7_lineHere 69 = .ok (.bipush 7, 2) := dk_16 7 (dk_at dksX7_lineHere_2 22 rfl rfl)
theorem dX7_lineHere_71 : decode cX7_lineHere 71 = .ok (.invokevirtual 185, 3) := dk_182 0 185 (dk_at dksX7_lineHere_3 0 rfl rfl)
theorem dX7_lineHere_74 : decode cX7_lineHere 74 = .ok (.ifCond .eq 10, 3) := dk_153 0 10 (dk_at dksX7_lineHere_3 3 rfl rfl)
theorem dX7_lineHere_77 : decode cX7_lineHere 77 = .ok (.aload_n 0, 1) := dk_42 (dk_at dksX7_lineHere_3 6 rfl rfl)
theorem dX7_lineHere_78 : decode cX7_lineHere 78 = .ok (.invokevirtual 199, 3) := dk_182 0 199 (dk_at dksX7_lineHere_3 7 rfl rfl)
theorem dX7_lineHere_81 : decode cX7_lineHere 81 = .ok (.goto 15, 3) := dk_167 0 15 (dk_at dksX7_lineHere_3 10 rfl rfl)
theorem dX7_lineHere_84 : decode cX7_lineHere 84 = .ok (.aload_n 0, 1) := dk_42 (dk_at dksX7_lineHere_3 13 rfl rfl)
theorem dX7_lineHere_85 : decode cX7_lineHere 85 = .ok (.getfield 126, 3) := dk_180 0 126 (dk_at dksX7_lineHere_3 14 rfl rfl)
theorem dX7_lineHere_88 : decode cX7_lineHere 88 = .ok (.ifCond .ne 8, 3) := dk_154 0 8 (dk_at dksX7_lineHere_3 17 rfl rfl)
theorem dX7_lineHere_91 : decode cX7_lineHere 91 = .ok (.aload_n 0, 1) := dk_42 (dk_at dksX7_lineHere_3 20 rfl rfl)
theorem dX7_lineHere_92 : decode cX7_lineHere 92 = .ok (.iconst 1, 1) := dk_4 (dk_at dksX7_lineHere_3 21 rfl rfl)
theorem dX7_lineHere_93 : decode cX7_lineHere 93 = .ok (.invokevirtual 142, 3) := dk_182 0 142 (dk_at dksX7_lineHere_4 0 rfl rfl)
theorem dX7_lineHere_96 : decode cX7_lineHere 96 = .ok (.return_, 1) := dk_177 (dk_at dksX7_lineHere_4 3 rfl rfl)
abbrev cX7_isRoom : ByteArray := prog_12_method_30_code
def yX7_isRoom : MethodName := ⟨RX7, "isRoom", "(ZII)Z"⟩
def dkwX7_isRoom_2 : List UInt8 := [167, 0, 4, 3, 172]
abbrev dktX7_isRoom_2 : List UInt8 := dkwX7_isRoom_2 ++ []
def dkwX7_isRoom_1 : List UInt8 := [180, 0, 126, 154, 0, 7, 42, 182, 0, 136, 27, 153, 0, 14, 42, 180, 0, 126, 154, 0, 7, 4]
abbrev dktX7_isRoom_1 : List UInt8 := dkwX7_isRoom_1 ++ dktX7_isRoom_2
def dkwX7_isRoom_0 : List UInt8 := [27, 153, 0, 17, 42, 28, 182, 0, 156, 29, 160, 0, 8, 42, 6, 182, 0, 142, 27, 153, 0, 14, 42]
abbrev dktX7_isRoom_0 : List UInt8 := dkwX7_isRoom_0 ++ dktX7_isRoom_1
theorem dksX7_isRoom_0 : cX7_isRoom.data.toList.drop 0 = dktX7_isRoom_0 := by decide +kernel
theorem dksX7_isRoom_1 : cX7_isRoom.data.toList.drop 23 = dktX7_isRoom_1 := dk_seg dksX7_isRoom_0 23 rfl rfl
theorem dksX7_isRoom_2 : cX7_isRoom.data.toList.drop 45 = dktX7_isRoom_2 := dk_seg dksX7_isRoom_1 22 rfl rfl
theorem dX7_isRoom_0 : decode cX7_isRoom 0 = .ok (.iload_n 1, 1) := dk_27 (dk_at dksX7_isRoom_0 0 rfl rfl)
theorem dX7_isRoom_1 : decode cX7_isRoom 1 = .ok (.ifCond .eq 17, 3) := dk_153 0 17 (dk_at dksX7_isRoom_0 1 rfl rfl)
theorem dX7_isRoom_4 : decode cX7_isRoom 4 = .ok (.aload_n 0, 1) := dk_42 (dk_at dksX7_isRoom_0 4 rfl rfl)
theorem dX7_isRoom_5 : decode cX7_isRoom 5 = .ok (.iload_n 2, 1) := dk_28 (dk_at dksX7_isRoom_0 5 rfl rfl)
theorem dX7_isRoom_6 : decode cX7_isRoom 6 = .ok (.invokevirtual 156, 3) := dk_182 0 156 (dk_at dksX7_isRoom_0 6 rfl rfl)
theorem dX7_isRoom_9 : decode cX7_isRoom 9 = .ok (.iload_n 3, 1) := dk_29 (dk_at dksX7_isRoom_0 9 rfl rfl)
theorem dX7_isRoom_10 : decode cX7_isRoom 10 = .ok (.if_icmp .ne 8, 3) := dk_160 0 8 (dk_at dksX7_isRoom_0 10 rfl rfl)
theorem dX7_isRoom_13 : decode cX7_isRoom 13 = .ok (.aload_n 0, 1) := dk_42 (dk_at dksX7_isRoom_0 13 rfl rfl)
theorem dX7_isRoom_14 : decode cX7_isRoom 14 = .ok (.iconst 3, 1) := dk_6 (dk_at dksX7_isRoom_0 14 rfl rfl)
theorem dX7_isRoom_15 : decode cX7_isRoom 15 = .ok (.invokevirtual 142, 3) := dk_182 0 142 (dk_at dksX7_isRoom_0 15 rfl rfl)
theorem dX7_isRoom_18 : decode cX7_isRoom 18 = .ok (.iload_n 1, 1) := dk_27 (dk_at dksX7_isRoom_0 18 rfl rfl)
theorem dX7_isRoom_19 : decode cX7_isRoom 19 = .ok (.ifCond .eq 14, 3) := dk_153 0 14 (dk_at dksX7_isRoom_0 19 rfl rfl)
theorem dX7_isRoom_22 : decode cX7_isRoom 22 = .ok (.aload_n 0, 1) := dk_42 (dk_at dksX7_isRoom_0 22 rfl rfl)
theorem dX7_isRoom_23 : decode cX7_isRoom 23 = .ok (.getfield 126, 3) := dk_180 0 126 (dk_at dksX7_isRoom_1 0 rfl rfl)
theorem dX7_isRoom_26 : decode cX7_isRoom 26 = .ok (.ifCond .ne 7, 3) := dk_154 0 7 (dk_at dksX7_isRoom_1 3 rfl rfl)
theorem dX7_isRoom_29 : decode cX7_isRoom 29 = .ok (.aload_n 0, 1) := dk_42 (dk_at dksX7_isRoom_1 6 rfl rfl)
theorem dX7_isRoom_30 : decode cX7_isRoom 30 = .ok (.invokevirtual 136, 3) := dk_182 0 136 (dk_at dksX7_isRoom_1 7 rfl rfl)
theorem dX7_isRoom_33 : decode cX7_isRoom 33 = .ok (.iload_n 1, 1) := dk_27 (dk_at dksX7_isRoom_1 10 rfl rfl)
theorem dX7_isRoom_34 : decode cX7_isRoom 34 = .ok (.ifCond .eq 14, 3) := dk_153 0 14 (dk_at dksX7_isRoom_1 11 rfl rfl)
theorem dX7_isRoom_37 : decode cX7_isRoom 37 = .ok (.aload_n 0, 1) := dk_42 (dk_at dksX7_isRoom_1 14 rfl rfl)
theorem dX7_isRoom_38 : decode cX7_isRoom 38 = .ok (.getfield 126, 3) := dk_180 0 126 (dk_at dksX7_isRoom_1 15 rfl rfl)
theorem dX7_isRoom_41 : decode cX7_isRoom 41 = .ok (.ifCond .ne 7, 3) := dk_154 0 7 (dk_at dksX7_isRoom_1 18 rfl rfl)
theorem dX7_isRoom_44 : decode cX7_isRoom 44 = .ok (.iconst 1, 1) := dk_4 (dk_at dksX7_isRoom_1 21 rfl rfl)
theorem dX7_isRoom_45 : decode cX7_isRoom 45 = .ok (.goto 4, 3) := dk_167 0 4 (dk_at dksX7_isRoom_2 0 rfl rfl)
theorem dX7_isRoom_48 : decode cX7_isRoom 48 = .ok (.iconst 0, 1) := dk_3 (dk_at dksX7_isRoom_2 3 rfl rfl)
theorem dX7_isRoom_49 : decode cX7_isRoom 49 = .ok (.ireturn, 1) := dk_172 (dk_at dksX7_isRoom_2 4 rfl rfl)
abbrev cX7_hasRead : ByteArray := prog_12_method_25_code
def yX7_hasRead : MethodName := ⟨RX7, "hasRead", "(I)I"⟩
def dkwX7_hasRead_0 : List UInt8 := [42, 180, 0, 34, 16, 28, 27, 96, 46, 172]
abbrev dktX7_hasRead_0 : List UInt8 := dkwX7_hasRead_0 ++ []
theorem dksX7_hasRead_0 : cX7_hasRead.data.toList.drop 0 = dktX7_hasRead_0 := by decide +kernel
theorem dX7_hasRead_0 : decode cX7_hasRead 0 = .ok (.aload_n 0, 1) := dk_42 (dk_at dksX7_hasRead_0 0 rfl rfl)
theorem dX7_hasRead_1 : decode cX7_hasRead 1 = .ok (.getfield 34, 3) := dk_180 0 34 (dk_at dksX7_hasRead_0 1 rfl rfl)
theorem dX7_hasRead_4 : decode cX7_hasRead 4 = .ok (.bipush 28, 2) := dk_16 28 (dk_at dksX7_hasRead_0 4 rfl rfl)
theorem dX7_hasRead_6 : decode cX7_hasRead 6 = .ok (.iload_n 1, 1) := dk_27 (dk_at dksX7_hasRead_0 6 rfl rfl)
theorem dX7_hasRead_7 : decode cX7_hasRead 7 = .ok (.iadd, 1) := dk_96 (dk_at dksX7_hasRead_0 7 rfl rfl)
theorem dX7_hasRead_8 : decode cX7_hasRead 8 = .ok (.iaload, 1) := dk_46 (dk_at dksX7_hasRead_0 8 rfl rfl)
theorem dX7_hasRead_9 : decode cX7_hasRead 9 = .ok (.ireturn, 1) := dk_172 (dk_at dksX7_hasRead_0 9 rfl rfl)
abbrev cX7_inkLine : ByteArray := prog_12_method_27_code
def yX7_inkLine : MethodName := ⟨RX7, "inkLine", "()V"⟩
def dkwX7_inkLine_3 : List UInt8 := [4, 96, 182, 0, 169, 177]
abbrev dktX7_inkLine_3 : List UInt8 := dkwX7_inkLine_3 ++ []
def dkwX7_inkLine_2 : List UInt8 := [180, 0, 37, 27, 5, 96, 42, 20, 0, 167, 3, 16, 9, 182, 0, 162, 79, 42, 6, 42, 6, 182, 0, 156]
abbrev dktX7_inkLine_2 : List UInt8 := dkwX7_inkLine_2 ++ dktX7_inkLine_3
def dkwX7_inkLine_1 : List UInt8 := [182, 0, 162, 79, 42, 180, 0, 37, 27, 4, 96, 42, 20, 0, 165, 4, 16, 60, 182, 0, 162, 79, 42]
abbrev dktX7_inkLine_1 : List UInt8 := dkwX7_inkLine_1 ++ dktX7_inkLine_2
def dkwX7_inkLine_0 : List UInt8 := [6, 16, 16, 42, 6, 182, 0, 156, 96, 104, 60, 42, 180, 0, 37, 27, 42, 20, 0, 160, 4, 16, 20]
abbrev dktX7_inkLine_0 : List UInt8 := dkwX7_inkLine_0 ++ dktX7_inkLine_1
theorem dksX7_inkLine_0 : cX7_inkLine.data.toList.drop 0 = dktX7_inkLine_0 := by decide +kernel
theorem dksX7_inkLine_1 : cX7_inkLine.data.toList.drop 23 = dktX7_inkLine_1 := dk_seg dksX7_inkLine_0 23 rfl rfl
theorem dksX7_inkLine_2 : cX7_inkLine.data.toList.drop 46 = dktX7_inkLine_2 := dk_seg dksX7_inkLine_1 23 rfl rfl
theorem dksX7_inkLine_3 : cX7_inkLine.data.toList.drop 70 = dktX7_inkLine_3 := dk_seg dksX7_inkLine_2 24 rfl rfl
theorem dX7_inkLine_0 : decode cX7_inkLine 0 = .ok (.iconst 3, 1) := dk_6 (dk_at dksX7_inkLine_0 0 rfl rfl)
theorem dX7_inkLine_1 : decode cX7_inkLine 1 = .ok (.bipush 16, 2) := dk_16 16 (dk_at dksX7_inkLine_0 1 rfl rfl)
theorem dX7_inkLine_3 : decode cX7_inkLine 3 = .ok (.aload_n 0, 1) := dk_42 (dk_at dksX7_inkLine_0 3 rfl rfl)
theorem dX7_inkLine_4 : decode cX7_inkLine 4 = .ok (.iconst 3, 1) := dk_6 (dk_at dksX7_inkLine_0 4 rfl rfl)
theorem dX7_inkLine_5 : decode cX7_inkLine 5 = .ok (.invokevirtual 156, 3) := dk_182 0 156 (dk_at dksX7_inkLine_0 5 rfl rfl)
theorem dX7_inkLine_8 : decode cX7_inkLine 8 = .ok (.iadd, 1) := dk_96 (dk_at dksX7_inkLine_0 8 rfl rfl)
theorem dX7_inkLine_9 : decode cX7_inkLine 9 = .ok (.imul, 1) := dk_104 (dk_at dksX7_inkLine_0 9 rfl rfl)
theorem dX7_inkLine_10 : decode cX7_inkLine 10 = .ok (.istore_n 1, 1) := dk_60 (dk_at dksX7_inkLine_0 10 rfl rfl)
theorem dX7_inkLine_11 : decode cX7_inkLine 11 = .ok (.aload_n 0, 1) := dk_42 (dk_at dksX7_inkLine_0 11 rfl rfl)
theorem dX7_inkLine_12 : decode cX7_inkLine 12 = .ok (.getfield 37, 3) := dk_180 0 37 (dk_at dksX7_inkLine_0 12 rfl rfl)
theorem dX7_inkLine_15 : decode cX7_inkLine 15 = .ok (.iload_n 1, 1) := dk_27 (dk_at dksX7_inkLine_0 15 rfl rfl)
theorem dX7_inkLine_16 : decode cX7_inkLine 16 = .ok (.aload_n 0, 1) := dk_42 (dk_at dksX7_inkLine_0 16 rfl rfl)
theorem dX7_inkLine_17 : decode cX7_inkLine 17 = .ok (.ldc2_w 160, 3) := dk_20 0 160 (dk_at dksX7_inkLine_0 17 rfl rfl)
theorem dX7_inkLine_20 : decode cX7_inkLine 20 = .ok (.iconst 1, 1) := dk_4 (dk_at dksX7_inkLine_0 20 rfl rfl)
theorem dX7_inkLine_21 : decode cX7_inkLine 21 = .ok (.bipush 20, 2) := dk_16 20 (dk_at dksX7_inkLine_0 21 rfl rfl)
theorem dX7_inkLine_23 : decode cX7_inkLine 23 = .ok (.invokevirtual 162, 3) := dk_182 0 162 (dk_at dksX7_inkLine_1 0 rfl rfl)
theorem dX7_inkLine_26 : decode cX7_inkLine 26 = .ok (.iastore, 1) := dk_79 (dk_at dksX7_inkLine_1 3 rfl rfl)
theorem dX7_inkLine_27 : decode cX7_inkLine 27 = .ok (.aload_n 0, 1) := dk_42 (dk_at dksX7_inkLine_1 4 rfl rfl)
theorem dX7_inkLine_28 : decode cX7_inkLine 28 = .ok (.getfield 37, 3) := dk_180 0 37 (dk_at dksX7_inkLine_1 5 rfl rfl)
theorem dX7_inkLine_31 : decode cX7_inkLine 31 = .ok (.iload_n 1, 1) := dk_27 (dk_at dksX7_inkLine_1 8 rfl rfl)
theorem dX7_inkLine_32 : decode cX7_inkLine 32 = .ok (.iconst 1, 1) := dk_4 (dk_at dksX7_inkLine_1 9 rfl rfl)
theorem dX7_inkLine_33 : decode cX7_inkLine 33 = .ok (.iadd, 1) := dk_96 (dk_at dksX7_inkLine_1 10 rfl rfl)
theorem dX7_inkLine_34 : decode cX7_inkLine 34 = .ok (.aload_n 0, 1) := dk_42 (dk_at dksX7_inkLine_1 11 rfl rfl)
theorem dX7_inkLine_35 : decode cX7_inkLine 35 = .ok (.ldc2_w 165, 3) := dk_20 0 165 (dk_at dksX7_inkLine_1 12 rfl rfl)
theorem dX7_inkLine_38 : decode cX7_inkLine 38 = .ok (.iconst 1, 1) := dk_4 (dk_at dksX7_inkLine_1 15 rfl rfl)
theorem dX7_inkLine_39 : decode cX7_inkLine 39 = .ok (.bipush 60, 2) := dk_16 60 (dk_at dksX7_inkLine_1 16 rfl rfl)
theorem dX7_inkLine_41 : decode cX7_inkLine 41 = .ok (.invokevirtual 162, 3) := dk_182 0 162 (dk_at dksX7_inkLine_1 18 rfl rfl)
theorem dX7_inkLine_44 : decode cX7_inkLine 44 = .ok (.iastore, 1) := dk_79 (dk_at dksX7_inkLine_1 21 rfl rfl)
theorem dX7_inkLine_45 : decode cX7_inkLine 45 = .ok (.aload_n 0, 1) := dk_42 (dk_at dksX7_inkLine_1 22 rfl rfl)
theorem dX7_inkLine_46 : decode cX7_inkLine 46 = .ok (.getfield 37, 3) := dk_180 0 37 (dk_at dksX7_inkLine_2 0 rfl rfl)
theorem dX7_inkLine_49 : decode cX7_inkLine 49 = .ok (.iload_n 1, 1) := dk_27 (dk_at dksX7_inkLine_2 3 rfl rfl)
theorem dX7_inkLine_50 : decode cX7_inkLine 50 = .ok (.iconst 2, 1) := dk_5 (dk_at dksX7_inkLine_2 4 rfl rfl)
theorem dX7_inkLine_51 : decode cX7_inkLine 51 = .ok (.iadd, 1) := dk_96 (dk_at dksX7_inkLine_2 5 rfl rfl)
theorem dX7_inkLine_52 : decode cX7_inkLine 52 = .ok (.aload_n 0, 1) := dk_42 (dk_at dksX7_inkLine_2 6 rfl rfl)
theorem dX7_inkLine_53 : decode cX7_inkLine 53 = .ok (.ldc2_w 167, 3) := dk_20 0 167 (dk_at dksX7_inkLine_2 7 rfl rfl)
theorem dX7_inkLine_56 : decode cX7_inkLine 56 = .ok (.iconst 0, 1) := dk_3 (dk_at dksX7_inkLine_2 10 rfl rfl)
theorem dX7_inkLine_57 : decode cX7_inkLine 57 = .ok (.bipush 9, 2) := dk_16 9 (dk_at dksX7_inkLine_2 11 rfl rfl)
theorem dX7_inkLine_59 : decode cX7_inkLine 59 = .ok (.invokevirtual 162, 3) := dk_182 0 162 (dk_at dksX7_inkLine_2 13 rfl rfl)
theorem dX7_inkLine_62 : decode cX7_inkLine 62 = .ok (.iastore, 1) := dk_79 (dk_at dksX7_inkLine_2 16 rfl rfl)
theorem dX7_inkLine_63 : decode cX7_inkLine 63 = .ok (.aload_n 0, 1) := dk_42 (dk_at dksX7_inkLine_2 17 rfl rfl)
theorem dX7_inkLine_64 : decode cX7_inkLine 64 = .ok (.iconst 3, 1) := dk_6 (dk_at dksX7_inkLine_2 18 rfl rfl)
theorem dX7_inkLine_65 : decode cX7_inkLine 65 = .ok (.aload_n 0, 1) := dk_42 (dk_at dksX7_inkLine_2 19 rfl rfl)
theorem dX7_inkLine_66 : decode cX7_inkLine 66 = .ok (.iconst 3, 1) := dk_6 (dk_at dksX7_inkLine_2 20 rfl rfl)
theorem dX7_inkLine_67 : decode cX7_inkLine 67 = .ok (.invokevirtual 156, 3) := dk_182 0 156 (dk_at dksX7_inkLine_2 21 rfl rfl)
theorem dX7_inkLine_70 : decode cX7_inkLine 70 = .ok (.iconst 1, 1) := dk_4 (dk_at dksX7_inkLine_3 0 rfl rfl)
theorem dX7_inkLine_71 : decode cX7_inkLine 71 = .ok (.iadd, 1) := dk_96 (dk_at dksX7_inkLine_3 1 rfl rfl)
theorem dX7_inkLine_72 : decode cX7_inkLine 72 = .ok (.invokevirtual 169, 3) := dk_182 0 169 (dk_at dksX7_inkLine_3 2 rfl rfl)
theorem dX7_inkLine_75 : decode cX7_inkLine 75 = .ok (.return_, 1) := dk_177 (dk_at dksX7_inkLine_3 5 rfl rfl)
abbrev cX7_pageLine : ByteArray := prog_12_method_28_code
def yX7_pageLine : MethodName := ⟨RX7, "pageLine", "()V"⟩
def dkwX7_pageLine_2 : List UInt8 := [167, 0, 4, 3, 79, 42, 7, 42, 7, 182, 0, 156, 4, 96, 182, 0, 169, 177]
abbrev dktX7_pageLine_2 : List UInt8 := dkwX7_pageLine_2 ++ []
def dkwX7_pageLine_1 : List UInt8 := [153, 0, 7, 42, 182, 0, 136, 42, 180, 0, 40, 16, 16, 42, 7, 182, 0, 156, 96, 27, 153, 0, 7, 4]
abbrev dktX7_pageLine_1 : List UInt8 := dkwX7_pageLine_1 ++ dktX7_pageLine_2
def dkwX7_pageLine_0 : List UInt8 := [42, 180, 0, 126, 154, 0, 17, 42, 20, 0, 173, 182, 0, 132, 153, 0, 7, 4, 167, 0, 4, 3, 60, 27]
abbrev dktX7_pageLine_0 : List UInt8 := dkwX7_pageLine_0 ++ dktX7_pageLine_1
theorem dksX7_pageLine_0 : cX7_pageLine.data.toList.drop 0 = dktX7_pageLine_0 := by decide +kernel
theorem dksX7_pageLine_1 : cX7_pageLine.data.toList.drop 24 = dktX7_pageLine_1 := dk_seg dksX7_pageLine_0 24 rfl rfl
theorem dksX7_pageLine_2 : cX7_pageLine.data.toList.drop 48 = dktX7_pageLine_2 := dk_seg dksX7_pageLine_1 24 rfl rfl
theorem dX7_pageLine_0 : decode cX7_pageLine 0 = .ok (.aload_n 0, 1) := dk_42 (dk_at dksX7_pageLine_0 0 rfl rfl)
theorem dX7_pageLine_1 : decode cX7_pageLine 1 = .ok (.getfield 126, 3) := dk_180 0 126 (dk_at dksX7_pageLine_0 1 rfl rfl)
theorem dX7_pageLine_4 : decode cX7_pageLine 4 = .ok (.ifCond .ne 17, 3) := dk_154 0 17 (dk_at dksX7_pageLine_0 4 rfl rfl)
theorem dX7_pageLine_7 : decode cX7_pageLine 7 = .ok (.aload_n 0, 1) := dk_42 (dk_at dksX7_pageLine_0 7 rfl rfl)
theorem dX7_pageLine_8 : decode cX7_pageLine 8 = .ok (.ldc2_w 173, 3) := dk_20 0 173 (dk_at dksX7_pageLine_0 8 rfl rfl)
theorem dX7_pageLine_11 : decode cX7_pageLine 11 = .ok (.invokevirtual 132, 3) := dk_182 0 132 (dk_at dksX7_pageLine_0 11 rfl rfl)
theorem dX7_pageLine_14 : decode cX7_pageLine 14 = .ok (.ifCond .eq 7, 3) := dk_153 0 7 (dk_at dksX7_pageLine_0 14 rfl rfl)
theorem dX7_pageLine_17 : decode cX7_pageLine 17 = .ok (.iconst 1, 1) := dk_4 (dk_at dksX7_pageLine_0 17 rfl rfl)
theorem dX7_pageLine_18 : decode cX7_pageLine 18 = .ok (.goto 4, 3) := dk_167 0 4 (dk_at dksX7_pageLine_0 18 rfl rfl)
theorem dX7_pageLine_21 : decode cX7_pageLine 21 = .ok (.iconst 0, 1) := dk_3 (dk_at dksX7_pageLine_0 21 rfl rfl)
theorem dX7_pageLine_22 : decode cX7_pageLine 22 = .ok (.istore_n 1, 1) := dk_60 (dk_at dksX7_pageLine_0 22 rfl rfl)
theorem dX7_pageLine_23 : decode cX7_pageLine 23 = .ok (.iload_n 1, 1) := dk_27 (dk_at dksX7_pageLine_0 23 rfl rfl)
theorem dX7_pageLine_24 : decode cX7_pageLine 24 = .ok (.ifCond .eq 7, 3) := dk_153 0 7 (dk_at dksX7_pageLine_1 0 rfl rfl)
theorem dX7_pageLine_27 : decode cX7_pageLine 27 = .ok (.aload_n 0, 1) := dk_42 (dk_at dksX7_pageLine_1 3 rfl rfl)
theorem dX7_pageLine_28 : decode cX7_pageLine 28 = .ok (.invokevirtual 136, 3) := dk_182 0 136 (dk_at dksX7_pageLine_1 4 rfl rfl)
theorem dX7_pageLine_31 : decode cX7_pageLine 31 = .ok (.aload_n 0, 1) := dk_42 (dk_at dksX7_pageLine_1 7 rfl rfl)
theorem dX7_pageLine_32 : decode cX7_pageLine 32 = .ok (.getfield 40, 3) := dk_180 0 40 (dk_at dksX7_pageLine_1 8 rfl rfl)
theorem dX7_pageLine_35 : decode cX7_pageLine 35 = .ok (.bipush 16, 2) := dk_16 16 (dk_at dksX7_pageLine_1 11 rfl rfl)
theorem dX7_pageLine_37 : decode cX7_pageLine 37 = .ok (.aload_n 0, 1) := dk_42 (dk_at dksX7_pageLine_1 13 rfl rfl)
theorem dX7_pageLine_38 : decode cX7_pageLine 38 = .ok (.iconst 4, 1) := dk_7 (dk_at dksX7_pageLine_1 14 rfl rfl)
theorem dX7_pageLine_39 : decode cX7_pageLine 39 = .ok (.invokevirtual 156, 3) := dk_182 0 156 (dk_at dksX7_pageLine_1 15 rfl rfl)
theorem dX7_pageLine_42 : decode cX7_pageLine 42 = .ok (.iadd, 1) := dk_96 (dk_at dksX7_pageLine_1 18 rfl rfl)
theorem dX7_pageLine_43 : decode cX7_pageLine 43 = .ok (.iload_n 1, 1) := dk_27 (dk_at dksX7_pageLine_1 19 rfl rfl)
theorem dX7_pageLine_44 : decode cX7_pageLine 44 = .ok (.ifCond .eq 7, 3) := dk_153 0 7 (dk_at dksX7_pageLine_1 20 rfl rfl)
theorem dX7_pageLine_47 : decode cX7_pageLine 47 = .ok (.iconst 1, 1) := dk_4 (dk_at dksX7_pageLine_1 23 rfl rfl)
theorem dX7_pageLine_48 : decode cX7_pageLine 48 = .ok (.goto 4, 3) := dk_167 0 4 (dk_at dksX7_pageLine_2 0 rfl rfl)
theorem dX7_pageLine_51 : decode cX7_pageLine 51 = .ok (.iconst 0, 1) := dk_3 (dk_at dksX7_pageLine_2 3 rfl rfl)
theorem dX7_pageLine_52 : decode cX7_pageLine 52 = .ok (.iastore, 1) := dk_79 (dk_at dksX7_pageLine_2 4 rfl rfl)
theorem dX7_pageLine_53 : decode cX7_pageLine 53 = .ok (.aload_n 0, 1) := dk_42 (dk_at dksX7_pageLine_2 5 rfl rfl)
theorem dX7_pageLine_54 : decode cX7_pageLine 54 = .ok (.iconst 4, 1) := dk_7 (dk_at dksX7_pageLine_2 6 rfl rfl)
theorem dX7_pageLine_55 : decode cX7_pageLine 55 = .ok (.aload_n 0, 1) := dk_42 (dk_at dksX7_pageLine_2 7 rfl rfl)
theorem dX7_pageLine_56 : decode cX7_pageLine 56 = .ok (.iconst 4, 1) := dk_7 (dk_at dksX7_pageLine_2 8 rfl rfl)
theorem dX7_pageLine_57 : decode cX7_pageLine 57 = .ok (.invokevirtual 156, 3) := dk_182 0 156 (dk_at dksX7_pageLine_2 9 rfl rfl)
theorem dX7_pageLine_60 : decode cX7_pageLine 60 = .ok (.iconst 1, 1) := dk_4 (dk_at dksX7_pageLine_2 12 rfl rfl)
theorem dX7_pageLine_61 : decode cX7_pageLine 61 = .ok (.iadd, 1) := dk_96 (dk_at dksX7_pageLine_2 13 rfl rfl)
theorem dX7_pageLine_62 : decode cX7_pageLine 62 = .ok (.invokevirtual 169, 3) := dk_182 0 169 (dk_at dksX7_pageLine_2 14 rfl rfl)
theorem dX7_pageLine_65 : decode cX7_pageLine 65 = .ok (.return_, 1) := dk_177 (dk_at dksX7_pageLine_2 17 rfl rfl)
abbrev cX7_entryLine : ByteArray := prog_12_method_29_code
def yX7_entryLine : MethodName := ⟨RX7, "entryLine", "()V"⟩
def dkwX7_entryLine_4 : List UInt8 := [42, 8, 182, 0, 156, 4, 96, 182, 0, 169, 177]
abbrev dktX7_entryLine_4 : List UInt8 := dkwX7_entryLine_4 ++ []
def dkwX7_entryLine_3 : List UInt8 := [182, 0, 162, 79, 42, 180, 0, 43, 27, 6, 96, 42, 20, 0, 181, 3, 16, 20, 182, 0, 162, 79, 42, 8]
abbrev dktX7_entryLine_3 : List UInt8 := dkwX7_entryLine_3 ++ dktX7_entryLine_4
def dkwX7_entryLine_2 : List UInt8 := [182, 0, 156, 4, 100, 182, 0, 162, 79, 42, 180, 0, 43, 27, 5, 96, 42, 20, 0, 179, 3, 16, 20]
abbrev dktX7_entryLine_2 : List UInt8 := dkwX7_entryLine_2 ++ dktX7_entryLine_3
def dkwX7_entryLine_1 : List UInt8 := [182, 0, 156, 4, 100, 182, 0, 162, 79, 42, 180, 0, 43, 27, 4, 96, 42, 20, 0, 177, 3, 42, 6]
abbrev dktX7_entryLine_1 : List UInt8 := dkwX7_entryLine_1 ++ dktX7_entryLine_2
def dkwX7_entryLine_0 : List UInt8 := [7, 16, 28, 42, 8, 182, 0, 156, 96, 104, 60, 42, 180, 0, 43, 27, 42, 20, 0, 175, 3, 42, 7]
abbrev dktX7_entryLine_0 : List UInt8 := dkwX7_entryLine_0 ++ dktX7_entryLine_1
theorem dksX7_entryLine_0 : cX7_entryLine.data.toList.drop 0 = dktX7_entryLine_0 := by decide +kernel
theorem dksX7_entryLine_1 : cX7_entryLine.data.toList.drop 23 = dktX7_entryLine_1 := dk_seg dksX7_entryLine_0 23 rfl rfl
theorem dksX7_entryLine_2 : cX7_entryLine.data.toList.drop 46 = dktX7_entryLine_2 := dk_seg dksX7_entryLine_1 23 rfl rfl
theorem dksX7_entryLine_3 : cX7_entryLine.data.toList.drop 69 = dktX7_entryLine_3 := dk_seg dksX7_entryLine_2 23 rfl rfl
theorem dksX7_entryLine_4 : cX7_entryLine.data.toList.drop 93 = dktX7_entryLine_4 := dk_seg dksX7_entryLine_3 24 rfl rfl
theorem dX7_entryLine_0 : decode cX7_entryLine 0 = .ok (.iconst 4, 1) := dk_7 (dk_at dksX7_entryLine_0 0 rfl rfl)
theorem dX7_entryLine_1 : decode cX7_entryLine 1 = .ok (.bipush 28, 2) := dk_16 28 (dk_at dksX7_entryLine_0 1 rfl rfl)
theorem dX7_entryLine_3 : decode cX7_entryLine 3 = .ok (.aload_n 0, 1) := dk_42 (dk_at dksX7_entryLine_0 3 rfl rfl)
theorem dX7_entryLine_4 : decode cX7_entryLine 4 = .ok (.iconst 5, 1) := dk_8 (dk_at dksX7_entryLine_0 4 rfl rfl)
theorem dX7_entryLine_5 : decode cX7_entryLine 5 = .ok (.invokevirtual 156, 3) := dk_182 0 156 (dk_at dksX7_entryLine_0 5 rfl rfl)
theorem dX7_entryLine_8 : decode cX7_entryLine 8 = .ok (.iadd, 1) := dk_96 (dk_at dksX7_entryLine_0 8 rfl rfl)
theorem dX7_entryLine_9 : decode cX7_entryLine 9 = .ok (.imul, 1) := dk_104 (dk_at dksX7_entryLine_0 9 rfl rfl)
theorem dX7_entryLine_10 : decode cX7_entryLine 10 = .ok (.istore_n 1, 1) := dk_60 (dk_at dksX7_entryLine_0 10 rfl rfl)
theorem dX7_entryLine_11 : decode cX7_entryLine 11 = .ok (.aload_n 0, 1) := dk_42 (dk_at dksX7_entryLine_0 11 rfl rfl)
theorem dX7_entryLine_12 : decode cX7_entryLine 12 = .ok (.getfield 43, 3) := dk_180 0 43 (dk_at dksX7_entryLine_0 12 rfl rfl)
theorem dX7_entryLine_15 : decode cX7_entryLine 15 = .ok (.iload_n 1, 1) := dk_27 (dk_at dksX7_entryLine_0 15 rfl rfl)
theorem dX7_entryLine_16 : decode cX7_entryLine 16 = .ok (.aload_n 0, 1) := dk_42 (dk_at dksX7_entryLine_0 16 rfl rfl)
theorem dX7_entryLine_17 : decode cX7_entryLine 17 = .ok (.ldc2_w 175, 3) := dk_20 0 175 (dk_at dksX7_entryLine_0 17 rfl rfl)
theorem dX7_entryLine_20 : decode cX7_entryLine 20 = .ok (.iconst 0, 1) := dk_3 (dk_at dksX7_entryLine_0 20 rfl rfl)
theorem dX7_entryLine_21 : decode cX7_entryLine 21 = .ok (.aload_n 0, 1) := dk_42 (dk_at dksX7_entryLine_0 21 rfl rfl)
theorem dX7_entryLine_22 : decode cX7_entryLine 22 = .ok (.iconst 4, 1) := dk_7 (dk_at dksX7_entryLine_0 22 rfl rfl)
theorem dX7_entryLine_23 : decode cX7_entryLine 23 = .ok (.invokevirtual 156, 3) := dk_182 0 156 (dk_at dksX7_entryLine_1 0 rfl rfl)
theorem dX7_entryLine_26 : decode cX7_entryLine 26 = .ok (.iconst 1, 1) := dk_4 (dk_at dksX7_entryLine_1 3 rfl rfl)
theorem dX7_entryLine_27 : decode cX7_entryLine 27 = .ok (.isub, 1) := dk_100 (dk_at dksX7_entryLine_1 4 rfl rfl)
theorem dX7_entryLine_28 : decode cX7_entryLine 28 = .ok (.invokevirtual 162, 3) := dk_182 0 162 (dk_at dksX7_entryLine_1 5 rfl rfl)
theorem dX7_entryLine_31 : decode cX7_entryLine 31 = .ok (.iastore, 1) := dk_79 (dk_at dksX7_entryLine_1 8 rfl rfl)
theorem dX7_entryLine_32 : decode cX7_entryLine 32 = .ok (.aload_n 0, 1) := dk_42 (dk_at dksX7_entryLine_1 9 rfl rfl)
theorem dX7_entryLine_33 : decode cX7_entryLine 33 = .ok (.getfield 43, 3) := dk_180 0 43 (dk_at dksX7_entryLine_1 10 rfl rfl)
theorem dX7_entryLine_36 : decode cX7_entryLine 36 = .ok (.iload_n 1, 1) := dk_27 (dk_at dksX7_entryLine_1 13 rfl rfl)
theorem dX7_entryLine_37 : decode cX7_entryLine 37 = .ok (.iconst 1, 1) := dk_4 (dk_at dksX7_entryLine_1 14 rfl rfl)
theorem dX7_entryLine_38 : decode cX7_entryLine 38 = .ok (.iadd, 1) := dk_96 (dk_at dksX7_entryLine_1 15 rfl rfl)
theorem dX7_entryLine_39 : decode cX7_entryLine 39 = .ok (.aload_n 0, 1) := dk_42 (dk_at dksX7_entryLine_1 16 rfl rfl)
theorem dX7_entryLine_40 : decode cX7_entryLine 40 = .ok (.ldc2_w 177, 3) := dk_20 0 177 (dk_at dksX7_entryLine_1 17 rfl rfl)
theorem dX7_entryLine_43 : decode cX7_entryLine 43 = .ok (.iconst 0, 1) := dk_3 (dk_at dksX7_entryLine_1 20 rfl rfl)
theorem dX7_entryLine_44 : decode cX7_entryLine 44 = .ok (.aload_n 0, 1) := dk_42 (dk_at dksX7_entryLine_1 21 rfl rfl)
theorem dX7_entryLine_45 : decode cX7_entryLine 45 = .ok (.iconst 3, 1) := dk_6 (dk_at dksX7_entryLine_1 22 rfl rfl)
theorem dX7_entryLine_46 : decode cX7_entryLine 46 = .ok (.invokevirtual 156, 3) := dk_182 0 156 (dk_at dksX7_entryLine_2 0 rfl rfl)
theorem dX7_entryLine_49 : decode cX7_entryLine 49 = .ok (.iconst 1, 1) := dk_4 (dk_at dksX7_entryLine_2 3 rfl rfl)
theorem dX7_entryLine_50 : decode cX7_entryLine 50 = .ok (.isub, 1) := dk_100 (dk_at dksX7_entryLine_2 4 rfl rfl)
theorem dX7_entryLine_51 : decode cX7_entryLine 51 = .ok (.invokevirtual 162, 3) := dk_182 0 162 (dk_at dksX7_entryLine_2 5 rfl rfl)
theorem dX7_entryLine_54 : decode cX7_entryLine 54 = .ok (.iastore, 1) := dk_79 (dk_at dksX7_entryLine_2 8 rfl rfl)
theorem dX7_entryLine_55 : decode cX7_entryLine 55 = .ok (.aload_n 0, 1) := dk_42 (dk_at dksX7_entryLine_2 9 rfl rfl)
theorem dX7_entryLine_56 : decode cX7_entryLine 56 = .ok (.getfield 43, 3) := dk_180 0 43 (dk_at dksX7_entryLine_2 10 rfl rfl)
theorem dX7_entryLine_59 : decode cX7_entryLine 59 = .ok (.iload_n 1, 1) := dk_27 (dk_at dksX7_entryLine_2 13 rfl rfl)
theorem dX7_entryLine_60 : decode cX7_entryLine 60 = .ok (.iconst 2, 1) := dk_5 (dk_at dksX7_entryLine_2 14 rfl rfl)
theorem dX7_entryLine_61 : decode cX7_entryLine 61 = .ok (.iadd, 1) := dk_96 (dk_at dksX7_entryLine_2 15 rfl rfl)
theorem dX7_entryLine_62 : decode cX7_entryLine 62 = .ok (.aload_n 0, 1) := dk_42 (dk_at dksX7_entryLine_2 16 rfl rfl)
theorem dX7_entryLine_63 : decode cX7_entryLine 63 = .ok (.ldc2_w 179, 3) := dk_20 0 179 (dk_at dksX7_entryLine_2 17 rfl rfl)
theorem dX7_entryLine_66 : decode cX7_entryLine 66 = .ok (.iconst 0, 1) := dk_3 (dk_at dksX7_entryLine_2 20 rfl rfl)
theorem dX7_entryLine_67 : decode cX7_entryLine 67 = .ok (.bipush 20, 2) := dk_16 20 (dk_at dksX7_entryLine_2 21 rfl rfl)
theorem dX7_entryLine_69 : decode cX7_entryLine 69 = .ok (.invokevirtual 162, 3) := dk_182 0 162 (dk_at dksX7_entryLine_3 0 rfl rfl)
theorem dX7_entryLine_72 : decode cX7_entryLine 72 = .ok (.iastore, 1) := dk_79 (dk_at dksX7_entryLine_3 3 rfl rfl)
theorem dX7_entryLine_73 : decode cX7_entryLine 73 = .ok (.aload_n 0, 1) := dk_42 (dk_at dksX7_entryLine_3 4 rfl rfl)
theorem dX7_entryLine_74 : decode cX7_entryLine 74 = .ok (.getfield 43, 3) := dk_180 0 43 (dk_at dksX7_entryLine_3 5 rfl rfl)
theorem dX7_entryLine_77 : decode cX7_entryLine 77 = .ok (.iload_n 1, 1) := dk_27 (dk_at dksX7_entryLine_3 8 rfl rfl)
theorem dX7_entryLine_78 : decode cX7_entryLine 78 = .ok (.iconst 3, 1) := dk_6 (dk_at dksX7_entryLine_3 9 rfl rfl)
theorem dX7_entryLine_79 : decode cX7_entryLine 79 = .ok (.iadd, 1) := dk_96 (dk_at dksX7_entryLine_3 10 rfl rfl)
theorem dX7_entryLine_80 : decode cX7_entryLine 80 = .ok (.aload_n 0, 1) := dk_42 (dk_at dksX7_entryLine_3 11 rfl rfl)
theorem dX7_entryLine_81 : decode cX7_entryLine 81 = .ok (.ldc2_w 181, 3) := dk_20 0 181 (dk_at dksX7_entryLine_3 12 rfl rfl)
theorem dX7_entryLine_84 : decode cX7_entryLine 84 = .ok (.iconst 0, 1) := dk_3 (dk_at dksX7_entryLine_3 15 rfl rfl)
theorem dX7_entryLine_85 : decode cX7_entryLine 85 = .ok (.bipush 20, 2) := dk_16 20 (dk_at dksX7_entryLine_3 16 rfl rfl)
theorem dX7_entryLine_87 : decode cX7_entryLine 87 = .ok (.invokevirtual 162, 3) := dk_182 0 162 (dk_at dksX7_entryLine_3 18 rfl rfl)
theorem dX7_entryLine_90 : decode cX7_entryLine 90 = .ok (.iastore, 1) := dk_79 (dk_at dksX7_entryLine_3 21 rfl rfl)
theorem dX7_entryLine_91 : decode cX7_entryLine 91 = .ok (.aload_n 0, 1) := dk_42 (dk_at dksX7_entryLine_3 22 rfl rfl)
theorem dX7_entryLine_92 : decode cX7_entryLine 92 = .ok (.iconst 5, 1) := dk_8 (dk_at dksX7_entryLine_3 23 rfl rfl)
theorem dX7_entryLine_93 : decode cX7_entryLine 93 = .ok (.aload_n 0, 1) := dk_42 (dk_at dksX7_entryLine_4 0 rfl rfl)
theorem dX7_entryLine_94 : decode cX7_entryLine 94 = .ok (.iconst 5, 1) := dk_8 (dk_at dksX7_entryLine_4 1 rfl rfl)
theorem dX7_entryLine_95 : decode cX7_entryLine 95 = .ok (.invokevirtual 156, 3) := dk_182 0 156 (dk_at dksX7_entryLine_4 2 rfl rfl)
theorem dX7_entryLine_98 : decode cX7_entryLine 98 = .ok (.iconst 1, 1) := dk_4 (dk_at dksX7_entryLine_4 5 rfl rfl)
theorem dX7_entryLine_99 : decode cX7_entryLine 99 = .ok (.iadd, 1) := dk_96 (dk_at dksX7_entryLine_4 6 rfl rfl)
theorem dX7_entryLine_100 : decode cX7_entryLine 100 = .ok (.invokevirtual 169, 3) := dk_182 0 169 (dk_at dksX7_entryLine_4 7 rfl rfl)
theorem dX7_entryLine_103 : decode cX7_entryLine 103 = .ok (.return_, 1) := dk_177 (dk_at dksX7_entryLine_4 10 rfl rfl)
abbrev cX7_ends : ByteArray := prog_12_method_21_code
def yX7_ends : MethodName := ⟨RX7, "ends", "()V"⟩
def dkwX7_ends_1 : List UInt8 := [177]
abbrev dktX7_ends_1 : List UInt8 := dkwX7_ends_1 ++ []
def dkwX7_ends_0 : List UInt8 := [42, 180, 0, 115, 6, 159, 0, 8, 42, 4, 182, 0, 142, 42, 180, 0, 126, 154, 0, 7, 42, 182, 0, 136]
abbrev dktX7_ends_0 : List UInt8 := dkwX7_ends_0 ++ dktX7_ends_1
theorem dksX7_ends_0 : cX7_ends.data.toList.drop 0 = dktX7_ends_0 := by decide +kernel
theorem dksX7_ends_1 : cX7_ends.data.toList.drop 24 = dktX7_ends_1 := dk_seg dksX7_ends_0 24 rfl rfl
theorem dX7_ends_0 : decode cX7_ends 0 = .ok (.aload_n 0, 1) := dk_42 (dk_at dksX7_ends_0 0 rfl rfl)
theorem dX7_ends_1 : decode cX7_ends 1 = .ok (.getfield 115, 3) := dk_180 0 115 (dk_at dksX7_ends_0 1 rfl rfl)
theorem dX7_ends_4 : decode cX7_ends 4 = .ok (.iconst 3, 1) := dk_6 (dk_at dksX7_ends_0 4 rfl rfl)
theorem dX7_ends_5 : decode cX7_ends 5 = .ok (.if_icmp .eq 8, 3) := dk_159 0 8 (dk_at dksX7_ends_0 5 rfl rfl)
theorem dX7_ends_8 : decode cX7_ends 8 = .ok (.aload_n 0, 1) := dk_42 (dk_at dksX7_ends_0 8 rfl rfl)
theorem dX7_ends_9 : decode cX7_ends 9 = .ok (.iconst 1, 1) := dk_4 (dk_at dksX7_ends_0 9 rfl rfl)
theorem dX7_ends_10 : decode cX7_ends 10 = .ok (.invokevirtual 142, 3) := dk_182 0 142 (dk_at dksX7_ends_0 10 rfl rfl)
theorem dX7_ends_13 : decode cX7_ends 13 = .ok (.aload_n 0, 1) := dk_42 (dk_at dksX7_ends_0 13 rfl rfl)
theorem dX7_ends_14 : decode cX7_ends 14 = .ok (.getfield 126, 3) := dk_180 0 126 (dk_at dksX7_ends_0 14 rfl rfl)
theorem dX7_ends_17 : decode cX7_ends 17 = .ok (.ifCond .ne 7, 3) := dk_154 0 7 (dk_at dksX7_ends_0 17 rfl rfl)
theorem dX7_ends_20 : decode cX7_ends 20 = .ok (.aload_n 0, 1) := dk_42 (dk_at dksX7_ends_0 20 rfl rfl)
theorem dX7_ends_21 : decode cX7_ends 21 = .ok (.invokevirtual 136, 3) := dk_182 0 136 (dk_at dksX7_ends_0 21 rfl rfl)
theorem dX7_ends_24 : decode cX7_ends 24 = .ok (.return_, 1) := dk_177 (dk_at dksX7_ends_1 0 rfl rfl)
abbrev cX7_isOver : ByteArray := prog_12_method_23_code
def yX7_isOver : MethodName := ⟨RX7, "isOver", "()V"⟩
def dkwX7_isOver_1 : List UInt8 := [167, 0, 7, 42, 180, 0, 129, 181, 0, 27, 177]
abbrev dktX7_isOver_1 : List UInt8 := dkwX7_isOver_1 ++ []
def dkwX7_isOver_0 : List UInt8 := [42, 3, 181, 0, 91, 42, 42, 180, 0, 126, 181, 0, 153, 42, 42, 180, 0, 126, 154, 0, 7, 2]
abbrev dktX7_isOver_0 : List UInt8 := dkwX7_isOver_0 ++ dktX7_isOver_1
theorem dksX7_isOver_0 : cX7_isOver.data.toList.drop 0 = dktX7_isOver_0 := by decide +kernel
theorem dksX7_isOver_1 : cX7_isOver.data.toList.drop 22 = dktX7_isOver_1 := dk_seg dksX7_isOver_0 22 rfl rfl
theorem dX7_isOver_0 : decode cX7_isOver 0 = .ok (.aload_n 0, 1) := dk_42 (dk_at dksX7_isOver_0 0 rfl rfl)
theorem dX7_isOver_1 : decode cX7_isOver 1 = .ok (.iconst 0, 1) := dk_3 (dk_at dksX7_isOver_0 1 rfl rfl)
theorem dX7_isOver_2 : decode cX7_isOver 2 = .ok (.putfield 91, 3) := dk_181 0 91 (dk_at dksX7_isOver_0 2 rfl rfl)
theorem dX7_isOver_5 : decode cX7_isOver 5 = .ok (.aload_n 0, 1) := dk_42 (dk_at dksX7_isOver_0 5 rfl rfl)
theorem dX7_isOver_6 : decode cX7_isOver 6 = .ok (.aload_n 0, 1) := dk_42 (dk_at dksX7_isOver_0 6 rfl rfl)
theorem dX7_isOver_7 : decode cX7_isOver 7 = .ok (.getfield 126, 3) := dk_180 0 126 (dk_at dksX7_isOver_0 7 rfl rfl)
theorem dX7_isOver_10 : decode cX7_isOver 10 = .ok (.putfield 153, 3) := dk_181 0 153 (dk_at dksX7_isOver_0 10 rfl rfl)
theorem dX7_isOver_13 : decode cX7_isOver 13 = .ok (.aload_n 0, 1) := dk_42 (dk_at dksX7_isOver_0 13 rfl rfl)
theorem dX7_isOver_14 : decode cX7_isOver 14 = .ok (.aload_n 0, 1) := dk_42 (dk_at dksX7_isOver_0 14 rfl rfl)
theorem dX7_isOver_15 : decode cX7_isOver 15 = .ok (.getfield 126, 3) := dk_180 0 126 (dk_at dksX7_isOver_0 15 rfl rfl)
theorem dX7_isOver_18 : decode cX7_isOver 18 = .ok (.ifCond .ne 7, 3) := dk_154 0 7 (dk_at dksX7_isOver_0 18 rfl rfl)
theorem dX7_isOver_21 : decode cX7_isOver 21 = .ok (.iconst (-1), 1) := dk_2 (dk_at dksX7_isOver_0 21 rfl rfl)
theorem dX7_isOver_22 : decode cX7_isOver 22 = .ok (.goto 7, 3) := dk_167 0 7 (dk_at dksX7_isOver_1 0 rfl rfl)
theorem dX7_isOver_25 : decode cX7_isOver 25 = .ok (.aload_n 0, 1) := dk_42 (dk_at dksX7_isOver_1 3 rfl rfl)
theorem dX7_isOver_26 : decode cX7_isOver 26 = .ok (.getfield 129, 3) := dk_180 0 129 (dk_at dksX7_isOver_1 4 rfl rfl)
theorem dX7_isOver_29 : decode cX7_isOver 29 = .ok (.putfield 27, 3) := dk_181 0 27 (dk_at dksX7_isOver_1 7 rfl rfl)
theorem dX7_isOver_32 : decode cX7_isOver 32 = .ok (.return_, 1) := dk_177 (dk_at dksX7_isOver_1 10 rfl rfl)
abbrev cX7_copyBook : ByteArray := prog_12_method_35_code
def yX7_copyBook : MethodName := ⟨RX7, "copyBook", "(II)V"⟩
def dkwX7_copyBook_2 : List UInt8 := [16, 28, 27, 28, 184, 0, 232, 42, 180, 0, 46, 16, 120, 27, 28, 184, 0, 232, 177]
abbrev dktX7_copyBook_2 : List UInt8 := dkwX7_copyBook_2 ++ []
def dkwX7_copyBook_1 : List UInt8 := [180, 0, 37, 16, 12, 27, 28, 184, 0, 232, 42, 180, 0, 40, 7, 27, 28, 184, 0, 232, 42, 180, 0, 43]
abbrev dktX7_copyBook_1 : List UInt8 := dkwX7_copyBook_1 ++ dktX7_copyBook_2
def dkwX7_copyBook_0 : List UInt8 := [42, 180, 0, 31, 4, 27, 28, 184, 0, 232, 42, 180, 0, 34, 16, 7, 27, 28, 184, 0, 232, 42]
abbrev dktX7_copyBook_0 : List UInt8 := dkwX7_copyBook_0 ++ dktX7_copyBook_1
theorem dksX7_copyBook_0 : cX7_copyBook.data.toList.drop 0 = dktX7_copyBook_0 := by decide +kernel
theorem dksX7_copyBook_1 : cX7_copyBook.data.toList.drop 22 = dktX7_copyBook_1 := dk_seg dksX7_copyBook_0 22 rfl rfl
theorem dksX7_copyBook_2 : cX7_copyBook.data.toList.drop 46 = dktX7_copyBook_2 := dk_seg dksX7_copyBook_1 24 rfl rfl
theorem dX7_copyBook_0 : decode cX7_copyBook 0 = .ok (.aload_n 0, 1) := dk_42 (dk_at dksX7_copyBook_0 0 rfl rfl)
theorem dX7_copyBook_1 : decode cX7_copyBook 1 = .ok (.getfield 31, 3) := dk_180 0 31 (dk_at dksX7_copyBook_0 1 rfl rfl)
theorem dX7_copyBook_4 : decode cX7_copyBook 4 = .ok (.iconst 1, 1) := dk_4 (dk_at dksX7_copyBook_0 4 rfl rfl)
theorem dX7_copyBook_5 : decode cX7_copyBook 5 = .ok (.iload_n 1, 1) := dk_27 (dk_at dksX7_copyBook_0 5 rfl rfl)
theorem dX7_copyBook_6 : decode cX7_copyBook 6 = .ok (.iload_n 2, 1) := dk_28 (dk_at dksX7_copyBook_0 6 rfl rfl)
theorem dX7_copyBook_7 : decode cX7_copyBook 7 = .ok (.invokestatic 232, 3) := dk_184 0 232 (dk_at dksX7_copyBook_0 7 rfl rfl)
theorem dX7_copyBook_10 : decode cX7_copyBook 10 = .ok (.aload_n 0, 1) := dk_42 (dk_at dksX7_copyBook_0 10 rfl rfl)
theorem dX7_copyBook_11 : decode cX7_copyBook 11 = .ok (.getfield 34, 3) := dk_180 0 34 (dk_at dksX7_copyBook_0 11 rfl rfl)
theorem dX7_copyBook_14 : decode cX7_copyBook 14 = .ok (.bipush 7, 2) := dk_16 7 (dk_at dksX7_copyBook_0 14 rfl rfl)
theorem dX7_copyBook_16 : decode cX7_copyBook 16 = .ok (.iload_n 1, 1) := dk_27 (dk_at dksX7_copyBook_0 16 rfl rfl)
theorem dX7_copyBook_17 : decode cX7_copyBook 17 = .ok (.iload_n 2, 1) := dk_28 (dk_at dksX7_copyBook_0 17 rfl rfl)
theorem dX7_copyBook_18 : decode cX7_copyBook 18 = .ok (.invokestatic 232, 3) := dk_184 0 232 (dk_at dksX7_copyBook_0 18 rfl rfl)
theorem dX7_copyBook_21 : decode cX7_copyBook 21 = .ok (.aload_n 0, 1) := dk_42 (dk_at dksX7_copyBook_0 21 rfl rfl)
theorem dX7_copyBook_22 : decode cX7_copyBook 22 = .ok (.getfield 37, 3) := dk_180 0 37 (dk_at dksX7_copyBook_1 0 rfl rfl)
theorem dX7_copyBook_25 : decode cX7_copyBook 25 = .ok (.bipush 12, 2) := dk_16 12 (dk_at dksX7_copyBook_1 3 rfl rfl)
theorem dX7_copyBook_27 : decode cX7_copyBook 27 = .ok (.iload_n 1, 1) := dk_27 (dk_at dksX7_copyBook_1 5 rfl rfl)
theorem dX7_copyBook_28 : decode cX7_copyBook 28 = .ok (.iload_n 2, 1) := dk_28 (dk_at dksX7_copyBook_1 6 rfl rfl)
theorem dX7_copyBook_29 : decode cX7_copyBook 29 = .ok (.invokestatic 232, 3) := dk_184 0 232 (dk_at dksX7_copyBook_1 7 rfl rfl)
theorem dX7_copyBook_32 : decode cX7_copyBook 32 = .ok (.aload_n 0, 1) := dk_42 (dk_at dksX7_copyBook_1 10 rfl rfl)
theorem dX7_copyBook_33 : decode cX7_copyBook 33 = .ok (.getfield 40, 3) := dk_180 0 40 (dk_at dksX7_copyBook_1 11 rfl rfl)
theorem dX7_copyBook_36 : decode cX7_copyBook 36 = .ok (.iconst 4, 1) := dk_7 (dk_at dksX7_copyBook_1 14 rfl rfl)
theorem dX7_copyBook_37 : decode cX7_copyBook 37 = .ok (.iload_n 1, 1) := dk_27 (dk_at dksX7_copyBook_1 15 rfl rfl)
theorem dX7_copyBook_38 : decode cX7_copyBook 38 = .ok (.iload_n 2, 1) := dk_28 (dk_at dksX7_copyBook_1 16 rfl rfl)
theorem dX7_copyBook_39 : decode cX7_copyBook 39 = .ok (.invokestatic 232, 3) := dk_184 0 232 (dk_at dksX7_copyBook_1 17 rfl rfl)
theorem dX7_copyBook_42 : decode cX7_copyBook 42 = .ok (.aload_n 0, 1) := dk_42 (dk_at dksX7_copyBook_1 20 rfl rfl)
theorem dX7_copyBook_43 : decode cX7_copyBook 43 = .ok (.getfield 43, 3) := dk_180 0 43 (dk_at dksX7_copyBook_1 21 rfl rfl)
theorem dX7_copyBook_46 : decode cX7_copyBook 46 = .ok (.bipush 28, 2) := dk_16 28 (dk_at dksX7_copyBook_2 0 rfl rfl)
theorem dX7_copyBook_48 : decode cX7_copyBook 48 = .ok (.iload_n 1, 1) := dk_27 (dk_at dksX7_copyBook_2 2 rfl rfl)
theorem dX7_copyBook_49 : decode cX7_copyBook 49 = .ok (.iload_n 2, 1) := dk_28 (dk_at dksX7_copyBook_2 3 rfl rfl)
theorem dX7_copyBook_50 : decode cX7_copyBook 50 = .ok (.invokestatic 232, 3) := dk_184 0 232 (dk_at dksX7_copyBook_2 4 rfl rfl)
theorem dX7_copyBook_53 : decode cX7_copyBook 53 = .ok (.aload_n 0, 1) := dk_42 (dk_at dksX7_copyBook_2 7 rfl rfl)
theorem dX7_copyBook_54 : decode cX7_copyBook 54 = .ok (.getfield 46, 3) := dk_180 0 46 (dk_at dksX7_copyBook_2 8 rfl rfl)
theorem dX7_copyBook_57 : decode cX7_copyBook 57 = .ok (.bipush 120, 2) := dk_16 120 (dk_at dksX7_copyBook_2 11 rfl rfl)
theorem dX7_copyBook_59 : decode cX7_copyBook 59 = .ok (.iload_n 1, 1) := dk_27 (dk_at dksX7_copyBook_2 13 rfl rfl)
theorem dX7_copyBook_60 : decode cX7_copyBook 60 = .ok (.iload_n 2, 1) := dk_28 (dk_at dksX7_copyBook_2 14 rfl rfl)
theorem dX7_copyBook_61 : decode cX7_copyBook 61 = .ok (.invokestatic 232, 3) := dk_184 0 232 (dk_at dksX7_copyBook_2 15 rfl rfl)
theorem dX7_copyBook_64 : decode cX7_copyBook 64 = .ok (.return_, 1) := dk_177 (dk_at dksX7_copyBook_2 18 rfl rfl)
abbrev cX7_copyRow : ByteArray := prog_12_method_34_code
def yX7_copyRow : MethodName := ⟨RX7, "copyRow", "([IIII)V"⟩
def dkwX7_copyRow_1 : List UInt8 := [79, 132, 4, 1, 167, 255, 231, 177]
abbrev dktX7_copyRow_1 : List UInt8 := dkwX7_copyRow_1 ++ []
def dkwX7_copyRow_0 : List UInt8 := [3, 54, 4, 21, 4, 27, 162, 0, 25, 42, 27, 29, 104, 21, 4, 96, 42, 27, 28, 104, 21, 4, 96, 46]
abbrev dktX7_copyRow_0 : List UInt8 := dkwX7_copyRow_0 ++ dktX7_copyRow_1
theorem dksX7_copyRow_0 : cX7_copyRow.data.toList.drop 0 = dktX7_copyRow_0 := by decide +kernel
theorem dksX7_copyRow_1 : cX7_copyRow.data.toList.drop 24 = dktX7_copyRow_1 := dk_seg dksX7_copyRow_0 24 rfl rfl
theorem dX7_copyRow_0 : decode cX7_copyRow 0 = .ok (.iconst 0, 1) := dk_3 (dk_at dksX7_copyRow_0 0 rfl rfl)
theorem dX7_copyRow_1 : decode cX7_copyRow 1 = .ok (.istore 4, 2) := dk_54 4 (dk_at dksX7_copyRow_0 1 rfl rfl)
theorem dX7_copyRow_3 : decode cX7_copyRow 3 = .ok (.iload 4, 2) := dk_21 4 (dk_at dksX7_copyRow_0 3 rfl rfl)
theorem dX7_copyRow_5 : decode cX7_copyRow 5 = .ok (.iload_n 1, 1) := dk_27 (dk_at dksX7_copyRow_0 5 rfl rfl)
theorem dX7_copyRow_6 : decode cX7_copyRow 6 = .ok (.if_icmp .ge 25, 3) := dk_162 0 25 (dk_at dksX7_copyRow_0 6 rfl rfl)
theorem dX7_copyRow_9 : decode cX7_copyRow 9 = .ok (.aload_n 0, 1) := dk_42 (dk_at dksX7_copyRow_0 9 rfl rfl)
theorem dX7_copyRow_10 : decode cX7_copyRow 10 = .ok (.iload_n 1, 1) := dk_27 (dk_at dksX7_copyRow_0 10 rfl rfl)
theorem dX7_copyRow_11 : decode cX7_copyRow 11 = .ok (.iload_n 3, 1) := dk_29 (dk_at dksX7_copyRow_0 11 rfl rfl)
theorem dX7_copyRow_12 : decode cX7_copyRow 12 = .ok (.imul, 1) := dk_104 (dk_at dksX7_copyRow_0 12 rfl rfl)
theorem dX7_copyRow_13 : decode cX7_copyRow 13 = .ok (.iload 4, 2) := dk_21 4 (dk_at dksX7_copyRow_0 13 rfl rfl)
theorem dX7_copyRow_15 : decode cX7_copyRow 15 = .ok (.iadd, 1) := dk_96 (dk_at dksX7_copyRow_0 15 rfl rfl)
theorem dX7_copyRow_16 : decode cX7_copyRow 16 = .ok (.aload_n 0, 1) := dk_42 (dk_at dksX7_copyRow_0 16 rfl rfl)
theorem dX7_copyRow_17 : decode cX7_copyRow 17 = .ok (.iload_n 1, 1) := dk_27 (dk_at dksX7_copyRow_0 17 rfl rfl)
theorem dX7_copyRow_18 : decode cX7_copyRow 18 = .ok (.iload_n 2, 1) := dk_28 (dk_at dksX7_copyRow_0 18 rfl rfl)
theorem dX7_copyRow_19 : decode cX7_copyRow 19 = .ok (.imul, 1) := dk_104 (dk_at dksX7_copyRow_0 19 rfl rfl)
theorem dX7_copyRow_20 : decode cX7_copyRow 20 = .ok (.iload 4, 2) := dk_21 4 (dk_at dksX7_copyRow_0 20 rfl rfl)
theorem dX7_copyRow_22 : decode cX7_copyRow 22 = .ok (.iadd, 1) := dk_96 (dk_at dksX7_copyRow_0 22 rfl rfl)
theorem dX7_copyRow_23 : decode cX7_copyRow 23 = .ok (.iaload, 1) := dk_46 (dk_at dksX7_copyRow_0 23 rfl rfl)
theorem dX7_copyRow_24 : decode cX7_copyRow 24 = .ok (.iastore, 1) := dk_79 (dk_at dksX7_copyRow_1 0 rfl rfl)
theorem dX7_copyRow_25 : decode cX7_copyRow 25 = .ok (.iinc 4 1, 3) := dk_132 4 1 (dk_at dksX7_copyRow_1 1 rfl rfl)
theorem dX7_copyRow_28 : decode cX7_copyRow 28 = .ok (.goto (-25), 3) := dk_167 255 231 (dk_at dksX7_copyRow_1 4 rfl rfl)
theorem dX7_copyRow_31 : decode cX7_copyRow 31 = .ok (.return_, 1) := dk_177 (dk_at dksX7_copyRow_1 7 rfl rfl)
abbrev cX7_ink : ByteArray := prog_12_method_64_code
def yX7_ink : MethodName := ⟨RX7, "ink", "(II)I"⟩
def dkwX7_ink_1 : List UInt8 := [153, 0, 16, 42, 180, 0, 37, 6, 27, 104, 28, 96, 46, 167, 0, 5, 16, 254, 172]
abbrev dktX7_ink_1 : List UInt8 := dkwX7_ink_1 ++ []
def dkwX7_ink_0 : List UInt8 := [42, 3, 181, 0, 74, 42, 27, 182, 1, 65, 153, 0, 28, 28, 133, 9, 20, 1, 68, 184, 0, 79]
abbrev dktX7_ink_0 : List UInt8 := dkwX7_ink_0 ++ dktX7_ink_1
theorem dksX7_ink_0 : cX7_ink.data.toList.drop 0 = dktX7_ink_0 := by decide +kernel
theorem dksX7_ink_1 : cX7_ink.data.toList.drop 22 = dktX7_ink_1 := dk_seg dksX7_ink_0 22 rfl rfl
theorem dX7_ink_0 : decode cX7_ink 0 = .ok (.aload_n 0, 1) := dk_42 (dk_at dksX7_ink_0 0 rfl rfl)
theorem dX7_ink_1 : decode cX7_ink 1 = .ok (.iconst 0, 1) := dk_3 (dk_at dksX7_ink_0 1 rfl rfl)
theorem dX7_ink_2 : decode cX7_ink 2 = .ok (.putfield 74, 3) := dk_181 0 74 (dk_at dksX7_ink_0 2 rfl rfl)
theorem dX7_ink_5 : decode cX7_ink 5 = .ok (.aload_n 0, 1) := dk_42 (dk_at dksX7_ink_0 5 rfl rfl)
theorem dX7_ink_6 : decode cX7_ink 6 = .ok (.iload_n 1, 1) := dk_27 (dk_at dksX7_ink_0 6 rfl rfl)
theorem dX7_ink_7 : decode cX7_ink 7 = .ok (.invokevirtual 321, 3) := dk_182 1 65 (dk_at dksX7_ink_0 7 rfl rfl)
theorem dX7_ink_10 : decode cX7_ink 10 = .ok (.ifCond .eq 28, 3) := dk_153 0 28 (dk_at dksX7_ink_0 10 rfl rfl)
theorem dX7_ink_13 : decode cX7_ink 13 = .ok (.iload_n 2, 1) := dk_28 (dk_at dksX7_ink_0 13 rfl rfl)
theorem dX7_ink_14 : decode cX7_ink 14 = .ok (.i2l, 1) := dk_133 (dk_at dksX7_ink_0 14 rfl rfl)
theorem dX7_ink_15 : decode cX7_ink 15 = .ok (.lconst 0, 1) := dk_9 (dk_at dksX7_ink_0 15 rfl rfl)
theorem dX7_ink_16 : decode cX7_ink 16 = .ok (.ldc2_w 324, 3) := dk_20 1 68 (dk_at dksX7_ink_0 16 rfl rfl)
theorem dX7_ink_19 : decode cX7_ink 19 = .ok (.invokestatic 79, 3) := dk_184 0 79 (dk_at dksX7_ink_0 19 rfl rfl)
theorem dX7_ink_22 : decode cX7_ink 22 = .ok (.ifCond .eq 16, 3) := dk_153 0 16 (dk_at dksX7_ink_1 0 rfl rfl)
theorem dX7_ink_25 : decode cX7_ink 25 = .ok (.aload_n 0, 1) := dk_42 (dk_at dksX7_ink_1 3 rfl rfl)
theorem dX7_ink_26 : decode cX7_ink 26 = .ok (.getfield 37, 3) := dk_180 0 37 (dk_at dksX7_ink_1 4 rfl rfl)
theorem dX7_ink_29 : decode cX7_ink 29 = .ok (.iconst 3, 1) := dk_6 (dk_at dksX7_ink_1 7 rfl rfl)
theorem dX7_ink_30 : decode cX7_ink 30 = .ok (.iload_n 1, 1) := dk_27 (dk_at dksX7_ink_1 8 rfl rfl)
theorem dX7_ink_31 : decode cX7_ink 31 = .ok (.imul, 1) := dk_104 (dk_at dksX7_ink_1 9 rfl rfl)
theorem dX7_ink_32 : decode cX7_ink 32 = .ok (.iload_n 2, 1) := dk_28 (dk_at dksX7_ink_1 10 rfl rfl)
theorem dX7_ink_33 : decode cX7_ink 33 = .ok (.iadd, 1) := dk_96 (dk_at dksX7_ink_1 11 rfl rfl)
theorem dX7_ink_34 : decode cX7_ink 34 = .ok (.iaload, 1) := dk_46 (dk_at dksX7_ink_1 12 rfl rfl)
theorem dX7_ink_35 : decode cX7_ink 35 = .ok (.goto 5, 3) := dk_167 0 5 (dk_at dksX7_ink_1 13 rfl rfl)
theorem dX7_ink_38 : decode cX7_ink 38 = .ok (.bipush (-2), 2) := dk_16 254 (dk_at dksX7_ink_1 16 rfl rfl)
theorem dX7_ink_40 : decode cX7_ink 40 = .ok (.ireturn, 1) := dk_172 (dk_at dksX7_ink_1 18 rfl rfl)
abbrev cX7_isInk : ByteArray := prog_12_method_39_code
def yX7_isInk : MethodName := ⟨RX7, "isInk", "(I)Z"⟩
def dkwX7_isInk_0 : List UInt8 := [27, 133, 9, 42, 180, 0, 34, 6, 46, 133, 10, 101, 184, 0, 79, 172]
abbrev dktX7_isInk_0 : List UInt8 := dkwX7_isInk_0 ++ []
theorem dksX7_isInk_0 : cX7_isInk.data.toList.drop 0 = dktX7_isInk_0 := by decide +kernel
theorem dX7_isInk_0 : decode cX7_isInk 0 = .ok (.iload_n 1, 1) := dk_27 (dk_at dksX7_isInk_0 0 rfl rfl)
theorem dX7_isInk_1 : decode cX7_isInk 1 = .ok (.i2l, 1) := dk_133 (dk_at dksX7_isInk_0 1 rfl rfl)
theorem dX7_isInk_2 : decode cX7_isInk 2 = .ok (.lconst 0, 1) := dk_9 (dk_at dksX7_isInk_0 2 rfl rfl)
theorem dX7_isInk_3 : decode cX7_isInk 3 = .ok (.aload_n 0, 1) := dk_42 (dk_at dksX7_isInk_0 3 rfl rfl)
theorem dX7_isInk_4 : decode cX7_isInk 4 = .ok (.getfield 34, 3) := dk_180 0 34 (dk_at dksX7_isInk_0 4 rfl rfl)
theorem dX7_isInk_7 : decode cX7_isInk 7 = .ok (.iconst 3, 1) := dk_6 (dk_at dksX7_isInk_0 7 rfl rfl)
theorem dX7_isInk_8 : decode cX7_isInk 8 = .ok (.iaload, 1) := dk_46 (dk_at dksX7_isInk_0 8 rfl rfl)
theorem dX7_isInk_9 : decode cX7_isInk 9 = .ok (.i2l, 1) := dk_133 (dk_at dksX7_isInk_0 9 rfl rfl)
theorem dX7_isInk_10 : decode cX7_isInk 10 = .ok (.lconst 1, 1) := dk_10 (dk_at dksX7_isInk_0 10 rfl rfl)
theorem dX7_isInk_11 : decode cX7_isInk 11 = .ok (.lsub, 1) := dk_101 (dk_at dksX7_isInk_0 11 rfl rfl)
theorem dX7_isInk_12 : decode cX7_isInk 12 = .ok (.invokestatic 79, 3) := dk_184 0 79 (dk_at dksX7_isInk_0 12 rfl rfl)
theorem dX7_isInk_15 : decode cX7_isInk 15 = .ok (.ireturn, 1) := dk_172 (dk_at dksX7_isInk_0 15 rfl rfl)
abbrev cX7_page : ByteArray := prog_12_method_65_code
def yX7_page : MethodName := ⟨RX7, "page", "(I)I"⟩
def dkwX7_page_1 : List UInt8 := [172]
abbrev dktX7_page_1 : List UInt8 := dkwX7_page_1 ++ []
def dkwX7_page_0 : List UInt8 := [42, 3, 181, 0, 74, 42, 27, 182, 1, 70, 153, 0, 12, 42, 180, 0, 40, 27, 46, 167, 0, 5, 16, 254]
abbrev dktX7_page_0 : List UInt8 := dkwX7_page_0 ++ dktX7_page_1
theorem dksX7_page_0 : cX7_page.data.toList.drop 0 = dktX7_page_0 := by decide +kernel
theorem dksX7_page_1 : cX7_page.data.toList.drop 24 = dktX7_page_1 := dk_seg dksX7_page_0 24 rfl rfl
theorem dX7_page_0 : decode cX7_page 0 = .ok (.aload_n 0, 1) := dk_42 (dk_at dksX7_page_0 0 rfl rfl)
theorem dX7_page_1 : decode cX7_page 1 = .ok (.iconst 0, 1) := dk_3 (dk_at dksX7_page_0 1 rfl rfl)
theorem dX7_page_2 : decode cX7_page 2 = .ok (.putfield 74, 3) := dk_181 0 74 (dk_at dksX7_page_0 2 rfl rfl)
theorem dX7_page_5 : decode cX7_page 5 = .ok (.aload_n 0, 1) := dk_42 (dk_at dksX7_page_0 5 rfl rfl)
theorem dX7_page_6 : decode cX7_page 6 = .ok (.iload_n 1, 1) := dk_27 (dk_at dksX7_page_0 6 rfl rfl)
theorem dX7_page_7 : decode cX7_page 7 = .ok (.invokevirtual 326, 3) := dk_182 1 70 (dk_at dksX7_page_0 7 rfl rfl)
theorem dX7_page_10 : decode cX7_page 10 = .ok (.ifCond .eq 12, 3) := dk_153 0 12 (dk_at dksX7_page_0 10 rfl rfl)
theorem dX7_page_13 : decode cX7_page 13 = .ok (.aload_n 0, 1) := dk_42 (dk_at dksX7_page_0 13 rfl rfl)
theorem dX7_page_14 : decode cX7_page 14 = .ok (.getfield 40, 3) := dk_180 0 40 (dk_at dksX7_page_0 14 rfl rfl)
theorem dX7_page_17 : decode cX7_page 17 = .ok (.iload_n 1, 1) := dk_27 (dk_at dksX7_page_0 17 rfl rfl)
theorem dX7_page_18 : decode cX7_page 18 = .ok (.iaload, 1) := dk_46 (dk_at dksX7_page_0 18 rfl rfl)
theorem dX7_page_19 : decode cX7_page 19 = .ok (.goto 5, 3) := dk_167 0 5 (dk_at dksX7_page_0 19 rfl rfl)
theorem dX7_page_22 : decode cX7_page 22 = .ok (.bipush (-2), 2) := dk_16 254 (dk_at dksX7_page_0 22 rfl rfl)
theorem dX7_page_24 : decode cX7_page 24 = .ok (.ireturn, 1) := dk_172 (dk_at dksX7_page_1 0 rfl rfl)
abbrev cX7_isPage : ByteArray := prog_12_method_40_code
def yX7_isPage : MethodName := ⟨RX7, "isPage", "(I)Z"⟩
def dkwX7_isPage_0 : List UInt8 := [27, 133, 9, 42, 180, 0, 34, 7, 46, 133, 10, 101, 184, 0, 79, 172]
abbrev dktX7_isPage_0 : List UInt8 := dkwX7_isPage_0 ++ []
theorem dksX7_isPage_0 : cX7_isPage.data.toList.drop 0 = dktX7_isPage_0 := by decide +kernel
theorem dX7_isPage_0 : decode cX7_isPage 0 = .ok (.iload_n 1, 1) := dk_27 (dk_at dksX7_isPage_0 0 rfl rfl)
theorem dX7_isPage_1 : decode cX7_isPage 1 = .ok (.i2l, 1) := dk_133 (dk_at dksX7_isPage_0 1 rfl rfl)
theorem dX7_isPage_2 : decode cX7_isPage 2 = .ok (.lconst 0, 1) := dk_9 (dk_at dksX7_isPage_0 2 rfl rfl)
theorem dX7_isPage_3 : decode cX7_isPage 3 = .ok (.aload_n 0, 1) := dk_42 (dk_at dksX7_isPage_0 3 rfl rfl)
theorem dX7_isPage_4 : decode cX7_isPage 4 = .ok (.getfield 34, 3) := dk_180 0 34 (dk_at dksX7_isPage_0 4 rfl rfl)
theorem dX7_isPage_7 : decode cX7_isPage 7 = .ok (.iconst 4, 1) := dk_7 (dk_at dksX7_isPage_0 7 rfl rfl)
theorem dX7_isPage_8 : decode cX7_isPage 8 = .ok (.iaload, 1) := dk_46 (dk_at dksX7_isPage_0 8 rfl rfl)
theorem dX7_isPage_9 : decode cX7_isPage 9 = .ok (.i2l, 1) := dk_133 (dk_at dksX7_isPage_0 9 rfl rfl)
theorem dX7_isPage_10 : decode cX7_isPage 10 = .ok (.lconst 1, 1) := dk_10 (dk_at dksX7_isPage_0 10 rfl rfl)
theorem dX7_isPage_11 : decode cX7_isPage 11 = .ok (.lsub, 1) := dk_101 (dk_at dksX7_isPage_0 11 rfl rfl)
theorem dX7_isPage_12 : decode cX7_isPage 12 = .ok (.invokestatic 79, 3) := dk_184 0 79 (dk_at dksX7_isPage_0 12 rfl rfl)
theorem dX7_isPage_15 : decode cX7_isPage 15 = .ok (.ireturn, 1) := dk_172 (dk_at dksX7_isPage_0 15 rfl rfl)
abbrev cX7_entry : ByteArray := prog_12_method_66_code
def yX7_entry : MethodName := ⟨RX7, "entry", "(II)I"⟩
def dkwX7_entry_2 : List UInt8 := [27, 104, 28, 96, 46, 172]
abbrev dktX7_entry_2 : List UInt8 := dkwX7_entry_2 ++ []
def dkwX7_entry_1 : List UInt8 := [154, 0, 6, 16, 254, 172, 28, 7, 160, 0, 11, 42, 27, 182, 1, 14, 167, 0, 13, 42, 180, 0, 43, 7]
abbrev dktX7_entry_1 : List UInt8 := dkwX7_entry_1 ++ dktX7_entry_2
def dkwX7_entry_0 : List UInt8 := [42, 3, 181, 0, 74, 42, 27, 133, 182, 0, 246, 153, 0, 15, 28, 133, 9, 20, 1, 73, 184, 0, 79]
abbrev dktX7_entry_0 : List UInt8 := dkwX7_entry_0 ++ dktX7_entry_1
theorem dksX7_entry_0 : cX7_entry.data.toList.drop 0 = dktX7_entry_0 := by decide +kernel
theorem dksX7_entry_1 : cX7_entry.data.toList.drop 23 = dktX7_entry_1 := dk_seg dksX7_entry_0 23 rfl rfl
theorem dksX7_entry_2 : cX7_entry.data.toList.drop 47 = dktX7_entry_2 := dk_seg dksX7_entry_1 24 rfl rfl
theorem dX7_entry_0 : decode cX7_entry 0 = .ok (.aload_n 0, 1) := dk_42 (dk_at dksX7_entry_0 0 rfl rfl)
theorem dX7_entry_1 : decode cX7_entry 1 = .ok (.iconst 0, 1) := dk_3 (dk_at dksX7_entry_0 1 rfl rfl)
theorem dX7_entry_2 : decode cX7_entry 2 = .ok (.putfield 74, 3) := dk_181 0 74 (dk_at dksX7_entry_0 2 rfl rfl)
theorem dX7_entry_5 : decode cX7_entry 5 = .ok (.aload_n 0, 1) := dk_42 (dk_at dksX7_entry_0 5 rfl rfl)
theorem dX7_entry_6 : decode cX7_entry 6 = .ok (.iload_n 1, 1) := dk_27 (dk_at dksX7_entry_0 6 rfl rfl)
theorem dX7_entry_7 : decode cX7_entry 7 = .ok (.i2l, 1) := dk_133 (dk_at dksX7_entry_0 7 rfl rfl)
theorem dX7_entry_8 : decode cX7_entry 8 = .ok (.invokevirtual 246, 3) := dk_182 0 246 (dk_at dksX7_entry_0 8 rfl rfl)
theorem dX7_entry_11 : decode cX7_entry 11 = .ok (.ifCond .eq 15, 3) := dk_153 0 15 (dk_at dksX7_entry_0 11 rfl rfl)
theorem dX7_entry_14 : decode cX7_entry 14 = .ok (.iload_n 2, 1) := dk_28 (dk_at dksX7_entry_0 14 rfl rfl)
theorem dX7_entry_15 : decode cX7_entry 15 = .ok (.i2l, 1) := dk_133 (dk_at dksX7_entry_0 15 rfl rfl)
theorem dX7_entry_16 : decode cX7_entry 16 = .ok (.lconst 0, 1) := dk_9 (dk_at dksX7_entry_0 16 rfl rfl)
theorem dX7_entry_17 : decode cX7_entry 17 = .ok (.ldc2_w 329, 3) := dk_20 1 73 (dk_at dksX7_entry_0 17 rfl rfl)
theorem dX7_entry_20 : decode cX7_entry 20 = .ok (.invokestatic 79, 3) := dk_184 0 79 (dk_at dksX7_entry_0 20 rfl rfl)
theorem dX7_entry_23 : decode cX7_entry 23 = .ok (.ifCond .ne 6, 3) := dk_154 0 6 (dk_at dksX7_entry_1 0 rfl rfl)
theorem dX7_entry_26 : decode cX7_entry 26 = .ok (.bipush (-2), 2) := dk_16 254 (dk_at dksX7_entry_1 3 rfl rfl)
theorem dX7_entry_28 : decode cX7_entry 28 = .ok (.ireturn, 1) := dk_172 (dk_at dksX7_entry_1 5 rfl rfl)
theorem dX7_entry_29 : decode cX7_entry 29 = .ok (.iload_n 2, 1) := dk_28 (dk_at dksX7_entry_1 6 rfl rfl)
theorem dX7_entry_30 : decode cX7_entry 30 = .ok (.iconst 4, 1) := dk_7 (dk_at dksX7_entry_1 7 rfl rfl)
theorem dX7_entry_31 : decode cX7_entry 31 = .ok (.if_icmp .ne 11, 3) := dk_160 0 11 (dk_at dksX7_entry_1 8 rfl rfl)
theorem dX7_entry_34 : decode cX7_entry 34 = .ok (.aload_n 0, 1) := dk_42 (dk_at dksX7_entry_1 11 rfl rfl)
theorem dX7_entry_35 : decode cX7_entry 35 = .ok (.iload_n 1, 1) := dk_27 (dk_at dksX7_entry_1 12 rfl rfl)
theorem dX7_entry_36 : decode cX7_entry 36 = .ok (.invokevirtual 270, 3) := dk_182 1 14 (dk_at dksX7_entry_1 13 rfl rfl)
theorem dX7_entry_39 : decode cX7_entry 39 = .ok (.goto 13, 3) := dk_167 0 13 (dk_at dksX7_entry_1 16 rfl rfl)
theorem dX7_entry_42 : decode cX7_entry 42 = .ok (.aload_n 0, 1) := dk_42 (dk_at dksX7_entry_1 19 rfl rfl)
theorem dX7_entry_43 : decode cX7_entry 43 = .ok (.getfield 43, 3) := dk_180 0 43 (dk_at dksX7_entry_1 20 rfl rfl)
theorem dX7_entry_46 : decode cX7_entry 46 = .ok (.iconst 4, 1) := dk_7 (dk_at dksX7_entry_1 23 rfl rfl)
theorem dX7_entry_47 : decode cX7_entry 47 = .ok (.iload_n 1, 1) := dk_27 (dk_at dksX7_entry_2 0 rfl rfl)
theorem dX7_entry_48 : decode cX7_entry 48 = .ok (.imul, 1) := dk_104 (dk_at dksX7_entry_2 1 rfl rfl)
theorem dX7_entry_49 : decode cX7_entry 49 = .ok (.iload_n 2, 1) := dk_28 (dk_at dksX7_entry_2 2 rfl rfl)
theorem dX7_entry_50 : decode cX7_entry 50 = .ok (.iadd, 1) := dk_96 (dk_at dksX7_entry_2 3 rfl rfl)
theorem dX7_entry_51 : decode cX7_entry 51 = .ok (.iaload, 1) := dk_46 (dk_at dksX7_entry_2 4 rfl rfl)
theorem dX7_entry_52 : decode cX7_entry 52 = .ok (.ireturn, 1) := dk_172 (dk_at dksX7_entry_2 5 rfl rfl)
abbrev cX7_isEntry : ByteArray := prog_12_method_41_code
def yX7_isEntry : MethodName := ⟨RX7, "isEntry", "(J)Z"⟩
def dkwX7_isEntry_0 : List UInt8 := [31, 9, 42, 182, 0, 236, 133, 10, 101, 184, 0, 79, 172]
abbrev dktX7_isEntry_0 : List UInt8 := dkwX7_isEntry_0 ++ []
theorem dksX7_isEntry_0 : cX7_isEntry.data.toList.drop 0 = dktX7_isEntry_0 := by decide +kernel
theorem dX7_isEntry_0 : decode cX7_isEntry 0 = .ok (.lload_n 1, 1) := dk_31 (dk_at dksX7_isEntry_0 0 rfl rfl)
theorem dX7_isEntry_1 : decode cX7_isEntry 1 = .ok (.lconst 0, 1) := dk_9 (dk_at dksX7_isEntry_0 1 rfl rfl)
theorem dX7_isEntry_2 : decode cX7_isEntry 2 = .ok (.aload_n 0, 1) := dk_42 (dk_at dksX7_isEntry_0 2 rfl rfl)
theorem dX7_isEntry_3 : decode cX7_isEntry 3 = .ok (.invokevirtual 236, 3) := dk_182 0 236 (dk_at dksX7_isEntry_0 3 rfl rfl)
theorem dX7_isEntry_6 : decode cX7_isEntry 6 = .ok (.i2l, 1) := dk_133 (dk_at dksX7_isEntry_0 6 rfl rfl)
theorem dX7_isEntry_7 : decode cX7_isEntry 7 = .ok (.lconst 1, 1) := dk_10 (dk_at dksX7_isEntry_0 7 rfl rfl)
theorem dX7_isEntry_8 : decode cX7_isEntry 8 = .ok (.lsub, 1) := dk_101 (dk_at dksX7_isEntry_0 8 rfl rfl)
theorem dX7_isEntry_9 : decode cX7_isEntry 9 = .ok (.invokestatic 79, 3) := dk_184 0 79 (dk_at dksX7_isEntry_0 9 rfl rfl)
theorem dX7_isEntry_12 : decode cX7_isEntry 12 = .ok (.ireturn, 1) := dk_172 (dk_at dksX7_isEntry_0 12 rfl rfl)
abbrev cX7_entries : ByteArray := prog_12_method_37_code
def yX7_entries : MethodName := ⟨RX7, "entries", "()I"⟩
def dkwX7_entries_0 : List UInt8 := [42, 180, 0, 34, 8, 46, 172]
abbrev dktX7_entries_0 : List UInt8 := dkwX7_entries_0 ++ []
theorem dksX7_entries_0 : cX7_entries.data.toList.drop 0 = dktX7_entries_0 := by decide +kernel
theorem dX7_entries_0 : decode cX7_entries 0 = .ok (.aload_n 0, 1) := dk_42 (dk_at dksX7_entries_0 0 rfl rfl)
theorem dX7_entries_1 : decode cX7_entries 1 = .ok (.getfield 34, 3) := dk_180 0 34 (dk_at dksX7_entries_0 1 rfl rfl)
theorem dX7_entries_4 : decode cX7_entries 4 = .ok (.iconst 5, 1) := dk_8 (dk_at dksX7_entries_0 4 rfl rfl)
theorem dX7_entries_5 : decode cX7_entries 5 = .ok (.iaload, 1) := dk_46 (dk_at dksX7_entries_0 5 rfl rfl)
theorem dX7_entries_6 : decode cX7_entries 6 = .ok (.ireturn, 1) := dk_172 (dk_at dksX7_entries_0 6 rfl rfl)
abbrev cX7_placeOf : ByteArray := prog_12_method_50_code
def yX7_placeOf : MethodName := ⟨RX7, "placeOf", "(I)I"⟩
def dkwX7_placeOf_1 : List UInt8 := [104, 46, 160, 0, 7, 4, 167, 0, 4, 3, 96, 61, 132, 3, 1, 167, 255, 221, 28, 172]
abbrev dktX7_placeOf_1 : List UInt8 := dkwX7_placeOf_1 ++ []
def dkwX7_placeOf_0 : List UInt8 := [3, 61, 3, 62, 29, 27, 162, 0, 36, 28, 42, 180, 0, 43, 7, 29, 104, 46, 42, 180, 0, 43, 7, 27]
abbrev dktX7_placeOf_0 : List UInt8 := dkwX7_placeOf_0 ++ dktX7_placeOf_1
theorem dksX7_placeOf_0 : cX7_placeOf.data.toList.drop 0 = dktX7_placeOf_0 := by decide +kernel
theorem dksX7_placeOf_1 : cX7_placeOf.data.toList.drop 24 = dktX7_placeOf_1 := dk_seg dksX7_placeOf_0 24 rfl rfl
theorem dX7_placeOf_0 : decode cX7_placeOf 0 = .ok (.iconst 0, 1) := dk_3 (dk_at dksX7_placeOf_0 0 rfl rfl)
theorem dX7_placeOf_1 : decode cX7_placeOf 1 = .ok (.istore_n 2, 1) := dk_61 (dk_at dksX7_placeOf_0 1 rfl rfl)
theorem dX7_placeOf_2 : decode cX7_placeOf 2 = .ok (.iconst 0, 1) := dk_3 (dk_at dksX7_placeOf_0 2 rfl rfl)
theorem dX7_placeOf_3 : decode cX7_placeOf 3 = .ok (.istore_n 3, 1) := dk_62 (dk_at dksX7_placeOf_0 3 rfl rfl)
theorem dX7_placeOf_4 : decode cX7_placeOf 4 = .ok (.iload_n 3, 1) := dk_29 (dk_at dksX7_placeOf_0 4 rfl rfl)
theorem dX7_placeOf_5 : decode cX7_placeOf 5 = .ok (.iload_n 1, 1) := dk_27 (dk_at dksX7_placeOf_0 5 rfl rfl)
theorem dX7_placeOf_6 : decode cX7_placeOf 6 = .ok (.if_icmp .ge 36, 3) := dk_162 0 36 (dk_at dksX7_placeOf_0 6 rfl rfl)
theorem dX7_placeOf_9 : decode cX7_placeOf 9 = .ok (.iload_n 2, 1) := dk_28 (dk_at dksX7_placeOf_0 9 rfl rfl)
theorem dX7_placeOf_10 : decode cX7_placeOf 10 = .ok (.aload_n 0, 1) := dk_42 (dk_at dksX7_placeOf_0 10 rfl rfl)
theorem dX7_placeOf_11 : decode cX7_placeOf 11 = .ok (.getfield 43, 3) := dk_180 0 43 (dk_at dksX7_placeOf_0 11 rfl rfl)
theorem dX7_placeOf_14 : decode cX7_placeOf 14 = .ok (.iconst 4, 1) := dk_7 (dk_at dksX7_placeOf_0 14 rfl rfl)
theorem dX7_placeOf_15 : decode cX7_placeOf 15 = .ok (.iload_n 3, 1) := dk_29 (dk_at dksX7_placeOf_0 15 rfl rfl)
theorem dX7_placeOf_16 : decode cX7_placeOf 16 = .ok (.imul, 1) := dk_104 (dk_at dksX7_placeOf_0 16 rfl rfl)
theorem dX7_placeOf_17 : decode cX7_placeOf 17 = .ok (.iaload, 1) := dk_46 (dk_at dksX7_placeOf_0 17 rfl rfl)
theorem dX7_placeOf_18 : decode cX7_placeOf 18 = .ok (.aload_n 0, 1) := dk_42 (dk_at dksX7_placeOf_0 18 rfl rfl)
theorem dX7_placeOf_19 : decode cX7_placeOf 19 = .ok (.getfield 43, 3) := dk_180 0 43 (dk_at dksX7_placeOf_0 19 rfl rfl)
theorem dX7_placeOf_22 : decode cX7_placeOf 22 = .ok (.iconst 4, 1) := dk_7 (dk_at dksX7_placeOf_0 22 rfl rfl)
theorem dX7_placeOf_23 : decode cX7_placeOf 23 = .ok (.iload_n 1, 1) := dk_27 (dk_at dksX7_placeOf_0 23 rfl rfl)
theorem dX7_placeOf_24 : decode cX7_placeOf 24 = .ok (.imul, 1) := dk_104 (dk_at dksX7_placeOf_1 0 rfl rfl)
theorem dX7_placeOf_25 : decode cX7_placeOf 25 = .ok (.iaload, 1) := dk_46 (dk_at dksX7_placeOf_1 1 rfl rfl)
theorem dX7_placeOf_26 : decode cX7_placeOf 26 = .ok (.if_icmp .ne 7, 3) := dk_160 0 7 (dk_at dksX7_placeOf_1 2 rfl rfl)
theorem dX7_placeOf_29 : decode cX7_placeOf 29 = .ok (.iconst 1, 1) := dk_4 (dk_at dksX7_placeOf_1 5 rfl rfl)
theorem dX7_placeOf_30 : decode cX7_placeOf 30 = .ok (.goto 4, 3) := dk_167 0 4 (dk_at dksX7_placeOf_1 6 rfl rfl)
theorem dX7_placeOf_33 : decode cX7_placeOf 33 = .ok (.iconst 0, 1) := dk_3 (dk_at dksX7_placeOf_1 9 rfl rfl)
theorem dX7_placeOf_34 : decode cX7_placeOf 34 = .ok (.iadd, 1) := dk_96 (dk_at dksX7_placeOf_1 10 rfl rfl)
theorem dX7_placeOf_35 : decode cX7_placeOf 35 = .ok (.istore_n 2, 1) := dk_61 (dk_at dksX7_placeOf_1 11 rfl rfl)
theorem dX7_placeOf_36 : decode cX7_placeOf 36 = .ok (.iinc 3 1, 3) := dk_132 3 1 (dk_at dksX7_placeOf_1 12 rfl rfl)
theorem dX7_placeOf_39 : decode cX7_placeOf 39 = .ok (.goto (-35), 3) := dk_167 255 221 (dk_at dksX7_placeOf_1 15 rfl rfl)
theorem dX7_placeOf_42 : decode cX7_placeOf 42 = .ok (.iload_n 2, 1) := dk_28 (dk_at dksX7_placeOf_1 18 rfl rfl)
theorem dX7_placeOf_43 : decode cX7_placeOf 43 = .ok (.ireturn, 1) := dk_172 (dk_at dksX7_placeOf_1 19 rfl rfl)
abbrev cX7_on : ByteArray := prog_12_method_67_code
def yX7_on : MethodName := ⟨RX7, "on", "(I)I"⟩
def dkwX7_on_2 : List UInt8 := [167, 0, 4, 3, 128, 61, 132, 3, 1, 167, 255, 223, 28, 172]
abbrev dktX7_on_2 : List UInt8 := dkwX7_on_2 ++ []
def dkwX7_on_1 : List UInt8 := [182, 0, 236, 162, 0, 31, 28, 42, 180, 0, 43, 7, 29, 104, 46, 27, 160, 0, 9, 4, 29, 120]
abbrev dktX7_on_1 : List UInt8 := dkwX7_on_1 ++ dktX7_on_2
def dkwX7_on_0 : List UInt8 := [42, 3, 181, 0, 74, 42, 27, 182, 1, 70, 154, 0, 6, 16, 254, 172, 3, 61, 3, 62, 29, 42]
abbrev dktX7_on_0 : List UInt8 := dkwX7_on_0 ++ dktX7_on_1
theorem dksX7_on_0 : cX7_on.data.toList.drop 0 = dktX7_on_0 := by decide +kernel
theorem dksX7_on_1 : cX7_on.data.toList.drop 22 = dktX7_on_1 := dk_seg dksX7_on_0 22 rfl rfl
theorem dksX7_on_2 : cX7_on.data.toList.drop 44 = dktX7_on_2 := dk_seg dksX7_on_1 22 rfl rfl
theorem dX7_on_0 : decode cX7_on 0 = .ok (.aload_n 0, 1) := dk_42 (dk_at dksX7_on_0 0 rfl rfl)
theorem dX7_on_1 : decode cX7_on 1 = .ok (.iconst 0, 1) := dk_3 (dk_at dksX7_on_0 1 rfl rfl)
theorem dX7_on_2 : decode cX7_on 2 = .ok (.putfield 74, 3) := dk_181 0 74 (dk_at dksX7_on_0 2 rfl rfl)
theorem dX7_on_5 : decode cX7_on 5 = .ok (.aload_n 0, 1) := dk_42 (dk_at dksX7_on_0 5 rfl rfl)
theorem dX7_on_6 : decode cX7_on 6 = .ok (.iload_n 1, 1) := dk_27 (dk_at dksX7_on_0 6 rfl rfl)
theorem dX7_on_7 : decode cX7_on 7 = .ok (.invokevirtual 326, 3) := dk_182 1 70 (dk_at dksX7_on_0 7 rfl rfl)
theorem dX7_on_10 : decode cX7_on 10 = .ok (.ifCond .ne 6, 3) := dk_154 0 6 (dk_at dksX7_on_0 10 rfl rfl)
theorem dX7_on_13 : decode cX7_on 13 = .ok (.bipush (-2), 2) := dk_16 254 (dk_at dksX7_on_0 13 rfl rfl)
theorem dX7_on_15 : decode cX7_on 15 = .ok (.ireturn, 1) := dk_172 (dk_at dksX7_on_0 15 rfl rfl)
theorem dX7_on_16 : decode cX7_on 16 = .ok (.iconst 0, 1) := dk_3 (dk_at dksX7_on_0 16 rfl rfl)
theorem dX7_on_17 : decode cX7_on 17 = .ok (.istore_n 2, 1) := dk_61 (dk_at dksX7_on_0 17 rfl rfl)
theorem dX7_on_18 : decode cX7_on 18 = .ok (.iconst 0, 1) := dk_3 (dk_at dksX7_on_0 18 rfl rfl)
theorem dX7_on_19 : decode cX7_on 19 = .ok (.istore_n 3, 1) := dk_62 (dk_at dksX7_on_0 19 rfl rfl)
theorem dX7_on_20 : decode cX7_on 20 = .ok (.iload_n 3, 1) := dk_29 (dk_at dksX7_on_0 20 rfl rfl)
theorem dX7_on_21 : decode cX7_on 21 = .ok (.aload_n 0, 1) := dk_42 (dk_at dksX7_on_0 21 rfl rfl)
theorem dX7_on_22 : decode cX7_on 22 = .ok (.invokevirtual 236, 3) := dk_182 0 236 (dk_at dksX7_on_1 0 rfl rfl)
theorem dX7_on_25 : decode cX7_on 25 = .ok (.if_icmp .ge 31, 3) := dk_162 0 31 (dk_at dksX7_on_1 3 rfl rfl)
theorem dX7_on_28 : decode cX7_on 28 = .ok (.iload_n 2, 1) := dk_28 (dk_at dksX7_on_1 6 rfl rfl)
theorem dX7_on_29 : decode cX7_on 29 = .ok (.aload_n 0, 1) := dk_42 (dk_at dksX7_on_1 7 rfl rfl)
theorem dX7_on_30 : decode cX7_on 30 = .ok (.getfield 43, 3) := dk_180 0 43 (dk_at dksX7_on_1 8 rfl rfl)
theorem dX7_on_33 : decode cX7_on 33 = .ok (.iconst 4, 1) := dk_7 (dk_at dksX7_on_1 11 rfl rfl)
theorem dX7_on_34 : decode cX7_on 34 = .ok (.iload_n 3, 1) := dk_29 (dk_at dksX7_on_1 12 rfl rfl)
theorem dX7_on_35 : decode cX7_on 35 = .ok (.imul, 1) := dk_104 (dk_at dksX7_on_1 13 rfl rfl)
theorem dX7_on_36 : decode cX7_on 36 = .ok (.iaload, 1) := dk_46 (dk_at dksX7_on_1 14 rfl rfl)
theorem dX7_on_37 : decode cX7_on 37 = .ok (.iload_n 1, 1) := dk_27 (dk_at dksX7_on_1 15 rfl rfl)
theorem dX7_on_38 : decode cX7_on 38 = .ok (.if_icmp .ne 9, 3) := dk_160 0 9 (dk_at dksX7_on_1 16 rfl rfl)
theorem dX7_on_41 : decode cX7_on 41 = .ok (.iconst 1, 1) := dk_4 (dk_at dksX7_on_1 19 rfl rfl)
theorem dX7_on_42 : decode cX7_on 42 = .ok (.iload_n 3, 1) := dk_29 (dk_at dksX7_on_1 20 rfl rfl)
theorem dX7_on_43 : decode cX7_on 43 = .ok (.ishl, 1) := dk_120 (dk_at dksX7_on_1 21 rfl rfl)
theorem dX7_on_44 : decode cX7_on 44 = .ok (.goto 4, 3) := dk_167 0 4 (dk_at dksX7_on_2 0 rfl rfl)
theorem dX7_on_47 : decode cX7_on 47 = .ok (.iconst 0, 1) := dk_3 (dk_at dksX7_on_2 3 rfl rfl)
theorem dX7_on_48 : decode cX7_on 48 = .ok (.ior, 1) := dk_128 (dk_at dksX7_on_2 4 rfl rfl)
theorem dX7_on_49 : decode cX7_on 49 = .ok (.istore_n 2, 1) := dk_61 (dk_at dksX7_on_2 5 rfl rfl)
theorem dX7_on_50 : decode cX7_on 50 = .ok (.iinc 3 1, 3) := dk_132 3 1 (dk_at dksX7_on_2 6 rfl rfl)
theorem dX7_on_53 : decode cX7_on 53 = .ok (.goto (-33), 3) := dk_167 255 223 (dk_at dksX7_on_2 9 rfl rfl)
theorem dX7_on_56 : decode cX7_on 56 = .ok (.iload_n 2, 1) := dk_28 (dk_at dksX7_on_2 12 rfl rfl)
theorem dX7_on_57 : decode cX7_on 57 = .ok (.ireturn, 1) := dk_172 (dk_at dksX7_on_2 13 rfl rfl)
abbrev cX7_faces : ByteArray := prog_12_method_68_code
def yX7_faces : MethodName := ⟨RX7, "faces", "(I)I"⟩
def dkwX7_faces_1 : List UInt8 := [172]
abbrev dktX7_faces_1 : List UInt8 := dkwX7_faces_1 ++ []
def dkwX7_faces_0 : List UInt8 := [42, 3, 181, 0, 74, 42, 27, 133, 182, 0, 246, 153, 0, 11, 42, 27, 182, 1, 34, 167, 0, 5, 16, 254]
abbrev dktX7_faces_0 : List UInt8 := dkwX7_faces_0 ++ dktX7_faces_1
theorem dksX7_faces_0 : cX7_faces.data.toList.drop 0 = dktX7_faces_0 := by decide +kernel
theorem dksX7_faces_1 : cX7_faces.data.toList.drop 24 = dktX7_faces_1 := dk_seg dksX7_faces_0 24 rfl rfl
theorem dX7_faces_0 : decode cX7_faces 0 = .ok (.aload_n 0, 1) := dk_42 (dk_at dksX7_faces_0 0 rfl rfl)
theorem dX7_faces_1 : decode cX7_faces 1 = .ok (.iconst 0, 1) := dk_3 (dk_at dksX7_faces_0 1 rfl rfl)
theorem dX7_faces_2 : decode cX7_faces 2 = .ok (.putfield 74, 3) := dk_181 0 74 (dk_at dksX7_faces_0 2 rfl rfl)
theorem dX7_faces_5 : decode cX7_faces 5 = .ok (.aload_n 0, 1) := dk_42 (dk_at dksX7_faces_0 5 rfl rfl)
theorem dX7_faces_6 : decode cX7_faces 6 = .ok (.iload_n 1, 1) := dk_27 (dk_at dksX7_faces_0 6 rfl rfl)
theorem dX7_faces_7 : decode cX7_faces 7 = .ok (.i2l, 1) := dk_133 (dk_at dksX7_faces_0 7 rfl rfl)
theorem dX7_faces_8 : decode cX7_faces 8 = .ok (.invokevirtual 246, 3) := dk_182 0 246 (dk_at dksX7_faces_0 8 rfl rfl)
theorem dX7_faces_11 : decode cX7_faces 11 = .ok (.ifCond .eq 11, 3) := dk_153 0 11 (dk_at dksX7_faces_0 11 rfl rfl)
theorem dX7_faces_14 : decode cX7_faces 14 = .ok (.aload_n 0, 1) := dk_42 (dk_at dksX7_faces_0 14 rfl rfl)
theorem dX7_faces_15 : decode cX7_faces 15 = .ok (.iload_n 1, 1) := dk_27 (dk_at dksX7_faces_0 15 rfl rfl)
theorem dX7_faces_16 : decode cX7_faces 16 = .ok (.invokevirtual 290, 3) := dk_182 1 34 (dk_at dksX7_faces_0 16 rfl rfl)
theorem dX7_faces_19 : decode cX7_faces 19 = .ok (.goto 5, 3) := dk_167 0 5 (dk_at dksX7_faces_0 19 rfl rfl)
theorem dX7_faces_22 : decode cX7_faces 22 = .ok (.bipush (-2), 2) := dk_16 254 (dk_at dksX7_faces_0 22 rfl rfl)
theorem dX7_faces_24 : decode cX7_faces 24 = .ok (.ireturn, 1) := dk_172 (dk_at dksX7_faces_1 0 rfl rfl)
abbrev cX7_facing : ByteArray := prog_12_method_51_code
def yX7_facing : MethodName := ⟨RX7, "facing", "(I)I"⟩
def dkwX7_facing_3 : List UInt8 := [160, 0, 5, 29, 172, 132, 3, 1, 167, 255, 218, 2, 172]
abbrev dktX7_facing_3 : List UInt8 := dkwX7_facing_3 ++ []
def dkwX7_facing_2 : List UInt8 := [42, 180, 0, 43, 7, 29, 104, 46, 28, 160, 0, 18, 42, 29, 182, 1, 14, 42, 27, 182, 1, 14]
abbrev dktX7_facing_2 : List UInt8 := dkwX7_facing_2 ++ dktX7_facing_3
def dkwX7_facing_1 : List UInt8 := [167, 0, 13, 42, 180, 0, 43, 7, 27, 104, 46, 4, 100, 61, 3, 62, 29, 42, 182, 0, 236, 162, 0, 36]
abbrev dktX7_facing_1 : List UInt8 := dkwX7_facing_1 ++ dktX7_facing_2
def dkwX7_facing_0 : List UInt8 := [42, 180, 0, 43, 7, 27, 104, 46, 5, 112, 154, 0, 16, 42, 180, 0, 43, 7, 27, 104, 46, 4, 96]
abbrev dktX7_facing_0 : List UInt8 := dkwX7_facing_0 ++ dktX7_facing_1
theorem dksX7_facing_0 : cX7_facing.data.toList.drop 0 = dktX7_facing_0 := by decide +kernel
theorem dksX7_facing_1 : cX7_facing.data.toList.drop 23 = dktX7_facing_1 := dk_seg dksX7_facing_0 23 rfl rfl
theorem dksX7_facing_2 : cX7_facing.data.toList.drop 47 = dktX7_facing_2 := dk_seg dksX7_facing_1 24 rfl rfl
theorem dksX7_facing_3 : cX7_facing.data.toList.drop 69 = dktX7_facing_3 := dk_seg dksX7_facing_2 22 rfl rfl
theorem dX7_facing_0 : decode cX7_facing 0 = .ok (.aload_n 0, 1) := dk_42 (dk_at dksX7_facing_0 0 rfl rfl)
theorem dX7_facing_1 : decode cX7_facing 1 = .ok (.getfield 43, 3) := dk_180 0 43 (dk_at dksX7_facing_0 1 rfl rfl)
theorem dX7_facing_4 : decode cX7_facing 4 = .ok (.iconst 4, 1) := dk_7 (dk_at dksX7_facing_0 4 rfl rfl)
theorem dX7_facing_5 : decode cX7_facing 5 = .ok (.iload_n 1, 1) := dk_27 (dk_at dksX7_facing_0 5 rfl rfl)
theorem dX7_facing_6 : decode cX7_facing 6 = .ok (.imul, 1) := dk_104 (dk_at dksX7_facing_0 6 rfl rfl)
theorem dX7_facing_7 : decode cX7_facing 7 = .ok (.iaload, 1) := dk_46 (dk_at dksX7_facing_0 7 rfl rfl)
theorem dX7_facing_8 : decode cX7_facing 8 = .ok (.iconst 2, 1) := dk_5 (dk_at dksX7_facing_0 8 rfl rfl)
theorem dX7_facing_9 : decode cX7_facing 9 = .ok (.irem, 1) := dk_112 (dk_at dksX7_facing_0 9 rfl rfl)
theorem dX7_facing_10 : decode cX7_facing 10 = .ok (.ifCond .ne 16, 3) := dk_154 0 16 (dk_at dksX7_facing_0 10 rfl rfl)
theorem dX7_facing_13 : decode cX7_facing 13 = .ok (.aload_n 0, 1) := dk_42 (dk_at dksX7_facing_0 13 rfl rfl)
theorem dX7_facing_14 : decode cX7_facing 14 = .ok (.getfield 43, 3) := dk_180 0 43 (dk_at dksX7_facing_0 14 rfl rfl)
theorem dX7_facing_17 : decode cX7_facing 17 = .ok (.iconst 4, 1) := dk_7 (dk_at dksX7_facing_0 17 rfl rfl)
theorem dX7_facing_18 : decode cX7_facing 18 = .ok (.iload_n 1, 1) := dk_27 (dk_at dksX7_facing_0 18 rfl rfl)
theorem dX7_facing_19 : decode cX7_facing 19 = .ok (.imul, 1) := dk_104 (dk_at dksX7_facing_0 19 rfl rfl)
theorem dX7_facing_20 : decode cX7_facing 20 = .ok (.iaload, 1) := dk_46 (dk_at dksX7_facing_0 20 rfl rfl)
theorem dX7_facing_21 : decode cX7_facing 21 = .ok (.iconst 1, 1) := dk_4 (dk_at dksX7_facing_0 21 rfl rfl)
theorem dX7_facing_22 : decode cX7_facing 22 = .ok (.iadd, 1) := dk_96 (dk_at dksX7_facing_0 22 rfl rfl)
theorem dX7_facing_23 : decode cX7_facing 23 = .ok (.goto 13, 3) := dk_167 0 13 (dk_at dksX7_facing_1 0 rfl rfl)
theorem dX7_facing_26 : decode cX7_facing 26 = .ok (.aload_n 0, 1) := dk_42 (dk_at dksX7_facing_1 3 rfl rfl)
theorem dX7_facing_27 : decode cX7_facing 27 = .ok (.getfield 43, 3) := dk_180 0 43 (dk_at dksX7_facing_1 4 rfl rfl)
theorem dX7_facing_30 : decode cX7_facing 30 = .ok (.iconst 4, 1) := dk_7 (dk_at dksX7_facing_1 7 rfl rfl)
theorem dX7_facing_31 : decode cX7_facing 31 = .ok (.iload_n 1, 1) := dk_27 (dk_at dksX7_facing_1 8 rfl rfl)
theorem dX7_facing_32 : decode cX7_facing 32 = .ok (.imul, 1) := dk_104 (dk_at dksX7_facing_1 9 rfl rfl)
theorem dX7_facing_33 : decode cX7_facing 33 = .ok (.iaload, 1) := dk_46 (dk_at dksX7_facing_1 10 rfl rfl)
theorem dX7_facing_34 : decode cX7_facing 34 = .ok (.iconst 1, 1) := dk_4 (dk_at dksX7_facing_1 11 rfl rfl)
theorem dX7_facing_35 : decode cX7_facing 35 = .ok (.isub, 1) := dk_100 (dk_at dksX7_facing_1 12 rfl rfl)
theorem dX7_facing_36 : decode cX7_facing 36 = .ok (.istore_n 2, 1) := dk_61 (dk_at dksX7_facing_1 13 rfl rfl)
theorem dX7_facing_37 : decode cX7_facing 37 = .ok (.iconst 0, 1) := dk_3 (dk_at dksX7_facing_1 14 rfl rfl)
theorem dX7_facing_38 : decode cX7_facing 38 = .ok (.istore_n 3, 1) := dk_62 (dk_at dksX7_facing_1 15 rfl rfl)
theorem dX7_facing_39 : decode cX7_facing 39 = .ok (.iload_n 3, 1) := dk_29 (dk_at dksX7_facing_1 16 rfl rfl)
theorem dX7_facing_40 : decode cX7_facing 40 = .ok (.aload_n 0, 1) := dk_42 (dk_at dksX7_facing_1 17 rfl rfl)
theorem dX7_facing_41 : decode cX7_facing 41 = .ok (.invokevirtual 236, 3) := dk_182 0 236 (dk_at dksX7_facing_1 18 rfl rfl)
theorem dX7_facing_44 : decode cX7_facing 44 = .ok (.if_icmp .ge 36, 3) := dk_162 0 36 (dk_at dksX7_facing_1 21 rfl rfl)
theorem dX7_facing_47 : decode cX7_facing 47 = .ok (.aload_n 0, 1) := dk_42 (dk_at dksX7_facing_2 0 rfl rfl)
theorem dX7_facing_48 : decode cX7_facing 48 = .ok (.getfield 43, 3) := dk_180 0 43 (dk_at dksX7_facing_2 1 rfl rfl)
theorem dX7_facing_51 : decode cX7_facing 51 = .ok (.iconst 4, 1) := dk_7 (dk_at dksX7_facing_2 4 rfl rfl)
theorem dX7_facing_52 : decode cX7_facing 52 = .ok (.iload_n 3, 1) := dk_29 (dk_at dksX7_facing_2 5 rfl rfl)
theorem dX7_facing_53 : decode cX7_facing 53 = .ok (.imul, 1) := dk_104 (dk_at dksX7_facing_2 6 rfl rfl)
theorem dX7_facing_54 : decode cX7_facing 54 = .ok (.iaload, 1) := dk_46 (dk_at dksX7_facing_2 7 rfl rfl)
theorem dX7_facing_55 : decode cX7_facing 55 = .ok (.iload_n 2, 1) := dk_28 (dk_at dksX7_facing_2 8 rfl rfl)
theorem dX7_facing_56 : decode cX7_facing 56 = .ok (.if_icmp .ne 18, 3) := dk_160 0 18 (dk_at dksX7_facing_2 9 rfl rfl)
theorem dX7_facing_59 : decode cX7_facing 59 = .ok (.aload_n 0, 1) := dk_42 (dk_at dksX7_facing_2 12 rfl rfl)
theorem dX7_facing_60 : decode cX7_facing 60 = .ok (.iload_n 3, 1) := dk_29 (dk_at dksX7_facing_2 13 rfl rfl)
theorem dX7_facing_61 : decode cX7_facing 61 = .ok (.invokevirtual 270, 3) := dk_182 1 14 (dk_at dksX7_facing_2 14 rfl rfl)
theorem dX7_facing_64 : decode cX7_facing 64 = .ok (.aload_n 0, 1) := dk_42 (dk_at dksX7_facing_2 17 rfl rfl)
theorem dX7_facing_65 : decode cX7_facing 65 = .ok (.iload_n 1, 1) := dk_27 (dk_at dksX7_facing_2 18 rfl rfl)
theorem dX7_facing_66 : decode cX7_facing 66 = .ok (.invokevirtual 270, 3) := dk_182 1 14 (dk_at dksX7_facing_2 19 rfl rfl)
theorem dX7_facing_69 : decode cX7_facing 69 = .ok (.if_icmp .ne 5, 3) := dk_160 0 5 (dk_at dksX7_facing_3 0 rfl rfl)
theorem dX7_facing_72 : decode cX7_facing 72 = .ok (.iload_n 3, 1) := dk_29 (dk_at dksX7_facing_3 3 rfl rfl)
theorem dX7_facing_73 : decode cX7_facing 73 = .ok (.ireturn, 1) := dk_172 (dk_at dksX7_facing_3 4 rfl rfl)
theorem dX7_facing_74 : decode cX7_facing 74 = .ok (.iinc 3 1, 3) := dk_132 3 1 (dk_at dksX7_facing_3 5 rfl rfl)
theorem dX7_facing_77 : decode cX7_facing 77 = .ok (.goto (-38), 3) := dk_167 255 218 (dk_at dksX7_facing_3 8 rfl rfl)
theorem dX7_facing_80 : decode cX7_facing 80 = .ok (.iconst (-1), 1) := dk_2 (dk_at dksX7_facing_3 11 rfl rfl)
theorem dX7_facing_81 : decode cX7_facing 81 = .ok (.ireturn, 1) := dk_172 (dk_at dksX7_facing_3 12 rfl rfl)
abbrev cX7_there : ByteArray := prog_12_method_70_code
def yX7_there : MethodName := ⟨RX7, "there", "(I)I"⟩
def dkwX7_there_1 : List UInt8 := [182, 1, 75, 172]
abbrev dktX7_there_1 : List UInt8 := dkwX7_there_1 ++ []
def dkwX7_there_0 : List UInt8 := [42, 3, 181, 0, 74, 42, 27, 133, 182, 0, 249, 154, 0, 6, 16, 254, 172, 42, 182, 1, 59, 42, 27]
abbrev dktX7_there_0 : List UInt8 := dkwX7_there_0 ++ dktX7_there_1
theorem dksX7_there_0 : cX7_there.data.toList.drop 0 = dktX7_there_0 := by decide +kernel
theorem dksX7_there_1 : cX7_there.data.toList.drop 23 = dktX7_there_1 := dk_seg dksX7_there_0 23 rfl rfl
theorem dX7_there_0 : decode cX7_there 0 = .ok (.aload_n 0, 1) := dk_42 (dk_at dksX7_there_0 0 rfl rfl)
theorem dX7_there_1 : decode cX7_there 1 = .ok (.iconst 0, 1) := dk_3 (dk_at dksX7_there_0 1 rfl rfl)
theorem dX7_there_2 : decode cX7_there 2 = .ok (.putfield 74, 3) := dk_181 0 74 (dk_at dksX7_there_0 2 rfl rfl)
theorem dX7_there_5 : decode cX7_there 5 = .ok (.aload_n 0, 1) := dk_42 (dk_at dksX7_there_0 5 rfl rfl)
theorem dX7_there_6 : decode cX7_there 6 = .ok (.iload_n 1, 1) := dk_27 (dk_at dksX7_there_0 6 rfl rfl)
theorem dX7_there_7 : decode cX7_there 7 = .ok (.i2l, 1) := dk_133 (dk_at dksX7_there_0 7 rfl rfl)
theorem dX7_there_8 : decode cX7_there 8 = .ok (.invokevirtual 249, 3) := dk_182 0 249 (dk_at dksX7_there_0 8 rfl rfl)
theorem dX7_there_11 : decode cX7_there 11 = .ok (.ifCond .ne 6, 3) := dk_154 0 6 (dk_at dksX7_there_0 11 rfl rfl)
theorem dX7_there_14 : decode cX7_there 14 = .ok (.bipush (-2), 2) := dk_16 254 (dk_at dksX7_there_0 14 rfl rfl)
theorem dX7_there_16 : decode cX7_there 16 = .ok (.ireturn, 1) := dk_172 (dk_at dksX7_there_0 16 rfl rfl)
theorem dX7_there_17 : decode cX7_there 17 = .ok (.aload_n 0, 1) := dk_42 (dk_at dksX7_there_0 17 rfl rfl)
theorem dX7_there_18 : decode cX7_there 18 = .ok (.invokevirtual 315, 3) := dk_182 1 59 (dk_at dksX7_there_0 18 rfl rfl)
theorem dX7_there_21 : decode cX7_there 21 = .ok (.aload_n 0, 1) := dk_42 (dk_at dksX7_there_0 21 rfl rfl)
theorem dX7_there_22 : decode cX7_there 22 = .ok (.iload_n 1, 1) := dk_27 (dk_at dksX7_there_0 22 rfl rfl)
theorem dX7_there_23 : decode cX7_there 23 = .ok (.invokevirtual 331, 3) := dk_182 1 75 (dk_at dksX7_there_1 0 rfl rfl)
theorem dX7_there_26 : decode cX7_there 26 = .ok (.ireturn, 1) := dk_172 (dk_at dksX7_there_1 3 rfl rfl)
abbrev cX7_isYear : ByteArray := prog_12_method_42_code
def yX7_isYear : MethodName := ⟨RX7, "isYear", "(J)Z"⟩
def dkwX7_isYear_1 : List UInt8 := [3, 172]
abbrev dktX7_isYear_1 : List UInt8 := dkwX7_isYear_1 ++ []
def dkwX7_isYear_0 : List UInt8 := [42, 182, 0, 240, 153, 0, 20, 31, 9, 42, 182, 0, 243, 133, 184, 0, 79, 153, 0, 7, 4, 167, 0, 4]
abbrev dktX7_isYear_0 : List UInt8 := dkwX7_isYear_0 ++ dktX7_isYear_1
theorem dksX7_isYear_0 : cX7_isYear.data.toList.drop 0 = dktX7_isYear_0 := by decide +kernel
theorem dksX7_isYear_1 : cX7_isYear.data.toList.drop 24 = dktX7_isYear_1 := dk_seg dksX7_isYear_0 24 rfl rfl
theorem dX7_isYear_0 : decode cX7_isYear 0 = .ok (.aload_n 0, 1) := dk_42 (dk_at dksX7_isYear_0 0 rfl rfl)
theorem dX7_isYear_1 : decode cX7_isYear 1 = .ok (.invokevirtual 240, 3) := dk_182 0 240 (dk_at dksX7_isYear_0 1 rfl rfl)
theorem dX7_isYear_4 : decode cX7_isYear 4 = .ok (.ifCond .eq 20, 3) := dk_153 0 20 (dk_at dksX7_isYear_0 4 rfl rfl)
theorem dX7_isYear_7 : decode cX7_isYear 7 = .ok (.lload_n 1, 1) := dk_31 (dk_at dksX7_isYear_0 7 rfl rfl)
theorem dX7_isYear_8 : decode cX7_isYear 8 = .ok (.lconst 0, 1) := dk_9 (dk_at dksX7_isYear_0 8 rfl rfl)
theorem dX7_isYear_9 : decode cX7_isYear 9 = .ok (.aload_n 0, 1) := dk_42 (dk_at dksX7_isYear_0 9 rfl rfl)
theorem dX7_isYear_10 : decode cX7_isYear 10 = .ok (.invokevirtual 243, 3) := dk_182 0 243 (dk_at dksX7_isYear_0 10 rfl rfl)
theorem dX7_isYear_13 : decode cX7_isYear 13 = .ok (.i2l, 1) := dk_133 (dk_at dksX7_isYear_0 13 rfl rfl)
theorem dX7_isYear_14 : decode cX7_isYear 14 = .ok (.invokestatic 79, 3) := dk_184 0 79 (dk_at dksX7_isYear_0 14 rfl rfl)
theorem dX7_isYear_17 : decode cX7_isYear 17 = .ok (.ifCond .eq 7, 3) := dk_153 0 7 (dk_at dksX7_isYear_0 17 rfl rfl)
theorem dX7_isYear_20 : decode cX7_isYear 20 = .ok (.iconst 1, 1) := dk_4 (dk_at dksX7_isYear_0 20 rfl rfl)
theorem dX7_isYear_21 : decode cX7_isYear 21 = .ok (.goto 4, 3) := dk_167 0 4 (dk_at dksX7_isYear_0 21 rfl rfl)
theorem dX7_isYear_24 : decode cX7_isYear 24 = .ok (.iconst 0, 1) := dk_3 (dk_at dksX7_isYear_1 0 rfl rfl)
theorem dX7_isYear_25 : decode cX7_isYear 25 = .ok (.ireturn, 1) := dk_172 (dk_at dksX7_isYear_1 1 rfl rfl)
abbrev cX7_isBook : ByteArray := prog_12_method_36_code
def yX7_isBook : MethodName := ⟨RX7, "isBook", "()Z"⟩
def dkwX7_isBook_0 : List UInt8 := [42, 180, 0, 31, 3, 46, 158, 0, 7, 4, 167, 0, 4, 3, 172]
abbrev dktX7_isBook_0 : List UInt8 := dkwX7_isBook_0 ++ []
theorem dksX7_isBook_0 : cX7_isBook.data.toList.drop 0 = dktX7_isBook_0 := by decide +kernel
theorem dX7_isBook_0 : decode cX7_isBook 0 = .ok (.aload_n 0, 1) := dk_42 (dk_at dksX7_isBook_0 0 rfl rfl)
theorem dX7_isBook_1 : decode cX7_isBook 1 = .ok (.getfield 31, 3) := dk_180 0 31 (dk_at dksX7_isBook_0 1 rfl rfl)
theorem dX7_isBook_4 : decode cX7_isBook 4 = .ok (.iconst 0, 1) := dk_3 (dk_at dksX7_isBook_0 4 rfl rfl)
theorem dX7_isBook_5 : decode cX7_isBook 5 = .ok (.iaload, 1) := dk_46 (dk_at dksX7_isBook_0 5 rfl rfl)
theorem dX7_isBook_6 : decode cX7_isBook 6 = .ok (.ifCond .le 7, 3) := dk_158 0 7 (dk_at dksX7_isBook_0 6 rfl rfl)
theorem dX7_isBook_9 : decode cX7_isBook 9 = .ok (.iconst 1, 1) := dk_4 (dk_at dksX7_isBook_0 9 rfl rfl)
theorem dX7_isBook_10 : decode cX7_isBook 10 = .ok (.goto 4, 3) := dk_167 0 4 (dk_at dksX7_isBook_0 10 rfl rfl)
theorem dX7_isBook_13 : decode cX7_isBook 13 = .ok (.iconst 0, 1) := dk_3 (dk_at dksX7_isBook_0 13 rfl rfl)
theorem dX7_isBook_14 : decode cX7_isBook 14 = .ok (.ireturn, 1) := dk_172 (dk_at dksX7_isBook_0 14 rfl rfl)
abbrev cX7_years : ByteArray := prog_12_method_38_code
def yX7_years : MethodName := ⟨RX7, "years", "()I"⟩
def dkwX7_years_0 : List UInt8 := [42, 180, 0, 34, 3, 46, 172]
abbrev dktX7_years_0 : List UInt8 := dkwX7_years_0 ++ []
theorem dksX7_years_0 : cX7_years.data.toList.drop 0 = dktX7_years_0 := by decide +kernel
theorem dX7_years_0 : decode cX7_years 0 = .ok (.aload_n 0, 1) := dk_42 (dk_at dksX7_years_0 0 rfl rfl)
theorem dX7_years_1 : decode cX7_years 1 = .ok (.getfield 34, 3) := dk_180 0 34 (dk_at dksX7_years_0 1 rfl rfl)
theorem dX7_years_4 : decode cX7_years 4 = .ok (.iconst 0, 1) := dk_3 (dk_at dksX7_years_0 4 rfl rfl)
theorem dX7_years_5 : decode cX7_years 5 = .ok (.iaload, 1) := dk_46 (dk_at dksX7_years_0 5 rfl rfl)
theorem dX7_years_6 : decode cX7_years 6 = .ok (.ireturn, 1) := dk_172 (dk_at dksX7_years_0 6 rfl rfl)
abbrev cX7_lays : ByteArray := prog_12_method_49_code
def yX7_lays : MethodName := ⟨RX7, "lays", "()V"⟩
def dkwX7_lays_4 : List UInt8 := [162, 0, 21, 42, 180, 0, 59, 27, 42, 180, 0, 40, 27, 46, 79, 132, 1, 1, 167, 255, 231, 177]
abbrev dktX7_lays_4 : List UInt8 := dkwX7_lays_4 ++ []
def dkwX7_lays_3 : List UInt8 := [7, 27, 104, 4, 96, 46, 79, 132, 1, 1, 167, 255, 213, 3, 60, 27, 42, 180, 0, 34, 7, 46]
abbrev dktX7_lays_3 : List UInt8 := dkwX7_lays_3 ++ dktX7_lays_4
def dkwX7_lays_2 : List UInt8 := [180, 0, 53, 27, 42, 180, 0, 43, 7, 27, 104, 5, 96, 46, 79, 42, 180, 0, 56, 27, 42, 180, 0, 43]
abbrev dktX7_lays_2 : List UInt8 := dkwX7_lays_2 ++ dktX7_lays_3
def dkwX7_lays_1 : List UInt8 := [181, 1, 5, 42, 3, 181, 1, 8, 42, 2, 181, 1, 11, 3, 60, 27, 42, 182, 0, 236, 162, 0, 41, 42]
abbrev dktX7_lays_1 : List UInt8 := dkwX7_lays_1 ++ dktX7_lays_2
def dkwX7_lays_0 : List UInt8 := [42, 42, 180, 0, 34, 4, 46, 181, 0, 252, 42, 3, 181, 0, 255, 42, 3, 181, 1, 2, 42, 2]
abbrev dktX7_lays_0 : List UInt8 := dkwX7_lays_0 ++ dktX7_lays_1
theorem dksX7_lays_0 : cX7_lays.data.toList.drop 0 = dktX7_lays_0 := by decide +kernel
theorem dksX7_lays_1 : cX7_lays.data.toList.drop 22 = dktX7_lays_1 := dk_seg dksX7_lays_0 22 rfl rfl
theorem dksX7_lays_2 : cX7_lays.data.toList.drop 46 = dktX7_lays_2 := dk_seg dksX7_lays_1 24 rfl rfl
theorem dksX7_lays_3 : cX7_lays.data.toList.drop 70 = dktX7_lays_3 := dk_seg dksX7_lays_2 24 rfl rfl
theorem dksX7_lays_4 : cX7_lays.data.toList.drop 92 = dktX7_lays_4 := dk_seg dksX7_lays_3 22 rfl rfl
theorem dX7_lays_0 : decode cX7_lays 0 = .ok (.aload_n 0, 1) := dk_42 (dk_at dksX7_lays_0 0 rfl rfl)
theorem dX7_lays_1 : decode cX7_lays 1 = .ok (.aload_n 0, 1) := dk_42 (dk_at dksX7_lays_0 1 rfl rfl)
theorem dX7_lays_2 : decode cX7_lays 2 = .ok (.getfield 34, 3) := dk_180 0 34 (dk_at dksX7_lays_0 2 rfl rfl)
theorem dX7_lays_5 : decode cX7_lays 5 = .ok (.iconst 1, 1) := dk_4 (dk_at dksX7_lays_0 5 rfl rfl)
theorem dX7_lays_6 : decode cX7_lays 6 = .ok (.iaload, 1) := dk_46 (dk_at dksX7_lays_0 6 rfl rfl)
theorem dX7_lays_7 : decode cX7_lays 7 = .ok (.putfield 252, 3) := dk_181 0 252 (dk_at dksX7_lays_0 7 rfl rfl)
theorem dX7_lays_10 : decode cX7_lays 10 = .ok (.aload_n 0, 1) := dk_42 (dk_at dksX7_lays_0 10 rfl rfl)
theorem dX7_lays_11 : decode cX7_lays 11 = .ok (.iconst 0, 1) := dk_3 (dk_at dksX7_lays_0 11 rfl rfl)
theorem dX7_lays_12 : decode cX7_lays 12 = .ok (.putfield 255, 3) := dk_181 0 255 (dk_at dksX7_lays_0 12 rfl rfl)
theorem dX7_lays_15 : decode cX7_lays 15 = .ok (.aload_n 0, 1) := dk_42 (dk_at dksX7_lays_0 15 rfl rfl)
theorem dX7_lays_16 : decode cX7_lays 16 = .ok (.iconst 0, 1) := dk_3 (dk_at dksX7_lays_0 16 rfl rfl)
theorem dX7_lays_17 : decode cX7_lays 17 = .ok (.putfield 258, 3) := dk_181 1 2 (dk_at dksX7_lays_0 17 rfl rfl)
theorem dX7_lays_20 : decode cX7_lays 20 = .ok (.aload_n 0, 1) := dk_42 (dk_at dksX7_lays_0 20 rfl rfl)
theorem dX7_lays_21 : decode cX7_lays 21 = .ok (.iconst (-1), 1) := dk_2 (dk_at dksX7_lays_0 21 rfl rfl)
theorem dX7_lays_22 : decode cX7_lays 22 = .ok (.putfield 261, 3) := dk_181 1 5 (dk_at dksX7_lays_1 0 rfl rfl)
theorem dX7_lays_25 : decode cX7_lays 25 = .ok (.aload_n 0, 1) := dk_42 (dk_at dksX7_lays_1 3 rfl rfl)
theorem dX7_lays_26 : decode cX7_lays 26 = .ok (.iconst 0, 1) := dk_3 (dk_at dksX7_lays_1 4 rfl rfl)
theorem dX7_lays_27 : decode cX7_lays 27 = .ok (.putfield 264, 3) := dk_181 1 8 (dk_at dksX7_lays_1 5 rfl rfl)
theorem dX7_lays_30 : decode cX7_lays 30 = .ok (.aload_n 0, 1) := dk_42 (dk_at dksX7_lays_1 8 rfl rfl)
theorem dX7_lays_31 : decode cX7_lays 31 = .ok (.iconst (-1), 1) := dk_2 (dk_at dksX7_lays_1 9 rfl rfl)
theorem dX7_lays_32 : decode cX7_lays 32 = .ok (.putfield 267, 3) := dk_181 1 11 (dk_at dksX7_lays_1 10 rfl rfl)
theorem dX7_lays_35 : decode cX7_lays 35 = .ok (.iconst 0, 1) := dk_3 (dk_at dksX7_lays_1 13 rfl rfl)
theorem dX7_lays_36 : decode cX7_lays 36 = .ok (.istore_n 1, 1) := dk_60 (dk_at dksX7_lays_1 14 rfl rfl)
theorem dX7_lays_37 : decode cX7_lays 37 = .ok (.iload_n 1, 1) := dk_27 (dk_at dksX7_lays_1 15 rfl rfl)
theorem dX7_lays_38 : decode cX7_lays 38 = .ok (.aload_n 0, 1) := dk_42 (dk_at dksX7_lays_1 16 rfl rfl)
theorem dX7_lays_39 : decode cX7_lays 39 = .ok (.invokevirtual 236, 3) := dk_182 0 236 (dk_at dksX7_lays_1 17 rfl rfl)
theorem dX7_lays_42 : decode cX7_lays 42 = .ok (.if_icmp .ge 41, 3) := dk_162 0 41 (dk_at dksX7_lays_1 20 rfl rfl)
theorem dX7_lays_45 : decode cX7_lays 45 = .ok (.aload_n 0, 1) := dk_42 (dk_at dksX7_lays_1 23 rfl rfl)
theorem dX7_lays_46 : decode cX7_lays 46 = .ok (.getfield 53, 3) := dk_180 0 53 (dk_at dksX7_lays_2 0 rfl rfl)
theorem dX7_lays_49 : decode cX7_lays 49 = .ok (.iload_n 1, 1) := dk_27 (dk_at dksX7_lays_2 3 rfl rfl)
theorem dX7_lays_50 : decode cX7_lays 50 = .ok (.aload_n 0, 1) := dk_42 (dk_at dksX7_lays_2 4 rfl rfl)
theorem dX7_lays_51 : decode cX7_lays 51 = .ok (.getfield 43, 3) := dk_180 0 43 (dk_at dksX7_lays_2 5 rfl rfl)
theorem dX7_lays_54 : decode cX7_lays 54 = .ok (.iconst 4, 1) := dk_7 (dk_at dksX7_lays_2 8 rfl rfl)
theorem dX7_lays_55 : decode cX7_lays 55 = .ok (.iload_n 1, 1) := dk_27 (dk_at dksX7_lays_2 9 rfl rfl)
theorem dX7_lays_56 : decode cX7_lays 56 = .ok (.imul, 1) := dk_104 (dk_at dksX7_lays_2 10 rfl rfl)
theorem dX7_lays_57 : decode cX7_lays 57 = .ok (.iconst 2, 1) := dk_5 (dk_at dksX7_lays_2 11 rfl rfl)
theorem dX7_lays_58 : decode cX7_lays 58 = .ok (.iadd, 1) := dk_96 (dk_at dksX7_lays_2 12 rfl rfl)
theorem dX7_lays_59 : decode cX7_lays 59 = .ok (.iaload, 1) := dk_46 (dk_at dksX7_lays_2 13 rfl rfl)
theorem dX7_lays_60 : decode cX7_lays 60 = .ok (.iastore, 1) := dk_79 (dk_at dksX7_lays_2 14 rfl rfl)
theorem dX7_lays_61 : decode cX7_lays 61 = .ok (.aload_n 0, 1) := dk_42 (dk_at dksX7_lays_2 15 rfl rfl)
theorem dX7_lays_62 : decode cX7_lays 62 = .ok (.getfield 56, 3) := dk_180 0 56 (dk_at dksX7_lays_2 16 rfl rfl)
theorem dX7_lays_65 : decode cX7_lays 65 = .ok (.iload_n 1, 1) := dk_27 (dk_at dksX7_lays_2 19 rfl rfl)
theorem dX7_lays_66 : decode cX7_lays 66 = .ok (.aload_n 0, 1) := dk_42 (dk_at dksX7_lays_2 20 rfl rfl)
theorem dX7_lays_67 : decode cX7_lays 67 = .ok (.getfield 43, 3) := dk_180 0 43 (dk_at dksX7_lays_2 21 rfl rfl)
theorem dX7_lays_70 : decode cX7_lays 70 = .ok (.iconst 4, 1) := dk_7 (dk_at dksX7_lays_3 0 rfl rfl)
theorem dX7_lays_71 : decode cX7_lays 71 = .ok (.iload_n 1, 1) := dk_27 (dk_at dksX7_lays_3 1 rfl rfl)
theorem dX7_lays_72 : decode cX7_lays 72 = .ok (.imul, 1) := dk_104 (dk_at dksX7_lays_3 2 rfl rfl)
theorem dX7_lays_73 : decode cX7_lays 73 = .ok (.iconst 1, 1) := dk_4 (dk_at dksX7_lays_3 3 rfl rfl)
theorem dX7_lays_74 : decode cX7_lays 74 = .ok (.iadd, 1) := dk_96 (dk_at dksX7_lays_3 4 rfl rfl)
theorem dX7_lays_75 : decode cX7_lays 75 = .ok (.iaload, 1) := dk_46 (dk_at dksX7_lays_3 5 rfl rfl)
theorem dX7_lays_76 : decode cX7_lays 76 = .ok (.iastore, 1) := dk_79 (dk_at dksX7_lays_3 6 rfl rfl)
theorem dX7_lays_77 : decode cX7_lays 77 = .ok (.iinc 1 1, 3) := dk_132 1 1 (dk_at dksX7_lays_3 7 rfl rfl)
theorem dX7_lays_80 : decode cX7_lays 80 = .ok (.goto (-43), 3) := dk_167 255 213 (dk_at dksX7_lays_3 10 rfl rfl)
theorem dX7_lays_83 : decode cX7_lays 83 = .ok (.iconst 0, 1) := dk_3 (dk_at dksX7_lays_3 13 rfl rfl)
theorem dX7_lays_84 : decode cX7_lays 84 = .ok (.istore_n 1, 1) := dk_60 (dk_at dksX7_lays_3 14 rfl rfl)
theorem dX7_lays_85 : decode cX7_lays 85 = .ok (.iload_n 1, 1) := dk_27 (dk_at dksX7_lays_3 15 rfl rfl)
theorem dX7_lays_86 : decode cX7_lays 86 = .ok (.aload_n 0, 1) := dk_42 (dk_at dksX7_lays_3 16 rfl rfl)
theorem dX7_lays_87 : decode cX7_lays 87 = .ok (.getfield 34, 3) := dk_180 0 34 (dk_at dksX7_lays_3 17 rfl rfl)
theorem dX7_lays_90 : decode cX7_lays 90 = .ok (.iconst 4, 1) := dk_7 (dk_at dksX7_lays_3 20 rfl rfl)
theorem dX7_lays_91 : decode cX7_lays 91 = .ok (.iaload, 1) := dk_46 (dk_at dksX7_lays_3 21 rfl rfl)
theorem dX7_lays_92 : decode cX7_lays 92 = .ok (.if_icmp .ge 21, 3) := dk_162 0 21 (dk_at dksX7_lays_4 0 rfl rfl)
theorem dX7_lays_95 : decode cX7_lays 95 = .ok (.aload_n 0, 1) := dk_42 (dk_at dksX7_lays_4 3 rfl rfl)
theorem dX7_lays_96 : decode cX7_lays 96 = .ok (.getfield 59, 3) := dk_180 0 59 (dk_at dksX7_lays_4 4 rfl rfl)
theorem dX7_lays_99 : decode cX7_lays 99 = .ok (.iload_n 1, 1) := dk_27 (dk_at dksX7_lays_4 7 rfl rfl)
theorem dX7_lays_100 : decode cX7_lays 100 = .ok (.aload_n 0, 1) := dk_42 (dk_at dksX7_lays_4 8 rfl rfl)
theorem dX7_lays_101 : decode cX7_lays 101 = .ok (.getfield 40, 3) := dk_180 0 40 (dk_at dksX7_lays_4 9 rfl rfl)
theorem dX7_lays_104 : decode cX7_lays 104 = .ok (.iload_n 1, 1) := dk_27 (dk_at dksX7_lays_4 12 rfl rfl)
theorem dX7_lays_105 : decode cX7_lays 105 = .ok (.iaload, 1) := dk_46 (dk_at dksX7_lays_4 13 rfl rfl)
theorem dX7_lays_106 : decode cX7_lays 106 = .ok (.iastore, 1) := dk_79 (dk_at dksX7_lays_4 14 rfl rfl)
theorem dX7_lays_107 : decode cX7_lays 107 = .ok (.iinc 1 1, 3) := dk_132 1 1 (dk_at dksX7_lays_4 15 rfl rfl)
theorem dX7_lays_110 : decode cX7_lays 110 = .ok (.goto (-25), 3) := dk_167 255 231 (dk_at dksX7_lays_4 18 rfl rfl)
theorem dX7_lays_113 : decode cX7_lays 113 = .ok (.return_, 1) := dk_177 (dk_at dksX7_lays_4 21 rfl rfl)
abbrev cX7_thereAt : ByteArray := prog_12_method_69_code
def yX7_thereAt : MethodName := ⟨RX7, "thereAt", "(I)I"⟩
def dkwX7_thereAt_1 : List UInt8 := [120, 167, 0, 4, 3, 128, 61, 132, 3, 1, 167, 255, 226, 28, 172]
abbrev dktX7_thereAt_1 : List UInt8 := dkwX7_thereAt_1 ++ []
def dkwX7_thereAt_0 : List UInt8 := [3, 61, 3, 62, 29, 42, 182, 0, 236, 162, 0, 28, 28, 42, 29, 27, 182, 1, 37, 153, 0, 9, 4, 29]
abbrev dktX7_thereAt_0 : List UInt8 := dkwX7_thereAt_0 ++ dktX7_thereAt_1
theorem dksX7_thereAt_0 : cX7_thereAt.data.toList.drop 0 = dktX7_thereAt_0 := by decide +kernel
theorem dksX7_thereAt_1 : cX7_thereAt.data.toList.drop 24 = dktX7_thereAt_1 := dk_seg dksX7_thereAt_0 24 rfl rfl
theorem dX7_thereAt_0 : decode cX7_thereAt 0 = .ok (.iconst 0, 1) := dk_3 (dk_at dksX7_thereAt_0 0 rfl rfl)
theorem dX7_thereAt_1 : decode cX7_thereAt 1 = .ok (.istore_n 2, 1) := dk_61 (dk_at dksX7_thereAt_0 1 rfl rfl)
theorem dX7_thereAt_2 : decode cX7_thereAt 2 = .ok (.iconst 0, 1) := dk_3 (dk_at dksX7_thereAt_0 2 rfl rfl)
theorem dX7_thereAt_3 : decode cX7_thereAt 3 = .ok (.istore_n 3, 1) := dk_62 (dk_at dksX7_thereAt_0 3 rfl rfl)
theorem dX7_thereAt_4 : decode cX7_thereAt 4 = .ok (.iload_n 3, 1) := dk_29 (dk_at dksX7_thereAt_0 4 rfl rfl)
theorem dX7_thereAt_5 : decode cX7_thereAt 5 = .ok (.aload_n 0, 1) := dk_42 (dk_at dksX7_thereAt_0 5 rfl rfl)
theorem dX7_thereAt_6 : decode cX7_thereAt 6 = .ok (.invokevirtual 236, 3) := dk_182 0 236 (dk_at dksX7_thereAt_0 6 rfl rfl)
theorem dX7_thereAt_9 : decode cX7_thereAt 9 = .ok (.if_icmp .ge 28, 3) := dk_162 0 28 (dk_at dksX7_thereAt_0 9 rfl rfl)
theorem dX7_thereAt_12 : decode cX7_thereAt 12 = .ok (.iload_n 2, 1) := dk_28 (dk_at dksX7_thereAt_0 12 rfl rfl)
theorem dX7_thereAt_13 : decode cX7_thereAt 13 = .ok (.aload_n 0, 1) := dk_42 (dk_at dksX7_thereAt_0 13 rfl rfl)
theorem dX7_thereAt_14 : decode cX7_thereAt 14 = .ok (.iload_n 3, 1) := dk_29 (dk_at dksX7_thereAt_0 14 rfl rfl)
theorem dX7_thereAt_15 : decode cX7_thereAt 15 = .ok (.iload_n 1, 1) := dk_27 (dk_at dksX7_thereAt_0 15 rfl rfl)
theorem dX7_thereAt_16 : decode cX7_thereAt 16 = .ok (.invokevirtual 293, 3) := dk_182 1 37 (dk_at dksX7_thereAt_0 16 rfl rfl)
theorem dX7_thereAt_19 : decode cX7_thereAt 19 = .ok (.ifCond .eq 9, 3) := dk_153 0 9 (dk_at dksX7_thereAt_0 19 rfl rfl)
theorem dX7_thereAt_22 : decode cX7_thereAt 22 = .ok (.iconst 1, 1) := dk_4 (dk_at dksX7_thereAt_0 22 rfl rfl)
theorem dX7_thereAt_23 : decode cX7_thereAt 23 = .ok (.iload_n 3, 1) := dk_29 (dk_at dksX7_thereAt_0 23 rfl rfl)
theorem dX7_thereAt_24 : decode cX7_thereAt 24 = .ok (.ishl, 1) := dk_120 (dk_at dksX7_thereAt_1 0 rfl rfl)
theorem dX7_thereAt_25 : decode cX7_thereAt 25 = .ok (.goto 4, 3) := dk_167 0 4 (dk_at dksX7_thereAt_1 1 rfl rfl)
theorem dX7_thereAt_28 : decode cX7_thereAt 28 = .ok (.iconst 0, 1) := dk_3 (dk_at dksX7_thereAt_1 4 rfl rfl)
theorem dX7_thereAt_29 : decode cX7_thereAt 29 = .ok (.ior, 1) := dk_128 (dk_at dksX7_thereAt_1 5 rfl rfl)
theorem dX7_thereAt_30 : decode cX7_thereAt 30 = .ok (.istore_n 2, 1) := dk_61 (dk_at dksX7_thereAt_1 6 rfl rfl)
theorem dX7_thereAt_31 : decode cX7_thereAt 31 = .ok (.iinc 3 1, 3) := dk_132 3 1 (dk_at dksX7_thereAt_1 7 rfl rfl)
theorem dX7_thereAt_34 : decode cX7_thereAt 34 = .ok (.goto (-30), 3) := dk_167 255 226 (dk_at dksX7_thereAt_1 10 rfl rfl)
theorem dX7_thereAt_37 : decode cX7_thereAt 37 = .ok (.iload_n 2, 1) := dk_28 (dk_at dksX7_thereAt_1 13 rfl rfl)
theorem dX7_thereAt_38 : decode cX7_thereAt 38 = .ok (.ireturn, 1) := dk_172 (dk_at dksX7_thereAt_1 14 rfl rfl)
abbrev cX7_isThere : ByteArray := prog_12_method_52_code
def yX7_isThere : MethodName := ⟨RX7, "isThere", "(II)Z"⟩
def dkwX7_isThere_1 : List UInt8 := [167, 0, 4, 3, 172]
abbrev dktX7_isThere_1 : List UInt8 := dkwX7_isThere_1 ++ []
def dkwX7_isThere_0 : List UInt8 := [42, 180, 1, 2, 27, 184, 1, 17, 154, 0, 17, 42, 180, 0, 53, 27, 46, 28, 163, 0, 7, 4]
abbrev dktX7_isThere_0 : List UInt8 := dkwX7_isThere_0 ++ dktX7_isThere_1
theorem dksX7_isThere_0 : cX7_isThere.data.toList.drop 0 = dktX7_isThere_0 := by decide +kernel
theorem dksX7_isThere_1 : cX7_isThere.data.toList.drop 22 = dktX7_isThere_1 := dk_seg dksX7_isThere_0 22 rfl rfl
theorem dX7_isThere_0 : decode cX7_isThere 0 = .ok (.aload_n 0, 1) := dk_42 (dk_at dksX7_isThere_0 0 rfl rfl)
theorem dX7_isThere_1 : decode cX7_isThere 1 = .ok (.getfield 258, 3) := dk_180 1 2 (dk_at dksX7_isThere_0 1 rfl rfl)
theorem dX7_isThere_4 : decode cX7_isThere 4 = .ok (.iload_n 1, 1) := dk_27 (dk_at dksX7_isThere_0 4 rfl rfl)
theorem dX7_isThere_5 : decode cX7_isThere 5 = .ok (.invokestatic 273, 3) := dk_184 1 17 (dk_at dksX7_isThere_0 5 rfl rfl)
theorem dX7_isThere_8 : decode cX7_isThere 8 = .ok (.ifCond .ne 17, 3) := dk_154 0 17 (dk_at dksX7_isThere_0 8 rfl rfl)
theorem dX7_isThere_11 : decode cX7_isThere 11 = .ok (.aload_n 0, 1) := dk_42 (dk_at dksX7_isThere_0 11 rfl rfl)
theorem dX7_isThere_12 : decode cX7_isThere 12 = .ok (.getfield 53, 3) := dk_180 0 53 (dk_at dksX7_isThere_0 12 rfl rfl)
theorem dX7_isThere_15 : decode cX7_isThere 15 = .ok (.iload_n 1, 1) := dk_27 (dk_at dksX7_isThere_0 15 rfl rfl)
theorem dX7_isThere_16 : decode cX7_isThere 16 = .ok (.iaload, 1) := dk_46 (dk_at dksX7_isThere_0 16 rfl rfl)
theorem dX7_isThere_17 : decode cX7_isThere 17 = .ok (.iload_n 2, 1) := dk_28 (dk_at dksX7_isThere_0 17 rfl rfl)
theorem dX7_isThere_18 : decode cX7_isThere 18 = .ok (.if_icmp .gt 7, 3) := dk_163 0 7 (dk_at dksX7_isThere_0 18 rfl rfl)
theorem dX7_isThere_21 : decode cX7_isThere 21 = .ok (.iconst 1, 1) := dk_4 (dk_at dksX7_isThere_0 21 rfl rfl)
theorem dX7_isThere_22 : decode cX7_isThere 22 = .ok (.goto 4, 3) := dk_167 0 4 (dk_at dksX7_isThere_1 0 rfl rfl)
theorem dX7_isThere_25 : decode cX7_isThere 25 = .ok (.iconst 0, 1) := dk_3 (dk_at dksX7_isThere_1 3 rfl rfl)
theorem dX7_isThere_26 : decode cX7_isThere 26 = .ok (.ireturn, 1) := dk_172 (dk_at dksX7_isThere_1 4 rfl rfl)
abbrev cX7_isBit : ByteArray := prog_12_method_45_code
def yX7_isBit : MethodName := ⟨RX7, "isBit", "(II)Z"⟩
def dkwX7_isBit_0 : List UInt8 := [26, 27, 122, 4, 126, 4, 160, 0, 7, 4, 167, 0, 4, 3, 172]
abbrev dktX7_isBit_0 : List UInt8 := dkwX7_isBit_0 ++ []
theorem dksX7_isBit_0 : cX7_isBit.data.toList.drop 0 = dktX7_isBit_0 := by decide +kernel
theorem dX7_isBit_0 : decode cX7_isBit 0 = .ok (.iload_n 0, 1) := dk_26 (dk_at dksX7_isBit_0 0 rfl rfl)
theorem dX7_isBit_1 : decode cX7_isBit 1 = .ok (.iload_n 1, 1) := dk_27 (dk_at dksX7_isBit_0 1 rfl rfl)
theorem dX7_isBit_2 : decode cX7_isBit 2 = .ok (.ishr, 1) := dk_122 (dk_at dksX7_isBit_0 2 rfl rfl)
theorem dX7_isBit_3 : decode cX7_isBit 3 = .ok (.iconst 1, 1) := dk_4 (dk_at dksX7_isBit_0 3 rfl rfl)
theorem dX7_isBit_4 : decode cX7_isBit 4 = .ok (.iand, 1) := dk_126 (dk_at dksX7_isBit_0 4 rfl rfl)
theorem dX7_isBit_5 : decode cX7_isBit 5 = .ok (.iconst 1, 1) := dk_4 (dk_at dksX7_isBit_0 5 rfl rfl)
theorem dX7_isBit_6 : decode cX7_isBit 6 = .ok (.if_icmp .ne 7, 3) := dk_160 0 7 (dk_at dksX7_isBit_0 6 rfl rfl)
theorem dX7_isBit_9 : decode cX7_isBit 9 = .ok (.iconst 1, 1) := dk_4 (dk_at dksX7_isBit_0 9 rfl rfl)
theorem dX7_isBit_10 : decode cX7_isBit 10 = .ok (.goto 4, 3) := dk_167 0 4 (dk_at dksX7_isBit_0 10 rfl rfl)
theorem dX7_isBit_13 : decode cX7_isBit 13 = .ok (.iconst 0, 1) := dk_3 (dk_at dksX7_isBit_0 13 rfl rfl)
theorem dX7_isBit_14 : decode cX7_isBit 14 = .ok (.ireturn, 1) := dk_172 (dk_at dksX7_isBit_0 14 rfl rfl)
abbrev cX7_shade : ByteArray := prog_12_method_71_code
def yX7_shade : MethodName := ⟨RX7, "shade", "(II)I"⟩
def dkwX7_shade_1 : List UInt8 := [182, 1, 27, 172]
abbrev dktX7_shade_1 : List UInt8 := dkwX7_shade_1 ++ []
def dkwX7_shade_0 : List UInt8 := [42, 3, 181, 0, 74, 42, 27, 28, 182, 1, 78, 154, 0, 6, 16, 254, 172, 42, 182, 1, 81, 42, 27, 28]
abbrev dktX7_shade_0 : List UInt8 := dkwX7_shade_0 ++ dktX7_shade_1
theorem dksX7_shade_0 : cX7_shade.data.toList.drop 0 = dktX7_shade_0 := by decide +kernel
theorem dksX7_shade_1 : cX7_shade.data.toList.drop 24 = dktX7_shade_1 := dk_seg dksX7_shade_0 24 rfl rfl
theorem dX7_shade_0 : decode cX7_shade 0 = .ok (.aload_n 0, 1) := dk_42 (dk_at dksX7_shade_0 0 rfl rfl)
theorem dX7_shade_1 : decode cX7_shade 1 = .ok (.iconst 0, 1) := dk_3 (dk_at dksX7_shade_0 1 rfl rfl)
theorem dX7_shade_2 : decode cX7_shade 2 = .ok (.putfield 74, 3) := dk_181 0 74 (dk_at dksX7_shade_0 2 rfl rfl)
theorem dX7_shade_5 : decode cX7_shade 5 = .ok (.aload_n 0, 1) := dk_42 (dk_at dksX7_shade_0 5 rfl rfl)
theorem dX7_shade_6 : decode cX7_shade 6 = .ok (.iload_n 1, 1) := dk_27 (dk_at dksX7_shade_0 6 rfl rfl)
theorem dX7_shade_7 : decode cX7_shade 7 = .ok (.iload_n 2, 1) := dk_28 (dk_at dksX7_shade_0 7 rfl rfl)
theorem dX7_shade_8 : decode cX7_shade 8 = .ok (.invokevirtual 334, 3) := dk_182 1 78 (dk_at dksX7_shade_0 8 rfl rfl)
theorem dX7_shade_11 : decode cX7_shade 11 = .ok (.ifCond .ne 6, 3) := dk_154 0 6 (dk_at dksX7_shade_0 11 rfl rfl)
theorem dX7_shade_14 : decode cX7_shade 14 = .ok (.bipush (-2), 2) := dk_16 254 (dk_at dksX7_shade_0 14 rfl rfl)
theorem dX7_shade_16 : decode cX7_shade 16 = .ok (.ireturn, 1) := dk_172 (dk_at dksX7_shade_0 16 rfl rfl)
theorem dX7_shade_17 : decode cX7_shade 17 = .ok (.aload_n 0, 1) := dk_42 (dk_at dksX7_shade_0 17 rfl rfl)
theorem dX7_shade_18 : decode cX7_shade 18 = .ok (.invokevirtual 337, 3) := dk_182 1 81 (dk_at dksX7_shade_0 18 rfl rfl)
theorem dX7_shade_21 : decode cX7_shade 21 = .ok (.aload_n 0, 1) := dk_42 (dk_at dksX7_shade_0 21 rfl rfl)
theorem dX7_shade_22 : decode cX7_shade 22 = .ok (.iload_n 1, 1) := dk_27 (dk_at dksX7_shade_0 22 rfl rfl)
theorem dX7_shade_23 : decode cX7_shade 23 = .ok (.iload_n 2, 1) := dk_28 (dk_at dksX7_shade_0 23 rfl rfl)
theorem dX7_shade_24 : decode cX7_shade 24 = .ok (.invokevirtual 283, 3) := dk_182 1 27 (dk_at dksX7_shade_1 0 rfl rfl)
theorem dX7_shade_27 : decode cX7_shade 27 = .ok (.ireturn, 1) := dk_172 (dk_at dksX7_shade_1 3 rfl rfl)
abbrev cX7_isThen : ByteArray := prog_12_method_43_code
def yX7_isThen : MethodName := ⟨RX7, "isThen", "(II)Z"⟩
def dkwX7_isThen_0 : List UInt8 := [42, 27, 133, 182, 0, 246, 153, 0, 16, 42, 28, 133, 182, 0, 249, 153, 0, 7, 4, 167, 0, 4, 3, 172]
abbrev dktX7_isThen_0 : List UInt8 := dkwX7_isThen_0 ++ []
theorem dksX7_isThen_0 : cX7_isThen.data.toList.drop 0 = dktX7_isThen_0 := by decide +kernel
theorem dX7_isThen_0 : decode cX7_isThen 0 = .ok (.aload_n 0, 1) := dk_42 (dk_at dksX7_isThen_0 0 rfl rfl)
theorem dX7_isThen_1 : decode cX7_isThen 1 = .ok (.iload_n 1, 1) := dk_27 (dk_at dksX7_isThen_0 1 rfl rfl)
theorem dX7_isThen_2 : decode cX7_isThen 2 = .ok (.i2l, 1) := dk_133 (dk_at dksX7_isThen_0 2 rfl rfl)
theorem dX7_isThen_3 : decode cX7_isThen 3 = .ok (.invokevirtual 246, 3) := dk_182 0 246 (dk_at dksX7_isThen_0 3 rfl rfl)
theorem dX7_isThen_6 : decode cX7_isThen 6 = .ok (.ifCond .eq 16, 3) := dk_153 0 16 (dk_at dksX7_isThen_0 6 rfl rfl)
theorem dX7_isThen_9 : decode cX7_isThen 9 = .ok (.aload_n 0, 1) := dk_42 (dk_at dksX7_isThen_0 9 rfl rfl)
theorem dX7_isThen_10 : decode cX7_isThen 10 = .ok (.iload_n 2, 1) := dk_28 (dk_at dksX7_isThen_0 10 rfl rfl)
theorem dX7_isThen_11 : decode cX7_isThen 11 = .ok (.i2l, 1) := dk_133 (dk_at dksX7_isThen_0 11 rfl rfl)
theorem dX7_isThen_12 : decode cX7_isThen 12 = .ok (.invokevirtual 249, 3) := dk_182 0 249 (dk_at dksX7_isThen_0 12 rfl rfl)
theorem dX7_isThen_15 : decode cX7_isThen 15 = .ok (.ifCond .eq 7, 3) := dk_153 0 7 (dk_at dksX7_isThen_0 15 rfl rfl)
theorem dX7_isThen_18 : decode cX7_isThen 18 = .ok (.iconst 1, 1) := dk_4 (dk_at dksX7_isThen_0 18 rfl rfl)
theorem dX7_isThen_19 : decode cX7_isThen 19 = .ok (.goto 4, 3) := dk_167 0 4 (dk_at dksX7_isThen_0 19 rfl rfl)
theorem dX7_isThen_22 : decode cX7_isThen 22 = .ok (.iconst 0, 1) := dk_3 (dk_at dksX7_isThen_0 22 rfl rfl)
theorem dX7_isThen_23 : decode cX7_isThen 23 = .ok (.ireturn, 1) := dk_172 (dk_at dksX7_isThen_0 23 rfl rfl)
abbrev cX7_laysNow : ByteArray := prog_12_method_60_code
def yX7_laysNow : MethodName := ⟨RX7, "laysNow", "()V"⟩
def dkwX7_laysNow_0 : List UInt8 := [42, 182, 1, 59, 42, 182, 1, 62, 177]
abbrev dktX7_laysNow_0 : List UInt8 := dkwX7_laysNow_0 ++ []
theorem dksX7_laysNow_0 : cX7_laysNow.data.toList.drop 0 = dktX7_laysNow_0 := by decide +kernel
theorem dX7_laysNow_0 : decode cX7_laysNow 0 = .ok (.aload_n 0, 1) := dk_42 (dk_at dksX7_laysNow_0 0 rfl rfl)
theorem dX7_laysNow_1 : decode cX7_laysNow 1 = .ok (.invokevirtual 315, 3) := dk_182 1 59 (dk_at dksX7_laysNow_0 1 rfl rfl)
theorem dX7_laysNow_4 : decode cX7_laysNow 4 = .ok (.aload_n 0, 1) := dk_42 (dk_at dksX7_laysNow_0 4 rfl rfl)
theorem dX7_laysNow_5 : decode cX7_laysNow 5 = .ok (.invokevirtual 318, 3) := dk_182 1 62 (dk_at dksX7_laysNow_0 5 rfl rfl)
theorem dX7_laysNow_8 : decode cX7_laysNow 8 = .ok (.return_, 1) := dk_177 (dk_at dksX7_laysNow_0 8 rfl rfl)
abbrev cX7_runs : ByteArray := prog_12_method_59_code
def yX7_runs : MethodName := ⟨RX7, "runs", "()V"⟩
def dkwX7_runs_4 : List UInt8 := [27, 182, 1, 56, 132, 1, 1, 167, 255, 157, 177]
abbrev dktX7_runs_4 : List UInt8 := dkwX7_runs_4 ++ []
def dkwX7_runs_3 : List UInt8 := [180, 0, 56, 28, 46, 182, 1, 40, 167, 0, 9, 42, 28, 27, 182, 1, 53, 132, 2, 1, 167, 255, 178, 42]
abbrev dktX7_runs_3 : List UInt8 := dkwX7_runs_3 ++ dktX7_runs_4
def dkwX7_runs_2 : List UInt8 := [182, 1, 37, 154, 0, 6, 167, 0, 34, 42, 180, 0, 53, 28, 46, 27, 160, 0, 18, 42, 28, 27, 42]
abbrev dktX7_runs_2 : List UInt8 := dkwX7_runs_2 ++ dktX7_runs_3
def dkwX7_runs_1 : List UInt8 := [16, 7, 27, 104, 28, 96, 3, 79, 42, 180, 0, 65, 16, 7, 27, 104, 28, 96, 3, 84, 42, 28, 27]
abbrev dktX7_runs_1 : List UInt8 := dkwX7_runs_1 ++ dktX7_runs_2
def dkwX7_runs_0 : List UInt8 := [3, 60, 27, 42, 182, 0, 243, 163, 0, 97, 3, 61, 28, 42, 182, 0, 236, 162, 0, 76, 42, 180, 0, 62]
abbrev dktX7_runs_0 : List UInt8 := dkwX7_runs_0 ++ dktX7_runs_1
theorem dksX7_runs_0 : cX7_runs.data.toList.drop 0 = dktX7_runs_0 := by decide +kernel
theorem dksX7_runs_1 : cX7_runs.data.toList.drop 24 = dktX7_runs_1 := dk_seg dksX7_runs_0 24 rfl rfl
theorem dksX7_runs_2 : cX7_runs.data.toList.drop 47 = dktX7_runs_2 := dk_seg dksX7_runs_1 23 rfl rfl
theorem dksX7_runs_3 : cX7_runs.data.toList.drop 70 = dktX7_runs_3 := dk_seg dksX7_runs_2 23 rfl rfl
theorem dksX7_runs_4 : cX7_runs.data.toList.drop 94 = dktX7_runs_4 := dk_seg dksX7_runs_3 24 rfl rfl
theorem dX7_runs_0 : decode cX7_runs 0 = .ok (.iconst 0, 1) := dk_3 (dk_at dksX7_runs_0 0 rfl rfl)
theorem dX7_runs_1 : decode cX7_runs 1 = .ok (.istore_n 1, 1) := dk_60 (dk_at dksX7_runs_0 1 rfl rfl)
theorem dX7_runs_2 : decode cX7_runs 2 = .ok (.iload_n 1, 1) := dk_27 (dk_at dksX7_runs_0 2 rfl rfl)
theorem dX7_runs_3 : decode cX7_runs 3 = .ok (.aload_n 0, 1) := dk_42 (dk_at dksX7_runs_0 3 rfl rfl)
theorem dX7_runs_4 : decode cX7_runs 4 = .ok (.invokevirtual 243, 3) := dk_182 0 243 (dk_at dksX7_runs_0 4 rfl rfl)
theorem dX7_runs_7 : decode cX7_runs 7 = .ok (.if_icmp .gt 97, 3) := dk_163 0 97 (dk_at dksX7_runs_0 7 rfl rfl)
theorem dX7_runs_10 : decode cX7_runs 10 = .ok (.iconst 0, 1) := dk_3 (dk_at dksX7_runs_0 10 rfl rfl)
theorem dX7_runs_11 : decode cX7_runs 11 = .ok (.istore_n 2, 1) := dk_61 (dk_at dksX7_runs_0 11 rfl rfl)
theorem dX7_runs_12 : decode cX7_runs 12 = .ok (.iload_n 2, 1) := dk_28 (dk_at dksX7_runs_0 12 rfl rfl)
theorem dX7_runs_13 : decode cX7_runs 13 = .ok (.aload_n 0, 1) := dk_42 (dk_at dksX7_runs_0 13 rfl rfl)
theorem dX7_runs_14 : decode cX7_runs 14 = .ok (.invokevirtual 236, 3) := dk_182 0 236 (dk_at dksX7_runs_0 14 rfl rfl)
theorem dX7_runs_17 : decode cX7_runs 17 = .ok (.if_icmp .ge 76, 3) := dk_162 0 76 (dk_at dksX7_runs_0 17 rfl rfl)
theorem dX7_runs_20 : decode cX7_runs 20 = .ok (.aload_n 0, 1) := dk_42 (dk_at dksX7_runs_0 20 rfl rfl)
theorem dX7_runs_21 : decode cX7_runs 21 = .ok (.getfield 62, 3) := dk_180 0 62 (dk_at dksX7_runs_0 21 rfl rfl)
theorem dX7_runs_24 : decode cX7_runs 24 = .ok (.bipush 7, 2) := dk_16 7 (dk_at dksX7_runs_1 0 rfl rfl)
theorem dX7_runs_26 : decode cX7_runs 26 = .ok (.iload_n 1, 1) := dk_27 (dk_at dksX7_runs_1 2 rfl rfl)
theorem dX7_runs_27 : decode cX7_runs 27 = .ok (.imul, 1) := dk_104 (dk_at dksX7_runs_1 3 rfl rfl)
theorem dX7_runs_28 : decode cX7_runs 28 = .ok (.iload_n 2, 1) := dk_28 (dk_at dksX7_runs_1 4 rfl rfl)
theorem dX7_runs_29 : decode cX7_runs 29 = .ok (.iadd, 1) := dk_96 (dk_at dksX7_runs_1 5 rfl rfl)
theorem dX7_runs_30 : decode cX7_runs 30 = .ok (.iconst 0, 1) := dk_3 (dk_at dksX7_runs_1 6 rfl rfl)
theorem dX7_runs_31 : decode cX7_runs 31 = .ok (.iastore, 1) := dk_79 (dk_at dksX7_runs_1 7 rfl rfl)
theorem dX7_runs_32 : decode cX7_runs 32 = .ok (.aload_n 0, 1) := dk_42 (dk_at dksX7_runs_1 8 rfl rfl)
theorem dX7_runs_33 : decode cX7_runs 33 = .ok (.getfield 65, 3) := dk_180 0 65 (dk_at dksX7_runs_1 9 rfl rfl)
theorem dX7_runs_36 : decode cX7_runs 36 = .ok (.bipush 7, 2) := dk_16 7 (dk_at dksX7_runs_1 12 rfl rfl)
theorem dX7_runs_38 : decode cX7_runs 38 = .ok (.iload_n 1, 1) := dk_27 (dk_at dksX7_runs_1 14 rfl rfl)
theorem dX7_runs_39 : decode cX7_runs 39 = .ok (.imul, 1) := dk_104 (dk_at dksX7_runs_1 15 rfl rfl)
theorem dX7_runs_40 : decode cX7_runs 40 = .ok (.iload_n 2, 1) := dk_28 (dk_at dksX7_runs_1 16 rfl rfl)
theorem dX7_runs_41 : decode cX7_runs 41 = .ok (.iadd, 1) := dk_96 (dk_at dksX7_runs_1 17 rfl rfl)
theorem dX7_runs_42 : decode cX7_runs 42 = .ok (.iconst 0, 1) := dk_3 (dk_at dksX7_runs_1 18 rfl rfl)
theorem dX7_runs_43 : decode cX7_runs 43 = .ok (.bastore, 1) := dk_84 (dk_at dksX7_runs_1 19 rfl rfl)
theorem dX7_runs_44 : decode cX7_runs 44 = .ok (.aload_n 0, 1) := dk_42 (dk_at dksX7_runs_1 20 rfl rfl)
theorem dX7_runs_45 : decode cX7_runs 45 = .ok (.iload_n 2, 1) := dk_28 (dk_at dksX7_runs_1 21 rfl rfl)
theorem dX7_runs_46 : decode cX7_runs 46 = .ok (.iload_n 1, 1) := dk_27 (dk_at dksX7_runs_1 22 rfl rfl)
theorem dX7_runs_47 : decode cX7_runs 47 = .ok (.invokevirtual 293, 3) := dk_182 1 37 (dk_at dksX7_runs_2 0 rfl rfl)
theorem dX7_runs_50 : decode cX7_runs 50 = .ok (.ifCond .ne 6, 3) := dk_154 0 6 (dk_at dksX7_runs_2 3 rfl rfl)
theorem dX7_runs_53 : decode cX7_runs 53 = .ok (.goto 34, 3) := dk_167 0 34 (dk_at dksX7_runs_2 6 rfl rfl)
theorem dX7_runs_56 : decode cX7_runs 56 = .ok (.aload_n 0, 1) := dk_42 (dk_at dksX7_runs_2 9 rfl rfl)
theorem dX7_runs_57 : decode cX7_runs 57 = .ok (.getfield 53, 3) := dk_180 0 53 (dk_at dksX7_runs_2 10 rfl rfl)
theorem dX7_runs_60 : decode cX7_runs 60 = .ok (.iload_n 2, 1) := dk_28 (dk_at dksX7_runs_2 13 rfl rfl)
theorem dX7_runs_61 : decode cX7_runs 61 = .ok (.iaload, 1) := dk_46 (dk_at dksX7_runs_2 14 rfl rfl)
theorem dX7_runs_62 : decode cX7_runs 62 = .ok (.iload_n 1, 1) := dk_27 (dk_at dksX7_runs_2 15 rfl rfl)
theorem dX7_runs_63 : decode cX7_runs 63 = .ok (.if_icmp .ne 18, 3) := dk_160 0 18 (dk_at dksX7_runs_2 16 rfl rfl)
theorem dX7_runs_66 : decode cX7_runs 66 = .ok (.aload_n 0, 1) := dk_42 (dk_at dksX7_runs_2 19 rfl rfl)
theorem dX7_runs_67 : decode cX7_runs 67 = .ok (.iload_n 2, 1) := dk_28 (dk_at dksX7_runs_2 20 rfl rfl)
theorem dX7_runs_68 : decode cX7_runs 68 = .ok (.iload_n 1, 1) := dk_27 (dk_at dksX7_runs_2 21 rfl rfl)
theorem dX7_runs_69 : decode cX7_runs 69 = .ok (.aload_n 0, 1) := dk_42 (dk_at dksX7_runs_2 22 rfl rfl)
theorem dX7_runs_70 : decode cX7_runs 70 = .ok (.getfield 56, 3) := dk_180 0 56 (dk_at dksX7_runs_3 0 rfl rfl)
theorem dX7_runs_73 : decode cX7_runs 73 = .ok (.iload_n 2, 1) := dk_28 (dk_at dksX7_runs_3 3 rfl rfl)
theorem dX7_runs_74 : decode cX7_runs 74 = .ok (.iaload, 1) := dk_46 (dk_at dksX7_runs_3 4 rfl rfl)
theorem dX7_runs_75 : decode cX7_runs 75 = .ok (.invokevirtual 296, 3) := dk_182 1 40 (dk_at dksX7_runs_3 5 rfl rfl)
theorem dX7_runs_78 : decode cX7_runs 78 = .ok (.goto 9, 3) := dk_167 0 9 (dk_at dksX7_runs_3 8 rfl rfl)
theorem dX7_runs_81 : decode cX7_runs 81 = .ok (.aload_n 0, 1) := dk_42 (dk_at dksX7_runs_3 11 rfl rfl)
theorem dX7_runs_82 : decode cX7_runs 82 = .ok (.iload_n 2, 1) := dk_28 (dk_at dksX7_runs_3 12 rfl rfl)
theorem dX7_runs_83 : decode cX7_runs 83 = .ok (.iload_n 1, 1) := dk_27 (dk_at dksX7_runs_3 13 rfl rfl)
theorem dX7_runs_84 : decode cX7_runs 84 = .ok (.invokevirtual 309, 3) := dk_182 1 53 (dk_at dksX7_runs_3 14 rfl rfl)
theorem dX7_runs_87 : decode cX7_runs 87 = .ok (.iinc 2 1, 3) := dk_132 2 1 (dk_at dksX7_runs_3 17 rfl rfl)
theorem dX7_runs_90 : decode cX7_runs 90 = .ok (.goto (-78), 3) := dk_167 255 178 (dk_at dksX7_runs_3 20 rfl rfl)
theorem dX7_runs_93 : decode cX7_runs 93 = .ok (.aload_n 0, 1) := dk_42 (dk_at dksX7_runs_3 23 rfl rfl)
theorem dX7_runs_94 : decode cX7_runs 94 = .ok (.iload_n 1, 1) := dk_27 (dk_at dksX7_runs_4 0 rfl rfl)
theorem dX7_runs_95 : decode cX7_runs 95 = .ok (.invokevirtual 312, 3) := dk_182 1 56 (dk_at dksX7_runs_4 1 rfl rfl)
theorem dX7_runs_98 : decode cX7_runs 98 = .ok (.iinc 1 1, 3) := dk_132 1 1 (dk_at dksX7_runs_4 4 rfl rfl)
theorem dX7_runs_101 : decode cX7_runs 101 = .ok (.goto (-99), 3) := dk_167 255 157 (dk_at dksX7_runs_4 7 rfl rfl)
theorem dX7_runs_104 : decode cX7_runs 104 = .ok (.return_, 1) := dk_177 (dk_at dksX7_runs_4 10 rfl rfl)
abbrev cX7_begin0 : ByteArray := prog_12_method_54_code
def yX7_begin0 : MethodName := ⟨RX7, "begin0", "(III)V"⟩
def dkwX7_begin0_3 : List UInt8 := [167, 0, 4, 3, 84, 177]
abbrev dktX7_begin0_3 : List UInt8 := dkwX7_begin0_3 ++ []
def dkwX7_begin0_2 : List UInt8 := [96, 42, 180, 0, 37, 6, 29, 104, 46, 42, 180, 0, 37, 6, 29, 104, 4, 96, 46, 162, 0, 7, 4]
abbrev dktX7_begin0_2 : List UInt8 := dkwX7_begin0_2 ++ dktX7_begin0_3
def dkwX7_begin0_1 : List UInt8 := [46, 42, 180, 0, 37, 6, 29, 104, 4, 96, 46, 184, 1, 21, 79, 42, 180, 0, 65, 16, 7, 28, 104, 27]
abbrev dktX7_begin0_1 : List UInt8 := dkwX7_begin0_1 ++ dktX7_begin0_2
def dkwX7_begin0_0 : List UInt8 := [42, 180, 0, 68, 27, 29, 79, 42, 180, 0, 62, 16, 7, 28, 104, 27, 96, 42, 180, 0, 37, 6, 29, 104]
abbrev dktX7_begin0_0 : List UInt8 := dkwX7_begin0_0 ++ dktX7_begin0_1
theorem dksX7_begin0_0 : cX7_begin0.data.toList.drop 0 = dktX7_begin0_0 := by decide +kernel
theorem dksX7_begin0_1 : cX7_begin0.data.toList.drop 24 = dktX7_begin0_1 := dk_seg dksX7_begin0_0 24 rfl rfl
theorem dksX7_begin0_2 : cX7_begin0.data.toList.drop 48 = dktX7_begin0_2 := dk_seg dksX7_begin0_1 24 rfl rfl
theorem dksX7_begin0_3 : cX7_begin0.data.toList.drop 71 = dktX7_begin0_3 := dk_seg dksX7_begin0_2 23 rfl rfl
theorem dX7_begin0_0 : decode cX7_begin0 0 = .ok (.aload_n 0, 1) := dk_42 (dk_at dksX7_begin0_0 0 rfl rfl)
theorem dX7_begin0_1 : decode cX7_begin0 1 = .ok (.getfield 68, 3) := dk_180 0 68 (dk_at dksX7_begin0_0 1 rfl rfl)
theorem dX7_begin0_4 : decode cX7_begin0 4 = .ok (.iload_n 1, 1) := dk_27 (dk_at dksX7_begin0_0 4 rfl rfl)
theorem dX7_begin0_5 : decode cX7_begin0 5 = .ok (.iload_n 3, 1) := dk_29 (dk_at dksX7_begin0_0 5 rfl rfl)
theorem dX7_begin0_6 : decode cX7_begin0 6 = .ok (.iastore, 1) := dk_79 (dk_at dksX7_begin0_0 6 rfl rfl)
theorem dX7_begin0_7 : decode cX7_begin0 7 = .ok (.aload_n 0, 1) := dk_42 (dk_at dksX7_begin0_0 7 rfl rfl)
theorem dX7_begin0_8 : decode cX7_begin0 8 = .ok (.getfield 62, 3) := dk_180 0 62 (dk_at dksX7_begin0_0 8 rfl rfl)
theorem dX7_begin0_11 : decode cX7_begin0 11 = .ok (.bipush 7, 2) := dk_16 7 (dk_at dksX7_begin0_0 11 rfl rfl)
theorem dX7_begin0_13 : decode cX7_begin0 13 = .ok (.iload_n 2, 1) := dk_28 (dk_at dksX7_begin0_0 13 rfl rfl)
theorem dX7_begin0_14 : decode cX7_begin0 14 = .ok (.imul, 1) := dk_104 (dk_at dksX7_begin0_0 14 rfl rfl)
theorem dX7_begin0_15 : decode cX7_begin0 15 = .ok (.iload_n 1, 1) := dk_27 (dk_at dksX7_begin0_0 15 rfl rfl)
theorem dX7_begin0_16 : decode cX7_begin0 16 = .ok (.iadd, 1) := dk_96 (dk_at dksX7_begin0_0 16 rfl rfl)
theorem dX7_begin0_17 : decode cX7_begin0 17 = .ok (.aload_n 0, 1) := dk_42 (dk_at dksX7_begin0_0 17 rfl rfl)
theorem dX7_begin0_18 : decode cX7_begin0 18 = .ok (.getfield 37, 3) := dk_180 0 37 (dk_at dksX7_begin0_0 18 rfl rfl)
theorem dX7_begin0_21 : decode cX7_begin0 21 = .ok (.iconst 3, 1) := dk_6 (dk_at dksX7_begin0_0 21 rfl rfl)
theorem dX7_begin0_22 : decode cX7_begin0 22 = .ok (.iload_n 3, 1) := dk_29 (dk_at dksX7_begin0_0 22 rfl rfl)
theorem dX7_begin0_23 : decode cX7_begin0 23 = .ok (.imul, 1) := dk_104 (dk_at dksX7_begin0_0 23 rfl rfl)
theorem dX7_begin0_24 : decode cX7_begin0 24 = .ok (.iaload, 1) := dk_46 (dk_at dksX7_begin0_1 0 rfl rfl)
theorem dX7_begin0_25 : decode cX7_begin0 25 = .ok (.aload_n 0, 1) := dk_42 (dk_at dksX7_begin0_1 1 rfl rfl)
theorem dX7_begin0_26 : decode cX7_begin0 26 = .ok (.getfield 37, 3) := dk_180 0 37 (dk_at dksX7_begin0_1 2 rfl rfl)
theorem dX7_begin0_29 : decode cX7_begin0 29 = .ok (.iconst 3, 1) := dk_6 (dk_at dksX7_begin0_1 5 rfl rfl)
theorem dX7_begin0_30 : decode cX7_begin0 30 = .ok (.iload_n 3, 1) := dk_29 (dk_at dksX7_begin0_1 6 rfl rfl)
theorem dX7_begin0_31 : decode cX7_begin0 31 = .ok (.imul, 1) := dk_104 (dk_at dksX7_begin0_1 7 rfl rfl)
theorem dX7_begin0_32 : decode cX7_begin0 32 = .ok (.iconst 1, 1) := dk_4 (dk_at dksX7_begin0_1 8 rfl rfl)
theorem dX7_begin0_33 : decode cX7_begin0 33 = .ok (.iadd, 1) := dk_96 (dk_at dksX7_begin0_1 9 rfl rfl)
theorem dX7_begin0_34 : decode cX7_begin0 34 = .ok (.iaload, 1) := dk_46 (dk_at dksX7_begin0_1 10 rfl rfl)
theorem dX7_begin0_35 : decode cX7_begin0 35 = .ok (.invokestatic 277, 3) := dk_184 1 21 (dk_at dksX7_begin0_1 11 rfl rfl)
theorem dX7_begin0_38 : decode cX7_begin0 38 = .ok (.iastore, 1) := dk_79 (dk_at dksX7_begin0_1 14 rfl rfl)
theorem dX7_begin0_39 : decode cX7_begin0 39 = .ok (.aload_n 0, 1) := dk_42 (dk_at dksX7_begin0_1 15 rfl rfl)
theorem dX7_begin0_40 : decode cX7_begin0 40 = .ok (.getfield 65, 3) := dk_180 0 65 (dk_at dksX7_begin0_1 16 rfl rfl)
theorem dX7_begin0_43 : decode cX7_begin0 43 = .ok (.bipush 7, 2) := dk_16 7 (dk_at dksX7_begin0_1 19 rfl rfl)
theorem dX7_begin0_45 : decode cX7_begin0 45 = .ok (.iload_n 2, 1) := dk_28 (dk_at dksX7_begin0_1 21 rfl rfl)
theorem dX7_begin0_46 : decode cX7_begin0 46 = .ok (.imul, 1) := dk_104 (dk_at dksX7_begin0_1 22 rfl rfl)
theorem dX7_begin0_47 : decode cX7_begin0 47 = .ok (.iload_n 1, 1) := dk_27 (dk_at dksX7_begin0_1 23 rfl rfl)
theorem dX7_begin0_48 : decode cX7_begin0 48 = .ok (.iadd, 1) := dk_96 (dk_at dksX7_begin0_2 0 rfl rfl)
theorem dX7_begin0_49 : decode cX7_begin0 49 = .ok (.aload_n 0, 1) := dk_42 (dk_at dksX7_begin0_2 1 rfl rfl)
theorem dX7_begin0_50 : decode cX7_begin0 50 = .ok (.getfield 37, 3) := dk_180 0 37 (dk_at dksX7_begin0_2 2 rfl rfl)
theorem dX7_begin0_53 : decode cX7_begin0 53 = .ok (.iconst 3, 1) := dk_6 (dk_at dksX7_begin0_2 5 rfl rfl)
theorem dX7_begin0_54 : decode cX7_begin0 54 = .ok (.iload_n 3, 1) := dk_29 (dk_at dksX7_begin0_2 6 rfl rfl)
theorem dX7_begin0_55 : decode cX7_begin0 55 = .ok (.imul, 1) := dk_104 (dk_at dksX7_begin0_2 7 rfl rfl)
theorem dX7_begin0_56 : decode cX7_begin0 56 = .ok (.iaload, 1) := dk_46 (dk_at dksX7_begin0_2 8 rfl rfl)
theorem dX7_begin0_57 : decode cX7_begin0 57 = .ok (.aload_n 0, 1) := dk_42 (dk_at dksX7_begin0_2 9 rfl rfl)
theorem dX7_begin0_58 : decode cX7_begin0 58 = .ok (.getfield 37, 3) := dk_180 0 37 (dk_at dksX7_begin0_2 10 rfl rfl)
theorem dX7_begin0_61 : decode cX7_begin0 61 = .ok (.iconst 3, 1) := dk_6 (dk_at dksX7_begin0_2 13 rfl rfl)
theorem dX7_begin0_62 : decode cX7_begin0 62 = .ok (.iload_n 3, 1) := dk_29 (dk_at dksX7_begin0_2 14 rfl rfl)
theorem dX7_begin0_63 : decode cX7_begin0 63 = .ok (.imul, 1) := dk_104 (dk_at dksX7_begin0_2 15 rfl rfl)
theorem dX7_begin0_64 : decode cX7_begin0 64 = .ok (.iconst 1, 1) := dk_4 (dk_at dksX7_begin0_2 16 rfl rfl)
theorem dX7_begin0_65 : decode cX7_begin0 65 = .ok (.iadd, 1) := dk_96 (dk_at dksX7_begin0_2 17 rfl rfl)
theorem dX7_begin0_66 : decode cX7_begin0 66 = .ok (.iaload, 1) := dk_46 (dk_at dksX7_begin0_2 18 rfl rfl)
theorem dX7_begin0_67 : decode cX7_begin0 67 = .ok (.if_icmp .ge 7, 3) := dk_162 0 7 (dk_at dksX7_begin0_2 19 rfl rfl)
theorem dX7_begin0_70 : decode cX7_begin0 70 = .ok (.iconst 1, 1) := dk_4 (dk_at dksX7_begin0_2 22 rfl rfl)
theorem dX7_begin0_71 : decode cX7_begin0 71 = .ok (.goto 4, 3) := dk_167 0 4 (dk_at dksX7_begin0_3 0 rfl rfl)
theorem dX7_begin0_74 : decode cX7_begin0 74 = .ok (.iconst 0, 1) := dk_3 (dk_at dksX7_begin0_3 3 rfl rfl)
theorem dX7_begin0_75 : decode cX7_begin0 75 = .ok (.bastore, 1) := dk_84 (dk_at dksX7_begin0_3 4 rfl rfl)
theorem dX7_begin0_76 : decode cX7_begin0 76 = .ok (.return_, 1) := dk_177 (dk_at dksX7_begin0_3 5 rfl rfl)
abbrev cX7_lessOf : ByteArray := prog_12_method_47_code
def yX7_lessOf : MethodName := ⟨RX7, "lessOf", "(II)I"⟩
def dkwX7_lessOf_0 : List UInt8 := [26, 27, 162, 0, 7, 26, 167, 0, 4, 27, 172]
abbrev dktX7_lessOf_0 : List UInt8 := dkwX7_lessOf_0 ++ []
theorem dksX7_lessOf_0 : cX7_lessOf.data.toList.drop 0 = dktX7_lessOf_0 := by decide +kernel
theorem dX7_lessOf_0 : decode cX7_lessOf 0 = .ok (.iload_n 0, 1) := dk_26 (dk_at dksX7_lessOf_0 0 rfl rfl)
theorem dX7_lessOf_1 : decode cX7_lessOf 1 = .ok (.iload_n 1, 1) := dk_27 (dk_at dksX7_lessOf_0 1 rfl rfl)
theorem dX7_lessOf_2 : decode cX7_lessOf 2 = .ok (.if_icmp .ge 7, 3) := dk_162 0 7 (dk_at dksX7_lessOf_0 2 rfl rfl)
theorem dX7_lessOf_5 : decode cX7_lessOf 5 = .ok (.iload_n 0, 1) := dk_26 (dk_at dksX7_lessOf_0 5 rfl rfl)
theorem dX7_lessOf_6 : decode cX7_lessOf 6 = .ok (.goto 4, 3) := dk_167 0 4 (dk_at dksX7_lessOf_0 6 rfl rfl)
theorem dX7_lessOf_9 : decode cX7_lessOf 9 = .ok (.iload_n 1, 1) := dk_27 (dk_at dksX7_lessOf_0 9 rfl rfl)
theorem dX7_lessOf_10 : decode cX7_lessOf 10 = .ok (.ireturn, 1) := dk_172 (dk_at dksX7_lessOf_0 10 rfl rfl)
abbrev cX7_steps : ByteArray := prog_12_method_57_code
def yX7_steps : MethodName := ⟨RX7, "steps", "(II)V"⟩
def dkwX7_steps_11 : List UInt8 := [96, 184, 1, 21, 79, 177]
abbrev dktX7_steps_11 : List UInt8 := dkwX7_steps_11 ++ []
def dkwX7_steps_10 : List UInt8 := [42, 180, 0, 62, 16, 7, 28, 104, 27, 96, 16, 60, 42, 180, 0, 62, 16, 7, 28, 104, 27, 96, 46, 4]
abbrev dktX7_steps_10 : List UInt8 := dkwX7_steps_10 ++ dktX7_steps_11
def dkwX7_steps_9 : List UInt8 := [100, 182, 1, 37, 153, 0, 49, 42, 21, 5, 28, 4, 100, 182, 1, 27, 21, 4, 100, 16, 10, 161, 0, 32]
abbrev dktX7_steps_9 : List UInt8 := dkwX7_steps_9 ++ dktX7_steps_10
def dkwX7_steps_8 : List UInt8 := [182, 1, 34, 54, 5, 42, 180, 0, 252, 5, 160, 0, 67, 21, 5, 2, 159, 0, 61, 42, 21, 5, 28, 4]
abbrev dktX7_steps_8 : List UInt8 := dkwX7_steps_8 ++ dktX7_steps_9
def dkwX7_steps_7 : List UInt8 := [184, 1, 30, 100, 184, 1, 24, 79, 42, 180, 0, 65, 16, 7, 28, 104, 27, 96, 3, 84, 42, 27]
abbrev dktX7_steps_7 : List UInt8 := dkwX7_steps_7 ++ dktX7_steps_8
def dkwX7_steps_6 : List UInt8 := [180, 0, 59, 42, 180, 0, 43, 7, 27, 104, 46, 46, 42, 180, 0, 255, 28, 4, 100, 122, 4, 126, 28]
abbrev dktX7_steps_6 : List UInt8 := dkwX7_steps_6 ++ dktX7_steps_7
def dkwX7_steps_5 : List UInt8 := [28, 104, 27, 96, 3, 21, 4, 42, 180, 0, 252, 42, 180, 0, 37, 6, 29, 104, 5, 96, 46, 42]
abbrev dktX7_steps_5 : List UInt8 := dkwX7_steps_5 ++ dktX7_steps_6
def dkwX7_steps_4 : List UInt8 := [6, 29, 104, 4, 96, 46, 162, 0, 7, 4, 167, 0, 4, 3, 84, 167, 0, 74, 42, 180, 0, 62, 16, 7]
abbrev dktX7_steps_4 : List UInt8 := dkwX7_steps_4 ++ dktX7_steps_5
def dkwX7_steps_3 : List UInt8 := [180, 0, 65, 16, 7, 28, 104, 27, 96, 21, 4, 42, 180, 0, 37, 6, 29, 104, 46, 96, 42, 180, 0, 37]
abbrev dktX7_steps_3 : List UInt8 := dkwX7_steps_3 ++ dktX7_steps_4
def dkwX7_steps_2 : List UInt8 := [6, 29, 104, 4, 96, 46, 21, 4, 42, 180, 0, 37, 6, 29, 104, 46, 96, 184, 1, 21, 79, 42]
abbrev dktX7_steps_2 : List UInt8 := dkwX7_steps_2 ++ dktX7_steps_3
def dkwX7_steps_1 : List UInt8 := [104, 16, 7, 100, 27, 96, 51, 153, 0, 81, 42, 180, 0, 62, 16, 7, 28, 104, 27, 96, 42, 180, 0, 37]
abbrev dktX7_steps_1 : List UInt8 := dkwX7_steps_1 ++ dktX7_steps_2
def dkwX7_steps_0 : List UInt8 := [42, 180, 0, 68, 27, 46, 62, 42, 27, 28, 4, 100, 182, 1, 27, 54, 4, 42, 180, 0, 65, 16, 7, 28]
abbrev dktX7_steps_0 : List UInt8 := dkwX7_steps_0 ++ dktX7_steps_1
theorem dksX7_steps_0 : cX7_steps.data.toList.drop 0 = dktX7_steps_0 := by decide +kernel
theorem dksX7_steps_1 : cX7_steps.data.toList.drop 24 = dktX7_steps_1 := dk_seg dksX7_steps_0 24 rfl rfl
theorem dksX7_steps_2 : cX7_steps.data.toList.drop 48 = dktX7_steps_2 := dk_seg dksX7_steps_1 24 rfl rfl
theorem dksX7_steps_3 : cX7_steps.data.toList.drop 70 = dktX7_steps_3 := dk_seg dksX7_steps_2 22 rfl rfl
theorem dksX7_steps_4 : cX7_steps.data.toList.drop 94 = dktX7_steps_4 := dk_seg dksX7_steps_3 24 rfl rfl
theorem dksX7_steps_5 : cX7_steps.data.toList.drop 118 = dktX7_steps_5 := dk_seg dksX7_steps_4 24 rfl rfl
theorem dksX7_steps_6 : cX7_steps.data.toList.drop 140 = dktX7_steps_6 := dk_seg dksX7_steps_5 22 rfl rfl
theorem dksX7_steps_7 : cX7_steps.data.toList.drop 163 = dktX7_steps_7 := dk_seg dksX7_steps_6 23 rfl rfl
theorem dksX7_steps_8 : cX7_steps.data.toList.drop 185 = dktX7_steps_8 := dk_seg dksX7_steps_7 22 rfl rfl
theorem dksX7_steps_9 : cX7_steps.data.toList.drop 209 = dktX7_steps_9 := dk_seg dksX7_steps_8 24 rfl rfl
theorem dksX7_steps_10 : cX7_steps.data.toList.drop 233 = dktX7_steps_10 := dk_seg dksX7_steps_9 24 rfl rfl
theorem dksX7_steps_11 : cX7_steps.data.toList.drop 257 = dktX7_steps_11 := dk_seg dksX7_steps_10 24 rfl rfl
theorem dX7_steps_0 : decode cX7_steps 0 = .ok (.aload_n 0, 1) := dk_42 (dk_at dksX7_steps_0 0 rfl rfl)
theorem dX7_steps_1 : decode cX7_steps 1 = .ok (.getfield 68, 3) := dk_180 0 68 (dk_at dksX7_steps_0 1 rfl rfl)
theorem dX7_steps_4 : decode cX7_steps 4 = .ok (.iload_n 1, 1) := dk_27 (dk_at dksX7_steps_0 4 rfl rfl)
theorem dX7_steps_5 : decode cX7_steps 5 = .ok (.iaload, 1) := dk_46 (dk_at dksX7_steps_0 5 rfl rfl)
theorem dX7_steps_6 : decode cX7_steps 6 = .ok (.istore_n 3, 1) := dk_62 (dk_at dksX7_steps_0 6 rfl rfl)
theorem dX7_steps_7 : decode cX7_steps 7 = .ok (.aload_n 0, 1) := dk_42 (dk_at dksX7_steps_0 7 rfl rfl)
theorem dX7_steps_8 : decode cX7_steps 8 = .ok (.iload_n 1, 1) := dk_27 (dk_at dksX7_steps_0 8 rfl rfl)
theorem dX7_steps_9 : decode cX7_steps 9 = .ok (.iload_n 2, 1) := dk_28 (dk_at dksX7_steps_0 9 rfl rfl)
theorem dX7_steps_10 : decode cX7_steps 10 = .ok (.iconst 1, 1) := dk_4 (dk_at dksX7_steps_0 10 rfl rfl)
theorem dX7_steps_11 : decode cX7_steps 11 = .ok (.isub, 1) := dk_100 (dk_at dksX7_steps_0 11 rfl rfl)
theorem dX7_steps_12 : decode cX7_steps 12 = .ok (.invokevirtual 283, 3) := dk_182 1 27 (dk_at dksX7_steps_0 12 rfl rfl)
theorem dX7_steps_15 : decode cX7_steps 15 = .ok (.istore 4, 2) := dk_54 4 (dk_at dksX7_steps_0 15 rfl rfl)
theorem dX7_steps_17 : decode cX7_steps 17 = .ok (.aload_n 0, 1) := dk_42 (dk_at dksX7_steps_0 17 rfl rfl)
theorem dX7_steps_18 : decode cX7_steps 18 = .ok (.getfield 65, 3) := dk_180 0 65 (dk_at dksX7_steps_0 18 rfl rfl)
theorem dX7_steps_21 : decode cX7_steps 21 = .ok (.bipush 7, 2) := dk_16 7 (dk_at dksX7_steps_0 21 rfl rfl)
theorem dX7_steps_23 : decode cX7_steps 23 = .ok (.iload_n 2, 1) := dk_28 (dk_at dksX7_steps_0 23 rfl rfl)
theorem dX7_steps_24 : decode cX7_steps 24 = .ok (.imul, 1) := dk_104 (dk_at dksX7_steps_1 0 rfl rfl)
theorem dX7_steps_25 : decode cX7_steps 25 = .ok (.bipush 7, 2) := dk_16 7 (dk_at dksX7_steps_1 1 rfl rfl)
theorem dX7_steps_27 : decode cX7_steps 27 = .ok (.isub, 1) := dk_100 (dk_at dksX7_steps_1 3 rfl rfl)
theorem dX7_steps_28 : decode cX7_steps 28 = .ok (.iload_n 1, 1) := dk_27 (dk_at dksX7_steps_1 4 rfl rfl)
theorem dX7_steps_29 : decode cX7_steps 29 = .ok (.iadd, 1) := dk_96 (dk_at dksX7_steps_1 5 rfl rfl)
theorem dX7_steps_30 : decode cX7_steps 30 = .ok (.baload, 1) := dk_51 (dk_at dksX7_steps_1 6 rfl rfl)
theorem dX7_steps_31 : decode cX7_steps 31 = .ok (.ifCond .eq 81, 3) := dk_153 0 81 (dk_at dksX7_steps_1 7 rfl rfl)
theorem dX7_steps_34 : decode cX7_steps 34 = .ok (.aload_n 0, 1) := dk_42 (dk_at dksX7_steps_1 10 rfl rfl)
theorem dX7_steps_35 : decode cX7_steps 35 = .ok (.getfield 62, 3) := dk_180 0 62 (dk_at dksX7_steps_1 11 rfl rfl)
theorem dX7_steps_38 : decode cX7_steps 38 = .ok (.bipush 7, 2) := dk_16 7 (dk_at dksX7_steps_1 14 rfl rfl)
theorem dX7_steps_40 : decode cX7_steps 40 = .ok (.iload_n 2, 1) := dk_28 (dk_at dksX7_steps_1 16 rfl rfl)
theorem dX7_steps_41 : decode cX7_steps 41 = .ok (.imul, 1) := dk_104 (dk_at dksX7_steps_1 17 rfl rfl)
theorem dX7_steps_42 : decode cX7_steps 42 = .ok (.iload_n 1, 1) := dk_27 (dk_at dksX7_steps_1 18 rfl rfl)
theorem dX7_steps_43 : decode cX7_steps 43 = .ok (.iadd, 1) := dk_96 (dk_at dksX7_steps_1 19 rfl rfl)
theorem dX7_steps_44 : decode cX7_steps 44 = .ok (.aload_n 0, 1) := dk_42 (dk_at dksX7_steps_1 20 rfl rfl)
theorem dX7_steps_45 : decode cX7_steps 45 = .ok (.getfield 37, 3) := dk_180 0 37 (dk_at dksX7_steps_1 21 rfl rfl)
theorem dX7_steps_48 : decode cX7_steps 48 = .ok (.iconst 3, 1) := dk_6 (dk_at dksX7_steps_2 0 rfl rfl)
theorem dX7_steps_49 : decode cX7_steps 49 = .ok (.iload_n 3, 1) := dk_29 (dk_at dksX7_steps_2 1 rfl rfl)
theorem dX7_steps_50 : decode cX7_steps 50 = .ok (.imul, 1) := dk_104 (dk_at dksX7_steps_2 2 rfl rfl)
theorem dX7_steps_51 : decode cX7_steps 51 = .ok (.iconst 1, 1) := dk_4 (dk_at dksX7_steps_2 3 rfl rfl)
theorem dX7_steps_52 : decode cX7_steps 52 = .ok (.iadd, 1) := dk_96 (dk_at dksX7_steps_2 4 rfl rfl)
theorem dX7_steps_53 : decode cX7_steps 53 = .ok (.iaload, 1) := dk_46 (dk_at dksX7_steps_2 5 rfl rfl)
theorem dX7_steps_54 : decode cX7_steps 54 = .ok (.iload 4, 2) := dk_21 4 (dk_at dksX7_steps_2 6 rfl rfl)
theorem dX7_steps_56 : decode cX7_steps 56 = .ok (.aload_n 0, 1) := dk_42 (dk_at dksX7_steps_2 8 rfl rfl)
theorem dX7_steps_57 : decode cX7_steps 57 = .ok (.getfield 37, 3) := dk_180 0 37 (dk_at dksX7_steps_2 9 rfl rfl)
theorem dX7_steps_60 : decode cX7_steps 60 = .ok (.iconst 3, 1) := dk_6 (dk_at dksX7_steps_2 12 rfl rfl)
theorem dX7_steps_61 : decode cX7_steps 61 = .ok (.iload_n 3, 1) := dk_29 (dk_at dksX7_steps_2 13 rfl rfl)
theorem dX7_steps_62 : decode cX7_steps 62 = .ok (.imul, 1) := dk_104 (dk_at dksX7_steps_2 14 rfl rfl)
theorem dX7_steps_63 : decode cX7_steps 63 = .ok (.iaload, 1) := dk_46 (dk_at dksX7_steps_2 15 rfl rfl)
theorem dX7_steps_64 : decode cX7_steps 64 = .ok (.iadd, 1) := dk_96 (dk_at dksX7_steps_2 16 rfl rfl)
theorem dX7_steps_65 : decode cX7_steps 65 = .ok (.invokestatic 277, 3) := dk_184 1 21 (dk_at dksX7_steps_2 17 rfl rfl)
theorem dX7_steps_68 : decode cX7_steps 68 = .ok (.iastore, 1) := dk_79 (dk_at dksX7_steps_2 20 rfl rfl)
theorem dX7_steps_69 : decode cX7_steps 69 = .ok (.aload_n 0, 1) := dk_42 (dk_at dksX7_steps_2 21 rfl rfl)
theorem dX7_steps_70 : decode cX7_steps 70 = .ok (.getfield 65, 3) := dk_180 0 65 (dk_at dksX7_steps_3 0 rfl rfl)
theorem dX7_steps_73 : decode cX7_steps 73 = .ok (.bipush 7, 2) := dk_16 7 (dk_at dksX7_steps_3 3 rfl rfl)
theorem dX7_steps_75 : decode cX7_steps 75 = .ok (.iload_n 2, 1) := dk_28 (dk_at dksX7_steps_3 5 rfl rfl)
theorem dX7_steps_76 : decode cX7_steps 76 = .ok (.imul, 1) := dk_104 (dk_at dksX7_steps_3 6 rfl rfl)
theorem dX7_steps_77 : decode cX7_steps 77 = .ok (.iload_n 1, 1) := dk_27 (dk_at dksX7_steps_3 7 rfl rfl)
theorem dX7_steps_78 : decode cX7_steps 78 = .ok (.iadd, 1) := dk_96 (dk_at dksX7_steps_3 8 rfl rfl)
theorem dX7_steps_79 : decode cX7_steps 79 = .ok (.iload 4, 2) := dk_21 4 (dk_at dksX7_steps_3 9 rfl rfl)
theorem dX7_steps_81 : decode cX7_steps 81 = .ok (.aload_n 0, 1) := dk_42 (dk_at dksX7_steps_3 11 rfl rfl)
theorem dX7_steps_82 : decode cX7_steps 82 = .ok (.getfield 37, 3) := dk_180 0 37 (dk_at dksX7_steps_3 12 rfl rfl)
theorem dX7_steps_85 : decode cX7_steps 85 = .ok (.iconst 3, 1) := dk_6 (dk_at dksX7_steps_3 15 rfl rfl)
theorem dX7_steps_86 : decode cX7_steps 86 = .ok (.iload_n 3, 1) := dk_29 (dk_at dksX7_steps_3 16 rfl rfl)
theorem dX7_steps_87 : decode cX7_steps 87 = .ok (.imul, 1) := dk_104 (dk_at dksX7_steps_3 17 rfl rfl)
theorem dX7_steps_88 : decode cX7_steps 88 = .ok (.iaload, 1) := dk_46 (dk_at dksX7_steps_3 18 rfl rfl)
theorem dX7_steps_89 : decode cX7_steps 89 = .ok (.iadd, 1) := dk_96 (dk_at dksX7_steps_3 19 rfl rfl)
theorem dX7_steps_90 : decode cX7_steps 90 = .ok (.aload_n 0, 1) := dk_42 (dk_at dksX7_steps_3 20 rfl rfl)
theorem dX7_steps_91 : decode cX7_steps 91 = .ok (.getfield 37, 3) := dk_180 0 37 (dk_at dksX7_steps_3 21 rfl rfl)
theorem dX7_steps_94 : decode cX7_steps 94 = .ok (.iconst 3, 1) := dk_6 (dk_at dksX7_steps_4 0 rfl rfl)
theorem dX7_steps_95 : decode cX7_steps 95 = .ok (.iload_n 3, 1) := dk_29 (dk_at dksX7_steps_4 1 rfl rfl)
theorem dX7_steps_96 : decode cX7_steps 96 = .ok (.imul, 1) := dk_104 (dk_at dksX7_steps_4 2 rfl rfl)
theorem dX7_steps_97 : decode cX7_steps 97 = .ok (.iconst 1, 1) := dk_4 (dk_at dksX7_steps_4 3 rfl rfl)
theorem dX7_steps_98 : decode cX7_steps 98 = .ok (.iadd, 1) := dk_96 (dk_at dksX7_steps_4 4 rfl rfl)
theorem dX7_steps_99 : decode cX7_steps 99 = .ok (.iaload, 1) := dk_46 (dk_at dksX7_steps_4 5 rfl rfl)
theorem dX7_steps_100 : decode cX7_steps 100 = .ok (.if_icmp .ge 7, 3) := dk_162 0 7 (dk_at dksX7_steps_4 6 rfl rfl)
theorem dX7_steps_103 : decode cX7_steps 103 = .ok (.iconst 1, 1) := dk_4 (dk_at dksX7_steps_4 9 rfl rfl)
theorem dX7_steps_104 : decode cX7_steps 104 = .ok (.goto 4, 3) := dk_167 0 4 (dk_at dksX7_steps_4 10 rfl rfl)
theorem dX7_steps_107 : decode cX7_steps 107 = .ok (.iconst 0, 1) := dk_3 (dk_at dksX7_steps_4 13 rfl rfl)
theorem dX7_steps_108 : decode cX7_steps 108 = .ok (.bastore, 1) := dk_84 (dk_at dksX7_steps_4 14 rfl rfl)
theorem dX7_steps_109 : decode cX7_steps 109 = .ok (.goto 74, 3) := dk_167 0 74 (dk_at dksX7_steps_4 15 rfl rfl)
theorem dX7_steps_112 : decode cX7_steps 112 = .ok (.aload_n 0, 1) := dk_42 (dk_at dksX7_steps_4 18 rfl rfl)
theorem dX7_steps_113 : decode cX7_steps 113 = .ok (.getfield 62, 3) := dk_180 0 62 (dk_at dksX7_steps_4 19 rfl rfl)
theorem dX7_steps_116 : decode cX7_steps 116 = .ok (.bipush 7, 2) := dk_16 7 (dk_at dksX7_steps_4 22 rfl rfl)
theorem dX7_steps_118 : decode cX7_steps 118 = .ok (.iload_n 2, 1) := dk_28 (dk_at dksX7_steps_5 0 rfl rfl)
theorem dX7_steps_119 : decode cX7_steps 119 = .ok (.imul, 1) := dk_104 (dk_at dksX7_steps_5 1 rfl rfl)
theorem dX7_steps_120 : decode cX7_steps 120 = .ok (.iload_n 1, 1) := dk_27 (dk_at dksX7_steps_5 2 rfl rfl)
theorem dX7_steps_121 : decode cX7_steps 121 = .ok (.iadd, 1) := dk_96 (dk_at dksX7_steps_5 3 rfl rfl)
theorem dX7_steps_122 : decode cX7_steps 122 = .ok (.iconst 0, 1) := dk_3 (dk_at dksX7_steps_5 4 rfl rfl)
theorem dX7_steps_123 : decode cX7_steps 123 = .ok (.iload 4, 2) := dk_21 4 (dk_at dksX7_steps_5 5 rfl rfl)
theorem dX7_steps_125 : decode cX7_steps 125 = .ok (.aload_n 0, 1) := dk_42 (dk_at dksX7_steps_5 7 rfl rfl)
theorem dX7_steps_126 : decode cX7_steps 126 = .ok (.getfield 252, 3) := dk_180 0 252 (dk_at dksX7_steps_5 8 rfl rfl)
theorem dX7_steps_129 : decode cX7_steps 129 = .ok (.aload_n 0, 1) := dk_42 (dk_at dksX7_steps_5 11 rfl rfl)
theorem dX7_steps_130 : decode cX7_steps 130 = .ok (.getfield 37, 3) := dk_180 0 37 (dk_at dksX7_steps_5 12 rfl rfl)
theorem dX7_steps_133 : decode cX7_steps 133 = .ok (.iconst 3, 1) := dk_6 (dk_at dksX7_steps_5 15 rfl rfl)
theorem dX7_steps_134 : decode cX7_steps 134 = .ok (.iload_n 3, 1) := dk_29 (dk_at dksX7_steps_5 16 rfl rfl)
theorem dX7_steps_135 : decode cX7_steps 135 = .ok (.imul, 1) := dk_104 (dk_at dksX7_steps_5 17 rfl rfl)
theorem dX7_steps_136 : decode cX7_steps 136 = .ok (.iconst 2, 1) := dk_5 (dk_at dksX7_steps_5 18 rfl rfl)
theorem dX7_steps_137 : decode cX7_steps 137 = .ok (.iadd, 1) := dk_96 (dk_at dksX7_steps_5 19 rfl rfl)
theorem dX7_steps_138 : decode cX7_steps 138 = .ok (.iaload, 1) := dk_46 (dk_at dksX7_steps_5 20 rfl rfl)
theorem dX7_steps_139 : decode cX7_steps 139 = .ok (.aload_n 0, 1) := dk_42 (dk_at dksX7_steps_5 21 rfl rfl)
theorem dX7_steps_140 : decode cX7_steps 140 = .ok (.getfield 59, 3) := dk_180 0 59 (dk_at dksX7_steps_6 0 rfl rfl)
theorem dX7_steps_143 : decode cX7_steps 143 = .ok (.aload_n 0, 1) := dk_42 (dk_at dksX7_steps_6 3 rfl rfl)
theorem dX7_steps_144 : decode cX7_steps 144 = .ok (.getfield 43, 3) := dk_180 0 43 (dk_at dksX7_steps_6 4 rfl rfl)
theorem dX7_steps_147 : decode cX7_steps 147 = .ok (.iconst 4, 1) := dk_7 (dk_at dksX7_steps_6 7 rfl rfl)
theorem dX7_steps_148 : decode cX7_steps 148 = .ok (.iload_n 1, 1) := dk_27 (dk_at dksX7_steps_6 8 rfl rfl)
theorem dX7_steps_149 : decode cX7_steps 149 = .ok (.imul, 1) := dk_104 (dk_at dksX7_steps_6 9 rfl rfl)
theorem dX7_steps_150 : decode cX7_steps 150 = .ok (.iaload, 1) := dk_46 (dk_at dksX7_steps_6 10 rfl rfl)
theorem dX7_steps_151 : decode cX7_steps 151 = .ok (.iaload, 1) := dk_46 (dk_at dksX7_steps_6 11 rfl rfl)
theorem dX7_steps_152 : decode cX7_steps 152 = .ok (.aload_n 0, 1) := dk_42 (dk_at dksX7_steps_6 12 rfl rfl)
theorem dX7_steps_153 : decode cX7_steps 153 = .ok (.getfield 255, 3) := dk_180 0 255 (dk_at dksX7_steps_6 13 rfl rfl)
theorem dX7_steps_156 : decode cX7_steps 156 = .ok (.iload_n 2, 1) := dk_28 (dk_at dksX7_steps_6 16 rfl rfl)
theorem dX7_steps_157 : decode cX7_steps 157 = .ok (.iconst 1, 1) := dk_4 (dk_at dksX7_steps_6 17 rfl rfl)
theorem dX7_steps_158 : decode cX7_steps 158 = .ok (.isub, 1) := dk_100 (dk_at dksX7_steps_6 18 rfl rfl)
theorem dX7_steps_159 : decode cX7_steps 159 = .ok (.ishr, 1) := dk_122 (dk_at dksX7_steps_6 19 rfl rfl)
theorem dX7_steps_160 : decode cX7_steps 160 = .ok (.iconst 1, 1) := dk_4 (dk_at dksX7_steps_6 20 rfl rfl)
theorem dX7_steps_161 : decode cX7_steps 161 = .ok (.iand, 1) := dk_126 (dk_at dksX7_steps_6 21 rfl rfl)
theorem dX7_steps_162 : decode cX7_steps 162 = .ok (.iload_n 2, 1) := dk_28 (dk_at dksX7_steps_6 22 rfl rfl)
theorem dX7_steps_163 : decode cX7_steps 163 = .ok (.invokestatic 286, 3) := dk_184 1 30 (dk_at dksX7_steps_7 0 rfl rfl)
theorem dX7_steps_166 : decode cX7_steps 166 = .ok (.isub, 1) := dk_100 (dk_at dksX7_steps_7 3 rfl rfl)
theorem dX7_steps_167 : decode cX7_steps 167 = .ok (.invokestatic 280, 3) := dk_184 1 24 (dk_at dksX7_steps_7 4 rfl rfl)
theorem dX7_steps_170 : decode cX7_steps 170 = .ok (.iastore, 1) := dk_79 (dk_at dksX7_steps_7 7 rfl rfl)
theorem dX7_steps_171 : decode cX7_steps 171 = .ok (.aload_n 0, 1) := dk_42 (dk_at dksX7_steps_7 8 rfl rfl)
theorem dX7_steps_172 : decode cX7_steps 172 = .ok (.getfield 65, 3) := dk_180 0 65 (dk_at dksX7_steps_7 9 rfl rfl)
theorem dX7_steps_175 : decode cX7_steps 175 = .ok (.bipush 7, 2) := dk_16 7 (dk_at dksX7_steps_7 12 rfl rfl)
theorem dX7_steps_177 : decode cX7_steps 177 = .ok (.iload_n 2, 1) := dk_28 (dk_at dksX7_steps_7 14 rfl rfl)
theorem dX7_steps_178 : decode cX7_steps 178 = .ok (.imul, 1) := dk_104 (dk_at dksX7_steps_7 15 rfl rfl)
theorem dX7_steps_179 : decode cX7_steps 179 = .ok (.iload_n 1, 1) := dk_27 (dk_at dksX7_steps_7 16 rfl rfl)
theorem dX7_steps_180 : decode cX7_steps 180 = .ok (.iadd, 1) := dk_96 (dk_at dksX7_steps_7 17 rfl rfl)
theorem dX7_steps_181 : decode cX7_steps 181 = .ok (.iconst 0, 1) := dk_3 (dk_at dksX7_steps_7 18 rfl rfl)
theorem dX7_steps_182 : decode cX7_steps 182 = .ok (.bastore, 1) := dk_84 (dk_at dksX7_steps_7 19 rfl rfl)
theorem dX7_steps_183 : decode cX7_steps 183 = .ok (.aload_n 0, 1) := dk_42 (dk_at dksX7_steps_7 20 rfl rfl)
theorem dX7_steps_184 : decode cX7_steps 184 = .ok (.iload_n 1, 1) := dk_27 (dk_at dksX7_steps_7 21 rfl rfl)
theorem dX7_steps_185 : decode cX7_steps 185 = .ok (.invokevirtual 290, 3) := dk_182 1 34 (dk_at dksX7_steps_8 0 rfl rfl)
theorem dX7_steps_188 : decode cX7_steps 188 = .ok (.istore 5, 2) := dk_54 5 (dk_at dksX7_steps_8 3 rfl rfl)
theorem dX7_steps_190 : decode cX7_steps 190 = .ok (.aload_n 0, 1) := dk_42 (dk_at dksX7_steps_8 5 rfl rfl)
theorem dX7_steps_191 : decode cX7_steps 191 = .ok (.getfield 252, 3) := dk_180 0 252 (dk_at dksX7_steps_8 6 rfl rfl)
theorem dX7_steps_194 : decode cX7_steps 194 = .ok (.iconst 2, 1) := dk_5 (dk_at dksX7_steps_8 9 rfl rfl)
theorem dX7_steps_195 : decode cX7_steps 195 = .ok (.if_icmp .ne 67, 3) := dk_160 0 67 (dk_at dksX7_steps_8 10 rfl rfl)
theorem dX7_steps_198 : decode cX7_steps 198 = .ok (.iload 5, 2) := dk_21 5 (dk_at dksX7_steps_8 13 rfl rfl)
theorem dX7_steps_200 : decode cX7_steps 200 = .ok (.iconst (-1), 1) := dk_2 (dk_at dksX7_steps_8 15 rfl rfl)
theorem dX7_steps_201 : decode cX7_steps 201 = .ok (.if_icmp .eq 61, 3) := dk_159 0 61 (dk_at dksX7_steps_8 16 rfl rfl)
theorem dX7_steps_204 : decode cX7_steps 204 = .ok (.aload_n 0, 1) := dk_42 (dk_at dksX7_steps_8 19 rfl rfl)
theorem dX7_steps_205 : decode cX7_steps 205 = .ok (.iload 5, 2) := dk_21 5 (dk_at dksX7_steps_8 20 rfl rfl)
theorem dX7_steps_207 : decode cX7_steps 207 = .ok (.iload_n 2, 1) := dk_28 (dk_at dksX7_steps_8 22 rfl rfl)
theorem dX7_steps_208 : decode cX7_steps 208 = .ok (.iconst 1, 1) := dk_4 (dk_at dksX7_steps_8 23 rfl rfl)
theorem dX7_steps_209 : decode cX7_steps 209 = .ok (.isub, 1) := dk_100 (dk_at dksX7_steps_9 0 rfl rfl)
theorem dX7_steps_210 : decode cX7_steps 210 = .ok (.invokevirtual 293, 3) := dk_182 1 37 (dk_at dksX7_steps_9 1 rfl rfl)
theorem dX7_steps_213 : decode cX7_steps 213 = .ok (.ifCond .eq 49, 3) := dk_153 0 49 (dk_at dksX7_steps_9 4 rfl rfl)
theorem dX7_steps_216 : decode cX7_steps 216 = .ok (.aload_n 0, 1) := dk_42 (dk_at dksX7_steps_9 7 rfl rfl)
theorem dX7_steps_217 : decode cX7_steps 217 = .ok (.iload 5, 2) := dk_21 5 (dk_at dksX7_steps_9 8 rfl rfl)
theorem dX7_steps_219 : decode cX7_steps 219 = .ok (.iload_n 2, 1) := dk_28 (dk_at dksX7_steps_9 10 rfl rfl)
theorem dX7_steps_220 : decode cX7_steps 220 = .ok (.iconst 1, 1) := dk_4 (dk_at dksX7_steps_9 11 rfl rfl)
theorem dX7_steps_221 : decode cX7_steps 221 = .ok (.isub, 1) := dk_100 (dk_at dksX7_steps_9 12 rfl rfl)
theorem dX7_steps_222 : decode cX7_steps 222 = .ok (.invokevirtual 283, 3) := dk_182 1 27 (dk_at dksX7_steps_9 13 rfl rfl)
theorem dX7_steps_225 : decode cX7_steps 225 = .ok (.iload 4, 2) := dk_21 4 (dk_at dksX7_steps_9 16 rfl rfl)
theorem dX7_steps_227 : decode cX7_steps 227 = .ok (.isub, 1) := dk_100 (dk_at dksX7_steps_9 18 rfl rfl)
theorem dX7_steps_228 : decode cX7_steps 228 = .ok (.bipush 10, 2) := dk_16 10 (dk_at dksX7_steps_9 19 rfl rfl)
theorem dX7_steps_230 : decode cX7_steps 230 = .ok (.if_icmp .lt 32, 3) := dk_161 0 32 (dk_at dksX7_steps_9 21 rfl rfl)
theorem dX7_steps_233 : decode cX7_steps 233 = .ok (.aload_n 0, 1) := dk_42 (dk_at dksX7_steps_10 0 rfl rfl)
theorem dX7_steps_234 : decode cX7_steps 234 = .ok (.getfield 62, 3) := dk_180 0 62 (dk_at dksX7_steps_10 1 rfl rfl)
theorem dX7_steps_237 : decode cX7_steps 237 = .ok (.bipush 7, 2) := dk_16 7 (dk_at dksX7_steps_10 4 rfl rfl)
theorem dX7_steps_239 : decode cX7_steps 239 = .ok (.iload_n 2, 1) := dk_28 (dk_at dksX7_steps_10 6 rfl rfl)
theorem dX7_steps_240 : decode cX7_steps 240 = .ok (.imul, 1) := dk_104 (dk_at dksX7_steps_10 7 rfl rfl)
theorem dX7_steps_241 : decode cX7_steps 241 = .ok (.iload_n 1, 1) := dk_27 (dk_at dksX7_steps_10 8 rfl rfl)
theorem dX7_steps_242 : decode cX7_steps 242 = .ok (.iadd, 1) := dk_96 (dk_at dksX7_steps_10 9 rfl rfl)
theorem dX7_steps_243 : decode cX7_steps 243 = .ok (.bipush 60, 2) := dk_16 60 (dk_at dksX7_steps_10 10 rfl rfl)
theorem dX7_steps_245 : decode cX7_steps 245 = .ok (.aload_n 0, 1) := dk_42 (dk_at dksX7_steps_10 12 rfl rfl)
theorem dX7_steps_246 : decode cX7_steps 246 = .ok (.getfield 62, 3) := dk_180 0 62 (dk_at dksX7_steps_10 13 rfl rfl)
theorem dX7_steps_249 : decode cX7_steps 249 = .ok (.bipush 7, 2) := dk_16 7 (dk_at dksX7_steps_10 16 rfl rfl)
theorem dX7_steps_251 : decode cX7_steps 251 = .ok (.iload_n 2, 1) := dk_28 (dk_at dksX7_steps_10 18 rfl rfl)
theorem dX7_steps_252 : decode cX7_steps 252 = .ok (.imul, 1) := dk_104 (dk_at dksX7_steps_10 19 rfl rfl)
theorem dX7_steps_253 : decode cX7_steps 253 = .ok (.iload_n 1, 1) := dk_27 (dk_at dksX7_steps_10 20 rfl rfl)
theorem dX7_steps_254 : decode cX7_steps 254 = .ok (.iadd, 1) := dk_96 (dk_at dksX7_steps_10 21 rfl rfl)
theorem dX7_steps_255 : decode cX7_steps 255 = .ok (.iaload, 1) := dk_46 (dk_at dksX7_steps_10 22 rfl rfl)
theorem dX7_steps_256 : decode cX7_steps 256 = .ok (.iconst 1, 1) := dk_4 (dk_at dksX7_steps_10 23 rfl rfl)
theorem dX7_steps_257 : decode cX7_steps 257 = .ok (.iadd, 1) := dk_96 (dk_at dksX7_steps_11 0 rfl rfl)
theorem dX7_steps_258 : decode cX7_steps 258 = .ok (.invokestatic 277, 3) := dk_184 1 21 (dk_at dksX7_steps_11 1 rfl rfl)
theorem dX7_steps_261 : decode cX7_steps 261 = .ok (.iastore, 1) := dk_79 (dk_at dksX7_steps_11 4 rfl rfl)
theorem dX7_steps_262 : decode cX7_steps 262 = .ok (.return_, 1) := dk_177 (dk_at dksX7_steps_11 5 rfl rfl)
abbrev cX7_shadeOf : ByteArray := prog_12_method_53_code
def yX7_shadeOf : MethodName := ⟨RX7, "shadeOf", "(II)I"⟩
def dkwX7_shadeOf_0 : List UInt8 := [42, 180, 0, 62, 16, 7, 28, 104, 27, 96, 46, 172]
abbrev dktX7_shadeOf_0 : List UInt8 := dkwX7_shadeOf_0 ++ []
theorem dksX7_shadeOf_0 : cX7_shadeOf.data.toList.drop 0 = dktX7_shadeOf_0 := by decide +kernel
theorem dX7_shadeOf_0 : decode cX7_shadeOf 0 = .ok (.aload_n 0, 1) := dk_42 (dk_at dksX7_shadeOf_0 0 rfl rfl)
theorem dX7_shadeOf_1 : decode cX7_shadeOf 1 = .ok (.getfield 62, 3) := dk_180 0 62 (dk_at dksX7_shadeOf_0 1 rfl rfl)
theorem dX7_shadeOf_4 : decode cX7_shadeOf 4 = .ok (.bipush 7, 2) := dk_16 7 (dk_at dksX7_shadeOf_0 4 rfl rfl)
theorem dX7_shadeOf_6 : decode cX7_shadeOf 6 = .ok (.iload_n 2, 1) := dk_28 (dk_at dksX7_shadeOf_0 6 rfl rfl)
theorem dX7_shadeOf_7 : decode cX7_shadeOf 7 = .ok (.imul, 1) := dk_104 (dk_at dksX7_shadeOf_0 7 rfl rfl)
theorem dX7_shadeOf_8 : decode cX7_shadeOf 8 = .ok (.iload_n 1, 1) := dk_27 (dk_at dksX7_shadeOf_0 8 rfl rfl)
theorem dX7_shadeOf_9 : decode cX7_shadeOf 9 = .ok (.iadd, 1) := dk_96 (dk_at dksX7_shadeOf_0 9 rfl rfl)
theorem dX7_shadeOf_10 : decode cX7_shadeOf 10 = .ok (.iaload, 1) := dk_46 (dk_at dksX7_shadeOf_0 10 rfl rfl)
theorem dX7_shadeOf_11 : decode cX7_shadeOf 11 = .ok (.ireturn, 1) := dk_172 (dk_at dksX7_shadeOf_0 11 rfl rfl)
abbrev cX7_fadeBy : ByteArray := prog_12_method_56_code
def yX7_fadeBy : MethodName := ⟨RX7, "fadeBy", "(IIIII)I"⟩
def dkwX7_fadeBy_1 : List UInt8 := [160, 0, 7, 5, 167, 0, 4, 4, 104, 5, 29, 104, 96, 172]
abbrev dktX7_fadeBy_1 : List UInt8 := dkwX7_fadeBy_1 ++ []
def dkwX7_fadeBy_0 : List UInt8 := [26, 6, 160, 0, 13, 21, 4, 5, 112, 4, 160, 0, 5, 3, 172, 27, 26, 4, 160, 0, 12, 28, 4]
abbrev dktX7_fadeBy_0 : List UInt8 := dkwX7_fadeBy_0 ++ dktX7_fadeBy_1
theorem dksX7_fadeBy_0 : cX7_fadeBy.data.toList.drop 0 = dktX7_fadeBy_0 := by decide +kernel
theorem dksX7_fadeBy_1 : cX7_fadeBy.data.toList.drop 23 = dktX7_fadeBy_1 := dk_seg dksX7_fadeBy_0 23 rfl rfl
theorem dX7_fadeBy_0 : decode cX7_fadeBy 0 = .ok (.iload_n 0, 1) := dk_26 (dk_at dksX7_fadeBy_0 0 rfl rfl)
theorem dX7_fadeBy_1 : decode cX7_fadeBy 1 = .ok (.iconst 3, 1) := dk_6 (dk_at dksX7_fadeBy_0 1 rfl rfl)
theorem dX7_fadeBy_2 : decode cX7_fadeBy 2 = .ok (.if_icmp .ne 13, 3) := dk_160 0 13 (dk_at dksX7_fadeBy_0 2 rfl rfl)
theorem dX7_fadeBy_5 : decode cX7_fadeBy 5 = .ok (.iload 4, 2) := dk_21 4 (dk_at dksX7_fadeBy_0 5 rfl rfl)
theorem dX7_fadeBy_7 : decode cX7_fadeBy 7 = .ok (.iconst 2, 1) := dk_5 (dk_at dksX7_fadeBy_0 7 rfl rfl)
theorem dX7_fadeBy_8 : decode cX7_fadeBy 8 = .ok (.irem, 1) := dk_112 (dk_at dksX7_fadeBy_0 8 rfl rfl)
theorem dX7_fadeBy_9 : decode cX7_fadeBy 9 = .ok (.iconst 1, 1) := dk_4 (dk_at dksX7_fadeBy_0 9 rfl rfl)
theorem dX7_fadeBy_10 : decode cX7_fadeBy 10 = .ok (.if_icmp .ne 5, 3) := dk_160 0 5 (dk_at dksX7_fadeBy_0 10 rfl rfl)
theorem dX7_fadeBy_13 : decode cX7_fadeBy 13 = .ok (.iconst 0, 1) := dk_3 (dk_at dksX7_fadeBy_0 13 rfl rfl)
theorem dX7_fadeBy_14 : decode cX7_fadeBy 14 = .ok (.ireturn, 1) := dk_172 (dk_at dksX7_fadeBy_0 14 rfl rfl)
theorem dX7_fadeBy_15 : decode cX7_fadeBy 15 = .ok (.iload_n 1, 1) := dk_27 (dk_at dksX7_fadeBy_0 15 rfl rfl)
theorem dX7_fadeBy_16 : decode cX7_fadeBy 16 = .ok (.iload_n 0, 1) := dk_26 (dk_at dksX7_fadeBy_0 16 rfl rfl)
theorem dX7_fadeBy_17 : decode cX7_fadeBy 17 = .ok (.iconst 1, 1) := dk_4 (dk_at dksX7_fadeBy_0 17 rfl rfl)
theorem dX7_fadeBy_18 : decode cX7_fadeBy 18 = .ok (.if_icmp .ne 12, 3) := dk_160 0 12 (dk_at dksX7_fadeBy_0 18 rfl rfl)
theorem dX7_fadeBy_21 : decode cX7_fadeBy 21 = .ok (.iload_n 2, 1) := dk_28 (dk_at dksX7_fadeBy_0 21 rfl rfl)
theorem dX7_fadeBy_22 : decode cX7_fadeBy 22 = .ok (.iconst 1, 1) := dk_4 (dk_at dksX7_fadeBy_0 22 rfl rfl)
theorem dX7_fadeBy_23 : decode cX7_fadeBy 23 = .ok (.if_icmp .ne 7, 3) := dk_160 0 7 (dk_at dksX7_fadeBy_1 0 rfl rfl)
theorem dX7_fadeBy_26 : decode cX7_fadeBy 26 = .ok (.iconst 2, 1) := dk_5 (dk_at dksX7_fadeBy_1 3 rfl rfl)
theorem dX7_fadeBy_27 : decode cX7_fadeBy 27 = .ok (.goto 4, 3) := dk_167 0 4 (dk_at dksX7_fadeBy_1 4 rfl rfl)
theorem dX7_fadeBy_30 : decode cX7_fadeBy 30 = .ok (.iconst 1, 1) := dk_4 (dk_at dksX7_fadeBy_1 7 rfl rfl)
theorem dX7_fadeBy_31 : decode cX7_fadeBy 31 = .ok (.imul, 1) := dk_104 (dk_at dksX7_fadeBy_1 8 rfl rfl)
theorem dX7_fadeBy_32 : decode cX7_fadeBy 32 = .ok (.iconst 2, 1) := dk_5 (dk_at dksX7_fadeBy_1 9 rfl rfl)
theorem dX7_fadeBy_33 : decode cX7_fadeBy 33 = .ok (.iload_n 3, 1) := dk_29 (dk_at dksX7_fadeBy_1 10 rfl rfl)
theorem dX7_fadeBy_34 : decode cX7_fadeBy 34 = .ok (.imul, 1) := dk_104 (dk_at dksX7_fadeBy_1 11 rfl rfl)
theorem dX7_fadeBy_35 : decode cX7_fadeBy 35 = .ok (.iadd, 1) := dk_96 (dk_at dksX7_fadeBy_1 12 rfl rfl)
theorem dX7_fadeBy_36 : decode cX7_fadeBy 36 = .ok (.ireturn, 1) := dk_172 (dk_at dksX7_fadeBy_1 13 rfl rfl)
abbrev cX7_moreOf : ByteArray := prog_12_method_48_code
def yX7_moreOf : MethodName := ⟨RX7, "moreOf", "(II)I"⟩
def dkwX7_moreOf_0 : List UInt8 := [26, 27, 164, 0, 7, 26, 167, 0, 4, 27, 172]
abbrev dktX7_moreOf_0 : List UInt8 := dkwX7_moreOf_0 ++ []
theorem dksX7_moreOf_0 : cX7_moreOf.data.toList.drop 0 = dktX7_moreOf_0 := by decide +kernel
theorem dX7_moreOf_0 : decode cX7_moreOf 0 = .ok (.iload_n 0, 1) := dk_26 (dk_at dksX7_moreOf_0 0 rfl rfl)
theorem dX7_moreOf_1 : decode cX7_moreOf 1 = .ok (.iload_n 1, 1) := dk_27 (dk_at dksX7_moreOf_0 1 rfl rfl)
theorem dX7_moreOf_2 : decode cX7_moreOf 2 = .ok (.if_icmp .le 7, 3) := dk_164 0 7 (dk_at dksX7_moreOf_0 2 rfl rfl)
theorem dX7_moreOf_5 : decode cX7_moreOf 5 = .ok (.iload_n 0, 1) := dk_26 (dk_at dksX7_moreOf_0 5 rfl rfl)
theorem dX7_moreOf_6 : decode cX7_moreOf 6 = .ok (.goto 4, 3) := dk_167 0 4 (dk_at dksX7_moreOf_0 6 rfl rfl)
theorem dX7_moreOf_9 : decode cX7_moreOf 9 = .ok (.iload_n 1, 1) := dk_27 (dk_at dksX7_moreOf_0 9 rfl rfl)
theorem dX7_moreOf_10 : decode cX7_moreOf 10 = .ok (.ireturn, 1) := dk_172 (dk_at dksX7_moreOf_0 10 rfl rfl)
abbrev cX7_actsOf : ByteArray := prog_12_method_58_code
def yX7_actsOf : MethodName := ⟨RX7, "actsOf", "(I)V"⟩
def dkwX7_actsOf_8 : List UInt8 := [180, 1, 11, 104, 4, 96, 46, 182, 1, 40, 177]
abbrev dktX7_actsOf_8 : List UInt8 := dkwX7_actsOf_8 ++ []
def dkwX7_actsOf_7 : List UInt8 := [180, 1, 11, 27, 182, 1, 37, 153, 0, 25, 42, 42, 180, 1, 11, 27, 42, 180, 0, 43, 7, 42]
abbrev dktX7_actsOf_7 : List UInt8 := dkwX7_actsOf_7 ++ dktX7_actsOf_8
def dkwX7_actsOf_6 : List UInt8 := [132, 2, 1, 167, 255, 236, 42, 180, 1, 11, 2, 159, 0, 45, 42, 180, 1, 50, 27, 160, 0, 37, 42, 42]
abbrev dktX7_actsOf_6 : List UInt8 := dkwX7_actsOf_6 ++ dktX7_actsOf_7
def dkwX7_actsOf_5 : List UInt8 := [153, 0, 28, 3, 61, 28, 42, 180, 1, 8, 162, 0, 18, 42, 42, 180, 1, 5, 27, 182, 1, 44]
abbrev dktX7_actsOf_5 : List UInt8 := dkwX7_actsOf_5 ++ dktX7_actsOf_6
def dkwX7_actsOf_4 : List UInt8 := [180, 1, 5, 2, 159, 0, 48, 42, 180, 1, 47, 27, 160, 0, 40, 42, 42, 180, 1, 5, 27, 182, 1, 37]
abbrev dktX7_actsOf_4 : List UInt8 := dkwX7_actsOf_4 ++ dktX7_actsOf_5
def dkwX7_actsOf_3 : List UInt8 := [5, 96, 46, 182, 1, 40, 167, 0, 9, 42, 29, 27, 182, 1, 44, 132, 2, 1, 167, 255, 169, 42]
abbrev dktX7_actsOf_3 : List UInt8 := dkwX7_actsOf_3 ++ dktX7_actsOf_4
def dkwX7_actsOf_2 : List UInt8 := [167, 0, 39, 42, 180, 0, 46, 7, 28, 104, 46, 154, 0, 22, 42, 29, 27, 42, 180, 0, 46, 7, 28, 104]
abbrev dktX7_actsOf_2 : List UInt8 := dkwX7_actsOf_2 ++ dktX7_actsOf_3
def dkwX7_actsOf_1 : List UInt8 := [42, 180, 0, 46, 7, 28, 104, 6, 96, 46, 27, 160, 0, 51, 42, 29, 27, 182, 1, 37, 154, 0, 6]
abbrev dktX7_actsOf_1 : List UInt8 := dkwX7_actsOf_1 ++ dktX7_actsOf_2
def dkwX7_actsOf_0 : List UInt8 := [3, 61, 28, 42, 180, 0, 34, 16, 6, 46, 162, 0, 82, 42, 180, 0, 46, 7, 28, 104, 4, 96, 46, 62]
abbrev dktX7_actsOf_0 : List UInt8 := dkwX7_actsOf_0 ++ dktX7_actsOf_1
theorem dksX7_actsOf_0 : cX7_actsOf.data.toList.drop 0 = dktX7_actsOf_0 := by decide +kernel
theorem dksX7_actsOf_1 : cX7_actsOf.data.toList.drop 24 = dktX7_actsOf_1 := dk_seg dksX7_actsOf_0 24 rfl rfl
theorem dksX7_actsOf_2 : cX7_actsOf.data.toList.drop 47 = dktX7_actsOf_2 := dk_seg dksX7_actsOf_1 23 rfl rfl
theorem dksX7_actsOf_3 : cX7_actsOf.data.toList.drop 71 = dktX7_actsOf_3 := dk_seg dksX7_actsOf_2 24 rfl rfl
theorem dksX7_actsOf_4 : cX7_actsOf.data.toList.drop 93 = dktX7_actsOf_4 := dk_seg dksX7_actsOf_3 22 rfl rfl
theorem dksX7_actsOf_5 : cX7_actsOf.data.toList.drop 117 = dktX7_actsOf_5 := dk_seg dksX7_actsOf_4 24 rfl rfl
theorem dksX7_actsOf_6 : cX7_actsOf.data.toList.drop 139 = dktX7_actsOf_6 := dk_seg dksX7_actsOf_5 22 rfl rfl
theorem dksX7_actsOf_7 : cX7_actsOf.data.toList.drop 163 = dktX7_actsOf_7 := dk_seg dksX7_actsOf_6 24 rfl rfl
theorem dksX7_actsOf_8 : cX7_actsOf.data.toList.drop 185 = dktX7_actsOf_8 := dk_seg dksX7_actsOf_7 22 rfl rfl
theorem dX7_actsOf_0 : decode cX7_actsOf 0 = .ok (.iconst 0, 1) := dk_3 (dk_at dksX7_actsOf_0 0 rfl rfl)
theorem dX7_actsOf_1 : decode cX7_actsOf 1 = .ok (.istore_n 2, 1) := dk_61 (dk_at dksX7_actsOf_0 1 rfl rfl)
theorem dX7_actsOf_2 : decode cX7_actsOf 2 = .ok (.iload_n 2, 1) := dk_28 (dk_at dksX7_actsOf_0 2 rfl rfl)
theorem dX7_actsOf_3 : decode cX7_actsOf 3 = .ok (.aload_n 0, 1) := dk_42 (dk_at dksX7_actsOf_0 3 rfl rfl)
theorem dX7_actsOf_4 : decode cX7_actsOf 4 = .ok (.getfield 34, 3) := dk_180 0 34 (dk_at dksX7_actsOf_0 4 rfl rfl)
theorem dX7_actsOf_7 : decode cX7_actsOf 7 = .ok (.bipush 6, 2) := dk_16 6 (dk_at dksX7_actsOf_0 7 rfl rfl)
theorem dX7_actsOf_9 : decode cX7_actsOf 9 = .ok (.iaload, 1) := dk_46 (dk_at dksX7_actsOf_0 9 rfl rfl)
theorem dX7_actsOf_10 : decode cX7_actsOf 10 = .ok (.if_icmp .ge 82, 3) := dk_162 0 82 (dk_at dksX7_actsOf_0 10 rfl rfl)
theorem dX7_actsOf_13 : decode cX7_actsOf 13 = .ok (.aload_n 0, 1) := dk_42 (dk_at dksX7_actsOf_0 13 rfl rfl)
theorem dX7_actsOf_14 : decode cX7_actsOf 14 = .ok (.getfield 46, 3) := dk_180 0 46 (dk_at dksX7_actsOf_0 14 rfl rfl)
theorem dX7_actsOf_17 : decode cX7_actsOf 17 = .ok (.iconst 4, 1) := dk_7 (dk_at dksX7_actsOf_0 17 rfl rfl)
theorem dX7_actsOf_18 : decode cX7_actsOf 18 = .ok (.iload_n 2, 1) := dk_28 (dk_at dksX7_actsOf_0 18 rfl rfl)
theorem dX7_actsOf_19 : decode cX7_actsOf 19 = .ok (.imul, 1) := dk_104 (dk_at dksX7_actsOf_0 19 rfl rfl)
theorem dX7_actsOf_20 : decode cX7_actsOf 20 = .ok (.iconst 1, 1) := dk_4 (dk_at dksX7_actsOf_0 20 rfl rfl)
theorem dX7_actsOf_21 : decode cX7_actsOf 21 = .ok (.iadd, 1) := dk_96 (dk_at dksX7_actsOf_0 21 rfl rfl)
theorem dX7_actsOf_22 : decode cX7_actsOf 22 = .ok (.iaload, 1) := dk_46 (dk_at dksX7_actsOf_0 22 rfl rfl)
theorem dX7_actsOf_23 : decode cX7_actsOf 23 = .ok (.istore_n 3, 1) := dk_62 (dk_at dksX7_actsOf_0 23 rfl rfl)
theorem dX7_actsOf_24 : decode cX7_actsOf 24 = .ok (.aload_n 0, 1) := dk_42 (dk_at dksX7_actsOf_1 0 rfl rfl)
theorem dX7_actsOf_25 : decode cX7_actsOf 25 = .ok (.getfield 46, 3) := dk_180 0 46 (dk_at dksX7_actsOf_1 1 rfl rfl)
theorem dX7_actsOf_28 : decode cX7_actsOf 28 = .ok (.iconst 4, 1) := dk_7 (dk_at dksX7_actsOf_1 4 rfl rfl)
theorem dX7_actsOf_29 : decode cX7_actsOf 29 = .ok (.iload_n 2, 1) := dk_28 (dk_at dksX7_actsOf_1 5 rfl rfl)
theorem dX7_actsOf_30 : decode cX7_actsOf 30 = .ok (.imul, 1) := dk_104 (dk_at dksX7_actsOf_1 6 rfl rfl)
theorem dX7_actsOf_31 : decode cX7_actsOf 31 = .ok (.iconst 3, 1) := dk_6 (dk_at dksX7_actsOf_1 7 rfl rfl)
theorem dX7_actsOf_32 : decode cX7_actsOf 32 = .ok (.iadd, 1) := dk_96 (dk_at dksX7_actsOf_1 8 rfl rfl)
theorem dX7_actsOf_33 : decode cX7_actsOf 33 = .ok (.iaload, 1) := dk_46 (dk_at dksX7_actsOf_1 9 rfl rfl)
theorem dX7_actsOf_34 : decode cX7_actsOf 34 = .ok (.iload_n 1, 1) := dk_27 (dk_at dksX7_actsOf_1 10 rfl rfl)
theorem dX7_actsOf_35 : decode cX7_actsOf 35 = .ok (.if_icmp .ne 51, 3) := dk_160 0 51 (dk_at dksX7_actsOf_1 11 rfl rfl)
theorem dX7_actsOf_38 : decode cX7_actsOf 38 = .ok (.aload_n 0, 1) := dk_42 (dk_at dksX7_actsOf_1 14 rfl rfl)
theorem dX7_actsOf_39 : decode cX7_actsOf 39 = .ok (.iload_n 3, 1) := dk_29 (dk_at dksX7_actsOf_1 15 rfl rfl)
theorem dX7_actsOf_40 : decode cX7_actsOf 40 = .ok (.iload_n 1, 1) := dk_27 (dk_at dksX7_actsOf_1 16 rfl rfl)
theorem dX7_actsOf_41 : decode cX7_actsOf 41 = .ok (.invokevirtual 293, 3) := dk_182 1 37 (dk_at dksX7_actsOf_1 17 rfl rfl)
theorem dX7_actsOf_44 : decode cX7_actsOf 44 = .ok (.ifCond .ne 6, 3) := dk_154 0 6 (dk_at dksX7_actsOf_1 20 rfl rfl)
theorem dX7_actsOf_47 : decode cX7_actsOf 47 = .ok (.goto 39, 3) := dk_167 0 39 (dk_at dksX7_actsOf_2 0 rfl rfl)
theorem dX7_actsOf_50 : decode cX7_actsOf 50 = .ok (.aload_n 0, 1) := dk_42 (dk_at dksX7_actsOf_2 3 rfl rfl)
theorem dX7_actsOf_51 : decode cX7_actsOf 51 = .ok (.getfield 46, 3) := dk_180 0 46 (dk_at dksX7_actsOf_2 4 rfl rfl)
theorem dX7_actsOf_54 : decode cX7_actsOf 54 = .ok (.iconst 4, 1) := dk_7 (dk_at dksX7_actsOf_2 7 rfl rfl)
theorem dX7_actsOf_55 : decode cX7_actsOf 55 = .ok (.iload_n 2, 1) := dk_28 (dk_at dksX7_actsOf_2 8 rfl rfl)
theorem dX7_actsOf_56 : decode cX7_actsOf 56 = .ok (.imul, 1) := dk_104 (dk_at dksX7_actsOf_2 9 rfl rfl)
theorem dX7_actsOf_57 : decode cX7_actsOf 57 = .ok (.iaload, 1) := dk_46 (dk_at dksX7_actsOf_2 10 rfl rfl)
theorem dX7_actsOf_58 : decode cX7_actsOf 58 = .ok (.ifCond .ne 22, 3) := dk_154 0 22 (dk_at dksX7_actsOf_2 11 rfl rfl)
theorem dX7_actsOf_61 : decode cX7_actsOf 61 = .ok (.aload_n 0, 1) := dk_42 (dk_at dksX7_actsOf_2 14 rfl rfl)
theorem dX7_actsOf_62 : decode cX7_actsOf 62 = .ok (.iload_n 3, 1) := dk_29 (dk_at dksX7_actsOf_2 15 rfl rfl)
theorem dX7_actsOf_63 : decode cX7_actsOf 63 = .ok (.iload_n 1, 1) := dk_27 (dk_at dksX7_actsOf_2 16 rfl rfl)
theorem dX7_actsOf_64 : decode cX7_actsOf 64 = .ok (.aload_n 0, 1) := dk_42 (dk_at dksX7_actsOf_2 17 rfl rfl)
theorem dX7_actsOf_65 : decode cX7_actsOf 65 = .ok (.getfield 46, 3) := dk_180 0 46 (dk_at dksX7_actsOf_2 18 rfl rfl)
theorem dX7_actsOf_68 : decode cX7_actsOf 68 = .ok (.iconst 4, 1) := dk_7 (dk_at dksX7_actsOf_2 21 rfl rfl)
theorem dX7_actsOf_69 : decode cX7_actsOf 69 = .ok (.iload_n 2, 1) := dk_28 (dk_at dksX7_actsOf_2 22 rfl rfl)
theorem dX7_actsOf_70 : decode cX7_actsOf 70 = .ok (.imul, 1) := dk_104 (dk_at dksX7_actsOf_2 23 rfl rfl)
theorem dX7_actsOf_71 : decode cX7_actsOf 71 = .ok (.iconst 2, 1) := dk_5 (dk_at dksX7_actsOf_3 0 rfl rfl)
theorem dX7_actsOf_72 : decode cX7_actsOf 72 = .ok (.iadd, 1) := dk_96 (dk_at dksX7_actsOf_3 1 rfl rfl)
theorem dX7_actsOf_73 : decode cX7_actsOf 73 = .ok (.iaload, 1) := dk_46 (dk_at dksX7_actsOf_3 2 rfl rfl)
theorem dX7_actsOf_74 : decode cX7_actsOf 74 = .ok (.invokevirtual 296, 3) := dk_182 1 40 (dk_at dksX7_actsOf_3 3 rfl rfl)
theorem dX7_actsOf_77 : decode cX7_actsOf 77 = .ok (.goto 9, 3) := dk_167 0 9 (dk_at dksX7_actsOf_3 6 rfl rfl)
theorem dX7_actsOf_80 : decode cX7_actsOf 80 = .ok (.aload_n 0, 1) := dk_42 (dk_at dksX7_actsOf_3 9 rfl rfl)
theorem dX7_actsOf_81 : decode cX7_actsOf 81 = .ok (.iload_n 3, 1) := dk_29 (dk_at dksX7_actsOf_3 10 rfl rfl)
theorem dX7_actsOf_82 : decode cX7_actsOf 82 = .ok (.iload_n 1, 1) := dk_27 (dk_at dksX7_actsOf_3 11 rfl rfl)
theorem dX7_actsOf_83 : decode cX7_actsOf 83 = .ok (.invokevirtual 300, 3) := dk_182 1 44 (dk_at dksX7_actsOf_3 12 rfl rfl)
theorem dX7_actsOf_86 : decode cX7_actsOf 86 = .ok (.iinc 2 1, 3) := dk_132 2 1 (dk_at dksX7_actsOf_3 15 rfl rfl)
theorem dX7_actsOf_89 : decode cX7_actsOf 89 = .ok (.goto (-87), 3) := dk_167 255 169 (dk_at dksX7_actsOf_3 18 rfl rfl)
theorem dX7_actsOf_92 : decode cX7_actsOf 92 = .ok (.aload_n 0, 1) := dk_42 (dk_at dksX7_actsOf_3 21 rfl rfl)
theorem dX7_actsOf_93 : decode cX7_actsOf 93 = .ok (.getfield 261, 3) := dk_180 1 5 (dk_at dksX7_actsOf_4 0 rfl rfl)
theorem dX7_actsOf_96 : decode cX7_actsOf 96 = .ok (.iconst (-1), 1) := dk_2 (dk_at dksX7_actsOf_4 3 rfl rfl)
theorem dX7_actsOf_97 : decode cX7_actsOf 97 = .ok (.if_icmp .eq 48, 3) := dk_159 0 48 (dk_at dksX7_actsOf_4 4 rfl rfl)
theorem dX7_actsOf_100 : decode cX7_actsOf 100 = .ok (.aload_n 0, 1) := dk_42 (dk_at dksX7_actsOf_4 7 rfl rfl)
theorem dX7_actsOf_101 : decode cX7_actsOf 101 = .ok (.getfield 303, 3) := dk_180 1 47 (dk_at dksX7_actsOf_4 8 rfl rfl)
theorem dX7_actsOf_104 : decode cX7_actsOf 104 = .ok (.iload_n 1, 1) := dk_27 (dk_at dksX7_actsOf_4 11 rfl rfl)
theorem dX7_actsOf_105 : decode cX7_actsOf 105 = .ok (.if_icmp .ne 40, 3) := dk_160 0 40 (dk_at dksX7_actsOf_4 12 rfl rfl)
theorem dX7_actsOf_108 : decode cX7_actsOf 108 = .ok (.aload_n 0, 1) := dk_42 (dk_at dksX7_actsOf_4 15 rfl rfl)
theorem dX7_actsOf_109 : decode cX7_actsOf 109 = .ok (.aload_n 0, 1) := dk_42 (dk_at dksX7_actsOf_4 16 rfl rfl)
theorem dX7_actsOf_110 : decode cX7_actsOf 110 = .ok (.getfield 261, 3) := dk_180 1 5 (dk_at dksX7_actsOf_4 17 rfl rfl)
theorem dX7_actsOf_113 : decode cX7_actsOf 113 = .ok (.iload_n 1, 1) := dk_27 (dk_at dksX7_actsOf_4 20 rfl rfl)
theorem dX7_actsOf_114 : decode cX7_actsOf 114 = .ok (.invokevirtual 293, 3) := dk_182 1 37 (dk_at dksX7_actsOf_4 21 rfl rfl)
theorem dX7_actsOf_117 : decode cX7_actsOf 117 = .ok (.ifCond .eq 28, 3) := dk_153 0 28 (dk_at dksX7_actsOf_5 0 rfl rfl)
theorem dX7_actsOf_120 : decode cX7_actsOf 120 = .ok (.iconst 0, 1) := dk_3 (dk_at dksX7_actsOf_5 3 rfl rfl)
theorem dX7_actsOf_121 : decode cX7_actsOf 121 = .ok (.istore_n 2, 1) := dk_61 (dk_at dksX7_actsOf_5 4 rfl rfl)
theorem dX7_actsOf_122 : decode cX7_actsOf 122 = .ok (.iload_n 2, 1) := dk_28 (dk_at dksX7_actsOf_5 5 rfl rfl)
theorem dX7_actsOf_123 : decode cX7_actsOf 123 = .ok (.aload_n 0, 1) := dk_42 (dk_at dksX7_actsOf_5 6 rfl rfl)
theorem dX7_actsOf_124 : decode cX7_actsOf 124 = .ok (.getfield 264, 3) := dk_180 1 8 (dk_at dksX7_actsOf_5 7 rfl rfl)
theorem dX7_actsOf_127 : decode cX7_actsOf 127 = .ok (.if_icmp .ge 18, 3) := dk_162 0 18 (dk_at dksX7_actsOf_5 10 rfl rfl)
theorem dX7_actsOf_130 : decode cX7_actsOf 130 = .ok (.aload_n 0, 1) := dk_42 (dk_at dksX7_actsOf_5 13 rfl rfl)
theorem dX7_actsOf_131 : decode cX7_actsOf 131 = .ok (.aload_n 0, 1) := dk_42 (dk_at dksX7_actsOf_5 14 rfl rfl)
theorem dX7_actsOf_132 : decode cX7_actsOf 132 = .ok (.getfield 261, 3) := dk_180 1 5 (dk_at dksX7_actsOf_5 15 rfl rfl)
theorem dX7_actsOf_135 : decode cX7_actsOf 135 = .ok (.iload_n 1, 1) := dk_27 (dk_at dksX7_actsOf_5 18 rfl rfl)
theorem dX7_actsOf_136 : decode cX7_actsOf 136 = .ok (.invokevirtual 300, 3) := dk_182 1 44 (dk_at dksX7_actsOf_5 19 rfl rfl)
theorem dX7_actsOf_139 : decode cX7_actsOf 139 = .ok (.iinc 2 1, 3) := dk_132 2 1 (dk_at dksX7_actsOf_6 0 rfl rfl)
theorem dX7_actsOf_142 : decode cX7_actsOf 142 = .ok (.goto (-20), 3) := dk_167 255 236 (dk_at dksX7_actsOf_6 3 rfl rfl)
theorem dX7_actsOf_145 : decode cX7_actsOf 145 = .ok (.aload_n 0, 1) := dk_42 (dk_at dksX7_actsOf_6 6 rfl rfl)
theorem dX7_actsOf_146 : decode cX7_actsOf 146 = .ok (.getfield 267, 3) := dk_180 1 11 (dk_at dksX7_actsOf_6 7 rfl rfl)
theorem dX7_actsOf_149 : decode cX7_actsOf 149 = .ok (.iconst (-1), 1) := dk_2 (dk_at dksX7_actsOf_6 10 rfl rfl)
theorem dX7_actsOf_150 : decode cX7_actsOf 150 = .ok (.if_icmp .eq 45, 3) := dk_159 0 45 (dk_at dksX7_actsOf_6 11 rfl rfl)
theorem dX7_actsOf_153 : decode cX7_actsOf 153 = .ok (.aload_n 0, 1) := dk_42 (dk_at dksX7_actsOf_6 14 rfl rfl)
theorem dX7_actsOf_154 : decode cX7_actsOf 154 = .ok (.getfield 306, 3) := dk_180 1 50 (dk_at dksX7_actsOf_6 15 rfl rfl)
theorem dX7_actsOf_157 : decode cX7_actsOf 157 = .ok (.iload_n 1, 1) := dk_27 (dk_at dksX7_actsOf_6 18 rfl rfl)
theorem dX7_actsOf_158 : decode cX7_actsOf 158 = .ok (.if_icmp .ne 37, 3) := dk_160 0 37 (dk_at dksX7_actsOf_6 19 rfl rfl)
theorem dX7_actsOf_161 : decode cX7_actsOf 161 = .ok (.aload_n 0, 1) := dk_42 (dk_at dksX7_actsOf_6 22 rfl rfl)
theorem dX7_actsOf_162 : decode cX7_actsOf 162 = .ok (.aload_n 0, 1) := dk_42 (dk_at dksX7_actsOf_6 23 rfl rfl)
theorem dX7_actsOf_163 : decode cX7_actsOf 163 = .ok (.getfield 267, 3) := dk_180 1 11 (dk_at dksX7_actsOf_7 0 rfl rfl)
theorem dX7_actsOf_166 : decode cX7_actsOf 166 = .ok (.iload_n 1, 1) := dk_27 (dk_at dksX7_actsOf_7 3 rfl rfl)
theorem dX7_actsOf_167 : decode cX7_actsOf 167 = .ok (.invokevirtual 293, 3) := dk_182 1 37 (dk_at dksX7_actsOf_7 4 rfl rfl)
theorem dX7_actsOf_170 : decode cX7_actsOf 170 = .ok (.ifCond .eq 25, 3) := dk_153 0 25 (dk_at dksX7_actsOf_7 7 rfl rfl)
theorem dX7_actsOf_173 : decode cX7_actsOf 173 = .ok (.aload_n 0, 1) := dk_42 (dk_at dksX7_actsOf_7 10 rfl rfl)
theorem dX7_actsOf_174 : decode cX7_actsOf 174 = .ok (.aload_n 0, 1) := dk_42 (dk_at dksX7_actsOf_7 11 rfl rfl)
theorem dX7_actsOf_175 : decode cX7_actsOf 175 = .ok (.getfield 267, 3) := dk_180 1 11 (dk_at dksX7_actsOf_7 12 rfl rfl)
theorem dX7_actsOf_178 : decode cX7_actsOf 178 = .ok (.iload_n 1, 1) := dk_27 (dk_at dksX7_actsOf_7 15 rfl rfl)
theorem dX7_actsOf_179 : decode cX7_actsOf 179 = .ok (.aload_n 0, 1) := dk_42 (dk_at dksX7_actsOf_7 16 rfl rfl)
theorem dX7_actsOf_180 : decode cX7_actsOf 180 = .ok (.getfield 43, 3) := dk_180 0 43 (dk_at dksX7_actsOf_7 17 rfl rfl)
theorem dX7_actsOf_183 : decode cX7_actsOf 183 = .ok (.iconst 4, 1) := dk_7 (dk_at dksX7_actsOf_7 20 rfl rfl)
theorem dX7_actsOf_184 : decode cX7_actsOf 184 = .ok (.aload_n 0, 1) := dk_42 (dk_at dksX7_actsOf_7 21 rfl rfl)
theorem dX7_actsOf_185 : decode cX7_actsOf 185 = .ok (.getfield 267, 3) := dk_180 1 11 (dk_at dksX7_actsOf_8 0 rfl rfl)
theorem dX7_actsOf_188 : decode cX7_actsOf 188 = .ok (.imul, 1) := dk_104 (dk_at dksX7_actsOf_8 3 rfl rfl)
theorem dX7_actsOf_189 : decode cX7_actsOf 189 = .ok (.iconst 1, 1) := dk_4 (dk_at dksX7_actsOf_8 4 rfl rfl)
theorem dX7_actsOf_190 : decode cX7_actsOf 190 = .ok (.iadd, 1) := dk_96 (dk_at dksX7_actsOf_8 5 rfl rfl)
theorem dX7_actsOf_191 : decode cX7_actsOf 191 = .ok (.iaload, 1) := dk_46 (dk_at dksX7_actsOf_8 6 rfl rfl)
theorem dX7_actsOf_192 : decode cX7_actsOf 192 = .ok (.invokevirtual 296, 3) := dk_182 1 40 (dk_at dksX7_actsOf_8 7 rfl rfl)
theorem dX7_actsOf_195 : decode cX7_actsOf 195 = .ok (.return_, 1) := dk_177 (dk_at dksX7_actsOf_8 10 rfl rfl)
abbrev cX7_bleach0 : ByteArray := prog_12_method_55_code
def yX7_bleach0 : MethodName := ⟨RX7, "bleach0", "(II)V"⟩
def dkwX7_bleach0_1 : List UInt8 := [100, 184, 1, 24, 79, 42, 180, 0, 65, 16, 7, 28, 104, 27, 96, 3, 84, 177]
abbrev dktX7_bleach0_1 : List UInt8 := dkwX7_bleach0_1 ++ []
def dkwX7_bleach0_0 : List UInt8 := [42, 180, 0, 62, 16, 7, 28, 104, 27, 96, 3, 42, 180, 0, 62, 16, 7, 28, 104, 27, 96, 46, 16, 10]
abbrev dktX7_bleach0_0 : List UInt8 := dkwX7_bleach0_0 ++ dktX7_bleach0_1
theorem dksX7_bleach0_0 : cX7_bleach0.data.toList.drop 0 = dktX7_bleach0_0 := by decide +kernel
theorem dksX7_bleach0_1 : cX7_bleach0.data.toList.drop 24 = dktX7_bleach0_1 := dk_seg dksX7_bleach0_0 24 rfl rfl
theorem dX7_bleach0_0 : decode cX7_bleach0 0 = .ok (.aload_n 0, 1) := dk_42 (dk_at dksX7_bleach0_0 0 rfl rfl)
theorem dX7_bleach0_1 : decode cX7_bleach0 1 = .ok (.getfield 62, 3) := dk_180 0 62 (dk_at dksX7_bleach0_0 1 rfl rfl)
theorem dX7_bleach0_4 : decode cX7_bleach0 4 = .ok (.bipush 7, 2) := dk_16 7 (dk_at dksX7_bleach0_0 4 rfl rfl)
theorem dX7_bleach0_6 : decode cX7_bleach0 6 = .ok (.iload_n 2, 1) := dk_28 (dk_at dksX7_bleach0_0 6 rfl rfl)
theorem dX7_bleach0_7 : decode cX7_bleach0 7 = .ok (.imul, 1) := dk_104 (dk_at dksX7_bleach0_0 7 rfl rfl)
theorem dX7_bleach0_8 : decode cX7_bleach0 8 = .ok (.iload_n 1, 1) := dk_27 (dk_at dksX7_bleach0_0 8 rfl rfl)
theorem dX7_bleach0_9 : decode cX7_bleach0 9 = .ok (.iadd, 1) := dk_96 (dk_at dksX7_bleach0_0 9 rfl rfl)
theorem dX7_bleach0_10 : decode cX7_bleach0 10 = .ok (.iconst 0, 1) := dk_3 (dk_at dksX7_bleach0_0 10 rfl rfl)
theorem dX7_bleach0_11 : decode cX7_bleach0 11 = .ok (.aload_n 0, 1) := dk_42 (dk_at dksX7_bleach0_0 11 rfl rfl)
theorem dX7_bleach0_12 : decode cX7_bleach0 12 = .ok (.getfield 62, 3) := dk_180 0 62 (dk_at dksX7_bleach0_0 12 rfl rfl)
theorem dX7_bleach0_15 : decode cX7_bleach0 15 = .ok (.bipush 7, 2) := dk_16 7 (dk_at dksX7_bleach0_0 15 rfl rfl)
theorem dX7_bleach0_17 : decode cX7_bleach0 17 = .ok (.iload_n 2, 1) := dk_28 (dk_at dksX7_bleach0_0 17 rfl rfl)
theorem dX7_bleach0_18 : decode cX7_bleach0 18 = .ok (.imul, 1) := dk_104 (dk_at dksX7_bleach0_0 18 rfl rfl)
theorem dX7_bleach0_19 : decode cX7_bleach0 19 = .ok (.iload_n 1, 1) := dk_27 (dk_at dksX7_bleach0_0 19 rfl rfl)
theorem dX7_bleach0_20 : decode cX7_bleach0 20 = .ok (.iadd, 1) := dk_96 (dk_at dksX7_bleach0_0 20 rfl rfl)
theorem dX7_bleach0_21 : decode cX7_bleach0 21 = .ok (.iaload, 1) := dk_46 (dk_at dksX7_bleach0_0 21 rfl rfl)
theorem dX7_bleach0_22 : decode cX7_bleach0 22 = .ok (.bipush 10, 2) := dk_16 10 (dk_at dksX7_bleach0_0 22 rfl rfl)
theorem dX7_bleach0_24 : decode cX7_bleach0 24 = .ok (.isub, 1) := dk_100 (dk_at dksX7_bleach0_1 0 rfl rfl)
theorem dX7_bleach0_25 : decode cX7_bleach0 25 = .ok (.invokestatic 280, 3) := dk_184 1 24 (dk_at dksX7_bleach0_1 1 rfl rfl)
theorem dX7_bleach0_28 : decode cX7_bleach0 28 = .ok (.iastore, 1) := dk_79 (dk_at dksX7_bleach0_1 4 rfl rfl)
theorem dX7_bleach0_29 : decode cX7_bleach0 29 = .ok (.aload_n 0, 1) := dk_42 (dk_at dksX7_bleach0_1 5 rfl rfl)
theorem dX7_bleach0_30 : decode cX7_bleach0 30 = .ok (.getfield 65, 3) := dk_180 0 65 (dk_at dksX7_bleach0_1 6 rfl rfl)
theorem dX7_bleach0_33 : decode cX7_bleach0 33 = .ok (.bipush 7, 2) := dk_16 7 (dk_at dksX7_bleach0_1 9 rfl rfl)
theorem dX7_bleach0_35 : decode cX7_bleach0 35 = .ok (.iload_n 2, 1) := dk_28 (dk_at dksX7_bleach0_1 11 rfl rfl)
theorem dX7_bleach0_36 : decode cX7_bleach0 36 = .ok (.imul, 1) := dk_104 (dk_at dksX7_bleach0_1 12 rfl rfl)
theorem dX7_bleach0_37 : decode cX7_bleach0 37 = .ok (.iload_n 1, 1) := dk_27 (dk_at dksX7_bleach0_1 13 rfl rfl)
theorem dX7_bleach0_38 : decode cX7_bleach0 38 = .ok (.iadd, 1) := dk_96 (dk_at dksX7_bleach0_1 14 rfl rfl)
theorem dX7_bleach0_39 : decode cX7_bleach0 39 = .ok (.iconst 0, 1) := dk_3 (dk_at dksX7_bleach0_1 15 rfl rfl)
theorem dX7_bleach0_40 : decode cX7_bleach0 40 = .ok (.bastore, 1) := dk_84 (dk_at dksX7_bleach0_1 16 rfl rfl)
theorem dX7_bleach0_41 : decode cX7_bleach0 41 = .ok (.return_, 1) := dk_177 (dk_at dksX7_bleach0_1 17 rfl rfl)
abbrev cX7_peak : ByteArray := prog_12_method_73_code
def yX7_peak : MethodName := ⟨RX7, "peak", "(I)I"⟩
def dkwX7_peak_1 : List UInt8 := [27, 182, 1, 84, 182, 1, 27, 172]
abbrev dktX7_peak_1 : List UInt8 := dkwX7_peak_1 ++ []
def dkwX7_peak_0 : List UInt8 := [42, 3, 181, 0, 74, 42, 27, 133, 182, 0, 246, 154, 0, 6, 16, 254, 172, 42, 182, 1, 81, 42, 27, 42]
abbrev dktX7_peak_0 : List UInt8 := dkwX7_peak_0 ++ dktX7_peak_1
theorem dksX7_peak_0 : cX7_peak.data.toList.drop 0 = dktX7_peak_0 := by decide +kernel
theorem dksX7_peak_1 : cX7_peak.data.toList.drop 24 = dktX7_peak_1 := dk_seg dksX7_peak_0 24 rfl rfl
theorem dX7_peak_0 : decode cX7_peak 0 = .ok (.aload_n 0, 1) := dk_42 (dk_at dksX7_peak_0 0 rfl rfl)
theorem dX7_peak_1 : decode cX7_peak 1 = .ok (.iconst 0, 1) := dk_3 (dk_at dksX7_peak_0 1 rfl rfl)
theorem dX7_peak_2 : decode cX7_peak 2 = .ok (.putfield 74, 3) := dk_181 0 74 (dk_at dksX7_peak_0 2 rfl rfl)
theorem dX7_peak_5 : decode cX7_peak 5 = .ok (.aload_n 0, 1) := dk_42 (dk_at dksX7_peak_0 5 rfl rfl)
theorem dX7_peak_6 : decode cX7_peak 6 = .ok (.iload_n 1, 1) := dk_27 (dk_at dksX7_peak_0 6 rfl rfl)
theorem dX7_peak_7 : decode cX7_peak 7 = .ok (.i2l, 1) := dk_133 (dk_at dksX7_peak_0 7 rfl rfl)
theorem dX7_peak_8 : decode cX7_peak 8 = .ok (.invokevirtual 246, 3) := dk_182 0 246 (dk_at dksX7_peak_0 8 rfl rfl)
theorem dX7_peak_11 : decode cX7_peak 11 = .ok (.ifCond .ne 6, 3) := dk_154 0 6 (dk_at dksX7_peak_0 11 rfl rfl)
theorem dX7_peak_14 : decode cX7_peak 14 = .ok (.bipush (-2), 2) := dk_16 254 (dk_at dksX7_peak_0 14 rfl rfl)
theorem dX7_peak_16 : decode cX7_peak 16 = .ok (.ireturn, 1) := dk_172 (dk_at dksX7_peak_0 16 rfl rfl)
theorem dX7_peak_17 : decode cX7_peak 17 = .ok (.aload_n 0, 1) := dk_42 (dk_at dksX7_peak_0 17 rfl rfl)
theorem dX7_peak_18 : decode cX7_peak 18 = .ok (.invokevirtual 337, 3) := dk_182 1 81 (dk_at dksX7_peak_0 18 rfl rfl)
theorem dX7_peak_21 : decode cX7_peak 21 = .ok (.aload_n 0, 1) := dk_42 (dk_at dksX7_peak_0 21 rfl rfl)
theorem dX7_peak_22 : decode cX7_peak 22 = .ok (.iload_n 1, 1) := dk_27 (dk_at dksX7_peak_0 22 rfl rfl)
theorem dX7_peak_23 : decode cX7_peak 23 = .ok (.aload_n 0, 1) := dk_42 (dk_at dksX7_peak_0 23 rfl rfl)
theorem dX7_peak_24 : decode cX7_peak 24 = .ok (.iload_n 1, 1) := dk_27 (dk_at dksX7_peak_1 0 rfl rfl)
theorem dX7_peak_25 : decode cX7_peak 25 = .ok (.invokevirtual 340, 3) := dk_182 1 84 (dk_at dksX7_peak_1 1 rfl rfl)
theorem dX7_peak_28 : decode cX7_peak 28 = .ok (.invokevirtual 283, 3) := dk_182 1 27 (dk_at dksX7_peak_1 4 rfl rfl)
theorem dX7_peak_31 : decode cX7_peak 31 = .ok (.ireturn, 1) := dk_172 (dk_at dksX7_peak_1 7 rfl rfl)
abbrev cX7_ripeOf : ByteArray := prog_12_method_72_code
def yX7_ripeOf : MethodName := ⟨RX7, "ripeOf", "(I)I"⟩
def dkwX7_ripeOf_1 : List UInt8 := [164, 0, 5, 29, 61, 132, 3, 1, 167, 255, 228, 28, 172]
abbrev dktX7_ripeOf_1 : List UInt8 := dkwX7_ripeOf_1 ++ []
def dkwX7_ripeOf_0 : List UInt8 := [3, 61, 4, 62, 29, 42, 182, 0, 243, 163, 0, 26, 42, 27, 29, 182, 1, 27, 42, 27, 28, 182, 1, 27]
abbrev dktX7_ripeOf_0 : List UInt8 := dkwX7_ripeOf_0 ++ dktX7_ripeOf_1
theorem dksX7_ripeOf_0 : cX7_ripeOf.data.toList.drop 0 = dktX7_ripeOf_0 := by decide +kernel
theorem dksX7_ripeOf_1 : cX7_ripeOf.data.toList.drop 24 = dktX7_ripeOf_1 := dk_seg dksX7_ripeOf_0 24 rfl rfl
theorem dX7_ripeOf_0 : decode cX7_ripeOf 0 = .ok (.iconst 0, 1) := dk_3 (dk_at dksX7_ripeOf_0 0 rfl rfl)
theorem dX7_ripeOf_1 : decode cX7_ripeOf 1 = .ok (.istore_n 2, 1) := dk_61 (dk_at dksX7_ripeOf_0 1 rfl rfl)
theorem dX7_ripeOf_2 : decode cX7_ripeOf 2 = .ok (.iconst 1, 1) := dk_4 (dk_at dksX7_ripeOf_0 2 rfl rfl)
theorem dX7_ripeOf_3 : decode cX7_ripeOf 3 = .ok (.istore_n 3, 1) := dk_62 (dk_at dksX7_ripeOf_0 3 rfl rfl)
theorem dX7_ripeOf_4 : decode cX7_ripeOf 4 = .ok (.iload_n 3, 1) := dk_29 (dk_at dksX7_ripeOf_0 4 rfl rfl)
theorem dX7_ripeOf_5 : decode cX7_ripeOf 5 = .ok (.aload_n 0, 1) := dk_42 (dk_at dksX7_ripeOf_0 5 rfl rfl)
theorem dX7_ripeOf_6 : decode cX7_ripeOf 6 = .ok (.invokevirtual 243, 3) := dk_182 0 243 (dk_at dksX7_ripeOf_0 6 rfl rfl)
theorem dX7_ripeOf_9 : decode cX7_ripeOf 9 = .ok (.if_icmp .gt 26, 3) := dk_163 0 26 (dk_at dksX7_ripeOf_0 9 rfl rfl)
theorem dX7_ripeOf_12 : decode cX7_ripeOf 12 = .ok (.aload_n 0, 1) := dk_42 (dk_at dksX7_ripeOf_0 12 rfl rfl)
theorem dX7_ripeOf_13 : decode cX7_ripeOf 13 = .ok (.iload_n 1, 1) := dk_27 (dk_at dksX7_ripeOf_0 13 rfl rfl)
theorem dX7_ripeOf_14 : decode cX7_ripeOf 14 = .ok (.iload_n 3, 1) := dk_29 (dk_at dksX7_ripeOf_0 14 rfl rfl)
theorem dX7_ripeOf_15 : decode cX7_ripeOf 15 = .ok (.invokevirtual 283, 3) := dk_182 1 27 (dk_at dksX7_ripeOf_0 15 rfl rfl)
theorem dX7_ripeOf_18 : decode cX7_ripeOf 18 = .ok (.aload_n 0, 1) := dk_42 (dk_at dksX7_ripeOf_0 18 rfl rfl)
theorem dX7_ripeOf_19 : decode cX7_ripeOf 19 = .ok (.iload_n 1, 1) := dk_27 (dk_at dksX7_ripeOf_0 19 rfl rfl)
theorem dX7_ripeOf_20 : decode cX7_ripeOf 20 = .ok (.iload_n 2, 1) := dk_28 (dk_at dksX7_ripeOf_0 20 rfl rfl)
theorem dX7_ripeOf_21 : decode cX7_ripeOf 21 = .ok (.invokevirtual 283, 3) := dk_182 1 27 (dk_at dksX7_ripeOf_0 21 rfl rfl)
theorem dX7_ripeOf_24 : decode cX7_ripeOf 24 = .ok (.if_icmp .le 5, 3) := dk_164 0 5 (dk_at dksX7_ripeOf_1 0 rfl rfl)
theorem dX7_ripeOf_27 : decode cX7_ripeOf 27 = .ok (.iload_n 3, 1) := dk_29 (dk_at dksX7_ripeOf_1 3 rfl rfl)
theorem dX7_ripeOf_28 : decode cX7_ripeOf 28 = .ok (.istore_n 2, 1) := dk_61 (dk_at dksX7_ripeOf_1 4 rfl rfl)
theorem dX7_ripeOf_29 : decode cX7_ripeOf 29 = .ok (.iinc 3 1, 3) := dk_132 3 1 (dk_at dksX7_ripeOf_1 5 rfl rfl)
theorem dX7_ripeOf_32 : decode cX7_ripeOf 32 = .ok (.goto (-28), 3) := dk_167 255 228 (dk_at dksX7_ripeOf_1 8 rfl rfl)
theorem dX7_ripeOf_35 : decode cX7_ripeOf 35 = .ok (.iload_n 2, 1) := dk_28 (dk_at dksX7_ripeOf_1 11 rfl rfl)
theorem dX7_ripeOf_36 : decode cX7_ripeOf 36 = .ok (.ireturn, 1) := dk_172 (dk_at dksX7_ripeOf_1 12 rfl rfl)
abbrev cX7_ripe : ByteArray := prog_12_method_74_code
def yX7_ripe : MethodName := ⟨RX7, "ripe", "(I)I"⟩
def dkwX7_ripe_1 : List UInt8 := [182, 1, 84, 172]
abbrev dktX7_ripe_1 : List UInt8 := dkwX7_ripe_1 ++ []
def dkwX7_ripe_0 : List UInt8 := [42, 3, 181, 0, 74, 42, 27, 133, 182, 0, 246, 154, 0, 6, 16, 254, 172, 42, 182, 1, 81, 42, 27]
abbrev dktX7_ripe_0 : List UInt8 := dkwX7_ripe_0 ++ dktX7_ripe_1
theorem dksX7_ripe_0 : cX7_ripe.data.toList.drop 0 = dktX7_ripe_0 := by decide +kernel
theorem dksX7_ripe_1 : cX7_ripe.data.toList.drop 23 = dktX7_ripe_1 := dk_seg dksX7_ripe_0 23 rfl rfl
theorem dX7_ripe_0 : decode cX7_ripe 0 = .ok (.aload_n 0, 1) := dk_42 (dk_at dksX7_ripe_0 0 rfl rfl)
theorem dX7_ripe_1 : decode cX7_ripe 1 = .ok (.iconst 0, 1) := dk_3 (dk_at dksX7_ripe_0 1 rfl rfl)
theorem dX7_ripe_2 : decode cX7_ripe 2 = .ok (.putfield 74, 3) := dk_181 0 74 (dk_at dksX7_ripe_0 2 rfl rfl)
theorem dX7_ripe_5 : decode cX7_ripe 5 = .ok (.aload_n 0, 1) := dk_42 (dk_at dksX7_ripe_0 5 rfl rfl)
theorem dX7_ripe_6 : decode cX7_ripe 6 = .ok (.iload_n 1, 1) := dk_27 (dk_at dksX7_ripe_0 6 rfl rfl)
theorem dX7_ripe_7 : decode cX7_ripe 7 = .ok (.i2l, 1) := dk_133 (dk_at dksX7_ripe_0 7 rfl rfl)
theorem dX7_ripe_8 : decode cX7_ripe 8 = .ok (.invokevirtual 246, 3) := dk_182 0 246 (dk_at dksX7_ripe_0 8 rfl rfl)
theorem dX7_ripe_11 : decode cX7_ripe 11 = .ok (.ifCond .ne 6, 3) := dk_154 0 6 (dk_at dksX7_ripe_0 11 rfl rfl)
theorem dX7_ripe_14 : decode cX7_ripe 14 = .ok (.bipush (-2), 2) := dk_16 254 (dk_at dksX7_ripe_0 14 rfl rfl)
theorem dX7_ripe_16 : decode cX7_ripe 16 = .ok (.ireturn, 1) := dk_172 (dk_at dksX7_ripe_0 16 rfl rfl)
theorem dX7_ripe_17 : decode cX7_ripe 17 = .ok (.aload_n 0, 1) := dk_42 (dk_at dksX7_ripe_0 17 rfl rfl)
theorem dX7_ripe_18 : decode cX7_ripe 18 = .ok (.invokevirtual 337, 3) := dk_182 1 81 (dk_at dksX7_ripe_0 18 rfl rfl)
theorem dX7_ripe_21 : decode cX7_ripe 21 = .ok (.aload_n 0, 1) := dk_42 (dk_at dksX7_ripe_0 21 rfl rfl)
theorem dX7_ripe_22 : decode cX7_ripe 22 = .ok (.iload_n 1, 1) := dk_27 (dk_at dksX7_ripe_0 22 rfl rfl)
theorem dX7_ripe_23 : decode cX7_ripe 23 = .ok (.invokevirtual 340, 3) := dk_182 1 84 (dk_at dksX7_ripe_1 0 rfl rfl)
theorem dX7_ripe_26 : decode cX7_ripe 26 = .ok (.ireturn, 1) := dk_172 (dk_at dksX7_ripe_1 3 rfl rfl)
abbrev cX7_blank : ByteArray := prog_12_method_75_code
def yX7_blank : MethodName := ⟨RX7, "blank", "(I)I"⟩
def dkwX7_blank_2 : List UInt8 := [154, 0, 5, 28, 172, 132, 2, 1, 167, 255, 225, 2, 172]
abbrev dktX7_blank_2 : List UInt8 := dkwX7_blank_2 ++ []
def dkwX7_blank_1 : List UInt8 := [42, 182, 0, 243, 163, 0, 29, 42, 27, 28, 182, 1, 37, 153, 0, 14, 42, 27, 28, 182, 1, 27]
abbrev dktX7_blank_1 : List UInt8 := dkwX7_blank_1 ++ dktX7_blank_2
def dkwX7_blank_0 : List UInt8 := [42, 3, 181, 0, 74, 42, 27, 133, 182, 0, 246, 154, 0, 6, 16, 254, 172, 42, 182, 1, 81, 3, 61, 28]
abbrev dktX7_blank_0 : List UInt8 := dkwX7_blank_0 ++ dktX7_blank_1
theorem dksX7_blank_0 : cX7_blank.data.toList.drop 0 = dktX7_blank_0 := by decide +kernel
theorem dksX7_blank_1 : cX7_blank.data.toList.drop 24 = dktX7_blank_1 := dk_seg dksX7_blank_0 24 rfl rfl
theorem dksX7_blank_2 : cX7_blank.data.toList.drop 46 = dktX7_blank_2 := dk_seg dksX7_blank_1 22 rfl rfl
theorem dX7_blank_0 : decode cX7_blank 0 = .ok (.aload_n 0, 1) := dk_42 (dk_at dksX7_blank_0 0 rfl rfl)
theorem dX7_blank_1 : decode cX7_blank 1 = .ok (.iconst 0, 1) := dk_3 (dk_at dksX7_blank_0 1 rfl rfl)
theorem dX7_blank_2 : decode cX7_blank 2 = .ok (.putfield 74, 3) := dk_181 0 74 (dk_at dksX7_blank_0 2 rfl rfl)
theorem dX7_blank_5 : decode cX7_blank 5 = .ok (.aload_n 0, 1) := dk_42 (dk_at dksX7_blank_0 5 rfl rfl)
theorem dX7_blank_6 : decode cX7_blank 6 = .ok (.iload_n 1, 1) := dk_27 (dk_at dksX7_blank_0 6 rfl rfl)
theorem dX7_blank_7 : decode cX7_blank 7 = .ok (.i2l, 1) := dk_133 (dk_at dksX7_blank_0 7 rfl rfl)
theorem dX7_blank_8 : decode cX7_blank 8 = .ok (.invokevirtual 246, 3) := dk_182 0 246 (dk_at dksX7_blank_0 8 rfl rfl)
theorem dX7_blank_11 : decode cX7_blank 11 = .ok (.ifCond .ne 6, 3) := dk_154 0 6 (dk_at dksX7_blank_0 11 rfl rfl)
theorem dX7_blank_14 : decode cX7_blank 14 = .ok (.bipush (-2), 2) := dk_16 254 (dk_at dksX7_blank_0 14 rfl rfl)
theorem dX7_blank_16 : decode cX7_blank 16 = .ok (.ireturn, 1) := dk_172 (dk_at dksX7_blank_0 16 rfl rfl)
theorem dX7_blank_17 : decode cX7_blank 17 = .ok (.aload_n 0, 1) := dk_42 (dk_at dksX7_blank_0 17 rfl rfl)
theorem dX7_blank_18 : decode cX7_blank 18 = .ok (.invokevirtual 337, 3) := dk_182 1 81 (dk_at dksX7_blank_0 18 rfl rfl)
theorem dX7_blank_21 : decode cX7_blank 21 = .ok (.iconst 0, 1) := dk_3 (dk_at dksX7_blank_0 21 rfl rfl)
theorem dX7_blank_22 : decode cX7_blank 22 = .ok (.istore_n 2, 1) := dk_61 (dk_at dksX7_blank_0 22 rfl rfl)
theorem dX7_blank_23 : decode cX7_blank 23 = .ok (.iload_n 2, 1) := dk_28 (dk_at dksX7_blank_0 23 rfl rfl)
theorem dX7_blank_24 : decode cX7_blank 24 = .ok (.aload_n 0, 1) := dk_42 (dk_at dksX7_blank_1 0 rfl rfl)
theorem dX7_blank_25 : decode cX7_blank 25 = .ok (.invokevirtual 243, 3) := dk_182 0 243 (dk_at dksX7_blank_1 1 rfl rfl)
theorem dX7_blank_28 : decode cX7_blank 28 = .ok (.if_icmp .gt 29, 3) := dk_163 0 29 (dk_at dksX7_blank_1 4 rfl rfl)
theorem dX7_blank_31 : decode cX7_blank 31 = .ok (.aload_n 0, 1) := dk_42 (dk_at dksX7_blank_1 7 rfl rfl)
theorem dX7_blank_32 : decode cX7_blank 32 = .ok (.iload_n 1, 1) := dk_27 (dk_at dksX7_blank_1 8 rfl rfl)
theorem dX7_blank_33 : decode cX7_blank 33 = .ok (.iload_n 2, 1) := dk_28 (dk_at dksX7_blank_1 9 rfl rfl)
theorem dX7_blank_34 : decode cX7_blank 34 = .ok (.invokevirtual 293, 3) := dk_182 1 37 (dk_at dksX7_blank_1 10 rfl rfl)
theorem dX7_blank_37 : decode cX7_blank 37 = .ok (.ifCond .eq 14, 3) := dk_153 0 14 (dk_at dksX7_blank_1 13 rfl rfl)
theorem dX7_blank_40 : decode cX7_blank 40 = .ok (.aload_n 0, 1) := dk_42 (dk_at dksX7_blank_1 16 rfl rfl)
theorem dX7_blank_41 : decode cX7_blank 41 = .ok (.iload_n 1, 1) := dk_27 (dk_at dksX7_blank_1 17 rfl rfl)
theorem dX7_blank_42 : decode cX7_blank 42 = .ok (.iload_n 2, 1) := dk_28 (dk_at dksX7_blank_1 18 rfl rfl)
theorem dX7_blank_43 : decode cX7_blank 43 = .ok (.invokevirtual 283, 3) := dk_182 1 27 (dk_at dksX7_blank_1 19 rfl rfl)
theorem dX7_blank_46 : decode cX7_blank 46 = .ok (.ifCond .ne 5, 3) := dk_154 0 5 (dk_at dksX7_blank_2 0 rfl rfl)
theorem dX7_blank_49 : decode cX7_blank 49 = .ok (.iload_n 2, 1) := dk_28 (dk_at dksX7_blank_2 3 rfl rfl)
theorem dX7_blank_50 : decode cX7_blank 50 = .ok (.ireturn, 1) := dk_172 (dk_at dksX7_blank_2 4 rfl rfl)
theorem dX7_blank_51 : decode cX7_blank 51 = .ok (.iinc 2 1, 3) := dk_132 2 1 (dk_at dksX7_blank_2 5 rfl rfl)
theorem dX7_blank_54 : decode cX7_blank 54 = .ok (.goto (-31), 3) := dk_167 255 225 (dk_at dksX7_blank_2 8 rfl rfl)
theorem dX7_blank_57 : decode cX7_blank 57 = .ok (.iconst (-1), 1) := dk_2 (dk_at dksX7_blank_2 11 rfl rfl)
theorem dX7_blank_58 : decode cX7_blank 58 = .ok (.ireturn, 1) := dk_172 (dk_at dksX7_blank_2 12 rfl rfl)
abbrev cX7_clear : ByteArray := prog_12_method_76_code
def yX7_clear : MethodName := ⟨RX7, "clear", "(I)I"⟩
def dkwX7_clear_1 : List UInt8 := [182, 1, 87, 172]
abbrev dktX7_clear_1 : List UInt8 := dkwX7_clear_1 ++ []
def dkwX7_clear_0 : List UInt8 := [42, 3, 181, 0, 74, 42, 27, 133, 182, 0, 249, 154, 0, 6, 16, 254, 172, 42, 182, 1, 81, 42, 27]
abbrev dktX7_clear_0 : List UInt8 := dkwX7_clear_0 ++ dktX7_clear_1
theorem dksX7_clear_0 : cX7_clear.data.toList.drop 0 = dktX7_clear_0 := by decide +kernel
theorem dksX7_clear_1 : cX7_clear.data.toList.drop 23 = dktX7_clear_1 := dk_seg dksX7_clear_0 23 rfl rfl
theorem dX7_clear_0 : decode cX7_clear 0 = .ok (.aload_n 0, 1) := dk_42 (dk_at dksX7_clear_0 0 rfl rfl)
theorem dX7_clear_1 : decode cX7_clear 1 = .ok (.iconst 0, 1) := dk_3 (dk_at dksX7_clear_0 1 rfl rfl)
theorem dX7_clear_2 : decode cX7_clear 2 = .ok (.putfield 74, 3) := dk_181 0 74 (dk_at dksX7_clear_0 2 rfl rfl)
theorem dX7_clear_5 : decode cX7_clear 5 = .ok (.aload_n 0, 1) := dk_42 (dk_at dksX7_clear_0 5 rfl rfl)
theorem dX7_clear_6 : decode cX7_clear 6 = .ok (.iload_n 1, 1) := dk_27 (dk_at dksX7_clear_0 6 rfl rfl)
theorem dX7_clear_7 : decode cX7_clear 7 = .ok (.i2l, 1) := dk_133 (dk_at dksX7_clear_0 7 rfl rfl)
theorem dX7_clear_8 : decode cX7_clear 8 = .ok (.invokevirtual 249, 3) := dk_182 0 249 (dk_at dksX7_clear_0 8 rfl rfl)
theorem dX7_clear_11 : decode cX7_clear 11 = .ok (.ifCond .ne 6, 3) := dk_154 0 6 (dk_at dksX7_clear_0 11 rfl rfl)
theorem dX7_clear_14 : decode cX7_clear 14 = .ok (.bipush (-2), 2) := dk_16 254 (dk_at dksX7_clear_0 14 rfl rfl)
theorem dX7_clear_16 : decode cX7_clear 16 = .ok (.ireturn, 1) := dk_172 (dk_at dksX7_clear_0 16 rfl rfl)
theorem dX7_clear_17 : decode cX7_clear 17 = .ok (.aload_n 0, 1) := dk_42 (dk_at dksX7_clear_0 17 rfl rfl)
theorem dX7_clear_18 : decode cX7_clear 18 = .ok (.invokevirtual 337, 3) := dk_182 1 81 (dk_at dksX7_clear_0 18 rfl rfl)
theorem dX7_clear_21 : decode cX7_clear 21 = .ok (.aload_n 0, 1) := dk_42 (dk_at dksX7_clear_0 21 rfl rfl)
theorem dX7_clear_22 : decode cX7_clear 22 = .ok (.iload_n 1, 1) := dk_27 (dk_at dksX7_clear_0 22 rfl rfl)
theorem dX7_clear_23 : decode cX7_clear 23 = .ok (.invokevirtual 343, 3) := dk_182 1 87 (dk_at dksX7_clear_1 0 rfl rfl)
theorem dX7_clear_26 : decode cX7_clear 26 = .ok (.ireturn, 1) := dk_172 (dk_at dksX7_clear_1 3 rfl rfl)
abbrev cX7_clearAt : ByteArray := prog_12_method_63_code
def yX7_clearAt : MethodName := ⟨RX7, "clearAt", "(I)I"⟩
def dkwX7_clearAt_1 : List UInt8 := [29, 120, 167, 0, 4, 3, 128, 61, 132, 3, 1, 167, 255, 225, 28, 172]
abbrev dktX7_clearAt_1 : List UInt8 := dkwX7_clearAt_1 ++ []
def dkwX7_clearAt_0 : List UInt8 := [3, 61, 3, 62, 29, 42, 182, 0, 236, 162, 0, 29, 28, 42, 29, 27, 182, 1, 27, 8, 161, 0, 9, 4]
abbrev dktX7_clearAt_0 : List UInt8 := dkwX7_clearAt_0 ++ dktX7_clearAt_1
theorem dksX7_clearAt_0 : cX7_clearAt.data.toList.drop 0 = dktX7_clearAt_0 := by decide +kernel
theorem dksX7_clearAt_1 : cX7_clearAt.data.toList.drop 24 = dktX7_clearAt_1 := dk_seg dksX7_clearAt_0 24 rfl rfl
theorem dX7_clearAt_0 : decode cX7_clearAt 0 = .ok (.iconst 0, 1) := dk_3 (dk_at dksX7_clearAt_0 0 rfl rfl)
theorem dX7_clearAt_1 : decode cX7_clearAt 1 = .ok (.istore_n 2, 1) := dk_61 (dk_at dksX7_clearAt_0 1 rfl rfl)
theorem dX7_clearAt_2 : decode cX7_clearAt 2 = .ok (.iconst 0, 1) := dk_3 (dk_at dksX7_clearAt_0 2 rfl rfl)
theorem dX7_clearAt_3 : decode cX7_clearAt 3 = .ok (.istore_n 3, 1) := dk_62 (dk_at dksX7_clearAt_0 3 rfl rfl)
theorem dX7_clearAt_4 : decode cX7_clearAt 4 = .ok (.iload_n 3, 1) := dk_29 (dk_at dksX7_clearAt_0 4 rfl rfl)
theorem dX7_clearAt_5 : decode cX7_clearAt 5 = .ok (.aload_n 0, 1) := dk_42 (dk_at dksX7_clearAt_0 5 rfl rfl)
theorem dX7_clearAt_6 : decode cX7_clearAt 6 = .ok (.invokevirtual 236, 3) := dk_182 0 236 (dk_at dksX7_clearAt_0 6 rfl rfl)
theorem dX7_clearAt_9 : decode cX7_clearAt 9 = .ok (.if_icmp .ge 29, 3) := dk_162 0 29 (dk_at dksX7_clearAt_0 9 rfl rfl)
theorem dX7_clearAt_12 : decode cX7_clearAt 12 = .ok (.iload_n 2, 1) := dk_28 (dk_at dksX7_clearAt_0 12 rfl rfl)
theorem dX7_clearAt_13 : decode cX7_clearAt 13 = .ok (.aload_n 0, 1) := dk_42 (dk_at dksX7_clearAt_0 13 rfl rfl)
theorem dX7_clearAt_14 : decode cX7_clearAt 14 = .ok (.iload_n 3, 1) := dk_29 (dk_at dksX7_clearAt_0 14 rfl rfl)
theorem dX7_clearAt_15 : decode cX7_clearAt 15 = .ok (.iload_n 1, 1) := dk_27 (dk_at dksX7_clearAt_0 15 rfl rfl)
theorem dX7_clearAt_16 : decode cX7_clearAt 16 = .ok (.invokevirtual 283, 3) := dk_182 1 27 (dk_at dksX7_clearAt_0 16 rfl rfl)
theorem dX7_clearAt_19 : decode cX7_clearAt 19 = .ok (.iconst 5, 1) := dk_8 (dk_at dksX7_clearAt_0 19 rfl rfl)
theorem dX7_clearAt_20 : decode cX7_clearAt 20 = .ok (.if_icmp .lt 9, 3) := dk_161 0 9 (dk_at dksX7_clearAt_0 20 rfl rfl)
theorem dX7_clearAt_23 : decode cX7_clearAt 23 = .ok (.iconst 1, 1) := dk_4 (dk_at dksX7_clearAt_0 23 rfl rfl)
theorem dX7_clearAt_24 : decode cX7_clearAt 24 = .ok (.iload_n 3, 1) := dk_29 (dk_at dksX7_clearAt_1 0 rfl rfl)
theorem dX7_clearAt_25 : decode cX7_clearAt 25 = .ok (.ishl, 1) := dk_120 (dk_at dksX7_clearAt_1 1 rfl rfl)
theorem dX7_clearAt_26 : decode cX7_clearAt 26 = .ok (.goto 4, 3) := dk_167 0 4 (dk_at dksX7_clearAt_1 2 rfl rfl)
theorem dX7_clearAt_29 : decode cX7_clearAt 29 = .ok (.iconst 0, 1) := dk_3 (dk_at dksX7_clearAt_1 5 rfl rfl)
theorem dX7_clearAt_30 : decode cX7_clearAt 30 = .ok (.ior, 1) := dk_128 (dk_at dksX7_clearAt_1 6 rfl rfl)
theorem dX7_clearAt_31 : decode cX7_clearAt 31 = .ok (.istore_n 2, 1) := dk_61 (dk_at dksX7_clearAt_1 7 rfl rfl)
theorem dX7_clearAt_32 : decode cX7_clearAt 32 = .ok (.iinc 3 1, 3) := dk_132 3 1 (dk_at dksX7_clearAt_1 8 rfl rfl)
theorem dX7_clearAt_35 : decode cX7_clearAt 35 = .ok (.goto (-31), 3) := dk_167 255 225 (dk_at dksX7_clearAt_1 11 rfl rfl)
theorem dX7_clearAt_38 : decode cX7_clearAt 38 = .ok (.iload_n 2, 1) := dk_28 (dk_at dksX7_clearAt_1 14 rfl rfl)
theorem dX7_clearAt_39 : decode cX7_clearAt 39 = .ok (.ireturn, 1) := dk_172 (dk_at dksX7_clearAt_1 15 rfl rfl)
abbrev cX7_all : ByteArray := prog_12_method_77_code
def yX7_all : MethodName := ⟨RX7, "all", "(I)I"⟩
def dkwX7_all_1 : List UInt8 := [182, 1, 90, 172]
abbrev dktX7_all_1 : List UInt8 := dkwX7_all_1 ++ []
def dkwX7_all_0 : List UInt8 := [42, 3, 181, 0, 74, 42, 27, 133, 182, 0, 249, 154, 0, 6, 16, 254, 172, 42, 182, 1, 81, 42, 27]
abbrev dktX7_all_0 : List UInt8 := dkwX7_all_0 ++ dktX7_all_1
theorem dksX7_all_0 : cX7_all.data.toList.drop 0 = dktX7_all_0 := by decide +kernel
theorem dksX7_all_1 : cX7_all.data.toList.drop 23 = dktX7_all_1 := dk_seg dksX7_all_0 23 rfl rfl
theorem dX7_all_0 : decode cX7_all 0 = .ok (.aload_n 0, 1) := dk_42 (dk_at dksX7_all_0 0 rfl rfl)
theorem dX7_all_1 : decode cX7_all 1 = .ok (.iconst 0, 1) := dk_3 (dk_at dksX7_all_0 1 rfl rfl)
theorem dX7_all_2 : decode cX7_all 2 = .ok (.putfield 74, 3) := dk_181 0 74 (dk_at dksX7_all_0 2 rfl rfl)
theorem dX7_all_5 : decode cX7_all 5 = .ok (.aload_n 0, 1) := dk_42 (dk_at dksX7_all_0 5 rfl rfl)
theorem dX7_all_6 : decode cX7_all 6 = .ok (.iload_n 1, 1) := dk_27 (dk_at dksX7_all_0 6 rfl rfl)
theorem dX7_all_7 : decode cX7_all 7 = .ok (.i2l, 1) := dk_133 (dk_at dksX7_all_0 7 rfl rfl)
theorem dX7_all_8 : decode cX7_all 8 = .ok (.invokevirtual 249, 3) := dk_182 0 249 (dk_at dksX7_all_0 8 rfl rfl)
theorem dX7_all_11 : decode cX7_all 11 = .ok (.ifCond .ne 6, 3) := dk_154 0 6 (dk_at dksX7_all_0 11 rfl rfl)
theorem dX7_all_14 : decode cX7_all 14 = .ok (.bipush (-2), 2) := dk_16 254 (dk_at dksX7_all_0 14 rfl rfl)
theorem dX7_all_16 : decode cX7_all 16 = .ok (.ireturn, 1) := dk_172 (dk_at dksX7_all_0 16 rfl rfl)
theorem dX7_all_17 : decode cX7_all 17 = .ok (.aload_n 0, 1) := dk_42 (dk_at dksX7_all_0 17 rfl rfl)
theorem dX7_all_18 : decode cX7_all 18 = .ok (.invokevirtual 337, 3) := dk_182 1 81 (dk_at dksX7_all_0 18 rfl rfl)
theorem dX7_all_21 : decode cX7_all 21 = .ok (.aload_n 0, 1) := dk_42 (dk_at dksX7_all_0 21 rfl rfl)
theorem dX7_all_22 : decode cX7_all 22 = .ok (.iload_n 1, 1) := dk_27 (dk_at dksX7_all_0 22 rfl rfl)
theorem dX7_all_23 : decode cX7_all 23 = .ok (.invokevirtual 346, 3) := dk_182 1 90 (dk_at dksX7_all_1 0 rfl rfl)
theorem dX7_all_26 : decode cX7_all 26 = .ok (.ireturn, 1) := dk_172 (dk_at dksX7_all_1 3 rfl rfl)
abbrev cX7_allAt : ByteArray := prog_12_method_62_code
def yX7_allAt : MethodName := ⟨RX7, "allAt", "(I)I"⟩
def dkwX7_allAt_1 : List UInt8 := [167, 255, 236, 28, 172]
abbrev dktX7_allAt_1 : List UInt8 := dkwX7_allAt_1 ++ []
def dkwX7_allAt_0 : List UInt8 := [3, 61, 3, 62, 29, 42, 182, 0, 236, 162, 0, 18, 28, 42, 29, 27, 182, 1, 27, 96, 61, 132, 3, 1]
abbrev dktX7_allAt_0 : List UInt8 := dkwX7_allAt_0 ++ dktX7_allAt_1
theorem dksX7_allAt_0 : cX7_allAt.data.toList.drop 0 = dktX7_allAt_0 := by decide +kernel
theorem dksX7_allAt_1 : cX7_allAt.data.toList.drop 24 = dktX7_allAt_1 := dk_seg dksX7_allAt_0 24 rfl rfl
theorem dX7_allAt_0 : decode cX7_allAt 0 = .ok (.iconst 0, 1) := dk_3 (dk_at dksX7_allAt_0 0 rfl rfl)
theorem dX7_allAt_1 : decode cX7_allAt 1 = .ok (.istore_n 2, 1) := dk_61 (dk_at dksX7_allAt_0 1 rfl rfl)
theorem dX7_allAt_2 : decode cX7_allAt 2 = .ok (.iconst 0, 1) := dk_3 (dk_at dksX7_allAt_0 2 rfl rfl)
theorem dX7_allAt_3 : decode cX7_allAt 3 = .ok (.istore_n 3, 1) := dk_62 (dk_at dksX7_allAt_0 3 rfl rfl)
theorem dX7_allAt_4 : decode cX7_allAt 4 = .ok (.iload_n 3, 1) := dk_29 (dk_at dksX7_allAt_0 4 rfl rfl)
theorem dX7_allAt_5 : decode cX7_allAt 5 = .ok (.aload_n 0, 1) := dk_42 (dk_at dksX7_allAt_0 5 rfl rfl)
theorem dX7_allAt_6 : decode cX7_allAt 6 = .ok (.invokevirtual 236, 3) := dk_182 0 236 (dk_at dksX7_allAt_0 6 rfl rfl)
theorem dX7_allAt_9 : decode cX7_allAt 9 = .ok (.if_icmp .ge 18, 3) := dk_162 0 18 (dk_at dksX7_allAt_0 9 rfl rfl)
theorem dX7_allAt_12 : decode cX7_allAt 12 = .ok (.iload_n 2, 1) := dk_28 (dk_at dksX7_allAt_0 12 rfl rfl)
theorem dX7_allAt_13 : decode cX7_allAt 13 = .ok (.aload_n 0, 1) := dk_42 (dk_at dksX7_allAt_0 13 rfl rfl)
theorem dX7_allAt_14 : decode cX7_allAt 14 = .ok (.iload_n 3, 1) := dk_29 (dk_at dksX7_allAt_0 14 rfl rfl)
theorem dX7_allAt_15 : decode cX7_allAt 15 = .ok (.iload_n 1, 1) := dk_27 (dk_at dksX7_allAt_0 15 rfl rfl)
theorem dX7_allAt_16 : decode cX7_allAt 16 = .ok (.invokevirtual 283, 3) := dk_182 1 27 (dk_at dksX7_allAt_0 16 rfl rfl)
theorem dX7_allAt_19 : decode cX7_allAt 19 = .ok (.iadd, 1) := dk_96 (dk_at dksX7_allAt_0 19 rfl rfl)
theorem dX7_allAt_20 : decode cX7_allAt 20 = .ok (.istore_n 2, 1) := dk_61 (dk_at dksX7_allAt_0 20 rfl rfl)
theorem dX7_allAt_21 : decode cX7_allAt 21 = .ok (.iinc 3 1, 3) := dk_132 3 1 (dk_at dksX7_allAt_0 21 rfl rfl)
theorem dX7_allAt_24 : decode cX7_allAt 24 = .ok (.goto (-20), 3) := dk_167 255 236 (dk_at dksX7_allAt_1 0 rfl rfl)
theorem dX7_allAt_27 : decode cX7_allAt 27 = .ok (.iload_n 2, 1) := dk_28 (dk_at dksX7_allAt_1 3 rfl rfl)
theorem dX7_allAt_28 : decode cX7_allAt 28 = .ok (.ireturn, 1) := dk_172 (dk_at dksX7_allAt_1 4 rfl rfl)
abbrev cX7_darkest : ByteArray := prog_12_method_79_code
def yX7_darkest : MethodName := ⟨RX7, "darkest", "(I)I"⟩
def dkwX7_darkest_1 : List UInt8 := [182, 1, 93, 172]
abbrev dktX7_darkest_1 : List UInt8 := dkwX7_darkest_1 ++ []
def dkwX7_darkest_0 : List UInt8 := [42, 3, 181, 0, 74, 42, 27, 133, 182, 0, 249, 154, 0, 6, 16, 254, 172, 42, 182, 1, 81, 42, 27, 4]
abbrev dktX7_darkest_0 : List UInt8 := dkwX7_darkest_0 ++ dktX7_darkest_1
theorem dksX7_darkest_0 : cX7_darkest.data.toList.drop 0 = dktX7_darkest_0 := by decide +kernel
theorem dksX7_darkest_1 : cX7_darkest.data.toList.drop 24 = dktX7_darkest_1 := dk_seg dksX7_darkest_0 24 rfl rfl
theorem dX7_darkest_0 : decode cX7_darkest 0 = .ok (.aload_n 0, 1) := dk_42 (dk_at dksX7_darkest_0 0 rfl rfl)
theorem dX7_darkest_1 : decode cX7_darkest 1 = .ok (.iconst 0, 1) := dk_3 (dk_at dksX7_darkest_0 1 rfl rfl)
theorem dX7_darkest_2 : decode cX7_darkest 2 = .ok (.putfield 74, 3) := dk_181 0 74 (dk_at dksX7_darkest_0 2 rfl rfl)
theorem dX7_darkest_5 : decode cX7_darkest 5 = .ok (.aload_n 0, 1) := dk_42 (dk_at dksX7_darkest_0 5 rfl rfl)
theorem dX7_darkest_6 : decode cX7_darkest 6 = .ok (.iload_n 1, 1) := dk_27 (dk_at dksX7_darkest_0 6 rfl rfl)
theorem dX7_darkest_7 : decode cX7_darkest 7 = .ok (.i2l, 1) := dk_133 (dk_at dksX7_darkest_0 7 rfl rfl)
theorem dX7_darkest_8 : decode cX7_darkest 8 = .ok (.invokevirtual 249, 3) := dk_182 0 249 (dk_at dksX7_darkest_0 8 rfl rfl)
theorem dX7_darkest_11 : decode cX7_darkest 11 = .ok (.ifCond .ne 6, 3) := dk_154 0 6 (dk_at dksX7_darkest_0 11 rfl rfl)
theorem dX7_darkest_14 : decode cX7_darkest 14 = .ok (.bipush (-2), 2) := dk_16 254 (dk_at dksX7_darkest_0 14 rfl rfl)
theorem dX7_darkest_16 : decode cX7_darkest 16 = .ok (.ireturn, 1) := dk_172 (dk_at dksX7_darkest_0 16 rfl rfl)
theorem dX7_darkest_17 : decode cX7_darkest 17 = .ok (.aload_n 0, 1) := dk_42 (dk_at dksX7_darkest_0 17 rfl rfl)
theorem dX7_darkest_18 : decode cX7_darkest 18 = .ok (.invokevirtual 337, 3) := dk_182 1 81 (dk_at dksX7_darkest_0 18 rfl rfl)
theorem dX7_darkest_21 : decode cX7_darkest 21 = .ok (.aload_n 0, 1) := dk_42 (dk_at dksX7_darkest_0 21 rfl rfl)
theorem dX7_darkest_22 : decode cX7_darkest 22 = .ok (.iload_n 1, 1) := dk_27 (dk_at dksX7_darkest_0 22 rfl rfl)
theorem dX7_darkest_23 : decode cX7_darkest 23 = .ok (.iconst 1, 1) := dk_4 (dk_at dksX7_darkest_0 23 rfl rfl)
theorem dX7_darkest_24 : decode cX7_darkest 24 = .ok (.invokevirtual 349, 3) := dk_182 1 93 (dk_at dksX7_darkest_1 0 rfl rfl)
theorem dX7_darkest_27 : decode cX7_darkest 27 = .ok (.ireturn, 1) := dk_172 (dk_at dksX7_darkest_1 3 rfl rfl)
abbrev cX7_oneBy : ByteArray := prog_12_method_78_code
def yX7_oneBy : MethodName := ⟨RX7, "oneBy", "(II)I"⟩
def dkwX7_oneBy_2 : List UInt8 := [164, 0, 6, 21, 4, 62, 132, 4, 1, 167, 255, 206, 29, 172]
abbrev dktX7_oneBy_2 : List UInt8 := dkwX7_oneBy_2 ++ []
def dkwX7_oneBy_1 : List UInt8 := [29, 2, 159, 0, 23, 28, 42, 21, 4, 27, 182, 1, 27, 104, 28, 42, 29, 27, 182, 1, 27, 104]
abbrev dktX7_oneBy_1 : List UInt8 := dkwX7_oneBy_1 ++ dktX7_oneBy_2
def dkwX7_oneBy_0 : List UInt8 := [2, 62, 3, 54, 4, 21, 4, 42, 182, 0, 236, 162, 0, 47, 42, 21, 4, 27, 182, 1, 37, 153, 0, 31]
abbrev dktX7_oneBy_0 : List UInt8 := dkwX7_oneBy_0 ++ dktX7_oneBy_1
theorem dksX7_oneBy_0 : cX7_oneBy.data.toList.drop 0 = dktX7_oneBy_0 := by decide +kernel
theorem dksX7_oneBy_1 : cX7_oneBy.data.toList.drop 24 = dktX7_oneBy_1 := dk_seg dksX7_oneBy_0 24 rfl rfl
theorem dksX7_oneBy_2 : cX7_oneBy.data.toList.drop 46 = dktX7_oneBy_2 := dk_seg dksX7_oneBy_1 22 rfl rfl
theorem dX7_oneBy_0 : decode cX7_oneBy 0 = .ok (.iconst (-1), 1) := dk_2 (dk_at dksX7_oneBy_0 0 rfl rfl)
theorem dX7_oneBy_1 : decode cX7_oneBy 1 = .ok (.istore_n 3, 1) := dk_62 (dk_at dksX7_oneBy_0 1 rfl rfl)
theorem dX7_oneBy_2 : decode cX7_oneBy 2 = .ok (.iconst 0, 1) := dk_3 (dk_at dksX7_oneBy_0 2 rfl rfl)
theorem dX7_oneBy_3 : decode cX7_oneBy 3 = .ok (.istore 4, 2) := dk_54 4 (dk_at dksX7_oneBy_0 3 rfl rfl)
theorem dX7_oneBy_5 : decode cX7_oneBy 5 = .ok (.iload 4, 2) := dk_21 4 (dk_at dksX7_oneBy_0 5 rfl rfl)
theorem dX7_oneBy_7 : decode cX7_oneBy 7 = .ok (.aload_n 0, 1) := dk_42 (dk_at dksX7_oneBy_0 7 rfl rfl)
theorem dX7_oneBy_8 : decode cX7_oneBy 8 = .ok (.invokevirtual 236, 3) := dk_182 0 236 (dk_at dksX7_oneBy_0 8 rfl rfl)
theorem dX7_oneBy_11 : decode cX7_oneBy 11 = .ok (.if_icmp .ge 47, 3) := dk_162 0 47 (dk_at dksX7_oneBy_0 11 rfl rfl)
theorem dX7_oneBy_14 : decode cX7_oneBy 14 = .ok (.aload_n 0, 1) := dk_42 (dk_at dksX7_oneBy_0 14 rfl rfl)
theorem dX7_oneBy_15 : decode cX7_oneBy 15 = .ok (.iload 4, 2) := dk_21 4 (dk_at dksX7_oneBy_0 15 rfl rfl)
theorem dX7_oneBy_17 : decode cX7_oneBy 17 = .ok (.iload_n 1, 1) := dk_27 (dk_at dksX7_oneBy_0 17 rfl rfl)
theorem dX7_oneBy_18 : decode cX7_oneBy 18 = .ok (.invokevirtual 293, 3) := dk_182 1 37 (dk_at dksX7_oneBy_0 18 rfl rfl)
theorem dX7_oneBy_21 : decode cX7_oneBy 21 = .ok (.ifCond .eq 31, 3) := dk_153 0 31 (dk_at dksX7_oneBy_0 21 rfl rfl)
theorem dX7_oneBy_24 : decode cX7_oneBy 24 = .ok (.iload_n 3, 1) := dk_29 (dk_at dksX7_oneBy_1 0 rfl rfl)
theorem dX7_oneBy_25 : decode cX7_oneBy 25 = .ok (.iconst (-1), 1) := dk_2 (dk_at dksX7_oneBy_1 1 rfl rfl)
theorem dX7_oneBy_26 : decode cX7_oneBy 26 = .ok (.if_icmp .eq 23, 3) := dk_159 0 23 (dk_at dksX7_oneBy_1 2 rfl rfl)
theorem dX7_oneBy_29 : decode cX7_oneBy 29 = .ok (.iload_n 2, 1) := dk_28 (dk_at dksX7_oneBy_1 5 rfl rfl)
theorem dX7_oneBy_30 : decode cX7_oneBy 30 = .ok (.aload_n 0, 1) := dk_42 (dk_at dksX7_oneBy_1 6 rfl rfl)
theorem dX7_oneBy_31 : decode cX7_oneBy 31 = .ok (.iload 4, 2) := dk_21 4 (dk_at dksX7_oneBy_1 7 rfl rfl)
theorem dX7_oneBy_33 : decode cX7_oneBy 33 = .ok (.iload_n 1, 1) := dk_27 (dk_at dksX7_oneBy_1 9 rfl rfl)
theorem dX7_oneBy_34 : decode cX7_oneBy 34 = .ok (.invokevirtual 283, 3) := dk_182 1 27 (dk_at dksX7_oneBy_1 10 rfl rfl)
theorem dX7_oneBy_37 : decode cX7_oneBy 37 = .ok (.imul, 1) := dk_104 (dk_at dksX7_oneBy_1 13 rfl rfl)
theorem dX7_oneBy_38 : decode cX7_oneBy 38 = .ok (.iload_n 2, 1) := dk_28 (dk_at dksX7_oneBy_1 14 rfl rfl)
theorem dX7_oneBy_39 : decode cX7_oneBy 39 = .ok (.aload_n 0, 1) := dk_42 (dk_at dksX7_oneBy_1 15 rfl rfl)
theorem dX7_oneBy_40 : decode cX7_oneBy 40 = .ok (.iload_n 3, 1) := dk_29 (dk_at dksX7_oneBy_1 16 rfl rfl)
theorem dX7_oneBy_41 : decode cX7_oneBy 41 = .ok (.iload_n 1, 1) := dk_27 (dk_at dksX7_oneBy_1 17 rfl rfl)
theorem dX7_oneBy_42 : decode cX7_oneBy 42 = .ok (.invokevirtual 283, 3) := dk_182 1 27 (dk_at dksX7_oneBy_1 18 rfl rfl)
theorem dX7_oneBy_45 : decode cX7_oneBy 45 = .ok (.imul, 1) := dk_104 (dk_at dksX7_oneBy_1 21 rfl rfl)
theorem dX7_oneBy_46 : decode cX7_oneBy 46 = .ok (.if_icmp .le 6, 3) := dk_164 0 6 (dk_at dksX7_oneBy_2 0 rfl rfl)
theorem dX7_oneBy_49 : decode cX7_oneBy 49 = .ok (.iload 4, 2) := dk_21 4 (dk_at dksX7_oneBy_2 3 rfl rfl)
theorem dX7_oneBy_51 : decode cX7_oneBy 51 = .ok (.istore_n 3, 1) := dk_62 (dk_at dksX7_oneBy_2 5 rfl rfl)
theorem dX7_oneBy_52 : decode cX7_oneBy 52 = .ok (.iinc 4 1, 3) := dk_132 4 1 (dk_at dksX7_oneBy_2 6 rfl rfl)
theorem dX7_oneBy_55 : decode cX7_oneBy 55 = .ok (.goto (-50), 3) := dk_167 255 206 (dk_at dksX7_oneBy_2 9 rfl rfl)
theorem dX7_oneBy_58 : decode cX7_oneBy 58 = .ok (.iload_n 3, 1) := dk_29 (dk_at dksX7_oneBy_2 12 rfl rfl)
theorem dX7_oneBy_59 : decode cX7_oneBy 59 = .ok (.ireturn, 1) := dk_172 (dk_at dksX7_oneBy_2 13 rfl rfl)
abbrev cX7_palest : ByteArray := prog_12_method_80_code
def yX7_palest : MethodName := ⟨RX7, "palest", "(I)I"⟩
def dkwX7_palest_1 : List UInt8 := [182, 1, 93, 172]
abbrev dktX7_palest_1 : List UInt8 := dkwX7_palest_1 ++ []
def dkwX7_palest_0 : List UInt8 := [42, 3, 181, 0, 74, 42, 27, 133, 182, 0, 249, 154, 0, 6, 16, 254, 172, 42, 182, 1, 81, 42, 27, 2]
abbrev dktX7_palest_0 : List UInt8 := dkwX7_palest_0 ++ dktX7_palest_1
theorem dksX7_palest_0 : cX7_palest.data.toList.drop 0 = dktX7_palest_0 := by decide +kernel
theorem dksX7_palest_1 : cX7_palest.data.toList.drop 24 = dktX7_palest_1 := dk_seg dksX7_palest_0 24 rfl rfl
theorem dX7_palest_0 : decode cX7_palest 0 = .ok (.aload_n 0, 1) := dk_42 (dk_at dksX7_palest_0 0 rfl rfl)
theorem dX7_palest_1 : decode cX7_palest 1 = .ok (.iconst 0, 1) := dk_3 (dk_at dksX7_palest_0 1 rfl rfl)
theorem dX7_palest_2 : decode cX7_palest 2 = .ok (.putfield 74, 3) := dk_181 0 74 (dk_at dksX7_palest_0 2 rfl rfl)
theorem dX7_palest_5 : decode cX7_palest 5 = .ok (.aload_n 0, 1) := dk_42 (dk_at dksX7_palest_0 5 rfl rfl)
theorem dX7_palest_6 : decode cX7_palest 6 = .ok (.iload_n 1, 1) := dk_27 (dk_at dksX7_palest_0 6 rfl rfl)
theorem dX7_palest_7 : decode cX7_palest 7 = .ok (.i2l, 1) := dk_133 (dk_at dksX7_palest_0 7 rfl rfl)
theorem dX7_palest_8 : decode cX7_palest 8 = .ok (.invokevirtual 249, 3) := dk_182 0 249 (dk_at dksX7_palest_0 8 rfl rfl)
theorem dX7_palest_11 : decode cX7_palest 11 = .ok (.ifCond .ne 6, 3) := dk_154 0 6 (dk_at dksX7_palest_0 11 rfl rfl)
theorem dX7_palest_14 : decode cX7_palest 14 = .ok (.bipush (-2), 2) := dk_16 254 (dk_at dksX7_palest_0 14 rfl rfl)
theorem dX7_palest_16 : decode cX7_palest 16 = .ok (.ireturn, 1) := dk_172 (dk_at dksX7_palest_0 16 rfl rfl)
theorem dX7_palest_17 : decode cX7_palest 17 = .ok (.aload_n 0, 1) := dk_42 (dk_at dksX7_palest_0 17 rfl rfl)
theorem dX7_palest_18 : decode cX7_palest 18 = .ok (.invokevirtual 337, 3) := dk_182 1 81 (dk_at dksX7_palest_0 18 rfl rfl)
theorem dX7_palest_21 : decode cX7_palest 21 = .ok (.aload_n 0, 1) := dk_42 (dk_at dksX7_palest_0 21 rfl rfl)
theorem dX7_palest_22 : decode cX7_palest 22 = .ok (.iload_n 1, 1) := dk_27 (dk_at dksX7_palest_0 22 rfl rfl)
theorem dX7_palest_23 : decode cX7_palest 23 = .ok (.iconst (-1), 1) := dk_2 (dk_at dksX7_palest_0 23 rfl rfl)
theorem dX7_palest_24 : decode cX7_palest 24 = .ok (.invokevirtual 349, 3) := dk_182 1 93 (dk_at dksX7_palest_1 0 rfl rfl)
theorem dX7_palest_27 : decode cX7_palest 27 = .ok (.ireturn, 1) := dk_172 (dk_at dksX7_palest_1 3 rfl rfl)
abbrev cX7_sorts : ByteArray := prog_12_method_82_code
def yX7_sorts : MethodName := ⟨RX7, "sorts", "(I)I"⟩
def dkwX7_sorts_1 : List UInt8 := [27, 182, 1, 96, 172]
abbrev dktX7_sorts_1 : List UInt8 := dkwX7_sorts_1 ++ []
def dkwX7_sorts_0 : List UInt8 := [42, 3, 181, 0, 74, 42, 27, 133, 182, 0, 249, 154, 0, 6, 16, 254, 172, 42, 182, 1, 81, 42, 16, 127]
abbrev dktX7_sorts_0 : List UInt8 := dkwX7_sorts_0 ++ dktX7_sorts_1
theorem dksX7_sorts_0 : cX7_sorts.data.toList.drop 0 = dktX7_sorts_0 := by decide +kernel
theorem dksX7_sorts_1 : cX7_sorts.data.toList.drop 24 = dktX7_sorts_1 := dk_seg dksX7_sorts_0 24 rfl rfl
theorem dX7_sorts_0 : decode cX7_sorts 0 = .ok (.aload_n 0, 1) := dk_42 (dk_at dksX7_sorts_0 0 rfl rfl)
theorem dX7_sorts_1 : decode cX7_sorts 1 = .ok (.iconst 0, 1) := dk_3 (dk_at dksX7_sorts_0 1 rfl rfl)
theorem dX7_sorts_2 : decode cX7_sorts 2 = .ok (.putfield 74, 3) := dk_181 0 74 (dk_at dksX7_sorts_0 2 rfl rfl)
theorem dX7_sorts_5 : decode cX7_sorts 5 = .ok (.aload_n 0, 1) := dk_42 (dk_at dksX7_sorts_0 5 rfl rfl)
theorem dX7_sorts_6 : decode cX7_sorts 6 = .ok (.iload_n 1, 1) := dk_27 (dk_at dksX7_sorts_0 6 rfl rfl)
theorem dX7_sorts_7 : decode cX7_sorts 7 = .ok (.i2l, 1) := dk_133 (dk_at dksX7_sorts_0 7 rfl rfl)
theorem dX7_sorts_8 : decode cX7_sorts 8 = .ok (.invokevirtual 249, 3) := dk_182 0 249 (dk_at dksX7_sorts_0 8 rfl rfl)
theorem dX7_sorts_11 : decode cX7_sorts 11 = .ok (.ifCond .ne 6, 3) := dk_154 0 6 (dk_at dksX7_sorts_0 11 rfl rfl)
theorem dX7_sorts_14 : decode cX7_sorts 14 = .ok (.bipush (-2), 2) := dk_16 254 (dk_at dksX7_sorts_0 14 rfl rfl)
theorem dX7_sorts_16 : decode cX7_sorts 16 = .ok (.ireturn, 1) := dk_172 (dk_at dksX7_sorts_0 16 rfl rfl)
theorem dX7_sorts_17 : decode cX7_sorts 17 = .ok (.aload_n 0, 1) := dk_42 (dk_at dksX7_sorts_0 17 rfl rfl)
theorem dX7_sorts_18 : decode cX7_sorts 18 = .ok (.invokevirtual 337, 3) := dk_182 1 81 (dk_at dksX7_sorts_0 18 rfl rfl)
theorem dX7_sorts_21 : decode cX7_sorts 21 = .ok (.aload_n 0, 1) := dk_42 (dk_at dksX7_sorts_0 21 rfl rfl)
theorem dX7_sorts_22 : decode cX7_sorts 22 = .ok (.bipush 127, 2) := dk_16 127 (dk_at dksX7_sorts_0 22 rfl rfl)
theorem dX7_sorts_24 : decode cX7_sorts 24 = .ok (.iload_n 1, 1) := dk_27 (dk_at dksX7_sorts_1 0 rfl rfl)
theorem dX7_sorts_25 : decode cX7_sorts 25 = .ok (.invokevirtual 352, 3) := dk_182 1 96 (dk_at dksX7_sorts_1 1 rfl rfl)
theorem dX7_sorts_28 : decode cX7_sorts 28 = .ok (.ireturn, 1) := dk_172 (dk_at dksX7_sorts_1 4 rfl rfl)
abbrev cX7_sortsOf : ByteArray := prog_12_method_81_code
def yX7_sortsOf : MethodName := ⟨RX7, "sortsOf", "(II)I"⟩
def dkwX7_sortsOf_5 : List UInt8 := [167, 255, 143, 29, 172]
abbrev dktX7_sortsOf_5 : List UInt8 := dkwX7_sortsOf_5 ++ []
def dkwX7_sortsOf_4 : List UInt8 := [54, 5, 132, 6, 1, 167, 255, 200, 29, 21, 5, 153, 0, 7, 4, 167, 0, 4, 3, 96, 62, 132, 4, 1]
abbrev dktX7_sortsOf_4 : List UInt8 := dkwX7_sortsOf_4 ++ dktX7_sortsOf_5
def dkwX7_sortsOf_3 : List UInt8 := [42, 21, 6, 28, 182, 1, 27, 42, 21, 4, 28, 182, 1, 27, 159, 0, 7, 4, 167, 0, 4, 3, 126]
abbrev dktX7_sortsOf_3 : List UInt8 := dkwX7_sortsOf_3 ++ dktX7_sortsOf_4
def dkwX7_sortsOf_2 : List UInt8 := [162, 0, 55, 21, 5, 27, 21, 6, 184, 1, 17, 153, 0, 30, 42, 21, 6, 28, 182, 1, 37, 153, 0, 20]
abbrev dktX7_sortsOf_2 : List UInt8 := dkwX7_sortsOf_2 ++ dktX7_sortsOf_3
def dkwX7_sortsOf_1 : List UInt8 := [21, 4, 28, 182, 1, 37, 153, 0, 7, 4, 167, 0, 4, 3, 54, 5, 3, 54, 6, 21, 6, 21, 4]
abbrev dktX7_sortsOf_1 : List UInt8 := dkwX7_sortsOf_1 ++ dktX7_sortsOf_2
def dkwX7_sortsOf_0 : List UInt8 := [3, 62, 3, 54, 4, 21, 4, 42, 182, 0, 236, 162, 0, 110, 27, 21, 4, 184, 1, 17, 153, 0, 17, 42]
abbrev dktX7_sortsOf_0 : List UInt8 := dkwX7_sortsOf_0 ++ dktX7_sortsOf_1
theorem dksX7_sortsOf_0 : cX7_sortsOf.data.toList.drop 0 = dktX7_sortsOf_0 := by decide +kernel
theorem dksX7_sortsOf_1 : cX7_sortsOf.data.toList.drop 24 = dktX7_sortsOf_1 := dk_seg dksX7_sortsOf_0 24 rfl rfl
theorem dksX7_sortsOf_2 : cX7_sortsOf.data.toList.drop 47 = dktX7_sortsOf_2 := dk_seg dksX7_sortsOf_1 23 rfl rfl
theorem dksX7_sortsOf_3 : cX7_sortsOf.data.toList.drop 71 = dktX7_sortsOf_3 := dk_seg dksX7_sortsOf_2 24 rfl rfl
theorem dksX7_sortsOf_4 : cX7_sortsOf.data.toList.drop 94 = dktX7_sortsOf_4 := dk_seg dksX7_sortsOf_3 23 rfl rfl
theorem dksX7_sortsOf_5 : cX7_sortsOf.data.toList.drop 118 = dktX7_sortsOf_5 := dk_seg dksX7_sortsOf_4 24 rfl rfl
theorem dX7_sortsOf_0 : decode cX7_sortsOf 0 = .ok (.iconst 0, 1) := dk_3 (dk_at dksX7_sortsOf_0 0 rfl rfl)
theorem dX7_sortsOf_1 : decode cX7_sortsOf 1 = .ok (.istore_n 3, 1) := dk_62 (dk_at dksX7_sortsOf_0 1 rfl rfl)
theorem dX7_sortsOf_2 : decode cX7_sortsOf 2 = .ok (.iconst 0, 1) := dk_3 (dk_at dksX7_sortsOf_0 2 rfl rfl)
theorem dX7_sortsOf_3 : decode cX7_sortsOf 3 = .ok (.istore 4, 2) := dk_54 4 (dk_at dksX7_sortsOf_0 3 rfl rfl)
theorem dX7_sortsOf_5 : decode cX7_sortsOf 5 = .ok (.iload 4, 2) := dk_21 4 (dk_at dksX7_sortsOf_0 5 rfl rfl)
theorem dX7_sortsOf_7 : decode cX7_sortsOf 7 = .ok (.aload_n 0, 1) := dk_42 (dk_at dksX7_sortsOf_0 7 rfl rfl)
theorem dX7_sortsOf_8 : decode cX7_sortsOf 8 = .ok (.invokevirtual 236, 3) := dk_182 0 236 (dk_at dksX7_sortsOf_0 8 rfl rfl)
theorem dX7_sortsOf_11 : decode cX7_sortsOf 11 = .ok (.if_icmp .ge 110, 3) := dk_162 0 110 (dk_at dksX7_sortsOf_0 11 rfl rfl)
theorem dX7_sortsOf_14 : decode cX7_sortsOf 14 = .ok (.iload_n 1, 1) := dk_27 (dk_at dksX7_sortsOf_0 14 rfl rfl)
theorem dX7_sortsOf_15 : decode cX7_sortsOf 15 = .ok (.iload 4, 2) := dk_21 4 (dk_at dksX7_sortsOf_0 15 rfl rfl)
theorem dX7_sortsOf_17 : decode cX7_sortsOf 17 = .ok (.invokestatic 273, 3) := dk_184 1 17 (dk_at dksX7_sortsOf_0 17 rfl rfl)
theorem dX7_sortsOf_20 : decode cX7_sortsOf 20 = .ok (.ifCond .eq 17, 3) := dk_153 0 17 (dk_at dksX7_sortsOf_0 20 rfl rfl)
theorem dX7_sortsOf_23 : decode cX7_sortsOf 23 = .ok (.aload_n 0, 1) := dk_42 (dk_at dksX7_sortsOf_0 23 rfl rfl)
theorem dX7_sortsOf_24 : decode cX7_sortsOf 24 = .ok (.iload 4, 2) := dk_21 4 (dk_at dksX7_sortsOf_1 0 rfl rfl)
theorem dX7_sortsOf_26 : decode cX7_sortsOf 26 = .ok (.iload_n 2, 1) := dk_28 (dk_at dksX7_sortsOf_1 2 rfl rfl)
theorem dX7_sortsOf_27 : decode cX7_sortsOf 27 = .ok (.invokevirtual 293, 3) := dk_182 1 37 (dk_at dksX7_sortsOf_1 3 rfl rfl)
theorem dX7_sortsOf_30 : decode cX7_sortsOf 30 = .ok (.ifCond .eq 7, 3) := dk_153 0 7 (dk_at dksX7_sortsOf_1 6 rfl rfl)
theorem dX7_sortsOf_33 : decode cX7_sortsOf 33 = .ok (.iconst 1, 1) := dk_4 (dk_at dksX7_sortsOf_1 9 rfl rfl)
theorem dX7_sortsOf_34 : decode cX7_sortsOf 34 = .ok (.goto 4, 3) := dk_167 0 4 (dk_at dksX7_sortsOf_1 10 rfl rfl)
theorem dX7_sortsOf_37 : decode cX7_sortsOf 37 = .ok (.iconst 0, 1) := dk_3 (dk_at dksX7_sortsOf_1 13 rfl rfl)
theorem dX7_sortsOf_38 : decode cX7_sortsOf 38 = .ok (.istore 5, 2) := dk_54 5 (dk_at dksX7_sortsOf_1 14 rfl rfl)
theorem dX7_sortsOf_40 : decode cX7_sortsOf 40 = .ok (.iconst 0, 1) := dk_3 (dk_at dksX7_sortsOf_1 16 rfl rfl)
theorem dX7_sortsOf_41 : decode cX7_sortsOf 41 = .ok (.istore 6, 2) := dk_54 6 (dk_at dksX7_sortsOf_1 17 rfl rfl)
theorem dX7_sortsOf_43 : decode cX7_sortsOf 43 = .ok (.iload 6, 2) := dk_21 6 (dk_at dksX7_sortsOf_1 19 rfl rfl)
theorem dX7_sortsOf_45 : decode cX7_sortsOf 45 = .ok (.iload 4, 2) := dk_21 4 (dk_at dksX7_sortsOf_1 21 rfl rfl)
theorem dX7_sortsOf_47 : decode cX7_sortsOf 47 = .ok (.if_icmp .ge 55, 3) := dk_162 0 55 (dk_at dksX7_sortsOf_2 0 rfl rfl)
theorem dX7_sortsOf_50 : decode cX7_sortsOf 50 = .ok (.iload 5, 2) := dk_21 5 (dk_at dksX7_sortsOf_2 3 rfl rfl)
theorem dX7_sortsOf_52 : decode cX7_sortsOf 52 = .ok (.iload_n 1, 1) := dk_27 (dk_at dksX7_sortsOf_2 5 rfl rfl)
theorem dX7_sortsOf_53 : decode cX7_sortsOf 53 = .ok (.iload 6, 2) := dk_21 6 (dk_at dksX7_sortsOf_2 6 rfl rfl)
theorem dX7_sortsOf_55 : decode cX7_sortsOf 55 = .ok (.invokestatic 273, 3) := dk_184 1 17 (dk_at dksX7_sortsOf_2 8 rfl rfl)
theorem dX7_sortsOf_58 : decode cX7_sortsOf 58 = .ok (.ifCond .eq 30, 3) := dk_153 0 30 (dk_at dksX7_sortsOf_2 11 rfl rfl)
theorem dX7_sortsOf_61 : decode cX7_sortsOf 61 = .ok (.aload_n 0, 1) := dk_42 (dk_at dksX7_sortsOf_2 14 rfl rfl)
theorem dX7_sortsOf_62 : decode cX7_sortsOf 62 = .ok (.iload 6, 2) := dk_21 6 (dk_at dksX7_sortsOf_2 15 rfl rfl)
theorem dX7_sortsOf_64 : decode cX7_sortsOf 64 = .ok (.iload_n 2, 1) := dk_28 (dk_at dksX7_sortsOf_2 17 rfl rfl)
theorem dX7_sortsOf_65 : decode cX7_sortsOf 65 = .ok (.invokevirtual 293, 3) := dk_182 1 37 (dk_at dksX7_sortsOf_2 18 rfl rfl)
theorem dX7_sortsOf_68 : decode cX7_sortsOf 68 = .ok (.ifCond .eq 20, 3) := dk_153 0 20 (dk_at dksX7_sortsOf_2 21 rfl rfl)
theorem dX7_sortsOf_71 : decode cX7_sortsOf 71 = .ok (.aload_n 0, 1) := dk_42 (dk_at dksX7_sortsOf_3 0 rfl rfl)
theorem dX7_sortsOf_72 : decode cX7_sortsOf 72 = .ok (.iload 6, 2) := dk_21 6 (dk_at dksX7_sortsOf_3 1 rfl rfl)
theorem dX7_sortsOf_74 : decode cX7_sortsOf 74 = .ok (.iload_n 2, 1) := dk_28 (dk_at dksX7_sortsOf_3 3 rfl rfl)
theorem dX7_sortsOf_75 : decode cX7_sortsOf 75 = .ok (.invokevirtual 283, 3) := dk_182 1 27 (dk_at dksX7_sortsOf_3 4 rfl rfl)
theorem dX7_sortsOf_78 : decode cX7_sortsOf 78 = .ok (.aload_n 0, 1) := dk_42 (dk_at dksX7_sortsOf_3 7 rfl rfl)
theorem dX7_sortsOf_79 : decode cX7_sortsOf 79 = .ok (.iload 4, 2) := dk_21 4 (dk_at dksX7_sortsOf_3 8 rfl rfl)
theorem dX7_sortsOf_81 : decode cX7_sortsOf 81 = .ok (.iload_n 2, 1) := dk_28 (dk_at dksX7_sortsOf_3 10 rfl rfl)
theorem dX7_sortsOf_82 : decode cX7_sortsOf 82 = .ok (.invokevirtual 283, 3) := dk_182 1 27 (dk_at dksX7_sortsOf_3 11 rfl rfl)
theorem dX7_sortsOf_85 : decode cX7_sortsOf 85 = .ok (.if_icmp .eq 7, 3) := dk_159 0 7 (dk_at dksX7_sortsOf_3 14 rfl rfl)
theorem dX7_sortsOf_88 : decode cX7_sortsOf 88 = .ok (.iconst 1, 1) := dk_4 (dk_at dksX7_sortsOf_3 17 rfl rfl)
theorem dX7_sortsOf_89 : decode cX7_sortsOf 89 = .ok (.goto 4, 3) := dk_167 0 4 (dk_at dksX7_sortsOf_3 18 rfl rfl)
theorem dX7_sortsOf_92 : decode cX7_sortsOf 92 = .ok (.iconst 0, 1) := dk_3 (dk_at dksX7_sortsOf_3 21 rfl rfl)
theorem dX7_sortsOf_93 : decode cX7_sortsOf 93 = .ok (.iand, 1) := dk_126 (dk_at dksX7_sortsOf_3 22 rfl rfl)
theorem dX7_sortsOf_94 : decode cX7_sortsOf 94 = .ok (.istore 5, 2) := dk_54 5 (dk_at dksX7_sortsOf_4 0 rfl rfl)
theorem dX7_sortsOf_96 : decode cX7_sortsOf 96 = .ok (.iinc 6 1, 3) := dk_132 6 1 (dk_at dksX7_sortsOf_4 2 rfl rfl)
theorem dX7_sortsOf_99 : decode cX7_sortsOf 99 = .ok (.goto (-56), 3) := dk_167 255 200 (dk_at dksX7_sortsOf_4 5 rfl rfl)
theorem dX7_sortsOf_102 : decode cX7_sortsOf 102 = .ok (.iload_n 3, 1) := dk_29 (dk_at dksX7_sortsOf_4 8 rfl rfl)
theorem dX7_sortsOf_103 : decode cX7_sortsOf 103 = .ok (.iload 5, 2) := dk_21 5 (dk_at dksX7_sortsOf_4 9 rfl rfl)
theorem dX7_sortsOf_105 : decode cX7_sortsOf 105 = .ok (.ifCond .eq 7, 3) := dk_153 0 7 (dk_at dksX7_sortsOf_4 11 rfl rfl)
theorem dX7_sortsOf_108 : decode cX7_sortsOf 108 = .ok (.iconst 1, 1) := dk_4 (dk_at dksX7_sortsOf_4 14 rfl rfl)
theorem dX7_sortsOf_109 : decode cX7_sortsOf 109 = .ok (.goto 4, 3) := dk_167 0 4 (dk_at dksX7_sortsOf_4 15 rfl rfl)
theorem dX7_sortsOf_112 : decode cX7_sortsOf 112 = .ok (.iconst 0, 1) := dk_3 (dk_at dksX7_sortsOf_4 18 rfl rfl)
theorem dX7_sortsOf_113 : decode cX7_sortsOf 113 = .ok (.iadd, 1) := dk_96 (dk_at dksX7_sortsOf_4 19 rfl rfl)
theorem dX7_sortsOf_114 : decode cX7_sortsOf 114 = .ok (.istore_n 3, 1) := dk_62 (dk_at dksX7_sortsOf_4 20 rfl rfl)
theorem dX7_sortsOf_115 : decode cX7_sortsOf 115 = .ok (.iinc 4 1, 3) := dk_132 4 1 (dk_at dksX7_sortsOf_4 21 rfl rfl)
theorem dX7_sortsOf_118 : decode cX7_sortsOf 118 = .ok (.goto (-113), 3) := dk_167 255 143 (dk_at dksX7_sortsOf_5 0 rfl rfl)
theorem dX7_sortsOf_121 : decode cX7_sortsOf 121 = .ok (.iload_n 3, 1) := dk_29 (dk_at dksX7_sortsOf_5 3 rfl rfl)
theorem dX7_sortsOf_122 : decode cX7_sortsOf 122 = .ok (.ireturn, 1) := dk_172 (dk_at dksX7_sortsOf_5 4 rfl rfl)
abbrev cX7_alike : ByteArray := prog_12_method_83_code
def yX7_alike : MethodName := ⟨RX7, "alike", "(I)I"⟩
def dkwX7_alike_4 : List UInt8 := [167, 255, 201, 132, 3, 1, 167, 255, 182, 28, 172]
abbrev dktX7_alike_4 : List UInt8 := dkwX7_alike_4 ++ []
def dkwX7_alike_3 : List UInt8 := [182, 1, 27, 42, 21, 4, 27, 182, 1, 27, 160, 0, 7, 4, 167, 0, 4, 3, 96, 61, 132, 4, 1]
abbrev dktX7_alike_3 : List UInt8 := dkwX7_alike_3 ++ dktX7_alike_4
def dkwX7_alike_2 : List UInt8 := [42, 29, 27, 182, 1, 37, 153, 0, 33, 42, 21, 4, 27, 182, 1, 37, 153, 0, 23, 42, 29, 27]
abbrev dktX7_alike_2 : List UInt8 := dkwX7_alike_2 ++ dktX7_alike_3
def dkwX7_alike_1 : List UInt8 := [62, 29, 42, 182, 0, 236, 162, 0, 72, 29, 4, 96, 54, 4, 21, 4, 42, 182, 0, 236, 162, 0, 52, 28]
abbrev dktX7_alike_1 : List UInt8 := dkwX7_alike_1 ++ dktX7_alike_2
def dkwX7_alike_0 : List UInt8 := [42, 3, 181, 0, 74, 42, 27, 133, 182, 0, 249, 154, 0, 6, 16, 254, 172, 42, 182, 1, 81, 3, 61, 3]
abbrev dktX7_alike_0 : List UInt8 := dkwX7_alike_0 ++ dktX7_alike_1
theorem dksX7_alike_0 : cX7_alike.data.toList.drop 0 = dktX7_alike_0 := by decide +kernel
theorem dksX7_alike_1 : cX7_alike.data.toList.drop 24 = dktX7_alike_1 := dk_seg dksX7_alike_0 24 rfl rfl
theorem dksX7_alike_2 : cX7_alike.data.toList.drop 48 = dktX7_alike_2 := dk_seg dksX7_alike_1 24 rfl rfl
theorem dksX7_alike_3 : cX7_alike.data.toList.drop 70 = dktX7_alike_3 := dk_seg dksX7_alike_2 22 rfl rfl
theorem dksX7_alike_4 : cX7_alike.data.toList.drop 93 = dktX7_alike_4 := dk_seg dksX7_alike_3 23 rfl rfl
theorem dX7_alike_0 : decode cX7_alike 0 = .ok (.aload_n 0, 1) := dk_42 (dk_at dksX7_alike_0 0 rfl rfl)
theorem dX7_alike_1 : decode cX7_alike 1 = .ok (.iconst 0, 1) := dk_3 (dk_at dksX7_alike_0 1 rfl rfl)
theorem dX7_alike_2 : decode cX7_alike 2 = .ok (.putfield 74, 3) := dk_181 0 74 (dk_at dksX7_alike_0 2 rfl rfl)
theorem dX7_alike_5 : decode cX7_alike 5 = .ok (.aload_n 0, 1) := dk_42 (dk_at dksX7_alike_0 5 rfl rfl)
theorem dX7_alike_6 : decode cX7_alike 6 = .ok (.iload_n 1, 1) := dk_27 (dk_at dksX7_alike_0 6 rfl rfl)
theorem dX7_alike_7 : decode cX7_alike 7 = .ok (.i2l, 1) := dk_133 (dk_at dksX7_alike_0 7 rfl rfl)
theorem dX7_alike_8 : decode cX7_alike 8 = .ok (.invokevirtual 249, 3) := dk_182 0 249 (dk_at dksX7_alike_0 8 rfl rfl)
theorem dX7_alike_11 : decode cX7_alike 11 = .ok (.ifCond .ne 6, 3) := dk_154 0 6 (dk_at dksX7_alike_0 11 rfl rfl)
theorem dX7_alike_14 : decode cX7_alike 14 = .ok (.bipush (-2), 2) := dk_16 254 (dk_at dksX7_alike_0 14 rfl rfl)
theorem dX7_alike_16 : decode cX7_alike 16 = .ok (.ireturn, 1) := dk_172 (dk_at dksX7_alike_0 16 rfl rfl)
theorem dX7_alike_17 : decode cX7_alike 17 = .ok (.aload_n 0, 1) := dk_42 (dk_at dksX7_alike_0 17 rfl rfl)
theorem dX7_alike_18 : decode cX7_alike 18 = .ok (.invokevirtual 337, 3) := dk_182 1 81 (dk_at dksX7_alike_0 18 rfl rfl)
theorem dX7_alike_21 : decode cX7_alike 21 = .ok (.iconst 0, 1) := dk_3 (dk_at dksX7_alike_0 21 rfl rfl)
theorem dX7_alike_22 : decode cX7_alike 22 = .ok (.istore_n 2, 1) := dk_61 (dk_at dksX7_alike_0 22 rfl rfl)
theorem dX7_alike_23 : decode cX7_alike 23 = .ok (.iconst 0, 1) := dk_3 (dk_at dksX7_alike_0 23 rfl rfl)
theorem dX7_alike_24 : decode cX7_alike 24 = .ok (.istore_n 3, 1) := dk_62 (dk_at dksX7_alike_1 0 rfl rfl)
theorem dX7_alike_25 : decode cX7_alike 25 = .ok (.iload_n 3, 1) := dk_29 (dk_at dksX7_alike_1 1 rfl rfl)
theorem dX7_alike_26 : decode cX7_alike 26 = .ok (.aload_n 0, 1) := dk_42 (dk_at dksX7_alike_1 2 rfl rfl)
theorem dX7_alike_27 : decode cX7_alike 27 = .ok (.invokevirtual 236, 3) := dk_182 0 236 (dk_at dksX7_alike_1 3 rfl rfl)
theorem dX7_alike_30 : decode cX7_alike 30 = .ok (.if_icmp .ge 72, 3) := dk_162 0 72 (dk_at dksX7_alike_1 6 rfl rfl)
theorem dX7_alike_33 : decode cX7_alike 33 = .ok (.iload_n 3, 1) := dk_29 (dk_at dksX7_alike_1 9 rfl rfl)
theorem dX7_alike_34 : decode cX7_alike 34 = .ok (.iconst 1, 1) := dk_4 (dk_at dksX7_alike_1 10 rfl rfl)
theorem dX7_alike_35 : decode cX7_alike 35 = .ok (.iadd, 1) := dk_96 (dk_at dksX7_alike_1 11 rfl rfl)
theorem dX7_alike_36 : decode cX7_alike 36 = .ok (.istore 4, 2) := dk_54 4 (dk_at dksX7_alike_1 12 rfl rfl)
theorem dX7_alike_38 : decode cX7_alike 38 = .ok (.iload 4, 2) := dk_21 4 (dk_at dksX7_alike_1 14 rfl rfl)
theorem dX7_alike_40 : decode cX7_alike 40 = .ok (.aload_n 0, 1) := dk_42 (dk_at dksX7_alike_1 16 rfl rfl)
theorem dX7_alike_41 : decode cX7_alike 41 = .ok (.invokevirtual 236, 3) := dk_182 0 236 (dk_at dksX7_alike_1 17 rfl rfl)
theorem dX7_alike_44 : decode cX7_alike 44 = .ok (.if_icmp .ge 52, 3) := dk_162 0 52 (dk_at dksX7_alike_1 20 rfl rfl)
theorem dX7_alike_47 : decode cX7_alike 47 = .ok (.iload_n 2, 1) := dk_28 (dk_at dksX7_alike_1 23 rfl rfl)
theorem dX7_alike_48 : decode cX7_alike 48 = .ok (.aload_n 0, 1) := dk_42 (dk_at dksX7_alike_2 0 rfl rfl)
theorem dX7_alike_49 : decode cX7_alike 49 = .ok (.iload_n 3, 1) := dk_29 (dk_at dksX7_alike_2 1 rfl rfl)
theorem dX7_alike_50 : decode cX7_alike 50 = .ok (.iload_n 1, 1) := dk_27 (dk_at dksX7_alike_2 2 rfl rfl)
theorem dX7_alike_51 : decode cX7_alike 51 = .ok (.invokevirtual 293, 3) := dk_182 1 37 (dk_at dksX7_alike_2 3 rfl rfl)
theorem dX7_alike_54 : decode cX7_alike 54 = .ok (.ifCond .eq 33, 3) := dk_153 0 33 (dk_at dksX7_alike_2 6 rfl rfl)
theorem dX7_alike_57 : decode cX7_alike 57 = .ok (.aload_n 0, 1) := dk_42 (dk_at dksX7_alike_2 9 rfl rfl)
theorem dX7_alike_58 : decode cX7_alike 58 = .ok (.iload 4, 2) := dk_21 4 (dk_at dksX7_alike_2 10 rfl rfl)
theorem dX7_alike_60 : decode cX7_alike 60 = .ok (.iload_n 1, 1) := dk_27 (dk_at dksX7_alike_2 12 rfl rfl)
theorem dX7_alike_61 : decode cX7_alike 61 = .ok (.invokevirtual 293, 3) := dk_182 1 37 (dk_at dksX7_alike_2 13 rfl rfl)
theorem dX7_alike_64 : decode cX7_alike 64 = .ok (.ifCond .eq 23, 3) := dk_153 0 23 (dk_at dksX7_alike_2 16 rfl rfl)
theorem dX7_alike_67 : decode cX7_alike 67 = .ok (.aload_n 0, 1) := dk_42 (dk_at dksX7_alike_2 19 rfl rfl)
theorem dX7_alike_68 : decode cX7_alike 68 = .ok (.iload_n 3, 1) := dk_29 (dk_at dksX7_alike_2 20 rfl rfl)
theorem dX7_alike_69 : decode cX7_alike 69 = .ok (.iload_n 1, 1) := dk_27 (dk_at dksX7_alike_2 21 rfl rfl)
theorem dX7_alike_70 : decode cX7_alike 70 = .ok (.invokevirtual 283, 3) := dk_182 1 27 (dk_at dksX7_alike_3 0 rfl rfl)
theorem dX7_alike_73 : decode cX7_alike 73 = .ok (.aload_n 0, 1) := dk_42 (dk_at dksX7_alike_3 3 rfl rfl)
theorem dX7_alike_74 : decode cX7_alike 74 = .ok (.iload 4, 2) := dk_21 4 (dk_at dksX7_alike_3 4 rfl rfl)
theorem dX7_alike_76 : decode cX7_alike 76 = .ok (.iload_n 1, 1) := dk_27 (dk_at dksX7_alike_3 6 rfl rfl)
theorem dX7_alike_77 : decode cX7_alike 77 = .ok (.invokevirtual 283, 3) := dk_182 1 27 (dk_at dksX7_alike_3 7 rfl rfl)
theorem dX7_alike_80 : decode cX7_alike 80 = .ok (.if_icmp .ne 7, 3) := dk_160 0 7 (dk_at dksX7_alike_3 10 rfl rfl)
theorem dX7_alike_83 : decode cX7_alike 83 = .ok (.iconst 1, 1) := dk_4 (dk_at dksX7_alike_3 13 rfl rfl)
theorem dX7_alike_84 : decode cX7_alike 84 = .ok (.goto 4, 3) := dk_167 0 4 (dk_at dksX7_alike_3 14 rfl rfl)
theorem dX7_alike_87 : decode cX7_alike 87 = .ok (.iconst 0, 1) := dk_3 (dk_at dksX7_alike_3 17 rfl rfl)
theorem dX7_alike_88 : decode cX7_alike 88 = .ok (.iadd, 1) := dk_96 (dk_at dksX7_alike_3 18 rfl rfl)
theorem dX7_alike_89 : decode cX7_alike 89 = .ok (.istore_n 2, 1) := dk_61 (dk_at dksX7_alike_3 19 rfl rfl)
theorem dX7_alike_90 : decode cX7_alike 90 = .ok (.iinc 4 1, 3) := dk_132 4 1 (dk_at dksX7_alike_3 20 rfl rfl)
theorem dX7_alike_93 : decode cX7_alike 93 = .ok (.goto (-55), 3) := dk_167 255 201 (dk_at dksX7_alike_4 0 rfl rfl)
theorem dX7_alike_96 : decode cX7_alike 96 = .ok (.iinc 3 1, 3) := dk_132 3 1 (dk_at dksX7_alike_4 3 rfl rfl)
theorem dX7_alike_99 : decode cX7_alike 99 = .ok (.goto (-74), 3) := dk_167 255 182 (dk_at dksX7_alike_4 6 rfl rfl)
theorem dX7_alike_102 : decode cX7_alike 102 = .ok (.iload_n 2, 1) := dk_28 (dk_at dksX7_alike_4 9 rfl rfl)
theorem dX7_alike_103 : decode cX7_alike 103 = .ok (.ireturn, 1) := dk_172 (dk_at dksX7_alike_4 10 rfl rfl)
abbrev cX7_rising : ByteArray := prog_12_method_84_code
def yX7_rising : MethodName := ⟨RX7, "rising", "(I)I"⟩
def dkwX7_rising_2 : List UInt8 := [4, 29, 120, 167, 0, 4, 3, 128, 61, 132, 3, 1, 167, 255, 221, 28, 172]
abbrev dktX7_rising_2 : List UInt8 := dkwX7_rising_2 ++ []
def dkwX7_rising_1 : List UInt8 := [62, 29, 42, 182, 0, 236, 162, 0, 33, 28, 42, 180, 0, 65, 16, 7, 27, 104, 29, 96, 51, 153, 0, 9]
abbrev dktX7_rising_1 : List UInt8 := dkwX7_rising_1 ++ dktX7_rising_2
def dkwX7_rising_0 : List UInt8 := [42, 3, 181, 0, 74, 42, 27, 133, 182, 0, 249, 154, 0, 6, 16, 254, 172, 42, 182, 1, 81, 3, 61, 3]
abbrev dktX7_rising_0 : List UInt8 := dkwX7_rising_0 ++ dktX7_rising_1
theorem dksX7_rising_0 : cX7_rising.data.toList.drop 0 = dktX7_rising_0 := by decide +kernel
theorem dksX7_rising_1 : cX7_rising.data.toList.drop 24 = dktX7_rising_1 := dk_seg dksX7_rising_0 24 rfl rfl
theorem dksX7_rising_2 : cX7_rising.data.toList.drop 48 = dktX7_rising_2 := dk_seg dksX7_rising_1 24 rfl rfl
theorem dX7_rising_0 : decode cX7_rising 0 = .ok (.aload_n 0, 1) := dk_42 (dk_at dksX7_rising_0 0 rfl rfl)
theorem dX7_rising_1 : decode cX7_rising 1 = .ok (.iconst 0, 1) := dk_3 (dk_at dksX7_rising_0 1 rfl rfl)
theorem dX7_rising_2 : decode cX7_rising 2 = .ok (.putfield 74, 3) := dk_181 0 74 (dk_at dksX7_rising_0 2 rfl rfl)
theorem dX7_rising_5 : decode cX7_rising 5 = .ok (.aload_n 0, 1) := dk_42 (dk_at dksX7_rising_0 5 rfl rfl)
theorem dX7_rising_6 : decode cX7_rising 6 = .ok (.iload_n 1, 1) := dk_27 (dk_at dksX7_rising_0 6 rfl rfl)
theorem dX7_rising_7 : decode cX7_rising 7 = .ok (.i2l, 1) := dk_133 (dk_at dksX7_rising_0 7 rfl rfl)
theorem dX7_rising_8 : decode cX7_rising 8 = .ok (.invokevirtual 249, 3) := dk_182 0 249 (dk_at dksX7_rising_0 8 rfl rfl)
theorem dX7_rising_11 : decode cX7_rising 11 = .ok (.ifCond .ne 6, 3) := dk_154 0 6 (dk_at dksX7_rising_0 11 rfl rfl)
theorem dX7_rising_14 : decode cX7_rising 14 = .ok (.bipush (-2), 2) := dk_16 254 (dk_at dksX7_rising_0 14 rfl rfl)
theorem dX7_rising_16 : decode cX7_rising 16 = .ok (.ireturn, 1) := dk_172 (dk_at dksX7_rising_0 16 rfl rfl)
theorem dX7_rising_17 : decode cX7_rising 17 = .ok (.aload_n 0, 1) := dk_42 (dk_at dksX7_rising_0 17 rfl rfl)
theorem dX7_rising_18 : decode cX7_rising 18 = .ok (.invokevirtual 337, 3) := dk_182 1 81 (dk_at dksX7_rising_0 18 rfl rfl)
theorem dX7_rising_21 : decode cX7_rising 21 = .ok (.iconst 0, 1) := dk_3 (dk_at dksX7_rising_0 21 rfl rfl)
theorem dX7_rising_22 : decode cX7_rising 22 = .ok (.istore_n 2, 1) := dk_61 (dk_at dksX7_rising_0 22 rfl rfl)
theorem dX7_rising_23 : decode cX7_rising 23 = .ok (.iconst 0, 1) := dk_3 (dk_at dksX7_rising_0 23 rfl rfl)
theorem dX7_rising_24 : decode cX7_rising 24 = .ok (.istore_n 3, 1) := dk_62 (dk_at dksX7_rising_1 0 rfl rfl)
theorem dX7_rising_25 : decode cX7_rising 25 = .ok (.iload_n 3, 1) := dk_29 (dk_at dksX7_rising_1 1 rfl rfl)
theorem dX7_rising_26 : decode cX7_rising 26 = .ok (.aload_n 0, 1) := dk_42 (dk_at dksX7_rising_1 2 rfl rfl)
theorem dX7_rising_27 : decode cX7_rising 27 = .ok (.invokevirtual 236, 3) := dk_182 0 236 (dk_at dksX7_rising_1 3 rfl rfl)
theorem dX7_rising_30 : decode cX7_rising 30 = .ok (.if_icmp .ge 33, 3) := dk_162 0 33 (dk_at dksX7_rising_1 6 rfl rfl)
theorem dX7_rising_33 : decode cX7_rising 33 = .ok (.iload_n 2, 1) := dk_28 (dk_at dksX7_rising_1 9 rfl rfl)
theorem dX7_rising_34 : decode cX7_rising 34 = .ok (.aload_n 0, 1) := dk_42 (dk_at dksX7_rising_1 10 rfl rfl)
theorem dX7_rising_35 : decode cX7_rising 35 = .ok (.getfield 65, 3) := dk_180 0 65 (dk_at dksX7_rising_1 11 rfl rfl)
theorem dX7_rising_38 : decode cX7_rising 38 = .ok (.bipush 7, 2) := dk_16 7 (dk_at dksX7_rising_1 14 rfl rfl)
theorem dX7_rising_40 : decode cX7_rising 40 = .ok (.iload_n 1, 1) := dk_27 (dk_at dksX7_rising_1 16 rfl rfl)
theorem dX7_rising_41 : decode cX7_rising 41 = .ok (.imul, 1) := dk_104 (dk_at dksX7_rising_1 17 rfl rfl)
theorem dX7_rising_42 : decode cX7_rising 42 = .ok (.iload_n 3, 1) := dk_29 (dk_at dksX7_rising_1 18 rfl rfl)
theorem dX7_rising_43 : decode cX7_rising 43 = .ok (.iadd, 1) := dk_96 (dk_at dksX7_rising_1 19 rfl rfl)
theorem dX7_rising_44 : decode cX7_rising 44 = .ok (.baload, 1) := dk_51 (dk_at dksX7_rising_1 20 rfl rfl)
theorem dX7_rising_45 : decode cX7_rising 45 = .ok (.ifCond .eq 9, 3) := dk_153 0 9 (dk_at dksX7_rising_1 21 rfl rfl)
theorem dX7_rising_48 : decode cX7_rising 48 = .ok (.iconst 1, 1) := dk_4 (dk_at dksX7_rising_2 0 rfl rfl)
theorem dX7_rising_49 : decode cX7_rising 49 = .ok (.iload_n 3, 1) := dk_29 (dk_at dksX7_rising_2 1 rfl rfl)
theorem dX7_rising_50 : decode cX7_rising 50 = .ok (.ishl, 1) := dk_120 (dk_at dksX7_rising_2 2 rfl rfl)
theorem dX7_rising_51 : decode cX7_rising 51 = .ok (.goto 4, 3) := dk_167 0 4 (dk_at dksX7_rising_2 3 rfl rfl)
theorem dX7_rising_54 : decode cX7_rising 54 = .ok (.iconst 0, 1) := dk_3 (dk_at dksX7_rising_2 6 rfl rfl)
theorem dX7_rising_55 : decode cX7_rising 55 = .ok (.ior, 1) := dk_128 (dk_at dksX7_rising_2 7 rfl rfl)
theorem dX7_rising_56 : decode cX7_rising 56 = .ok (.istore_n 2, 1) := dk_61 (dk_at dksX7_rising_2 8 rfl rfl)
theorem dX7_rising_57 : decode cX7_rising 57 = .ok (.iinc 3 1, 3) := dk_132 3 1 (dk_at dksX7_rising_2 9 rfl rfl)
theorem dX7_rising_60 : decode cX7_rising 60 = .ok (.goto (-35), 3) := dk_167 255 221 (dk_at dksX7_rising_2 12 rfl rfl)
theorem dX7_rising_63 : decode cX7_rising 63 = .ok (.iload_n 2, 1) := dk_28 (dk_at dksX7_rising_2 15 rfl rfl)
theorem dX7_rising_64 : decode cX7_rising 64 = .ok (.ireturn, 1) := dk_172 (dk_at dksX7_rising_2 16 rfl rfl)
abbrev cX7_paling : ByteArray := prog_12_method_85_code
def yX7_paling : MethodName := ⟨RX7, "paling", "(I)I"⟩
def dkwX7_paling_2 : List UInt8 := [100, 182, 1, 27, 162, 0, 9, 4, 29, 120, 167, 0, 4, 3, 128, 61, 132, 3, 1, 167, 255, 214, 28, 172]
abbrev dktX7_paling_2 : List UInt8 := dkwX7_paling_2 ++ []
def dkwX7_paling_1 : List UInt8 := [62, 29, 42, 182, 0, 236, 162, 0, 40, 28, 27, 158, 0, 26, 42, 29, 27, 182, 1, 27, 42, 29, 27, 4]
abbrev dktX7_paling_1 : List UInt8 := dkwX7_paling_1 ++ dktX7_paling_2
def dkwX7_paling_0 : List UInt8 := [42, 3, 181, 0, 74, 42, 27, 133, 182, 0, 249, 154, 0, 6, 16, 254, 172, 42, 182, 1, 81, 3, 61, 3]
abbrev dktX7_paling_0 : List UInt8 := dkwX7_paling_0 ++ dktX7_paling_1
theorem dksX7_paling_0 : cX7_paling.data.toList.drop 0 = dktX7_paling_0 := by decide +kernel
theorem dksX7_paling_1 : cX7_paling.data.toList.drop 24 = dktX7_paling_1 := dk_seg dksX7_paling_0 24 rfl rfl
theorem dksX7_paling_2 : cX7_paling.data.toList.drop 48 = dktX7_paling_2 := dk_seg dksX7_paling_1 24 rfl rfl
theorem dX7_paling_0 : decode cX7_paling 0 = .ok (.aload_n 0, 1) := dk_42 (dk_at dksX7_paling_0 0 rfl rfl)
theorem dX7_paling_1 : decode cX7_paling 1 = .ok (.iconst 0, 1) := dk_3 (dk_at dksX7_paling_0 1 rfl rfl)
theorem dX7_paling_2 : decode cX7_paling 2 = .ok (.putfield 74, 3) := dk_181 0 74 (dk_at dksX7_paling_0 2 rfl rfl)
theorem dX7_paling_5 : decode cX7_paling 5 = .ok (.aload_n 0, 1) := dk_42 (dk_at dksX7_paling_0 5 rfl rfl)
theorem dX7_paling_6 : decode cX7_paling 6 = .ok (.iload_n 1, 1) := dk_27 (dk_at dksX7_paling_0 6 rfl rfl)
theorem dX7_paling_7 : decode cX7_paling 7 = .ok (.i2l, 1) := dk_133 (dk_at dksX7_paling_0 7 rfl rfl)
theorem dX7_paling_8 : decode cX7_paling 8 = .ok (.invokevirtual 249, 3) := dk_182 0 249 (dk_at dksX7_paling_0 8 rfl rfl)
theorem dX7_paling_11 : decode cX7_paling 11 = .ok (.ifCond .ne 6, 3) := dk_154 0 6 (dk_at dksX7_paling_0 11 rfl rfl)
theorem dX7_paling_14 : decode cX7_paling 14 = .ok (.bipush (-2), 2) := dk_16 254 (dk_at dksX7_paling_0 14 rfl rfl)
theorem dX7_paling_16 : decode cX7_paling 16 = .ok (.ireturn, 1) := dk_172 (dk_at dksX7_paling_0 16 rfl rfl)
theorem dX7_paling_17 : decode cX7_paling 17 = .ok (.aload_n 0, 1) := dk_42 (dk_at dksX7_paling_0 17 rfl rfl)
theorem dX7_paling_18 : decode cX7_paling 18 = .ok (.invokevirtual 337, 3) := dk_182 1 81 (dk_at dksX7_paling_0 18 rfl rfl)
theorem dX7_paling_21 : decode cX7_paling 21 = .ok (.iconst 0, 1) := dk_3 (dk_at dksX7_paling_0 21 rfl rfl)
theorem dX7_paling_22 : decode cX7_paling 22 = .ok (.istore_n 2, 1) := dk_61 (dk_at dksX7_paling_0 22 rfl rfl)
theorem dX7_paling_23 : decode cX7_paling 23 = .ok (.iconst 0, 1) := dk_3 (dk_at dksX7_paling_0 23 rfl rfl)
theorem dX7_paling_24 : decode cX7_paling 24 = .ok (.istore_n 3, 1) := dk_62 (dk_at dksX7_paling_1 0 rfl rfl)
theorem dX7_paling_25 : decode cX7_paling 25 = .ok (.iload_n 3, 1) := dk_29 (dk_at dksX7_paling_1 1 rfl rfl)
theorem dX7_paling_26 : decode cX7_paling 26 = .ok (.aload_n 0, 1) := dk_42 (dk_at dksX7_paling_1 2 rfl rfl)
theorem dX7_paling_27 : decode cX7_paling 27 = .ok (.invokevirtual 236, 3) := dk_182 0 236 (dk_at dksX7_paling_1 3 rfl rfl)
theorem dX7_paling_30 : decode cX7_paling 30 = .ok (.if_icmp .ge 40, 3) := dk_162 0 40 (dk_at dksX7_paling_1 6 rfl rfl)
theorem dX7_paling_33 : decode cX7_paling 33 = .ok (.iload_n 2, 1) := dk_28 (dk_at dksX7_paling_1 9 rfl rfl)
theorem dX7_paling_34 : decode cX7_paling 34 = .ok (.iload_n 1, 1) := dk_27 (dk_at dksX7_paling_1 10 rfl rfl)
theorem dX7_paling_35 : decode cX7_paling 35 = .ok (.ifCond .le 26, 3) := dk_158 0 26 (dk_at dksX7_paling_1 11 rfl rfl)
theorem dX7_paling_38 : decode cX7_paling 38 = .ok (.aload_n 0, 1) := dk_42 (dk_at dksX7_paling_1 14 rfl rfl)
theorem dX7_paling_39 : decode cX7_paling 39 = .ok (.iload_n 3, 1) := dk_29 (dk_at dksX7_paling_1 15 rfl rfl)
theorem dX7_paling_40 : decode cX7_paling 40 = .ok (.iload_n 1, 1) := dk_27 (dk_at dksX7_paling_1 16 rfl rfl)
theorem dX7_paling_41 : decode cX7_paling 41 = .ok (.invokevirtual 283, 3) := dk_182 1 27 (dk_at dksX7_paling_1 17 rfl rfl)
theorem dX7_paling_44 : decode cX7_paling 44 = .ok (.aload_n 0, 1) := dk_42 (dk_at dksX7_paling_1 20 rfl rfl)
theorem dX7_paling_45 : decode cX7_paling 45 = .ok (.iload_n 3, 1) := dk_29 (dk_at dksX7_paling_1 21 rfl rfl)
theorem dX7_paling_46 : decode cX7_paling 46 = .ok (.iload_n 1, 1) := dk_27 (dk_at dksX7_paling_1 22 rfl rfl)
theorem dX7_paling_47 : decode cX7_paling 47 = .ok (.iconst 1, 1) := dk_4 (dk_at dksX7_paling_1 23 rfl rfl)
theorem dX7_paling_48 : decode cX7_paling 48 = .ok (.isub, 1) := dk_100 (dk_at dksX7_paling_2 0 rfl rfl)
theorem dX7_paling_49 : decode cX7_paling 49 = .ok (.invokevirtual 283, 3) := dk_182 1 27 (dk_at dksX7_paling_2 1 rfl rfl)
theorem dX7_paling_52 : decode cX7_paling 52 = .ok (.if_icmp .ge 9, 3) := dk_162 0 9 (dk_at dksX7_paling_2 4 rfl rfl)
theorem dX7_paling_55 : decode cX7_paling 55 = .ok (.iconst 1, 1) := dk_4 (dk_at dksX7_paling_2 7 rfl rfl)
theorem dX7_paling_56 : decode cX7_paling 56 = .ok (.iload_n 3, 1) := dk_29 (dk_at dksX7_paling_2 8 rfl rfl)
theorem dX7_paling_57 : decode cX7_paling 57 = .ok (.ishl, 1) := dk_120 (dk_at dksX7_paling_2 9 rfl rfl)
theorem dX7_paling_58 : decode cX7_paling 58 = .ok (.goto 4, 3) := dk_167 0 4 (dk_at dksX7_paling_2 10 rfl rfl)
theorem dX7_paling_61 : decode cX7_paling 61 = .ok (.iconst 0, 1) := dk_3 (dk_at dksX7_paling_2 13 rfl rfl)
theorem dX7_paling_62 : decode cX7_paling 62 = .ok (.ior, 1) := dk_128 (dk_at dksX7_paling_2 14 rfl rfl)
theorem dX7_paling_63 : decode cX7_paling 63 = .ok (.istore_n 2, 1) := dk_61 (dk_at dksX7_paling_2 15 rfl rfl)
theorem dX7_paling_64 : decode cX7_paling 64 = .ok (.iinc 3 1, 3) := dk_132 3 1 (dk_at dksX7_paling_2 16 rfl rfl)
theorem dX7_paling_67 : decode cX7_paling 67 = .ok (.goto (-42), 3) := dk_167 255 214 (dk_at dksX7_paling_2 19 rfl rfl)
theorem dX7_paling_70 : decode cX7_paling 70 = .ok (.iload_n 2, 1) := dk_28 (dk_at dksX7_paling_2 22 rfl rfl)
theorem dX7_paling_71 : decode cX7_paling 71 = .ok (.ireturn, 1) := dk_172 (dk_at dksX7_paling_2 23 rfl rfl)
abbrev cX7_cross : ByteArray := prog_12_method_86_code
def yX7_cross : MethodName := ⟨RX7, "cross", "(II)I"⟩
def dkwX7_cross_3 : List UInt8 := [164, 0, 5, 29, 172, 132, 3, 1, 167, 255, 210, 2, 172]
abbrev dktX7_cross_3 : List UInt8 := dkwX7_cross_3 ++ []
def dkwX7_cross_2 : List UInt8 := [153, 0, 29, 42, 28, 29, 182, 1, 37, 153, 0, 20, 42, 27, 29, 182, 1, 27, 42, 28, 29, 182, 1, 27]
abbrev dktX7_cross_2 : List UInt8 := dkwX7_cross_2 ++ dktX7_cross_3
def dkwX7_cross_1 : List UInt8 := [16, 254, 172, 42, 182, 1, 81, 3, 62, 29, 42, 182, 0, 243, 163, 0, 44, 42, 27, 29, 182, 1, 37]
abbrev dktX7_cross_1 : List UInt8 := dkwX7_cross_1 ++ dktX7_cross_2
def dkwX7_cross_0 : List UInt8 := [42, 3, 181, 0, 74, 42, 27, 133, 182, 0, 246, 153, 0, 12, 42, 28, 133, 182, 0, 246, 154, 0, 6]
abbrev dktX7_cross_0 : List UInt8 := dkwX7_cross_0 ++ dktX7_cross_1
theorem dksX7_cross_0 : cX7_cross.data.toList.drop 0 = dktX7_cross_0 := by decide +kernel
theorem dksX7_cross_1 : cX7_cross.data.toList.drop 23 = dktX7_cross_1 := dk_seg dksX7_cross_0 23 rfl rfl
theorem dksX7_cross_2 : cX7_cross.data.toList.drop 46 = dktX7_cross_2 := dk_seg dksX7_cross_1 23 rfl rfl
theorem dksX7_cross_3 : cX7_cross.data.toList.drop 70 = dktX7_cross_3 := dk_seg dksX7_cross_2 24 rfl rfl
theorem dX7_cross_0 : decode cX7_cross 0 = .ok (.aload_n 0, 1) := dk_42 (dk_at dksX7_cross_0 0 rfl rfl)
theorem dX7_cross_1 : decode cX7_cross 1 = .ok (.iconst 0, 1) := dk_3 (dk_at dksX7_cross_0 1 rfl rfl)
theorem dX7_cross_2 : decode cX7_cross 2 = .ok (.putfield 74, 3) := dk_181 0 74 (dk_at dksX7_cross_0 2 rfl rfl)
theorem dX7_cross_5 : decode cX7_cross 5 = .ok (.aload_n 0, 1) := dk_42 (dk_at dksX7_cross_0 5 rfl rfl)
theorem dX7_cross_6 : decode cX7_cross 6 = .ok (.iload_n 1, 1) := dk_27 (dk_at dksX7_cross_0 6 rfl rfl)
theorem dX7_cross_7 : decode cX7_cross 7 = .ok (.i2l, 1) := dk_133 (dk_at dksX7_cross_0 7 rfl rfl)
theorem dX7_cross_8 : decode cX7_cross 8 = .ok (.invokevirtual 246, 3) := dk_182 0 246 (dk_at dksX7_cross_0 8 rfl rfl)
theorem dX7_cross_11 : decode cX7_cross 11 = .ok (.ifCond .eq 12, 3) := dk_153 0 12 (dk_at dksX7_cross_0 11 rfl rfl)
theorem dX7_cross_14 : decode cX7_cross 14 = .ok (.aload_n 0, 1) := dk_42 (dk_at dksX7_cross_0 14 rfl rfl)
theorem dX7_cross_15 : decode cX7_cross 15 = .ok (.iload_n 2, 1) := dk_28 (dk_at dksX7_cross_0 15 rfl rfl)
theorem dX7_cross_16 : decode cX7_cross 16 = .ok (.i2l, 1) := dk_133 (dk_at dksX7_cross_0 16 rfl rfl)
theorem dX7_cross_17 : decode cX7_cross 17 = .ok (.invokevirtual 246, 3) := dk_182 0 246 (dk_at dksX7_cross_0 17 rfl rfl)
theorem dX7_cross_20 : decode cX7_cross 20 = .ok (.ifCond .ne 6, 3) := dk_154 0 6 (dk_at dksX7_cross_0 20 rfl rfl)
theorem dX7_cross_23 : decode cX7_cross 23 = .ok (.bipush (-2), 2) := dk_16 254 (dk_at dksX7_cross_1 0 rfl rfl)
theorem dX7_cross_25 : decode cX7_cross 25 = .ok (.ireturn, 1) := dk_172 (dk_at dksX7_cross_1 2 rfl rfl)
theorem dX7_cross_26 : decode cX7_cross 26 = .ok (.aload_n 0, 1) := dk_42 (dk_at dksX7_cross_1 3 rfl rfl)
theorem dX7_cross_27 : decode cX7_cross 27 = .ok (.invokevirtual 337, 3) := dk_182 1 81 (dk_at dksX7_cross_1 4 rfl rfl)
theorem dX7_cross_30 : decode cX7_cross 30 = .ok (.iconst 0, 1) := dk_3 (dk_at dksX7_cross_1 7 rfl rfl)
theorem dX7_cross_31 : decode cX7_cross 31 = .ok (.istore_n 3, 1) := dk_62 (dk_at dksX7_cross_1 8 rfl rfl)
theorem dX7_cross_32 : decode cX7_cross 32 = .ok (.iload_n 3, 1) := dk_29 (dk_at dksX7_cross_1 9 rfl rfl)
theorem dX7_cross_33 : decode cX7_cross 33 = .ok (.aload_n 0, 1) := dk_42 (dk_at dksX7_cross_1 10 rfl rfl)
theorem dX7_cross_34 : decode cX7_cross 34 = .ok (.invokevirtual 243, 3) := dk_182 0 243 (dk_at dksX7_cross_1 11 rfl rfl)
theorem dX7_cross_37 : decode cX7_cross 37 = .ok (.if_icmp .gt 44, 3) := dk_163 0 44 (dk_at dksX7_cross_1 14 rfl rfl)
theorem dX7_cross_40 : decode cX7_cross 40 = .ok (.aload_n 0, 1) := dk_42 (dk_at dksX7_cross_1 17 rfl rfl)
theorem dX7_cross_41 : decode cX7_cross 41 = .ok (.iload_n 1, 1) := dk_27 (dk_at dksX7_cross_1 18 rfl rfl)
theorem dX7_cross_42 : decode cX7_cross 42 = .ok (.iload_n 3, 1) := dk_29 (dk_at dksX7_cross_1 19 rfl rfl)
theorem dX7_cross_43 : decode cX7_cross 43 = .ok (.invokevirtual 293, 3) := dk_182 1 37 (dk_at dksX7_cross_1 20 rfl rfl)
theorem dX7_cross_46 : decode cX7_cross 46 = .ok (.ifCond .eq 29, 3) := dk_153 0 29 (dk_at dksX7_cross_2 0 rfl rfl)
theorem dX7_cross_49 : decode cX7_cross 49 = .ok (.aload_n 0, 1) := dk_42 (dk_at dksX7_cross_2 3 rfl rfl)
theorem dX7_cross_50 : decode cX7_cross 50 = .ok (.iload_n 2, 1) := dk_28 (dk_at dksX7_cross_2 4 rfl rfl)
theorem dX7_cross_51 : decode cX7_cross 51 = .ok (.iload_n 3, 1) := dk_29 (dk_at dksX7_cross_2 5 rfl rfl)
theorem dX7_cross_52 : decode cX7_cross 52 = .ok (.invokevirtual 293, 3) := dk_182 1 37 (dk_at dksX7_cross_2 6 rfl rfl)
theorem dX7_cross_55 : decode cX7_cross 55 = .ok (.ifCond .eq 20, 3) := dk_153 0 20 (dk_at dksX7_cross_2 9 rfl rfl)
theorem dX7_cross_58 : decode cX7_cross 58 = .ok (.aload_n 0, 1) := dk_42 (dk_at dksX7_cross_2 12 rfl rfl)
theorem dX7_cross_59 : decode cX7_cross 59 = .ok (.iload_n 1, 1) := dk_27 (dk_at dksX7_cross_2 13 rfl rfl)
theorem dX7_cross_60 : decode cX7_cross 60 = .ok (.iload_n 3, 1) := dk_29 (dk_at dksX7_cross_2 14 rfl rfl)
theorem dX7_cross_61 : decode cX7_cross 61 = .ok (.invokevirtual 283, 3) := dk_182 1 27 (dk_at dksX7_cross_2 15 rfl rfl)
theorem dX7_cross_64 : decode cX7_cross 64 = .ok (.aload_n 0, 1) := dk_42 (dk_at dksX7_cross_2 18 rfl rfl)
theorem dX7_cross_65 : decode cX7_cross 65 = .ok (.iload_n 2, 1) := dk_28 (dk_at dksX7_cross_2 19 rfl rfl)
theorem dX7_cross_66 : decode cX7_cross 66 = .ok (.iload_n 3, 1) := dk_29 (dk_at dksX7_cross_2 20 rfl rfl)
theorem dX7_cross_67 : decode cX7_cross 67 = .ok (.invokevirtual 283, 3) := dk_182 1 27 (dk_at dksX7_cross_2 21 rfl rfl)
theorem dX7_cross_70 : decode cX7_cross 70 = .ok (.if_icmp .le 5, 3) := dk_164 0 5 (dk_at dksX7_cross_3 0 rfl rfl)
theorem dX7_cross_73 : decode cX7_cross 73 = .ok (.iload_n 3, 1) := dk_29 (dk_at dksX7_cross_3 3 rfl rfl)
theorem dX7_cross_74 : decode cX7_cross 74 = .ok (.ireturn, 1) := dk_172 (dk_at dksX7_cross_3 4 rfl rfl)
theorem dX7_cross_75 : decode cX7_cross 75 = .ok (.iinc 3 1, 3) := dk_132 3 1 (dk_at dksX7_cross_3 5 rfl rfl)
theorem dX7_cross_78 : decode cX7_cross 78 = .ok (.goto (-46), 3) := dk_167 255 210 (dk_at dksX7_cross_3 8 rfl rfl)
theorem dX7_cross_81 : decode cX7_cross 81 = .ok (.iconst (-1), 1) := dk_2 (dk_at dksX7_cross_3 11 rfl rfl)
theorem dX7_cross_82 : decode cX7_cross 82 = .ok (.ireturn, 1) := dk_172 (dk_at dksX7_cross_3 12 rfl rfl)
abbrev cX7_swaps : ByteArray := prog_12_method_88_code
def yX7_swaps : MethodName := ⟨RX7, "swaps", "(II)I"⟩
def dkwX7_swaps_4 : List UInt8 := [96, 62, 132, 4, 1, 167, 255, 191, 29, 172]
abbrev dktX7_swaps_4 : List UInt8 := dkwX7_swaps_4 ++ []
def dkwX7_swaps_3 : List UInt8 := [28, 21, 4, 182, 1, 99, 42, 27, 28, 21, 4, 4, 100, 182, 1, 99, 159, 0, 7, 4, 167, 0, 4, 3]
abbrev dktX7_swaps_3 : List UInt8 := dkwX7_swaps_3 ++ dktX7_swaps_4
def dkwX7_swaps_2 : List UInt8 := [21, 4, 4, 100, 182, 1, 37, 153, 0, 40, 42, 28, 21, 4, 4, 100, 182, 1, 37, 153, 0, 28, 42, 27]
abbrev dktX7_swaps_2 : List UInt8 := dkwX7_swaps_2 ++ dktX7_swaps_3
def dkwX7_swaps_1 : List UInt8 := [16, 254, 172, 42, 182, 1, 81, 3, 62, 4, 54, 4, 21, 4, 42, 182, 0, 243, 163, 0, 62, 29, 42, 27]
abbrev dktX7_swaps_1 : List UInt8 := dkwX7_swaps_1 ++ dktX7_swaps_2
def dkwX7_swaps_0 : List UInt8 := [42, 3, 181, 0, 74, 42, 27, 133, 182, 0, 246, 153, 0, 12, 42, 28, 133, 182, 0, 246, 154, 0, 6]
abbrev dktX7_swaps_0 : List UInt8 := dkwX7_swaps_0 ++ dktX7_swaps_1
theorem dksX7_swaps_0 : cX7_swaps.data.toList.drop 0 = dktX7_swaps_0 := by decide +kernel
theorem dksX7_swaps_1 : cX7_swaps.data.toList.drop 23 = dktX7_swaps_1 := dk_seg dksX7_swaps_0 23 rfl rfl
theorem dksX7_swaps_2 : cX7_swaps.data.toList.drop 47 = dktX7_swaps_2 := dk_seg dksX7_swaps_1 24 rfl rfl
theorem dksX7_swaps_3 : cX7_swaps.data.toList.drop 71 = dktX7_swaps_3 := dk_seg dksX7_swaps_2 24 rfl rfl
theorem dksX7_swaps_4 : cX7_swaps.data.toList.drop 95 = dktX7_swaps_4 := dk_seg dksX7_swaps_3 24 rfl rfl
theorem dX7_swaps_0 : decode cX7_swaps 0 = .ok (.aload_n 0, 1) := dk_42 (dk_at dksX7_swaps_0 0 rfl rfl)
theorem dX7_swaps_1 : decode cX7_swaps 1 = .ok (.iconst 0, 1) := dk_3 (dk_at dksX7_swaps_0 1 rfl rfl)
theorem dX7_swaps_2 : decode cX7_swaps 2 = .ok (.putfield 74, 3) := dk_181 0 74 (dk_at dksX7_swaps_0 2 rfl rfl)
theorem dX7_swaps_5 : decode cX7_swaps 5 = .ok (.aload_n 0, 1) := dk_42 (dk_at dksX7_swaps_0 5 rfl rfl)
theorem dX7_swaps_6 : decode cX7_swaps 6 = .ok (.iload_n 1, 1) := dk_27 (dk_at dksX7_swaps_0 6 rfl rfl)
theorem dX7_swaps_7 : decode cX7_swaps 7 = .ok (.i2l, 1) := dk_133 (dk_at dksX7_swaps_0 7 rfl rfl)
theorem dX7_swaps_8 : decode cX7_swaps 8 = .ok (.invokevirtual 246, 3) := dk_182 0 246 (dk_at dksX7_swaps_0 8 rfl rfl)
theorem dX7_swaps_11 : decode cX7_swaps 11 = .ok (.ifCond .eq 12, 3) := dk_153 0 12 (dk_at dksX7_swaps_0 11 rfl rfl)
theorem dX7_swaps_14 : decode cX7_swaps 14 = .ok (.aload_n 0, 1) := dk_42 (dk_at dksX7_swaps_0 14 rfl rfl)
theorem dX7_swaps_15 : decode cX7_swaps 15 = .ok (.iload_n 2, 1) := dk_28 (dk_at dksX7_swaps_0 15 rfl rfl)
theorem dX7_swaps_16 : decode cX7_swaps 16 = .ok (.i2l, 1) := dk_133 (dk_at dksX7_swaps_0 16 rfl rfl)
theorem dX7_swaps_17 : decode cX7_swaps 17 = .ok (.invokevirtual 246, 3) := dk_182 0 246 (dk_at dksX7_swaps_0 17 rfl rfl)
theorem dX7_swaps_20 : decode cX7_swaps 20 = .ok (.ifCond .ne 6, 3) := dk_154 0 6 (dk_at dksX7_swaps_0 20 rfl rfl)
theorem dX7_swaps_23 : decode cX7_swaps 23 = .ok (.bipush (-2), 2) := dk_16 254 (dk_at dksX7_swaps_1 0 rfl rfl)
theorem dX7_swaps_25 : decode cX7_swaps 25 = .ok (.ireturn, 1) := dk_172 (dk_at dksX7_swaps_1 2 rfl rfl)
theorem dX7_swaps_26 : decode cX7_swaps 26 = .ok (.aload_n 0, 1) := dk_42 (dk_at dksX7_swaps_1 3 rfl rfl)
theorem dX7_swaps_27 : decode cX7_swaps 27 = .ok (.invokevirtual 337, 3) := dk_182 1 81 (dk_at dksX7_swaps_1 4 rfl rfl)
theorem dX7_swaps_30 : decode cX7_swaps 30 = .ok (.iconst 0, 1) := dk_3 (dk_at dksX7_swaps_1 7 rfl rfl)
theorem dX7_swaps_31 : decode cX7_swaps 31 = .ok (.istore_n 3, 1) := dk_62 (dk_at dksX7_swaps_1 8 rfl rfl)
theorem dX7_swaps_32 : decode cX7_swaps 32 = .ok (.iconst 1, 1) := dk_4 (dk_at dksX7_swaps_1 9 rfl rfl)
theorem dX7_swaps_33 : decode cX7_swaps 33 = .ok (.istore 4, 2) := dk_54 4 (dk_at dksX7_swaps_1 10 rfl rfl)
theorem dX7_swaps_35 : decode cX7_swaps 35 = .ok (.iload 4, 2) := dk_21 4 (dk_at dksX7_swaps_1 12 rfl rfl)
theorem dX7_swaps_37 : decode cX7_swaps 37 = .ok (.aload_n 0, 1) := dk_42 (dk_at dksX7_swaps_1 14 rfl rfl)
theorem dX7_swaps_38 : decode cX7_swaps 38 = .ok (.invokevirtual 243, 3) := dk_182 0 243 (dk_at dksX7_swaps_1 15 rfl rfl)
theorem dX7_swaps_41 : decode cX7_swaps 41 = .ok (.if_icmp .gt 62, 3) := dk_163 0 62 (dk_at dksX7_swaps_1 18 rfl rfl)
theorem dX7_swaps_44 : decode cX7_swaps 44 = .ok (.iload_n 3, 1) := dk_29 (dk_at dksX7_swaps_1 21 rfl rfl)
theorem dX7_swaps_45 : decode cX7_swaps 45 = .ok (.aload_n 0, 1) := dk_42 (dk_at dksX7_swaps_1 22 rfl rfl)
theorem dX7_swaps_46 : decode cX7_swaps 46 = .ok (.iload_n 1, 1) := dk_27 (dk_at dksX7_swaps_1 23 rfl rfl)
theorem dX7_swaps_47 : decode cX7_swaps 47 = .ok (.iload 4, 2) := dk_21 4 (dk_at dksX7_swaps_2 0 rfl rfl)
theorem dX7_swaps_49 : decode cX7_swaps 49 = .ok (.iconst 1, 1) := dk_4 (dk_at dksX7_swaps_2 2 rfl rfl)
theorem dX7_swaps_50 : decode cX7_swaps 50 = .ok (.isub, 1) := dk_100 (dk_at dksX7_swaps_2 3 rfl rfl)
theorem dX7_swaps_51 : decode cX7_swaps 51 = .ok (.invokevirtual 293, 3) := dk_182 1 37 (dk_at dksX7_swaps_2 4 rfl rfl)
theorem dX7_swaps_54 : decode cX7_swaps 54 = .ok (.ifCond .eq 40, 3) := dk_153 0 40 (dk_at dksX7_swaps_2 7 rfl rfl)
theorem dX7_swaps_57 : decode cX7_swaps 57 = .ok (.aload_n 0, 1) := dk_42 (dk_at dksX7_swaps_2 10 rfl rfl)
theorem dX7_swaps_58 : decode cX7_swaps 58 = .ok (.iload_n 2, 1) := dk_28 (dk_at dksX7_swaps_2 11 rfl rfl)
theorem dX7_swaps_59 : decode cX7_swaps 59 = .ok (.iload 4, 2) := dk_21 4 (dk_at dksX7_swaps_2 12 rfl rfl)
theorem dX7_swaps_61 : decode cX7_swaps 61 = .ok (.iconst 1, 1) := dk_4 (dk_at dksX7_swaps_2 14 rfl rfl)
theorem dX7_swaps_62 : decode cX7_swaps 62 = .ok (.isub, 1) := dk_100 (dk_at dksX7_swaps_2 15 rfl rfl)
theorem dX7_swaps_63 : decode cX7_swaps 63 = .ok (.invokevirtual 293, 3) := dk_182 1 37 (dk_at dksX7_swaps_2 16 rfl rfl)
theorem dX7_swaps_66 : decode cX7_swaps 66 = .ok (.ifCond .eq 28, 3) := dk_153 0 28 (dk_at dksX7_swaps_2 19 rfl rfl)
theorem dX7_swaps_69 : decode cX7_swaps 69 = .ok (.aload_n 0, 1) := dk_42 (dk_at dksX7_swaps_2 22 rfl rfl)
theorem dX7_swaps_70 : decode cX7_swaps 70 = .ok (.iload_n 1, 1) := dk_27 (dk_at dksX7_swaps_2 23 rfl rfl)
theorem dX7_swaps_71 : decode cX7_swaps 71 = .ok (.iload_n 2, 1) := dk_28 (dk_at dksX7_swaps_3 0 rfl rfl)
theorem dX7_swaps_72 : decode cX7_swaps 72 = .ok (.iload 4, 2) := dk_21 4 (dk_at dksX7_swaps_3 1 rfl rfl)
theorem dX7_swaps_74 : decode cX7_swaps 74 = .ok (.invokevirtual 355, 3) := dk_182 1 99 (dk_at dksX7_swaps_3 3 rfl rfl)
theorem dX7_swaps_77 : decode cX7_swaps 77 = .ok (.aload_n 0, 1) := dk_42 (dk_at dksX7_swaps_3 6 rfl rfl)
theorem dX7_swaps_78 : decode cX7_swaps 78 = .ok (.iload_n 1, 1) := dk_27 (dk_at dksX7_swaps_3 7 rfl rfl)
theorem dX7_swaps_79 : decode cX7_swaps 79 = .ok (.iload_n 2, 1) := dk_28 (dk_at dksX7_swaps_3 8 rfl rfl)
theorem dX7_swaps_80 : decode cX7_swaps 80 = .ok (.iload 4, 2) := dk_21 4 (dk_at dksX7_swaps_3 9 rfl rfl)
theorem dX7_swaps_82 : decode cX7_swaps 82 = .ok (.iconst 1, 1) := dk_4 (dk_at dksX7_swaps_3 11 rfl rfl)
theorem dX7_swaps_83 : decode cX7_swaps 83 = .ok (.isub, 1) := dk_100 (dk_at dksX7_swaps_3 12 rfl rfl)
theorem dX7_swaps_84 : decode cX7_swaps 84 = .ok (.invokevirtual 355, 3) := dk_182 1 99 (dk_at dksX7_swaps_3 13 rfl rfl)
theorem dX7_swaps_87 : decode cX7_swaps 87 = .ok (.if_icmp .eq 7, 3) := dk_159 0 7 (dk_at dksX7_swaps_3 16 rfl rfl)
theorem dX7_swaps_90 : decode cX7_swaps 90 = .ok (.iconst 1, 1) := dk_4 (dk_at dksX7_swaps_3 19 rfl rfl)
theorem dX7_swaps_91 : decode cX7_swaps 91 = .ok (.goto 4, 3) := dk_167 0 4 (dk_at dksX7_swaps_3 20 rfl rfl)
theorem dX7_swaps_94 : decode cX7_swaps 94 = .ok (.iconst 0, 1) := dk_3 (dk_at dksX7_swaps_3 23 rfl rfl)
theorem dX7_swaps_95 : decode cX7_swaps 95 = .ok (.iadd, 1) := dk_96 (dk_at dksX7_swaps_4 0 rfl rfl)
theorem dX7_swaps_96 : decode cX7_swaps 96 = .ok (.istore_n 3, 1) := dk_62 (dk_at dksX7_swaps_4 1 rfl rfl)
theorem dX7_swaps_97 : decode cX7_swaps 97 = .ok (.iinc 4 1, 3) := dk_132 4 1 (dk_at dksX7_swaps_4 2 rfl rfl)
theorem dX7_swaps_100 : decode cX7_swaps 100 = .ok (.goto (-65), 3) := dk_167 255 191 (dk_at dksX7_swaps_4 5 rfl rfl)
theorem dX7_swaps_103 : decode cX7_swaps 103 = .ok (.iload_n 3, 1) := dk_29 (dk_at dksX7_swaps_4 8 rfl rfl)
theorem dX7_swaps_104 : decode cX7_swaps 104 = .ok (.ireturn, 1) := dk_172 (dk_at dksX7_swaps_4 9 rfl rfl)
abbrev cX7_orderOf : ByteArray := prog_12_method_87_code
def yX7_orderOf : MethodName := ⟨RX7, "orderOf", "(III)I"⟩
def dkwX7_orderOf_1 : List UInt8 := [182, 1, 27, 42, 28, 29, 182, 1, 27, 162, 0, 7, 2, 167, 0, 4, 3, 172]
abbrev dktX7_orderOf_1 : List UInt8 := dkwX7_orderOf_1 ++ []
def dkwX7_orderOf_0 : List UInt8 := [42, 27, 29, 182, 1, 27, 42, 28, 29, 182, 1, 27, 164, 0, 7, 4, 167, 0, 23, 42, 27, 29]
abbrev dktX7_orderOf_0 : List UInt8 := dkwX7_orderOf_0 ++ dktX7_orderOf_1
theorem dksX7_orderOf_0 : cX7_orderOf.data.toList.drop 0 = dktX7_orderOf_0 := by decide +kernel
theorem dksX7_orderOf_1 : cX7_orderOf.data.toList.drop 22 = dktX7_orderOf_1 := dk_seg dksX7_orderOf_0 22 rfl rfl
theorem dX7_orderOf_0 : decode cX7_orderOf 0 = .ok (.aload_n 0, 1) := dk_42 (dk_at dksX7_orderOf_0 0 rfl rfl)
theorem dX7_orderOf_1 : decode cX7_orderOf 1 = .ok (.iload_n 1, 1) := dk_27 (dk_at dksX7_orderOf_0 1 rfl rfl)
theorem dX7_orderOf_2 : decode cX7_orderOf 2 = .ok (.iload_n 3, 1) := dk_29 (dk_at dksX7_orderOf_0 2 rfl rfl)
theorem dX7_orderOf_3 : decode cX7_orderOf 3 = .ok (.invokevirtual 283, 3) := dk_182 1 27 (dk_at dksX7_orderOf_0 3 rfl rfl)
theorem dX7_orderOf_6 : decode cX7_orderOf 6 = .ok (.aload_n 0, 1) := dk_42 (dk_at dksX7_orderOf_0 6 rfl rfl)
theorem dX7_orderOf_7 : decode cX7_orderOf 7 = .ok (.iload_n 2, 1) := dk_28 (dk_at dksX7_orderOf_0 7 rfl rfl)
theorem dX7_orderOf_8 : decode cX7_orderOf 8 = .ok (.iload_n 3, 1) := dk_29 (dk_at dksX7_orderOf_0 8 rfl rfl)
theorem dX7_orderOf_9 : decode cX7_orderOf 9 = .ok (.invokevirtual 283, 3) := dk_182 1 27 (dk_at dksX7_orderOf_0 9 rfl rfl)
theorem dX7_orderOf_12 : decode cX7_orderOf 12 = .ok (.if_icmp .le 7, 3) := dk_164 0 7 (dk_at dksX7_orderOf_0 12 rfl rfl)
theorem dX7_orderOf_15 : decode cX7_orderOf 15 = .ok (.iconst 1, 1) := dk_4 (dk_at dksX7_orderOf_0 15 rfl rfl)
theorem dX7_orderOf_16 : decode cX7_orderOf 16 = .ok (.goto 23, 3) := dk_167 0 23 (dk_at dksX7_orderOf_0 16 rfl rfl)
theorem dX7_orderOf_19 : decode cX7_orderOf 19 = .ok (.aload_n 0, 1) := dk_42 (dk_at dksX7_orderOf_0 19 rfl rfl)
theorem dX7_orderOf_20 : decode cX7_orderOf 20 = .ok (.iload_n 1, 1) := dk_27 (dk_at dksX7_orderOf_0 20 rfl rfl)
theorem dX7_orderOf_21 : decode cX7_orderOf 21 = .ok (.iload_n 3, 1) := dk_29 (dk_at dksX7_orderOf_0 21 rfl rfl)
theorem dX7_orderOf_22 : decode cX7_orderOf 22 = .ok (.invokevirtual 283, 3) := dk_182 1 27 (dk_at dksX7_orderOf_1 0 rfl rfl)
theorem dX7_orderOf_25 : decode cX7_orderOf 25 = .ok (.aload_n 0, 1) := dk_42 (dk_at dksX7_orderOf_1 3 rfl rfl)
theorem dX7_orderOf_26 : decode cX7_orderOf 26 = .ok (.iload_n 2, 1) := dk_28 (dk_at dksX7_orderOf_1 4 rfl rfl)
theorem dX7_orderOf_27 : decode cX7_orderOf 27 = .ok (.iload_n 3, 1) := dk_29 (dk_at dksX7_orderOf_1 5 rfl rfl)
theorem dX7_orderOf_28 : decode cX7_orderOf 28 = .ok (.invokevirtual 283, 3) := dk_182 1 27 (dk_at dksX7_orderOf_1 6 rfl rfl)
theorem dX7_orderOf_31 : decode cX7_orderOf 31 = .ok (.if_icmp .ge 7, 3) := dk_162 0 7 (dk_at dksX7_orderOf_1 9 rfl rfl)
theorem dX7_orderOf_34 : decode cX7_orderOf 34 = .ok (.iconst (-1), 1) := dk_2 (dk_at dksX7_orderOf_1 12 rfl rfl)
theorem dX7_orderOf_35 : decode cX7_orderOf 35 = .ok (.goto 4, 3) := dk_167 0 4 (dk_at dksX7_orderOf_1 13 rfl rfl)
theorem dX7_orderOf_38 : decode cX7_orderOf 38 = .ok (.iconst 0, 1) := dk_3 (dk_at dksX7_orderOf_1 16 rfl rfl)
theorem dX7_orderOf_39 : decode cX7_orderOf 39 = .ok (.ireturn, 1) := dk_172 (dk_at dksX7_orderOf_1 17 rfl rfl)
abbrev cX7_put : ByteArray := prog_12_method_89_code
def yX7_put : MethodName := ⟨RX7, "put", "()I"⟩
def dkwX7_put_4 : List UInt8 := [167, 255, 193, 132, 2, 1, 167, 255, 175, 27, 172]
abbrev dktX7_put_4 : List UInt8 := dkwX7_put_4 ++ []
def dkwX7_put_3 : List UInt8 := [180, 0, 43, 7, 28, 104, 5, 96, 46, 162, 0, 9, 4, 28, 120, 167, 0, 4, 3, 128, 60, 132, 3, 1]
abbrev dktX7_put_3 : List UInt8 := dkwX7_put_3 ++ dktX7_put_4
def dkwX7_put_2 : List UInt8 := [42, 180, 0, 43, 7, 28, 104, 46, 160, 0, 32, 42, 180, 0, 43, 7, 29, 104, 5, 96, 46, 42]
abbrev dktX7_put_2 : List UInt8 := dkwX7_put_2 ++ dktX7_put_3
def dkwX7_put_1 : List UInt8 := [162, 0, 79, 28, 4, 96, 62, 29, 42, 182, 0, 236, 162, 0, 61, 27, 42, 180, 0, 43, 7, 29, 104, 46]
abbrev dktX7_put_1 : List UInt8 := dkwX7_put_1 ++ dktX7_put_2
def dkwX7_put_0 : List UInt8 := [42, 3, 181, 0, 74, 42, 182, 0, 240, 154, 0, 6, 16, 254, 172, 3, 60, 3, 61, 28, 42, 182, 0, 236]
abbrev dktX7_put_0 : List UInt8 := dkwX7_put_0 ++ dktX7_put_1
theorem dksX7_put_0 : cX7_put.data.toList.drop 0 = dktX7_put_0 := by decide +kernel
theorem dksX7_put_1 : cX7_put.data.toList.drop 24 = dktX7_put_1 := dk_seg dksX7_put_0 24 rfl rfl
theorem dksX7_put_2 : cX7_put.data.toList.drop 48 = dktX7_put_2 := dk_seg dksX7_put_1 24 rfl rfl
theorem dksX7_put_3 : cX7_put.data.toList.drop 70 = dktX7_put_3 := dk_seg dksX7_put_2 22 rfl rfl
theorem dksX7_put_4 : cX7_put.data.toList.drop 94 = dktX7_put_4 := dk_seg dksX7_put_3 24 rfl rfl
theorem dX7_put_0 : decode cX7_put 0 = .ok (.aload_n 0, 1) := dk_42 (dk_at dksX7_put_0 0 rfl rfl)
theorem dX7_put_1 : decode cX7_put 1 = .ok (.iconst 0, 1) := dk_3 (dk_at dksX7_put_0 1 rfl rfl)
theorem dX7_put_2 : decode cX7_put 2 = .ok (.putfield 74, 3) := dk_181 0 74 (dk_at dksX7_put_0 2 rfl rfl)
theorem dX7_put_5 : decode cX7_put 5 = .ok (.aload_n 0, 1) := dk_42 (dk_at dksX7_put_0 5 rfl rfl)
theorem dX7_put_6 : decode cX7_put 6 = .ok (.invokevirtual 240, 3) := dk_182 0 240 (dk_at dksX7_put_0 6 rfl rfl)
theorem dX7_put_9 : decode cX7_put 9 = .ok (.ifCond .ne 6, 3) := dk_154 0 6 (dk_at dksX7_put_0 9 rfl rfl)
theorem dX7_put_12 : decode cX7_put 12 = .ok (.bipush (-2), 2) := dk_16 254 (dk_at dksX7_put_0 12 rfl rfl)
theorem dX7_put_14 : decode cX7_put 14 = .ok (.ireturn, 1) := dk_172 (dk_at dksX7_put_0 14 rfl rfl)
theorem dX7_put_15 : decode cX7_put 15 = .ok (.iconst 0, 1) := dk_3 (dk_at dksX7_put_0 15 rfl rfl)
theorem dX7_put_16 : decode cX7_put 16 = .ok (.istore_n 1, 1) := dk_60 (dk_at dksX7_put_0 16 rfl rfl)
theorem dX7_put_17 : decode cX7_put 17 = .ok (.iconst 0, 1) := dk_3 (dk_at dksX7_put_0 17 rfl rfl)
theorem dX7_put_18 : decode cX7_put 18 = .ok (.istore_n 2, 1) := dk_61 (dk_at dksX7_put_0 18 rfl rfl)
theorem dX7_put_19 : decode cX7_put 19 = .ok (.iload_n 2, 1) := dk_28 (dk_at dksX7_put_0 19 rfl rfl)
theorem dX7_put_20 : decode cX7_put 20 = .ok (.aload_n 0, 1) := dk_42 (dk_at dksX7_put_0 20 rfl rfl)
theorem dX7_put_21 : decode cX7_put 21 = .ok (.invokevirtual 236, 3) := dk_182 0 236 (dk_at dksX7_put_0 21 rfl rfl)
theorem dX7_put_24 : decode cX7_put 24 = .ok (.if_icmp .ge 79, 3) := dk_162 0 79 (dk_at dksX7_put_1 0 rfl rfl)
theorem dX7_put_27 : decode cX7_put 27 = .ok (.iload_n 2, 1) := dk_28 (dk_at dksX7_put_1 3 rfl rfl)
theorem dX7_put_28 : decode cX7_put 28 = .ok (.iconst 1, 1) := dk_4 (dk_at dksX7_put_1 4 rfl rfl)
theorem dX7_put_29 : decode cX7_put 29 = .ok (.iadd, 1) := dk_96 (dk_at dksX7_put_1 5 rfl rfl)
theorem dX7_put_30 : decode cX7_put 30 = .ok (.istore_n 3, 1) := dk_62 (dk_at dksX7_put_1 6 rfl rfl)
theorem dX7_put_31 : decode cX7_put 31 = .ok (.iload_n 3, 1) := dk_29 (dk_at dksX7_put_1 7 rfl rfl)
theorem dX7_put_32 : decode cX7_put 32 = .ok (.aload_n 0, 1) := dk_42 (dk_at dksX7_put_1 8 rfl rfl)
theorem dX7_put_33 : decode cX7_put 33 = .ok (.invokevirtual 236, 3) := dk_182 0 236 (dk_at dksX7_put_1 9 rfl rfl)
theorem dX7_put_36 : decode cX7_put 36 = .ok (.if_icmp .ge 61, 3) := dk_162 0 61 (dk_at dksX7_put_1 12 rfl rfl)
theorem dX7_put_39 : decode cX7_put 39 = .ok (.iload_n 1, 1) := dk_27 (dk_at dksX7_put_1 15 rfl rfl)
theorem dX7_put_40 : decode cX7_put 40 = .ok (.aload_n 0, 1) := dk_42 (dk_at dksX7_put_1 16 rfl rfl)
theorem dX7_put_41 : decode cX7_put 41 = .ok (.getfield 43, 3) := dk_180 0 43 (dk_at dksX7_put_1 17 rfl rfl)
theorem dX7_put_44 : decode cX7_put 44 = .ok (.iconst 4, 1) := dk_7 (dk_at dksX7_put_1 20 rfl rfl)
theorem dX7_put_45 : decode cX7_put 45 = .ok (.iload_n 3, 1) := dk_29 (dk_at dksX7_put_1 21 rfl rfl)
theorem dX7_put_46 : decode cX7_put 46 = .ok (.imul, 1) := dk_104 (dk_at dksX7_put_1 22 rfl rfl)
theorem dX7_put_47 : decode cX7_put 47 = .ok (.iaload, 1) := dk_46 (dk_at dksX7_put_1 23 rfl rfl)
theorem dX7_put_48 : decode cX7_put 48 = .ok (.aload_n 0, 1) := dk_42 (dk_at dksX7_put_2 0 rfl rfl)
theorem dX7_put_49 : decode cX7_put 49 = .ok (.getfield 43, 3) := dk_180 0 43 (dk_at dksX7_put_2 1 rfl rfl)
theorem dX7_put_52 : decode cX7_put 52 = .ok (.iconst 4, 1) := dk_7 (dk_at dksX7_put_2 4 rfl rfl)
theorem dX7_put_53 : decode cX7_put 53 = .ok (.iload_n 2, 1) := dk_28 (dk_at dksX7_put_2 5 rfl rfl)
theorem dX7_put_54 : decode cX7_put 54 = .ok (.imul, 1) := dk_104 (dk_at dksX7_put_2 6 rfl rfl)
theorem dX7_put_55 : decode cX7_put 55 = .ok (.iaload, 1) := dk_46 (dk_at dksX7_put_2 7 rfl rfl)
theorem dX7_put_56 : decode cX7_put 56 = .ok (.if_icmp .ne 32, 3) := dk_160 0 32 (dk_at dksX7_put_2 8 rfl rfl)
theorem dX7_put_59 : decode cX7_put 59 = .ok (.aload_n 0, 1) := dk_42 (dk_at dksX7_put_2 11 rfl rfl)
theorem dX7_put_60 : decode cX7_put 60 = .ok (.getfield 43, 3) := dk_180 0 43 (dk_at dksX7_put_2 12 rfl rfl)
theorem dX7_put_63 : decode cX7_put 63 = .ok (.iconst 4, 1) := dk_7 (dk_at dksX7_put_2 15 rfl rfl)
theorem dX7_put_64 : decode cX7_put 64 = .ok (.iload_n 3, 1) := dk_29 (dk_at dksX7_put_2 16 rfl rfl)
theorem dX7_put_65 : decode cX7_put 65 = .ok (.imul, 1) := dk_104 (dk_at dksX7_put_2 17 rfl rfl)
theorem dX7_put_66 : decode cX7_put 66 = .ok (.iconst 2, 1) := dk_5 (dk_at dksX7_put_2 18 rfl rfl)
theorem dX7_put_67 : decode cX7_put 67 = .ok (.iadd, 1) := dk_96 (dk_at dksX7_put_2 19 rfl rfl)
theorem dX7_put_68 : decode cX7_put 68 = .ok (.iaload, 1) := dk_46 (dk_at dksX7_put_2 20 rfl rfl)
theorem dX7_put_69 : decode cX7_put 69 = .ok (.aload_n 0, 1) := dk_42 (dk_at dksX7_put_2 21 rfl rfl)
theorem dX7_put_70 : decode cX7_put 70 = .ok (.getfield 43, 3) := dk_180 0 43 (dk_at dksX7_put_3 0 rfl rfl)
theorem dX7_put_73 : decode cX7_put 73 = .ok (.iconst 4, 1) := dk_7 (dk_at dksX7_put_3 3 rfl rfl)
theorem dX7_put_74 : decode cX7_put 74 = .ok (.iload_n 2, 1) := dk_28 (dk_at dksX7_put_3 4 rfl rfl)
theorem dX7_put_75 : decode cX7_put 75 = .ok (.imul, 1) := dk_104 (dk_at dksX7_put_3 5 rfl rfl)
theorem dX7_put_76 : decode cX7_put 76 = .ok (.iconst 2, 1) := dk_5 (dk_at dksX7_put_3 6 rfl rfl)
theorem dX7_put_77 : decode cX7_put 77 = .ok (.iadd, 1) := dk_96 (dk_at dksX7_put_3 7 rfl rfl)
theorem dX7_put_78 : decode cX7_put 78 = .ok (.iaload, 1) := dk_46 (dk_at dksX7_put_3 8 rfl rfl)
theorem dX7_put_79 : decode cX7_put 79 = .ok (.if_icmp .ge 9, 3) := dk_162 0 9 (dk_at dksX7_put_3 9 rfl rfl)
theorem dX7_put_82 : decode cX7_put 82 = .ok (.iconst 1, 1) := dk_4 (dk_at dksX7_put_3 12 rfl rfl)
theorem dX7_put_83 : decode cX7_put 83 = .ok (.iload_n 2, 1) := dk_28 (dk_at dksX7_put_3 13 rfl rfl)
theorem dX7_put_84 : decode cX7_put 84 = .ok (.ishl, 1) := dk_120 (dk_at dksX7_put_3 14 rfl rfl)
theorem dX7_put_85 : decode cX7_put 85 = .ok (.goto 4, 3) := dk_167 0 4 (dk_at dksX7_put_3 15 rfl rfl)
theorem dX7_put_88 : decode cX7_put 88 = .ok (.iconst 0, 1) := dk_3 (dk_at dksX7_put_3 18 rfl rfl)
theorem dX7_put_89 : decode cX7_put 89 = .ok (.ior, 1) := dk_128 (dk_at dksX7_put_3 19 rfl rfl)
theorem dX7_put_90 : decode cX7_put 90 = .ok (.istore_n 1, 1) := dk_60 (dk_at dksX7_put_3 20 rfl rfl)
theorem dX7_put_91 : decode cX7_put 91 = .ok (.iinc 3 1, 3) := dk_132 3 1 (dk_at dksX7_put_3 21 rfl rfl)
theorem dX7_put_94 : decode cX7_put 94 = .ok (.goto (-63), 3) := dk_167 255 193 (dk_at dksX7_put_4 0 rfl rfl)
theorem dX7_put_97 : decode cX7_put 97 = .ok (.iinc 2 1, 3) := dk_132 2 1 (dk_at dksX7_put_4 3 rfl rfl)
theorem dX7_put_100 : decode cX7_put 100 = .ok (.goto (-81), 3) := dk_167 255 175 (dk_at dksX7_put_4 6 rfl rfl)
theorem dX7_put_103 : decode cX7_put 103 = .ok (.iload_n 1, 1) := dk_27 (dk_at dksX7_put_4 9 rfl rfl)
theorem dX7_put_104 : decode cX7_put 104 = .ok (.ireturn, 1) := dk_172 (dk_at dksX7_put_4 10 rfl rfl)
abbrev cX7_lies : ByteArray := prog_12_method_90_code
def yX7_lies : MethodName := ⟨RX7, "lies", "()I"⟩
def dkwX7_lies_2 : List UInt8 := [160, 0, 7, 3, 167, 0, 6, 4, 28, 120, 128, 60, 132, 2, 1, 167, 255, 212, 27, 172]
abbrev dktX7_lies_2 : List UInt8 := dkwX7_lies_2 ++ []
def dkwX7_lies_1 : List UInt8 := [162, 0, 42, 27, 42, 180, 0, 43, 7, 28, 104, 5, 96, 46, 42, 180, 0, 43, 7, 28, 104, 6, 96, 46]
abbrev dktX7_lies_1 : List UInt8 := dkwX7_lies_1 ++ dktX7_lies_2
def dkwX7_lies_0 : List UInt8 := [42, 3, 181, 0, 74, 42, 182, 0, 240, 154, 0, 6, 16, 254, 172, 3, 60, 3, 61, 28, 42, 182, 0, 236]
abbrev dktX7_lies_0 : List UInt8 := dkwX7_lies_0 ++ dktX7_lies_1
theorem dksX7_lies_0 : cX7_lies.data.toList.drop 0 = dktX7_lies_0 := by decide +kernel
theorem dksX7_lies_1 : cX7_lies.data.toList.drop 24 = dktX7_lies_1 := dk_seg dksX7_lies_0 24 rfl rfl
theorem dksX7_lies_2 : cX7_lies.data.toList.drop 48 = dktX7_lies_2 := dk_seg dksX7_lies_1 24 rfl rfl
theorem dX7_lies_0 : decode cX7_lies 0 = .ok (.aload_n 0, 1) := dk_42 (dk_at dksX7_lies_0 0 rfl rfl)
theorem dX7_lies_1 : decode cX7_lies 1 = .ok (.iconst 0, 1) := dk_3 (dk_at dksX7_lies_0 1 rfl rfl)
theorem dX7_lies_2 : decode cX7_lies 2 = .ok (.putfield 74, 3) := dk_181 0 74 (dk_at dksX7_lies_0 2 rfl rfl)
theorem dX7_lies_5 : decode cX7_lies 5 = .ok (.aload_n 0, 1) := dk_42 (dk_at dksX7_lies_0 5 rfl rfl)
theorem dX7_lies_6 : decode cX7_lies 6 = .ok (.invokevirtual 240, 3) := dk_182 0 240 (dk_at dksX7_lies_0 6 rfl rfl)
theorem dX7_lies_9 : decode cX7_lies 9 = .ok (.ifCond .ne 6, 3) := dk_154 0 6 (dk_at dksX7_lies_0 9 rfl rfl)
theorem dX7_lies_12 : decode cX7_lies 12 = .ok (.bipush (-2), 2) := dk_16 254 (dk_at dksX7_lies_0 12 rfl rfl)
theorem dX7_lies_14 : decode cX7_lies 14 = .ok (.ireturn, 1) := dk_172 (dk_at dksX7_lies_0 14 rfl rfl)
theorem dX7_lies_15 : decode cX7_lies 15 = .ok (.iconst 0, 1) := dk_3 (dk_at dksX7_lies_0 15 rfl rfl)
theorem dX7_lies_16 : decode cX7_lies 16 = .ok (.istore_n 1, 1) := dk_60 (dk_at dksX7_lies_0 16 rfl rfl)
theorem dX7_lies_17 : decode cX7_lies 17 = .ok (.iconst 0, 1) := dk_3 (dk_at dksX7_lies_0 17 rfl rfl)
theorem dX7_lies_18 : decode cX7_lies 18 = .ok (.istore_n 2, 1) := dk_61 (dk_at dksX7_lies_0 18 rfl rfl)
theorem dX7_lies_19 : decode cX7_lies 19 = .ok (.iload_n 2, 1) := dk_28 (dk_at dksX7_lies_0 19 rfl rfl)
theorem dX7_lies_20 : decode cX7_lies 20 = .ok (.aload_n 0, 1) := dk_42 (dk_at dksX7_lies_0 20 rfl rfl)
theorem dX7_lies_21 : decode cX7_lies 21 = .ok (.invokevirtual 236, 3) := dk_182 0 236 (dk_at dksX7_lies_0 21 rfl rfl)
theorem dX7_lies_24 : decode cX7_lies 24 = .ok (.if_icmp .ge 42, 3) := dk_162 0 42 (dk_at dksX7_lies_1 0 rfl rfl)
theorem dX7_lies_27 : decode cX7_lies 27 = .ok (.iload_n 1, 1) := dk_27 (dk_at dksX7_lies_1 3 rfl rfl)
theorem dX7_lies_28 : decode cX7_lies 28 = .ok (.aload_n 0, 1) := dk_42 (dk_at dksX7_lies_1 4 rfl rfl)
theorem dX7_lies_29 : decode cX7_lies 29 = .ok (.getfield 43, 3) := dk_180 0 43 (dk_at dksX7_lies_1 5 rfl rfl)
theorem dX7_lies_32 : decode cX7_lies 32 = .ok (.iconst 4, 1) := dk_7 (dk_at dksX7_lies_1 8 rfl rfl)
theorem dX7_lies_33 : decode cX7_lies 33 = .ok (.iload_n 2, 1) := dk_28 (dk_at dksX7_lies_1 9 rfl rfl)
theorem dX7_lies_34 : decode cX7_lies 34 = .ok (.imul, 1) := dk_104 (dk_at dksX7_lies_1 10 rfl rfl)
theorem dX7_lies_35 : decode cX7_lies 35 = .ok (.iconst 2, 1) := dk_5 (dk_at dksX7_lies_1 11 rfl rfl)
theorem dX7_lies_36 : decode cX7_lies 36 = .ok (.iadd, 1) := dk_96 (dk_at dksX7_lies_1 12 rfl rfl)
theorem dX7_lies_37 : decode cX7_lies 37 = .ok (.iaload, 1) := dk_46 (dk_at dksX7_lies_1 13 rfl rfl)
theorem dX7_lies_38 : decode cX7_lies 38 = .ok (.aload_n 0, 1) := dk_42 (dk_at dksX7_lies_1 14 rfl rfl)
theorem dX7_lies_39 : decode cX7_lies 39 = .ok (.getfield 43, 3) := dk_180 0 43 (dk_at dksX7_lies_1 15 rfl rfl)
theorem dX7_lies_42 : decode cX7_lies 42 = .ok (.iconst 4, 1) := dk_7 (dk_at dksX7_lies_1 18 rfl rfl)
theorem dX7_lies_43 : decode cX7_lies 43 = .ok (.iload_n 2, 1) := dk_28 (dk_at dksX7_lies_1 19 rfl rfl)
theorem dX7_lies_44 : decode cX7_lies 44 = .ok (.imul, 1) := dk_104 (dk_at dksX7_lies_1 20 rfl rfl)
theorem dX7_lies_45 : decode cX7_lies 45 = .ok (.iconst 3, 1) := dk_6 (dk_at dksX7_lies_1 21 rfl rfl)
theorem dX7_lies_46 : decode cX7_lies 46 = .ok (.iadd, 1) := dk_96 (dk_at dksX7_lies_1 22 rfl rfl)
theorem dX7_lies_47 : decode cX7_lies 47 = .ok (.iaload, 1) := dk_46 (dk_at dksX7_lies_1 23 rfl rfl)
theorem dX7_lies_48 : decode cX7_lies 48 = .ok (.if_icmp .ne 7, 3) := dk_160 0 7 (dk_at dksX7_lies_2 0 rfl rfl)
theorem dX7_lies_51 : decode cX7_lies 51 = .ok (.iconst 0, 1) := dk_3 (dk_at dksX7_lies_2 3 rfl rfl)
theorem dX7_lies_52 : decode cX7_lies 52 = .ok (.goto 6, 3) := dk_167 0 6 (dk_at dksX7_lies_2 4 rfl rfl)
theorem dX7_lies_55 : decode cX7_lies 55 = .ok (.iconst 1, 1) := dk_4 (dk_at dksX7_lies_2 7 rfl rfl)
theorem dX7_lies_56 : decode cX7_lies 56 = .ok (.iload_n 2, 1) := dk_28 (dk_at dksX7_lies_2 8 rfl rfl)
theorem dX7_lies_57 : decode cX7_lies 57 = .ok (.ishl, 1) := dk_120 (dk_at dksX7_lies_2 9 rfl rfl)
theorem dX7_lies_58 : decode cX7_lies 58 = .ok (.ior, 1) := dk_128 (dk_at dksX7_lies_2 10 rfl rfl)
theorem dX7_lies_59 : decode cX7_lies 59 = .ok (.istore_n 1, 1) := dk_60 (dk_at dksX7_lies_2 11 rfl rfl)
theorem dX7_lies_60 : decode cX7_lies 60 = .ok (.iinc 2 1, 3) := dk_132 2 1 (dk_at dksX7_lies_2 12 rfl rfl)
theorem dX7_lies_63 : decode cX7_lies 63 = .ok (.goto (-44), 3) := dk_167 255 212 (dk_at dksX7_lies_2 15 rfl rfl)
theorem dX7_lies_66 : decode cX7_lies 66 = .ok (.iload_n 1, 1) := dk_27 (dk_at dksX7_lies_2 18 rfl rfl)
theorem dX7_lies_67 : decode cX7_lies 67 = .ok (.ireturn, 1) := dk_172 (dk_at dksX7_lies_2 19 rfl rfl)
abbrev cX7_passes : ByteArray := prog_12_method_93_code
def yX7_passes : MethodName := ⟨RX7, "passes", "(II)I"⟩
def dkwX7_passes_1 : List UInt8 := [182, 1, 107, 172]
abbrev dktX7_passes_1 : List UInt8 := dkwX7_passes_1 ++ []
def dkwX7_passes_0 : List UInt8 := [42, 3, 181, 0, 74, 42, 27, 28, 182, 1, 78, 154, 0, 6, 16, 254, 172, 42, 182, 1, 81, 42, 27, 28]
abbrev dktX7_passes_0 : List UInt8 := dkwX7_passes_0 ++ dktX7_passes_1
theorem dksX7_passes_0 : cX7_passes.data.toList.drop 0 = dktX7_passes_0 := by decide +kernel
theorem dksX7_passes_1 : cX7_passes.data.toList.drop 24 = dktX7_passes_1 := dk_seg dksX7_passes_0 24 rfl rfl
theorem dX7_passes_0 : decode cX7_passes 0 = .ok (.aload_n 0, 1) := dk_42 (dk_at dksX7_passes_0 0 rfl rfl)
theorem dX7_passes_1 : decode cX7_passes 1 = .ok (.iconst 0, 1) := dk_3 (dk_at dksX7_passes_0 1 rfl rfl)
theorem dX7_passes_2 : decode cX7_passes 2 = .ok (.putfield 74, 3) := dk_181 0 74 (dk_at dksX7_passes_0 2 rfl rfl)
theorem dX7_passes_5 : decode cX7_passes 5 = .ok (.aload_n 0, 1) := dk_42 (dk_at dksX7_passes_0 5 rfl rfl)
theorem dX7_passes_6 : decode cX7_passes 6 = .ok (.iload_n 1, 1) := dk_27 (dk_at dksX7_passes_0 6 rfl rfl)
theorem dX7_passes_7 : decode cX7_passes 7 = .ok (.iload_n 2, 1) := dk_28 (dk_at dksX7_passes_0 7 rfl rfl)
theorem dX7_passes_8 : decode cX7_passes 8 = .ok (.invokevirtual 334, 3) := dk_182 1 78 (dk_at dksX7_passes_0 8 rfl rfl)
theorem dX7_passes_11 : decode cX7_passes 11 = .ok (.ifCond .ne 6, 3) := dk_154 0 6 (dk_at dksX7_passes_0 11 rfl rfl)
theorem dX7_passes_14 : decode cX7_passes 14 = .ok (.bipush (-2), 2) := dk_16 254 (dk_at dksX7_passes_0 14 rfl rfl)
theorem dX7_passes_16 : decode cX7_passes 16 = .ok (.ireturn, 1) := dk_172 (dk_at dksX7_passes_0 16 rfl rfl)
theorem dX7_passes_17 : decode cX7_passes 17 = .ok (.aload_n 0, 1) := dk_42 (dk_at dksX7_passes_0 17 rfl rfl)
theorem dX7_passes_18 : decode cX7_passes 18 = .ok (.invokevirtual 337, 3) := dk_182 1 81 (dk_at dksX7_passes_0 18 rfl rfl)
theorem dX7_passes_21 : decode cX7_passes 21 = .ok (.aload_n 0, 1) := dk_42 (dk_at dksX7_passes_0 21 rfl rfl)
theorem dX7_passes_22 : decode cX7_passes 22 = .ok (.iload_n 1, 1) := dk_27 (dk_at dksX7_passes_0 22 rfl rfl)
theorem dX7_passes_23 : decode cX7_passes 23 = .ok (.iload_n 2, 1) := dk_28 (dk_at dksX7_passes_0 23 rfl rfl)
theorem dX7_passes_24 : decode cX7_passes 24 = .ok (.invokevirtual 363, 3) := dk_182 1 107 (dk_at dksX7_passes_1 0 rfl rfl)
theorem dX7_passes_27 : decode cX7_passes 27 = .ok (.ireturn, 1) := dk_172 (dk_at dksX7_passes_1 3 rfl rfl)
abbrev cX7_passesOf : ByteArray := prog_12_method_92_code
def yX7_passesOf : MethodName := ⟨RX7, "passesOf", "(II)I"⟩
def dkwX7_passesOf_2 : List UInt8 := [160, 0, 10, 4, 21, 4, 120, 167, 0, 4, 3, 128, 62, 132, 4, 1, 167, 255, 197, 29, 172]
abbrev dktX7_passesOf_2 : List UInt8 := dkwX7_passesOf_2 ++ []
def dkwX7_passesOf_1 : List UInt8 := [21, 4, 42, 180, 0, 43, 7, 27, 104, 46, 42, 180, 0, 43, 7, 27, 104, 6, 96, 46, 28, 182, 1, 103]
abbrev dktX7_passesOf_1 : List UInt8 := dkwX7_passesOf_1 ++ dktX7_passesOf_2
def dkwX7_passesOf_0 : List UInt8 := [3, 62, 3, 54, 4, 21, 4, 42, 180, 0, 34, 6, 46, 162, 0, 54, 29, 42, 27, 28, 182, 1, 27, 42]
abbrev dktX7_passesOf_0 : List UInt8 := dkwX7_passesOf_0 ++ dktX7_passesOf_1
theorem dksX7_passesOf_0 : cX7_passesOf.data.toList.drop 0 = dktX7_passesOf_0 := by decide +kernel
theorem dksX7_passesOf_1 : cX7_passesOf.data.toList.drop 24 = dktX7_passesOf_1 := dk_seg dksX7_passesOf_0 24 rfl rfl
theorem dksX7_passesOf_2 : cX7_passesOf.data.toList.drop 48 = dktX7_passesOf_2 := dk_seg dksX7_passesOf_1 24 rfl rfl
theorem dX7_passesOf_0 : decode cX7_passesOf 0 = .ok (.iconst 0, 1) := dk_3 (dk_at dksX7_passesOf_0 0 rfl rfl)
theorem dX7_passesOf_1 : decode cX7_passesOf 1 = .ok (.istore_n 3, 1) := dk_62 (dk_at dksX7_passesOf_0 1 rfl rfl)
theorem dX7_passesOf_2 : decode cX7_passesOf 2 = .ok (.iconst 0, 1) := dk_3 (dk_at dksX7_passesOf_0 2 rfl rfl)
theorem dX7_passesOf_3 : decode cX7_passesOf 3 = .ok (.istore 4, 2) := dk_54 4 (dk_at dksX7_passesOf_0 3 rfl rfl)
theorem dX7_passesOf_5 : decode cX7_passesOf 5 = .ok (.iload 4, 2) := dk_21 4 (dk_at dksX7_passesOf_0 5 rfl rfl)
theorem dX7_passesOf_7 : decode cX7_passesOf 7 = .ok (.aload_n 0, 1) := dk_42 (dk_at dksX7_passesOf_0 7 rfl rfl)
theorem dX7_passesOf_8 : decode cX7_passesOf 8 = .ok (.getfield 34, 3) := dk_180 0 34 (dk_at dksX7_passesOf_0 8 rfl rfl)
theorem dX7_passesOf_11 : decode cX7_passesOf 11 = .ok (.iconst 3, 1) := dk_6 (dk_at dksX7_passesOf_0 11 rfl rfl)
theorem dX7_passesOf_12 : decode cX7_passesOf 12 = .ok (.iaload, 1) := dk_46 (dk_at dksX7_passesOf_0 12 rfl rfl)
theorem dX7_passesOf_13 : decode cX7_passesOf 13 = .ok (.if_icmp .ge 54, 3) := dk_162 0 54 (dk_at dksX7_passesOf_0 13 rfl rfl)
theorem dX7_passesOf_16 : decode cX7_passesOf 16 = .ok (.iload_n 3, 1) := dk_29 (dk_at dksX7_passesOf_0 16 rfl rfl)
theorem dX7_passesOf_17 : decode cX7_passesOf 17 = .ok (.aload_n 0, 1) := dk_42 (dk_at dksX7_passesOf_0 17 rfl rfl)
theorem dX7_passesOf_18 : decode cX7_passesOf 18 = .ok (.iload_n 1, 1) := dk_27 (dk_at dksX7_passesOf_0 18 rfl rfl)
theorem dX7_passesOf_19 : decode cX7_passesOf 19 = .ok (.iload_n 2, 1) := dk_28 (dk_at dksX7_passesOf_0 19 rfl rfl)
theorem dX7_passesOf_20 : decode cX7_passesOf 20 = .ok (.invokevirtual 283, 3) := dk_182 1 27 (dk_at dksX7_passesOf_0 20 rfl rfl)
theorem dX7_passesOf_23 : decode cX7_passesOf 23 = .ok (.aload_n 0, 1) := dk_42 (dk_at dksX7_passesOf_0 23 rfl rfl)
theorem dX7_passesOf_24 : decode cX7_passesOf 24 = .ok (.iload 4, 2) := dk_21 4 (dk_at dksX7_passesOf_1 0 rfl rfl)
theorem dX7_passesOf_26 : decode cX7_passesOf 26 = .ok (.aload_n 0, 1) := dk_42 (dk_at dksX7_passesOf_1 2 rfl rfl)
theorem dX7_passesOf_27 : decode cX7_passesOf 27 = .ok (.getfield 43, 3) := dk_180 0 43 (dk_at dksX7_passesOf_1 3 rfl rfl)
theorem dX7_passesOf_30 : decode cX7_passesOf 30 = .ok (.iconst 4, 1) := dk_7 (dk_at dksX7_passesOf_1 6 rfl rfl)
theorem dX7_passesOf_31 : decode cX7_passesOf 31 = .ok (.iload_n 1, 1) := dk_27 (dk_at dksX7_passesOf_1 7 rfl rfl)
theorem dX7_passesOf_32 : decode cX7_passesOf 32 = .ok (.imul, 1) := dk_104 (dk_at dksX7_passesOf_1 8 rfl rfl)
theorem dX7_passesOf_33 : decode cX7_passesOf 33 = .ok (.iaload, 1) := dk_46 (dk_at dksX7_passesOf_1 9 rfl rfl)
theorem dX7_passesOf_34 : decode cX7_passesOf 34 = .ok (.aload_n 0, 1) := dk_42 (dk_at dksX7_passesOf_1 10 rfl rfl)
theorem dX7_passesOf_35 : decode cX7_passesOf 35 = .ok (.getfield 43, 3) := dk_180 0 43 (dk_at dksX7_passesOf_1 11 rfl rfl)
theorem dX7_passesOf_38 : decode cX7_passesOf 38 = .ok (.iconst 4, 1) := dk_7 (dk_at dksX7_passesOf_1 14 rfl rfl)
theorem dX7_passesOf_39 : decode cX7_passesOf 39 = .ok (.iload_n 1, 1) := dk_27 (dk_at dksX7_passesOf_1 15 rfl rfl)
theorem dX7_passesOf_40 : decode cX7_passesOf 40 = .ok (.imul, 1) := dk_104 (dk_at dksX7_passesOf_1 16 rfl rfl)
theorem dX7_passesOf_41 : decode cX7_passesOf 41 = .ok (.iconst 3, 1) := dk_6 (dk_at dksX7_passesOf_1 17 rfl rfl)
theorem dX7_passesOf_42 : decode cX7_passesOf 42 = .ok (.iadd, 1) := dk_96 (dk_at dksX7_passesOf_1 18 rfl rfl)
theorem dX7_passesOf_43 : decode cX7_passesOf 43 = .ok (.iaload, 1) := dk_46 (dk_at dksX7_passesOf_1 19 rfl rfl)
theorem dX7_passesOf_44 : decode cX7_passesOf 44 = .ok (.iload_n 2, 1) := dk_28 (dk_at dksX7_passesOf_1 20 rfl rfl)
theorem dX7_passesOf_45 : decode cX7_passesOf 45 = .ok (.invokevirtual 359, 3) := dk_182 1 103 (dk_at dksX7_passesOf_1 21 rfl rfl)
theorem dX7_passesOf_48 : decode cX7_passesOf 48 = .ok (.if_icmp .ne 10, 3) := dk_160 0 10 (dk_at dksX7_passesOf_2 0 rfl rfl)
theorem dX7_passesOf_51 : decode cX7_passesOf 51 = .ok (.iconst 1, 1) := dk_4 (dk_at dksX7_passesOf_2 3 rfl rfl)
theorem dX7_passesOf_52 : decode cX7_passesOf 52 = .ok (.iload 4, 2) := dk_21 4 (dk_at dksX7_passesOf_2 4 rfl rfl)
theorem dX7_passesOf_54 : decode cX7_passesOf 54 = .ok (.ishl, 1) := dk_120 (dk_at dksX7_passesOf_2 6 rfl rfl)
theorem dX7_passesOf_55 : decode cX7_passesOf 55 = .ok (.goto 4, 3) := dk_167 0 4 (dk_at dksX7_passesOf_2 7 rfl rfl)
theorem dX7_passesOf_58 : decode cX7_passesOf 58 = .ok (.iconst 0, 1) := dk_3 (dk_at dksX7_passesOf_2 10 rfl rfl)
theorem dX7_passesOf_59 : decode cX7_passesOf 59 = .ok (.ior, 1) := dk_128 (dk_at dksX7_passesOf_2 11 rfl rfl)
theorem dX7_passesOf_60 : decode cX7_passesOf 60 = .ok (.istore_n 3, 1) := dk_62 (dk_at dksX7_passesOf_2 12 rfl rfl)
theorem dX7_passesOf_61 : decode cX7_passesOf 61 = .ok (.iinc 4 1, 3) := dk_132 4 1 (dk_at dksX7_passesOf_2 13 rfl rfl)
theorem dX7_passesOf_64 : decode cX7_passesOf 64 = .ok (.goto (-59), 3) := dk_167 255 197 (dk_at dksX7_passesOf_2 16 rfl rfl)
theorem dX7_passesOf_67 : decode cX7_passesOf 67 = .ok (.iload_n 3, 1) := dk_29 (dk_at dksX7_passesOf_2 19 rfl rfl)
theorem dX7_passesOf_68 : decode cX7_passesOf 68 = .ok (.ireturn, 1) := dk_172 (dk_at dksX7_passesOf_2 20 rfl rfl)
abbrev cX7_alone : ByteArray := prog_12_method_91_code
def yX7_alone : MethodName := ⟨RX7, "alone", "(IIII)I"⟩
def dkwX7_alone_7 : List UInt8 := [100, 184, 1, 24, 54, 5, 132, 7, 1, 167, 255, 144, 21, 5, 172]
abbrev dktX7_alone_7 : List UInt8 := dkwX7_alone_7 ++ []
def dkwX7_alone_6 : List UInt8 := [4, 46, 42, 180, 0, 37, 6, 27, 104, 5, 96, 46, 42, 180, 0, 40, 28, 46, 3, 21, 7, 184, 1, 30]
abbrev dktX7_alone_6 : List UInt8 := dkwX7_alone_6 ++ dktX7_alone_7
def dkwX7_alone_5 : List UInt8 := [42, 180, 0, 37, 6, 27, 104, 46, 96, 184, 1, 21, 54, 5, 167, 0, 40, 3, 21, 5, 42, 180, 0, 34]
abbrev dktX7_alone_5 : List UInt8 := dkwX7_alone_5 ++ dktX7_alone_6
def dkwX7_alone_4 : List UInt8 := [96, 46, 162, 0, 7, 4, 167, 0, 4, 3, 54, 6, 42, 180, 0, 37, 6, 27, 104, 4, 96, 46, 21, 5]
abbrev dktX7_alone_4 : List UInt8 := dkwX7_alone_4 ++ dktX7_alone_5
def dkwX7_alone_3 : List UInt8 := [21, 6, 153, 0, 63, 21, 5, 42, 180, 0, 37, 6, 27, 104, 46, 96, 42, 180, 0, 37, 6, 27, 104, 4]
abbrev dktX7_alone_3 : List UInt8 := dkwX7_alone_3 ++ dktX7_alone_4
def dkwX7_alone_2 : List UInt8 := [46, 162, 0, 7, 4, 167, 0, 4, 3, 54, 6, 29, 4, 96, 54, 7, 21, 7, 21, 4, 163, 0, 111]
abbrev dktX7_alone_2 : List UInt8 := dkwX7_alone_2 ++ dktX7_alone_3
def dkwX7_alone_1 : List UInt8 := [96, 46, 184, 1, 21, 54, 5, 42, 180, 0, 37, 6, 27, 104, 46, 42, 180, 0, 37, 6, 27, 104, 4, 96]
abbrev dktX7_alone_1 : List UInt8 := dkwX7_alone_1 ++ dktX7_alone_2
def dkwX7_alone_0 : List UInt8 := [29, 21, 4, 164, 0, 5, 3, 172, 42, 180, 0, 37, 6, 27, 104, 46, 42, 180, 0, 37, 6, 27, 104, 4]
abbrev dktX7_alone_0 : List UInt8 := dkwX7_alone_0 ++ dktX7_alone_1
theorem dksX7_alone_0 : cX7_alone.data.toList.drop 0 = dktX7_alone_0 := by decide +kernel
theorem dksX7_alone_1 : cX7_alone.data.toList.drop 24 = dktX7_alone_1 := dk_seg dksX7_alone_0 24 rfl rfl
theorem dksX7_alone_2 : cX7_alone.data.toList.drop 48 = dktX7_alone_2 := dk_seg dksX7_alone_1 24 rfl rfl
theorem dksX7_alone_3 : cX7_alone.data.toList.drop 71 = dktX7_alone_3 := dk_seg dksX7_alone_2 23 rfl rfl
theorem dksX7_alone_4 : cX7_alone.data.toList.drop 95 = dktX7_alone_4 := dk_seg dksX7_alone_3 24 rfl rfl
theorem dksX7_alone_5 : cX7_alone.data.toList.drop 119 = dktX7_alone_5 := dk_seg dksX7_alone_4 24 rfl rfl
theorem dksX7_alone_6 : cX7_alone.data.toList.drop 143 = dktX7_alone_6 := dk_seg dksX7_alone_5 24 rfl rfl
theorem dksX7_alone_7 : cX7_alone.data.toList.drop 167 = dktX7_alone_7 := dk_seg dksX7_alone_6 24 rfl rfl
theorem dX7_alone_0 : decode cX7_alone 0 = .ok (.iload_n 3, 1) := dk_29 (dk_at dksX7_alone_0 0 rfl rfl)
theorem dX7_alone_1 : decode cX7_alone 1 = .ok (.iload 4, 2) := dk_21 4 (dk_at dksX7_alone_0 1 rfl rfl)
theorem dX7_alone_3 : decode cX7_alone 3 = .ok (.if_icmp .le 5, 3) := dk_164 0 5 (dk_at dksX7_alone_0 3 rfl rfl)
theorem dX7_alone_6 : decode cX7_alone 6 = .ok (.iconst 0, 1) := dk_3 (dk_at dksX7_alone_0 6 rfl rfl)
theorem dX7_alone_7 : decode cX7_alone 7 = .ok (.ireturn, 1) := dk_172 (dk_at dksX7_alone_0 7 rfl rfl)
theorem dX7_alone_8 : decode cX7_alone 8 = .ok (.aload_n 0, 1) := dk_42 (dk_at dksX7_alone_0 8 rfl rfl)
theorem dX7_alone_9 : decode cX7_alone 9 = .ok (.getfield 37, 3) := dk_180 0 37 (dk_at dksX7_alone_0 9 rfl rfl)
theorem dX7_alone_12 : decode cX7_alone 12 = .ok (.iconst 3, 1) := dk_6 (dk_at dksX7_alone_0 12 rfl rfl)
theorem dX7_alone_13 : decode cX7_alone 13 = .ok (.iload_n 1, 1) := dk_27 (dk_at dksX7_alone_0 13 rfl rfl)
theorem dX7_alone_14 : decode cX7_alone 14 = .ok (.imul, 1) := dk_104 (dk_at dksX7_alone_0 14 rfl rfl)
theorem dX7_alone_15 : decode cX7_alone 15 = .ok (.iaload, 1) := dk_46 (dk_at dksX7_alone_0 15 rfl rfl)
theorem dX7_alone_16 : decode cX7_alone 16 = .ok (.aload_n 0, 1) := dk_42 (dk_at dksX7_alone_0 16 rfl rfl)
theorem dX7_alone_17 : decode cX7_alone 17 = .ok (.getfield 37, 3) := dk_180 0 37 (dk_at dksX7_alone_0 17 rfl rfl)
theorem dX7_alone_20 : decode cX7_alone 20 = .ok (.iconst 3, 1) := dk_6 (dk_at dksX7_alone_0 20 rfl rfl)
theorem dX7_alone_21 : decode cX7_alone 21 = .ok (.iload_n 1, 1) := dk_27 (dk_at dksX7_alone_0 21 rfl rfl)
theorem dX7_alone_22 : decode cX7_alone 22 = .ok (.imul, 1) := dk_104 (dk_at dksX7_alone_0 22 rfl rfl)
theorem dX7_alone_23 : decode cX7_alone 23 = .ok (.iconst 1, 1) := dk_4 (dk_at dksX7_alone_0 23 rfl rfl)
theorem dX7_alone_24 : decode cX7_alone 24 = .ok (.iadd, 1) := dk_96 (dk_at dksX7_alone_1 0 rfl rfl)
theorem dX7_alone_25 : decode cX7_alone 25 = .ok (.iaload, 1) := dk_46 (dk_at dksX7_alone_1 1 rfl rfl)
theorem dX7_alone_26 : decode cX7_alone 26 = .ok (.invokestatic 277, 3) := dk_184 1 21 (dk_at dksX7_alone_1 2 rfl rfl)
theorem dX7_alone_29 : decode cX7_alone 29 = .ok (.istore 5, 2) := dk_54 5 (dk_at dksX7_alone_1 5 rfl rfl)
theorem dX7_alone_31 : decode cX7_alone 31 = .ok (.aload_n 0, 1) := dk_42 (dk_at dksX7_alone_1 7 rfl rfl)
theorem dX7_alone_32 : decode cX7_alone 32 = .ok (.getfield 37, 3) := dk_180 0 37 (dk_at dksX7_alone_1 8 rfl rfl)
theorem dX7_alone_35 : decode cX7_alone 35 = .ok (.iconst 3, 1) := dk_6 (dk_at dksX7_alone_1 11 rfl rfl)
theorem dX7_alone_36 : decode cX7_alone 36 = .ok (.iload_n 1, 1) := dk_27 (dk_at dksX7_alone_1 12 rfl rfl)
theorem dX7_alone_37 : decode cX7_alone 37 = .ok (.imul, 1) := dk_104 (dk_at dksX7_alone_1 13 rfl rfl)
theorem dX7_alone_38 : decode cX7_alone 38 = .ok (.iaload, 1) := dk_46 (dk_at dksX7_alone_1 14 rfl rfl)
theorem dX7_alone_39 : decode cX7_alone 39 = .ok (.aload_n 0, 1) := dk_42 (dk_at dksX7_alone_1 15 rfl rfl)
theorem dX7_alone_40 : decode cX7_alone 40 = .ok (.getfield 37, 3) := dk_180 0 37 (dk_at dksX7_alone_1 16 rfl rfl)
theorem dX7_alone_43 : decode cX7_alone 43 = .ok (.iconst 3, 1) := dk_6 (dk_at dksX7_alone_1 19 rfl rfl)
theorem dX7_alone_44 : decode cX7_alone 44 = .ok (.iload_n 1, 1) := dk_27 (dk_at dksX7_alone_1 20 rfl rfl)
theorem dX7_alone_45 : decode cX7_alone 45 = .ok (.imul, 1) := dk_104 (dk_at dksX7_alone_1 21 rfl rfl)
theorem dX7_alone_46 : decode cX7_alone 46 = .ok (.iconst 1, 1) := dk_4 (dk_at dksX7_alone_1 22 rfl rfl)
theorem dX7_alone_47 : decode cX7_alone 47 = .ok (.iadd, 1) := dk_96 (dk_at dksX7_alone_1 23 rfl rfl)
theorem dX7_alone_48 : decode cX7_alone 48 = .ok (.iaload, 1) := dk_46 (dk_at dksX7_alone_2 0 rfl rfl)
theorem dX7_alone_49 : decode cX7_alone 49 = .ok (.if_icmp .ge 7, 3) := dk_162 0 7 (dk_at dksX7_alone_2 1 rfl rfl)
theorem dX7_alone_52 : decode cX7_alone 52 = .ok (.iconst 1, 1) := dk_4 (dk_at dksX7_alone_2 4 rfl rfl)
theorem dX7_alone_53 : decode cX7_alone 53 = .ok (.goto 4, 3) := dk_167 0 4 (dk_at dksX7_alone_2 5 rfl rfl)
theorem dX7_alone_56 : decode cX7_alone 56 = .ok (.iconst 0, 1) := dk_3 (dk_at dksX7_alone_2 8 rfl rfl)
theorem dX7_alone_57 : decode cX7_alone 57 = .ok (.istore 6, 2) := dk_54 6 (dk_at dksX7_alone_2 9 rfl rfl)
theorem dX7_alone_59 : decode cX7_alone 59 = .ok (.iload_n 3, 1) := dk_29 (dk_at dksX7_alone_2 11 rfl rfl)
theorem dX7_alone_60 : decode cX7_alone 60 = .ok (.iconst 1, 1) := dk_4 (dk_at dksX7_alone_2 12 rfl rfl)
theorem dX7_alone_61 : decode cX7_alone 61 = .ok (.iadd, 1) := dk_96 (dk_at dksX7_alone_2 13 rfl rfl)
theorem dX7_alone_62 : decode cX7_alone 62 = .ok (.istore 7, 2) := dk_54 7 (dk_at dksX7_alone_2 14 rfl rfl)
theorem dX7_alone_64 : decode cX7_alone 64 = .ok (.iload 7, 2) := dk_21 7 (dk_at dksX7_alone_2 16 rfl rfl)
theorem dX7_alone_66 : decode cX7_alone 66 = .ok (.iload 4, 2) := dk_21 4 (dk_at dksX7_alone_2 18 rfl rfl)
theorem dX7_alone_68 : decode cX7_alone 68 = .ok (.if_icmp .gt 111, 3) := dk_163 0 111 (dk_at dksX7_alone_2 20 rfl rfl)
theorem dX7_alone_71 : decode cX7_alone 71 = .ok (.iload 6, 2) := dk_21 6 (dk_at dksX7_alone_3 0 rfl rfl)
theorem dX7_alone_73 : decode cX7_alone 73 = .ok (.ifCond .eq 63, 3) := dk_153 0 63 (dk_at dksX7_alone_3 2 rfl rfl)
theorem dX7_alone_76 : decode cX7_alone 76 = .ok (.iload 5, 2) := dk_21 5 (dk_at dksX7_alone_3 5 rfl rfl)
theorem dX7_alone_78 : decode cX7_alone 78 = .ok (.aload_n 0, 1) := dk_42 (dk_at dksX7_alone_3 7 rfl rfl)
theorem dX7_alone_79 : decode cX7_alone 79 = .ok (.getfield 37, 3) := dk_180 0 37 (dk_at dksX7_alone_3 8 rfl rfl)
theorem dX7_alone_82 : decode cX7_alone 82 = .ok (.iconst 3, 1) := dk_6 (dk_at dksX7_alone_3 11 rfl rfl)
theorem dX7_alone_83 : decode cX7_alone 83 = .ok (.iload_n 1, 1) := dk_27 (dk_at dksX7_alone_3 12 rfl rfl)
theorem dX7_alone_84 : decode cX7_alone 84 = .ok (.imul, 1) := dk_104 (dk_at dksX7_alone_3 13 rfl rfl)
theorem dX7_alone_85 : decode cX7_alone 85 = .ok (.iaload, 1) := dk_46 (dk_at dksX7_alone_3 14 rfl rfl)
theorem dX7_alone_86 : decode cX7_alone 86 = .ok (.iadd, 1) := dk_96 (dk_at dksX7_alone_3 15 rfl rfl)
theorem dX7_alone_87 : decode cX7_alone 87 = .ok (.aload_n 0, 1) := dk_42 (dk_at dksX7_alone_3 16 rfl rfl)
theorem dX7_alone_88 : decode cX7_alone 88 = .ok (.getfield 37, 3) := dk_180 0 37 (dk_at dksX7_alone_3 17 rfl rfl)
theorem dX7_alone_91 : decode cX7_alone 91 = .ok (.iconst 3, 1) := dk_6 (dk_at dksX7_alone_3 20 rfl rfl)
theorem dX7_alone_92 : decode cX7_alone 92 = .ok (.iload_n 1, 1) := dk_27 (dk_at dksX7_alone_3 21 rfl rfl)
theorem dX7_alone_93 : decode cX7_alone 93 = .ok (.imul, 1) := dk_104 (dk_at dksX7_alone_3 22 rfl rfl)
theorem dX7_alone_94 : decode cX7_alone 94 = .ok (.iconst 1, 1) := dk_4 (dk_at dksX7_alone_3 23 rfl rfl)
theorem dX7_alone_95 : decode cX7_alone 95 = .ok (.iadd, 1) := dk_96 (dk_at dksX7_alone_4 0 rfl rfl)
theorem dX7_alone_96 : decode cX7_alone 96 = .ok (.iaload, 1) := dk_46 (dk_at dksX7_alone_4 1 rfl rfl)
theorem dX7_alone_97 : decode cX7_alone 97 = .ok (.if_icmp .ge 7, 3) := dk_162 0 7 (dk_at dksX7_alone_4 2 rfl rfl)
theorem dX7_alone_100 : decode cX7_alone 100 = .ok (.iconst 1, 1) := dk_4 (dk_at dksX7_alone_4 5 rfl rfl)
theorem dX7_alone_101 : decode cX7_alone 101 = .ok (.goto 4, 3) := dk_167 0 4 (dk_at dksX7_alone_4 6 rfl rfl)
theorem dX7_alone_104 : decode cX7_alone 104 = .ok (.iconst 0, 1) := dk_3 (dk_at dksX7_alone_4 9 rfl rfl)
theorem dX7_alone_105 : decode cX7_alone 105 = .ok (.istore 6, 2) := dk_54 6 (dk_at dksX7_alone_4 10 rfl rfl)
theorem dX7_alone_107 : decode cX7_alone 107 = .ok (.aload_n 0, 1) := dk_42 (dk_at dksX7_alone_4 12 rfl rfl)
theorem dX7_alone_108 : decode cX7_alone 108 = .ok (.getfield 37, 3) := dk_180 0 37 (dk_at dksX7_alone_4 13 rfl rfl)
theorem dX7_alone_111 : decode cX7_alone 111 = .ok (.iconst 3, 1) := dk_6 (dk_at dksX7_alone_4 16 rfl rfl)
theorem dX7_alone_112 : decode cX7_alone 112 = .ok (.iload_n 1, 1) := dk_27 (dk_at dksX7_alone_4 17 rfl rfl)
theorem dX7_alone_113 : decode cX7_alone 113 = .ok (.imul, 1) := dk_104 (dk_at dksX7_alone_4 18 rfl rfl)
theorem dX7_alone_114 : decode cX7_alone 114 = .ok (.iconst 1, 1) := dk_4 (dk_at dksX7_alone_4 19 rfl rfl)
theorem dX7_alone_115 : decode cX7_alone 115 = .ok (.iadd, 1) := dk_96 (dk_at dksX7_alone_4 20 rfl rfl)
theorem dX7_alone_116 : decode cX7_alone 116 = .ok (.iaload, 1) := dk_46 (dk_at dksX7_alone_4 21 rfl rfl)
theorem dX7_alone_117 : decode cX7_alone 117 = .ok (.iload 5, 2) := dk_21 5 (dk_at dksX7_alone_4 22 rfl rfl)
theorem dX7_alone_119 : decode cX7_alone 119 = .ok (.aload_n 0, 1) := dk_42 (dk_at dksX7_alone_5 0 rfl rfl)
theorem dX7_alone_120 : decode cX7_alone 120 = .ok (.getfield 37, 3) := dk_180 0 37 (dk_at dksX7_alone_5 1 rfl rfl)
theorem dX7_alone_123 : decode cX7_alone 123 = .ok (.iconst 3, 1) := dk_6 (dk_at dksX7_alone_5 4 rfl rfl)
theorem dX7_alone_124 : decode cX7_alone 124 = .ok (.iload_n 1, 1) := dk_27 (dk_at dksX7_alone_5 5 rfl rfl)
theorem dX7_alone_125 : decode cX7_alone 125 = .ok (.imul, 1) := dk_104 (dk_at dksX7_alone_5 6 rfl rfl)
theorem dX7_alone_126 : decode cX7_alone 126 = .ok (.iaload, 1) := dk_46 (dk_at dksX7_alone_5 7 rfl rfl)
theorem dX7_alone_127 : decode cX7_alone 127 = .ok (.iadd, 1) := dk_96 (dk_at dksX7_alone_5 8 rfl rfl)
theorem dX7_alone_128 : decode cX7_alone 128 = .ok (.invokestatic 277, 3) := dk_184 1 21 (dk_at dksX7_alone_5 9 rfl rfl)
theorem dX7_alone_131 : decode cX7_alone 131 = .ok (.istore 5, 2) := dk_54 5 (dk_at dksX7_alone_5 12 rfl rfl)
theorem dX7_alone_133 : decode cX7_alone 133 = .ok (.goto 40, 3) := dk_167 0 40 (dk_at dksX7_alone_5 14 rfl rfl)
theorem dX7_alone_136 : decode cX7_alone 136 = .ok (.iconst 0, 1) := dk_3 (dk_at dksX7_alone_5 17 rfl rfl)
theorem dX7_alone_137 : decode cX7_alone 137 = .ok (.iload 5, 2) := dk_21 5 (dk_at dksX7_alone_5 18 rfl rfl)
theorem dX7_alone_139 : decode cX7_alone 139 = .ok (.aload_n 0, 1) := dk_42 (dk_at dksX7_alone_5 20 rfl rfl)
theorem dX7_alone_140 : decode cX7_alone 140 = .ok (.getfield 34, 3) := dk_180 0 34 (dk_at dksX7_alone_5 21 rfl rfl)
theorem dX7_alone_143 : decode cX7_alone 143 = .ok (.iconst 1, 1) := dk_4 (dk_at dksX7_alone_6 0 rfl rfl)
theorem dX7_alone_144 : decode cX7_alone 144 = .ok (.iaload, 1) := dk_46 (dk_at dksX7_alone_6 1 rfl rfl)
theorem dX7_alone_145 : decode cX7_alone 145 = .ok (.aload_n 0, 1) := dk_42 (dk_at dksX7_alone_6 2 rfl rfl)
theorem dX7_alone_146 : decode cX7_alone 146 = .ok (.getfield 37, 3) := dk_180 0 37 (dk_at dksX7_alone_6 3 rfl rfl)
theorem dX7_alone_149 : decode cX7_alone 149 = .ok (.iconst 3, 1) := dk_6 (dk_at dksX7_alone_6 6 rfl rfl)
theorem dX7_alone_150 : decode cX7_alone 150 = .ok (.iload_n 1, 1) := dk_27 (dk_at dksX7_alone_6 7 rfl rfl)
theorem dX7_alone_151 : decode cX7_alone 151 = .ok (.imul, 1) := dk_104 (dk_at dksX7_alone_6 8 rfl rfl)
theorem dX7_alone_152 : decode cX7_alone 152 = .ok (.iconst 2, 1) := dk_5 (dk_at dksX7_alone_6 9 rfl rfl)
theorem dX7_alone_153 : decode cX7_alone 153 = .ok (.iadd, 1) := dk_96 (dk_at dksX7_alone_6 10 rfl rfl)
theorem dX7_alone_154 : decode cX7_alone 154 = .ok (.iaload, 1) := dk_46 (dk_at dksX7_alone_6 11 rfl rfl)
theorem dX7_alone_155 : decode cX7_alone 155 = .ok (.aload_n 0, 1) := dk_42 (dk_at dksX7_alone_6 12 rfl rfl)
theorem dX7_alone_156 : decode cX7_alone 156 = .ok (.getfield 40, 3) := dk_180 0 40 (dk_at dksX7_alone_6 13 rfl rfl)
theorem dX7_alone_159 : decode cX7_alone 159 = .ok (.iload_n 2, 1) := dk_28 (dk_at dksX7_alone_6 16 rfl rfl)
theorem dX7_alone_160 : decode cX7_alone 160 = .ok (.iaload, 1) := dk_46 (dk_at dksX7_alone_6 17 rfl rfl)
theorem dX7_alone_161 : decode cX7_alone 161 = .ok (.iconst 0, 1) := dk_3 (dk_at dksX7_alone_6 18 rfl rfl)
theorem dX7_alone_162 : decode cX7_alone 162 = .ok (.iload 7, 2) := dk_21 7 (dk_at dksX7_alone_6 19 rfl rfl)
theorem dX7_alone_164 : decode cX7_alone 164 = .ok (.invokestatic 286, 3) := dk_184 1 30 (dk_at dksX7_alone_6 21 rfl rfl)
theorem dX7_alone_167 : decode cX7_alone 167 = .ok (.isub, 1) := dk_100 (dk_at dksX7_alone_7 0 rfl rfl)
theorem dX7_alone_168 : decode cX7_alone 168 = .ok (.invokestatic 280, 3) := dk_184 1 24 (dk_at dksX7_alone_7 1 rfl rfl)
theorem dX7_alone_171 : decode cX7_alone 171 = .ok (.istore 5, 2) := dk_54 5 (dk_at dksX7_alone_7 4 rfl rfl)
theorem dX7_alone_173 : decode cX7_alone 173 = .ok (.iinc 7 1, 3) := dk_132 7 1 (dk_at dksX7_alone_7 6 rfl rfl)
theorem dX7_alone_176 : decode cX7_alone 176 = .ok (.goto (-112), 3) := dk_167 255 144 (dk_at dksX7_alone_7 9 rfl rfl)
theorem dX7_alone_179 : decode cX7_alone 179 = .ok (.iload 5, 2) := dk_21 5 (dk_at dksX7_alone_7 12 rfl rfl)
theorem dX7_alone_181 : decode cX7_alone 181 = .ok (.ireturn, 1) := dk_172 (dk_at dksX7_alone_7 14 rfl rfl)
abbrev cX7_suspects : ByteArray := prog_12_method_94_code
def yX7_suspects : MethodName := ⟨RX7, "suspects", "(I)I"⟩
def dkwX7_suspects_2 : List UInt8 := [182, 1, 107, 154, 0, 9, 4, 29, 120, 167, 0, 4, 3, 128, 61, 132, 3, 1, 167, 255, 217, 28, 172]
abbrev dktX7_suspects_2 : List UInt8 := dkwX7_suspects_2 ++ []
def dkwX7_suspects_1 : List UInt8 := [62, 29, 42, 182, 0, 236, 162, 0, 37, 28, 42, 29, 27, 182, 1, 37, 153, 0, 18, 42, 29, 27]
abbrev dktX7_suspects_1 : List UInt8 := dkwX7_suspects_1 ++ dktX7_suspects_2
def dkwX7_suspects_0 : List UInt8 := [42, 3, 181, 0, 74, 42, 27, 133, 182, 0, 249, 154, 0, 6, 16, 254, 172, 42, 182, 1, 81, 3, 61, 3]
abbrev dktX7_suspects_0 : List UInt8 := dkwX7_suspects_0 ++ dktX7_suspects_1
theorem dksX7_suspects_0 : cX7_suspects.data.toList.drop 0 = dktX7_suspects_0 := by decide +kernel
theorem dksX7_suspects_1 : cX7_suspects.data.toList.drop 24 = dktX7_suspects_1 := dk_seg dksX7_suspects_0 24 rfl rfl
theorem dksX7_suspects_2 : cX7_suspects.data.toList.drop 46 = dktX7_suspects_2 := dk_seg dksX7_suspects_1 22 rfl rfl
theorem dX7_suspects_0 : decode cX7_suspects 0 = .ok (.aload_n 0, 1) := dk_42 (dk_at dksX7_suspects_0 0 rfl rfl)
theorem dX7_suspects_1 : decode cX7_suspects 1 = .ok (.iconst 0, 1) := dk_3 (dk_at dksX7_suspects_0 1 rfl rfl)
theorem dX7_suspects_2 : decode cX7_suspects 2 = .ok (.putfield 74, 3) := dk_181 0 74 (dk_at dksX7_suspects_0 2 rfl rfl)
theorem dX7_suspects_5 : decode cX7_suspects 5 = .ok (.aload_n 0, 1) := dk_42 (dk_at dksX7_suspects_0 5 rfl rfl)
theorem dX7_suspects_6 : decode cX7_suspects 6 = .ok (.iload_n 1, 1) := dk_27 (dk_at dksX7_suspects_0 6 rfl rfl)
theorem dX7_suspects_7 : decode cX7_suspects 7 = .ok (.i2l, 1) := dk_133 (dk_at dksX7_suspects_0 7 rfl rfl)
theorem dX7_suspects_8 : decode cX7_suspects 8 = .ok (.invokevirtual 249, 3) := dk_182 0 249 (dk_at dksX7_suspects_0 8 rfl rfl)
theorem dX7_suspects_11 : decode cX7_suspects 11 = .ok (.ifCond .ne 6, 3) := dk_154 0 6 (dk_at dksX7_suspects_0 11 rfl rfl)
theorem dX7_suspects_14 : decode cX7_suspects 14 = .ok (.bipush (-2), 2) := dk_16 254 (dk_at dksX7_suspects_0 14 rfl rfl)
theorem dX7_suspects_16 : decode cX7_suspects 16 = .ok (.ireturn, 1) := dk_172 (dk_at dksX7_suspects_0 16 rfl rfl)
theorem dX7_suspects_17 : decode cX7_suspects 17 = .ok (.aload_n 0, 1) := dk_42 (dk_at dksX7_suspects_0 17 rfl rfl)
theorem dX7_suspects_18 : decode cX7_suspects 18 = .ok (.invokevirtual 337, 3) := dk_182 1 81 (dk_at dksX7_suspects_0 18 rfl rfl)
theorem dX7_suspects_21 : decode cX7_suspects 21 = .ok (.iconst 0, 1) := dk_3 (dk_at dksX7_suspects_0 21 rfl rfl)
theorem dX7_suspects_22 : decode cX7_suspects 22 = .ok (.istore_n 2, 1) := dk_61 (dk_at dksX7_suspects_0 22 rfl rfl)
theorem dX7_suspects_23 : decode cX7_suspects 23 = .ok (.iconst 0, 1) := dk_3 (dk_at dksX7_suspects_0 23 rfl rfl)
theorem dX7_suspects_24 : decode cX7_suspects 24 = .ok (.istore_n 3, 1) := dk_62 (dk_at dksX7_suspects_1 0 rfl rfl)
theorem dX7_suspects_25 : decode cX7_suspects 25 = .ok (.iload_n 3, 1) := dk_29 (dk_at dksX7_suspects_1 1 rfl rfl)
theorem dX7_suspects_26 : decode cX7_suspects 26 = .ok (.aload_n 0, 1) := dk_42 (dk_at dksX7_suspects_1 2 rfl rfl)
theorem dX7_suspects_27 : decode cX7_suspects 27 = .ok (.invokevirtual 236, 3) := dk_182 0 236 (dk_at dksX7_suspects_1 3 rfl rfl)
theorem dX7_suspects_30 : decode cX7_suspects 30 = .ok (.if_icmp .ge 37, 3) := dk_162 0 37 (dk_at dksX7_suspects_1 6 rfl rfl)
theorem dX7_suspects_33 : decode cX7_suspects 33 = .ok (.iload_n 2, 1) := dk_28 (dk_at dksX7_suspects_1 9 rfl rfl)
theorem dX7_suspects_34 : decode cX7_suspects 34 = .ok (.aload_n 0, 1) := dk_42 (dk_at dksX7_suspects_1 10 rfl rfl)
theorem dX7_suspects_35 : decode cX7_suspects 35 = .ok (.iload_n 3, 1) := dk_29 (dk_at dksX7_suspects_1 11 rfl rfl)
theorem dX7_suspects_36 : decode cX7_suspects 36 = .ok (.iload_n 1, 1) := dk_27 (dk_at dksX7_suspects_1 12 rfl rfl)
theorem dX7_suspects_37 : decode cX7_suspects 37 = .ok (.invokevirtual 293, 3) := dk_182 1 37 (dk_at dksX7_suspects_1 13 rfl rfl)
theorem dX7_suspects_40 : decode cX7_suspects 40 = .ok (.ifCond .eq 18, 3) := dk_153 0 18 (dk_at dksX7_suspects_1 16 rfl rfl)
theorem dX7_suspects_43 : decode cX7_suspects 43 = .ok (.aload_n 0, 1) := dk_42 (dk_at dksX7_suspects_1 19 rfl rfl)
theorem dX7_suspects_44 : decode cX7_suspects 44 = .ok (.iload_n 3, 1) := dk_29 (dk_at dksX7_suspects_1 20 rfl rfl)
theorem dX7_suspects_45 : decode cX7_suspects 45 = .ok (.iload_n 1, 1) := dk_27 (dk_at dksX7_suspects_1 21 rfl rfl)
theorem dX7_suspects_46 : decode cX7_suspects 46 = .ok (.invokevirtual 363, 3) := dk_182 1 107 (dk_at dksX7_suspects_2 0 rfl rfl)
theorem dX7_suspects_49 : decode cX7_suspects 49 = .ok (.ifCond .ne 9, 3) := dk_154 0 9 (dk_at dksX7_suspects_2 3 rfl rfl)
theorem dX7_suspects_52 : decode cX7_suspects 52 = .ok (.iconst 1, 1) := dk_4 (dk_at dksX7_suspects_2 6 rfl rfl)
theorem dX7_suspects_53 : decode cX7_suspects 53 = .ok (.iload_n 3, 1) := dk_29 (dk_at dksX7_suspects_2 7 rfl rfl)
theorem dX7_suspects_54 : decode cX7_suspects 54 = .ok (.ishl, 1) := dk_120 (dk_at dksX7_suspects_2 8 rfl rfl)
theorem dX7_suspects_55 : decode cX7_suspects 55 = .ok (.goto 4, 3) := dk_167 0 4 (dk_at dksX7_suspects_2 9 rfl rfl)
theorem dX7_suspects_58 : decode cX7_suspects 58 = .ok (.iconst 0, 1) := dk_3 (dk_at dksX7_suspects_2 12 rfl rfl)
theorem dX7_suspects_59 : decode cX7_suspects 59 = .ok (.ior, 1) := dk_128 (dk_at dksX7_suspects_2 13 rfl rfl)
theorem dX7_suspects_60 : decode cX7_suspects 60 = .ok (.istore_n 2, 1) := dk_61 (dk_at dksX7_suspects_2 14 rfl rfl)
theorem dX7_suspects_61 : decode cX7_suspects 61 = .ok (.iinc 3 1, 3) := dk_132 3 1 (dk_at dksX7_suspects_2 15 rfl rfl)
theorem dX7_suspects_64 : decode cX7_suspects 64 = .ok (.goto (-39), 3) := dk_167 255 217 (dk_at dksX7_suspects_2 18 rfl rfl)
theorem dX7_suspects_67 : decode cX7_suspects 67 = .ok (.iload_n 2, 1) := dk_28 (dk_at dksX7_suspects_2 21 rfl rfl)
theorem dX7_suspects_68 : decode cX7_suspects 68 = .ok (.ireturn, 1) := dk_172 (dk_at dksX7_suspects_2 22 rfl rfl)
abbrev cX7_betrayed : ByteArray := prog_12_method_95_code
def yX7_betrayed : MethodName := ⟨RX7, "betrayed", "(I)I"⟩
def dkwX7_betrayed_2 : List UInt8 := [154, 0, 5, 28, 172, 132, 2, 1, 167, 255, 225, 2, 172]
abbrev dktX7_betrayed_2 : List UInt8 := dkwX7_betrayed_2 ++ []
def dkwX7_betrayed_1 : List UInt8 := [42, 182, 0, 243, 163, 0, 29, 42, 27, 28, 182, 1, 37, 153, 0, 14, 42, 27, 28, 182, 1, 107]
abbrev dktX7_betrayed_1 : List UInt8 := dkwX7_betrayed_1 ++ dktX7_betrayed_2
def dkwX7_betrayed_0 : List UInt8 := [42, 3, 181, 0, 74, 42, 27, 133, 182, 0, 246, 154, 0, 6, 16, 254, 172, 42, 182, 1, 81, 3, 61, 28]
abbrev dktX7_betrayed_0 : List UInt8 := dkwX7_betrayed_0 ++ dktX7_betrayed_1
theorem dksX7_betrayed_0 : cX7_betrayed.data.toList.drop 0 = dktX7_betrayed_0 := by decide +kernel
theorem dksX7_betrayed_1 : cX7_betrayed.data.toList.drop 24 = dktX7_betrayed_1 := dk_seg dksX7_betrayed_0 24 rfl rfl
theorem dksX7_betrayed_2 : cX7_betrayed.data.toList.drop 46 = dktX7_betrayed_2 := dk_seg dksX7_betrayed_1 22 rfl rfl
theorem dX7_betrayed_0 : decode cX7_betrayed 0 = .ok (.aload_n 0, 1) := dk_42 (dk_at dksX7_betrayed_0 0 rfl rfl)
theorem dX7_betrayed_1 : decode cX7_betrayed 1 = .ok (.iconst 0, 1) := dk_3 (dk_at dksX7_betrayed_0 1 rfl rfl)
theorem dX7_betrayed_2 : decode cX7_betrayed 2 = .ok (.putfield 74, 3) := dk_181 0 74 (dk_at dksX7_betrayed_0 2 rfl rfl)
theorem dX7_betrayed_5 : decode cX7_betrayed 5 = .ok (.aload_n 0, 1) := dk_42 (dk_at dksX7_betrayed_0 5 rfl rfl)
theorem dX7_betrayed_6 : decode cX7_betrayed 6 = .ok (.iload_n 1, 1) := dk_27 (dk_at dksX7_betrayed_0 6 rfl rfl)
theorem dX7_betrayed_7 : decode cX7_betrayed 7 = .ok (.i2l, 1) := dk_133 (dk_at dksX7_betrayed_0 7 rfl rfl)
theorem dX7_betrayed_8 : decode cX7_betrayed 8 = .ok (.invokevirtual 246, 3) := dk_182 0 246 (dk_at dksX7_betrayed_0 8 rfl rfl)
theorem dX7_betrayed_11 : decode cX7_betrayed 11 = .ok (.ifCond .ne 6, 3) := dk_154 0 6 (dk_at dksX7_betrayed_0 11 rfl rfl)
theorem dX7_betrayed_14 : decode cX7_betrayed 14 = .ok (.bipush (-2), 2) := dk_16 254 (dk_at dksX7_betrayed_0 14 rfl rfl)
theorem dX7_betrayed_16 : decode cX7_betrayed 16 = .ok (.ireturn, 1) := dk_172 (dk_at dksX7_betrayed_0 16 rfl rfl)
theorem dX7_betrayed_17 : decode cX7_betrayed 17 = .ok (.aload_n 0, 1) := dk_42 (dk_at dksX7_betrayed_0 17 rfl rfl)
theorem dX7_betrayed_18 : decode cX7_betrayed 18 = .ok (.invokevirtual 337, 3) := dk_182 1 81 (dk_at dksX7_betrayed_0 18 rfl rfl)
theorem dX7_betrayed_21 : decode cX7_betrayed 21 = .ok (.iconst 0, 1) := dk_3 (dk_at dksX7_betrayed_0 21 rfl rfl)
theorem dX7_betrayed_22 : decode cX7_betrayed 22 = .ok (.istore_n 2, 1) := dk_61 (dk_at dksX7_betrayed_0 22 rfl rfl)
theorem dX7_betrayed_23 : decode cX7_betrayed 23 = .ok (.iload_n 2, 1) := dk_28 (dk_at dksX7_betrayed_0 23 rfl rfl)
theorem dX7_betrayed_24 : decode cX7_betrayed 24 = .ok (.aload_n 0, 1) := dk_42 (dk_at dksX7_betrayed_1 0 rfl rfl)
theorem dX7_betrayed_25 : decode cX7_betrayed 25 = .ok (.invokevirtual 243, 3) := dk_182 0 243 (dk_at dksX7_betrayed_1 1 rfl rfl)
theorem dX7_betrayed_28 : decode cX7_betrayed 28 = .ok (.if_icmp .gt 29, 3) := dk_163 0 29 (dk_at dksX7_betrayed_1 4 rfl rfl)
theorem dX7_betrayed_31 : decode cX7_betrayed 31 = .ok (.aload_n 0, 1) := dk_42 (dk_at dksX7_betrayed_1 7 rfl rfl)
theorem dX7_betrayed_32 : decode cX7_betrayed 32 = .ok (.iload_n 1, 1) := dk_27 (dk_at dksX7_betrayed_1 8 rfl rfl)
theorem dX7_betrayed_33 : decode cX7_betrayed 33 = .ok (.iload_n 2, 1) := dk_28 (dk_at dksX7_betrayed_1 9 rfl rfl)
theorem dX7_betrayed_34 : decode cX7_betrayed 34 = .ok (.invokevirtual 293, 3) := dk_182 1 37 (dk_at dksX7_betrayed_1 10 rfl rfl)
theorem dX7_betrayed_37 : decode cX7_betrayed 37 = .ok (.ifCond .eq 14, 3) := dk_153 0 14 (dk_at dksX7_betrayed_1 13 rfl rfl)
theorem dX7_betrayed_40 : decode cX7_betrayed 40 = .ok (.aload_n 0, 1) := dk_42 (dk_at dksX7_betrayed_1 16 rfl rfl)
theorem dX7_betrayed_41 : decode cX7_betrayed 41 = .ok (.iload_n 1, 1) := dk_27 (dk_at dksX7_betrayed_1 17 rfl rfl)
theorem dX7_betrayed_42 : decode cX7_betrayed 42 = .ok (.iload_n 2, 1) := dk_28 (dk_at dksX7_betrayed_1 18 rfl rfl)
theorem dX7_betrayed_43 : decode cX7_betrayed 43 = .ok (.invokevirtual 363, 3) := dk_182 1 107 (dk_at dksX7_betrayed_1 19 rfl rfl)
theorem dX7_betrayed_46 : decode cX7_betrayed 46 = .ok (.ifCond .ne 5, 3) := dk_154 0 5 (dk_at dksX7_betrayed_2 0 rfl rfl)
theorem dX7_betrayed_49 : decode cX7_betrayed 49 = .ok (.iload_n 2, 1) := dk_28 (dk_at dksX7_betrayed_2 3 rfl rfl)
theorem dX7_betrayed_50 : decode cX7_betrayed 50 = .ok (.ireturn, 1) := dk_172 (dk_at dksX7_betrayed_2 4 rfl rfl)
theorem dX7_betrayed_51 : decode cX7_betrayed 51 = .ok (.iinc 2 1, 3) := dk_132 2 1 (dk_at dksX7_betrayed_2 5 rfl rfl)
theorem dX7_betrayed_54 : decode cX7_betrayed 54 = .ok (.goto (-31), 3) := dk_167 255 225 (dk_at dksX7_betrayed_2 8 rfl rfl)
theorem dX7_betrayed_57 : decode cX7_betrayed 57 = .ok (.iconst (-1), 1) := dk_2 (dk_at dksX7_betrayed_2 11 rfl rfl)
theorem dX7_betrayed_58 : decode cX7_betrayed 58 = .ok (.ireturn, 1) := dk_172 (dk_at dksX7_betrayed_2 12 rfl rfl)
abbrev cX7_ages : ByteArray := prog_12_method_96_code
def yX7_ages : MethodName := ⟨RX7, "ages", "(IIII)I"⟩
def dkwX7_ages_4 : List UInt8 := [21, 5, 172]
abbrev dktX7_ages_4 : List UInt8 := dkwX7_ages_4 ++ []
def dkwX7_ages_3 : List UInt8 := [182, 1, 103, 29, 160, 0, 10, 4, 21, 6, 120, 167, 0, 4, 3, 128, 54, 5, 132, 6, 1, 167, 255, 217]
abbrev dktX7_ages_3 : List UInt8 := dkwX7_ages_3 ++ dktX7_ages_4
def dkwX7_ages_2 : List UInt8 := [54, 5, 3, 54, 6, 21, 6, 42, 182, 0, 243, 163, 0, 36, 21, 5, 42, 27, 28, 21, 6, 21, 4]
abbrev dktX7_ages_2 : List UInt8 := dkwX7_ages_2 ++ dktX7_ages_3
def dkwX7_ages_1 : List UInt8 := [20, 1, 110, 184, 0, 79, 153, 0, 13, 42, 21, 4, 133, 182, 0, 249, 154, 0, 6, 16, 254, 172, 3]
abbrev dktX7_ages_1 : List UInt8 := dkwX7_ages_1 ++ dktX7_ages_2
def dkwX7_ages_0 : List UInt8 := [42, 3, 181, 0, 74, 42, 27, 182, 1, 65, 153, 0, 33, 42, 28, 182, 1, 70, 153, 0, 25, 29, 133, 10]
abbrev dktX7_ages_0 : List UInt8 := dkwX7_ages_0 ++ dktX7_ages_1
theorem dksX7_ages_0 : cX7_ages.data.toList.drop 0 = dktX7_ages_0 := by decide +kernel
theorem dksX7_ages_1 : cX7_ages.data.toList.drop 24 = dktX7_ages_1 := dk_seg dksX7_ages_0 24 rfl rfl
theorem dksX7_ages_2 : cX7_ages.data.toList.drop 47 = dktX7_ages_2 := dk_seg dksX7_ages_1 23 rfl rfl
theorem dksX7_ages_3 : cX7_ages.data.toList.drop 70 = dktX7_ages_3 := dk_seg dksX7_ages_2 23 rfl rfl
theorem dksX7_ages_4 : cX7_ages.data.toList.drop 94 = dktX7_ages_4 := dk_seg dksX7_ages_3 24 rfl rfl
theorem dX7_ages_0 : decode cX7_ages 0 = .ok (.aload_n 0, 1) := dk_42 (dk_at dksX7_ages_0 0 rfl rfl)
theorem dX7_ages_1 : decode cX7_ages 1 = .ok (.iconst 0, 1) := dk_3 (dk_at dksX7_ages_0 1 rfl rfl)
theorem dX7_ages_2 : decode cX7_ages 2 = .ok (.putfield 74, 3) := dk_181 0 74 (dk_at dksX7_ages_0 2 rfl rfl)
theorem dX7_ages_5 : decode cX7_ages 5 = .ok (.aload_n 0, 1) := dk_42 (dk_at dksX7_ages_0 5 rfl rfl)
theorem dX7_ages_6 : decode cX7_ages 6 = .ok (.iload_n 1, 1) := dk_27 (dk_at dksX7_ages_0 6 rfl rfl)
theorem dX7_ages_7 : decode cX7_ages 7 = .ok (.invokevirtual 321, 3) := dk_182 1 65 (dk_at dksX7_ages_0 7 rfl rfl)
theorem dX7_ages_10 : decode cX7_ages 10 = .ok (.ifCond .eq 33, 3) := dk_153 0 33 (dk_at dksX7_ages_0 10 rfl rfl)
theorem dX7_ages_13 : decode cX7_ages 13 = .ok (.aload_n 0, 1) := dk_42 (dk_at dksX7_ages_0 13 rfl rfl)
theorem dX7_ages_14 : decode cX7_ages 14 = .ok (.iload_n 2, 1) := dk_28 (dk_at dksX7_ages_0 14 rfl rfl)
theorem dX7_ages_15 : decode cX7_ages 15 = .ok (.invokevirtual 326, 3) := dk_182 1 70 (dk_at dksX7_ages_0 15 rfl rfl)
theorem dX7_ages_18 : decode cX7_ages 18 = .ok (.ifCond .eq 25, 3) := dk_153 0 25 (dk_at dksX7_ages_0 18 rfl rfl)
theorem dX7_ages_21 : decode cX7_ages 21 = .ok (.iload_n 3, 1) := dk_29 (dk_at dksX7_ages_0 21 rfl rfl)
theorem dX7_ages_22 : decode cX7_ages 22 = .ok (.i2l, 1) := dk_133 (dk_at dksX7_ages_0 22 rfl rfl)
theorem dX7_ages_23 : decode cX7_ages 23 = .ok (.lconst 1, 1) := dk_10 (dk_at dksX7_ages_0 23 rfl rfl)
theorem dX7_ages_24 : decode cX7_ages 24 = .ok (.ldc2_w 366, 3) := dk_20 1 110 (dk_at dksX7_ages_1 0 rfl rfl)
theorem dX7_ages_27 : decode cX7_ages 27 = .ok (.invokestatic 79, 3) := dk_184 0 79 (dk_at dksX7_ages_1 3 rfl rfl)
theorem dX7_ages_30 : decode cX7_ages 30 = .ok (.ifCond .eq 13, 3) := dk_153 0 13 (dk_at dksX7_ages_1 6 rfl rfl)
theorem dX7_ages_33 : decode cX7_ages 33 = .ok (.aload_n 0, 1) := dk_42 (dk_at dksX7_ages_1 9 rfl rfl)
theorem dX7_ages_34 : decode cX7_ages 34 = .ok (.iload 4, 2) := dk_21 4 (dk_at dksX7_ages_1 10 rfl rfl)
theorem dX7_ages_36 : decode cX7_ages 36 = .ok (.i2l, 1) := dk_133 (dk_at dksX7_ages_1 12 rfl rfl)
theorem dX7_ages_37 : decode cX7_ages 37 = .ok (.invokevirtual 249, 3) := dk_182 0 249 (dk_at dksX7_ages_1 13 rfl rfl)
theorem dX7_ages_40 : decode cX7_ages 40 = .ok (.ifCond .ne 6, 3) := dk_154 0 6 (dk_at dksX7_ages_1 16 rfl rfl)
theorem dX7_ages_43 : decode cX7_ages 43 = .ok (.bipush (-2), 2) := dk_16 254 (dk_at dksX7_ages_1 19 rfl rfl)
theorem dX7_ages_45 : decode cX7_ages 45 = .ok (.ireturn, 1) := dk_172 (dk_at dksX7_ages_1 21 rfl rfl)
theorem dX7_ages_46 : decode cX7_ages 46 = .ok (.iconst 0, 1) := dk_3 (dk_at dksX7_ages_1 22 rfl rfl)
theorem dX7_ages_47 : decode cX7_ages 47 = .ok (.istore 5, 2) := dk_54 5 (dk_at dksX7_ages_2 0 rfl rfl)
theorem dX7_ages_49 : decode cX7_ages 49 = .ok (.iconst 0, 1) := dk_3 (dk_at dksX7_ages_2 2 rfl rfl)
theorem dX7_ages_50 : decode cX7_ages 50 = .ok (.istore 6, 2) := dk_54 6 (dk_at dksX7_ages_2 3 rfl rfl)
theorem dX7_ages_52 : decode cX7_ages 52 = .ok (.iload 6, 2) := dk_21 6 (dk_at dksX7_ages_2 5 rfl rfl)
theorem dX7_ages_54 : decode cX7_ages 54 = .ok (.aload_n 0, 1) := dk_42 (dk_at dksX7_ages_2 7 rfl rfl)
theorem dX7_ages_55 : decode cX7_ages 55 = .ok (.invokevirtual 243, 3) := dk_182 0 243 (dk_at dksX7_ages_2 8 rfl rfl)
theorem dX7_ages_58 : decode cX7_ages 58 = .ok (.if_icmp .gt 36, 3) := dk_163 0 36 (dk_at dksX7_ages_2 11 rfl rfl)
theorem dX7_ages_61 : decode cX7_ages 61 = .ok (.iload 5, 2) := dk_21 5 (dk_at dksX7_ages_2 14 rfl rfl)
theorem dX7_ages_63 : decode cX7_ages 63 = .ok (.aload_n 0, 1) := dk_42 (dk_at dksX7_ages_2 16 rfl rfl)
theorem dX7_ages_64 : decode cX7_ages 64 = .ok (.iload_n 1, 1) := dk_27 (dk_at dksX7_ages_2 17 rfl rfl)
theorem dX7_ages_65 : decode cX7_ages 65 = .ok (.iload_n 2, 1) := dk_28 (dk_at dksX7_ages_2 18 rfl rfl)
theorem dX7_ages_66 : decode cX7_ages 66 = .ok (.iload 6, 2) := dk_21 6 (dk_at dksX7_ages_2 19 rfl rfl)
theorem dX7_ages_68 : decode cX7_ages 68 = .ok (.iload 4, 2) := dk_21 4 (dk_at dksX7_ages_2 21 rfl rfl)
theorem dX7_ages_70 : decode cX7_ages 70 = .ok (.invokevirtual 359, 3) := dk_182 1 103 (dk_at dksX7_ages_3 0 rfl rfl)
theorem dX7_ages_73 : decode cX7_ages 73 = .ok (.iload_n 3, 1) := dk_29 (dk_at dksX7_ages_3 3 rfl rfl)
theorem dX7_ages_74 : decode cX7_ages 74 = .ok (.if_icmp .ne 10, 3) := dk_160 0 10 (dk_at dksX7_ages_3 4 rfl rfl)
theorem dX7_ages_77 : decode cX7_ages 77 = .ok (.iconst 1, 1) := dk_4 (dk_at dksX7_ages_3 7 rfl rfl)
theorem dX7_ages_78 : decode cX7_ages 78 = .ok (.iload 6, 2) := dk_21 6 (dk_at dksX7_ages_3 8 rfl rfl)
theorem dX7_ages_80 : decode cX7_ages 80 = .ok (.ishl, 1) := dk_120 (dk_at dksX7_ages_3 10 rfl rfl)
theorem dX7_ages_81 : decode cX7_ages 81 = .ok (.goto 4, 3) := dk_167 0 4 (dk_at dksX7_ages_3 11 rfl rfl)
theorem dX7_ages_84 : decode cX7_ages 84 = .ok (.iconst 0, 1) := dk_3 (dk_at dksX7_ages_3 14 rfl rfl)
theorem dX7_ages_85 : decode cX7_ages 85 = .ok (.ior, 1) := dk_128 (dk_at dksX7_ages_3 15 rfl rfl)
theorem dX7_ages_86 : decode cX7_ages 86 = .ok (.istore 5, 2) := dk_54 5 (dk_at dksX7_ages_3 16 rfl rfl)
theorem dX7_ages_88 : decode cX7_ages 88 = .ok (.iinc 6 1, 3) := dk_132 6 1 (dk_at dksX7_ages_3 18 rfl rfl)
theorem dX7_ages_91 : decode cX7_ages 91 = .ok (.goto (-39), 3) := dk_167 255 217 (dk_at dksX7_ages_3 21 rfl rfl)
theorem dX7_ages_94 : decode cX7_ages 94 = .ok (.iload 5, 2) := dk_21 5 (dk_at dksX7_ages_4 0 rfl rfl)
theorem dX7_ages_96 : decode cX7_ages 96 = .ok (.ireturn, 1) := dk_172 (dk_at dksX7_ages_4 2 rfl rfl)
abbrev cX7_dates : ByteArray := prog_12_method_100_code
def yX7_dates : MethodName := ⟨RX7, "dates", "(II)I"⟩
def dkwX7_dates_1 : List UInt8 := [27, 28, 182, 1, 131, 42, 180, 1, 112, 184, 1, 121, 172]
abbrev dktX7_dates_1 : List UInt8 := dkwX7_dates_1 ++ []
def dkwX7_dates_0 : List UInt8 := [42, 3, 181, 0, 74, 42, 27, 42, 28, 133, 182, 0, 246, 182, 1, 127, 62, 29, 153, 0, 5, 29, 172, 42]
abbrev dktX7_dates_0 : List UInt8 := dkwX7_dates_0 ++ dktX7_dates_1
theorem dksX7_dates_0 : cX7_dates.data.toList.drop 0 = dktX7_dates_0 := by decide +kernel
theorem dksX7_dates_1 : cX7_dates.data.toList.drop 24 = dktX7_dates_1 := dk_seg dksX7_dates_0 24 rfl rfl
theorem dX7_dates_0 : decode cX7_dates 0 = .ok (.aload_n 0, 1) := dk_42 (dk_at dksX7_dates_0 0 rfl rfl)
theorem dX7_dates_1 : decode cX7_dates 1 = .ok (.iconst 0, 1) := dk_3 (dk_at dksX7_dates_0 1 rfl rfl)
theorem dX7_dates_2 : decode cX7_dates 2 = .ok (.putfield 74, 3) := dk_181 0 74 (dk_at dksX7_dates_0 2 rfl rfl)
theorem dX7_dates_5 : decode cX7_dates 5 = .ok (.aload_n 0, 1) := dk_42 (dk_at dksX7_dates_0 5 rfl rfl)
theorem dX7_dates_6 : decode cX7_dates 6 = .ok (.iload_n 1, 1) := dk_27 (dk_at dksX7_dates_0 6 rfl rfl)
theorem dX7_dates_7 : decode cX7_dates 7 = .ok (.aload_n 0, 1) := dk_42 (dk_at dksX7_dates_0 7 rfl rfl)
theorem dX7_dates_8 : decode cX7_dates 8 = .ok (.iload_n 2, 1) := dk_28 (dk_at dksX7_dates_0 8 rfl rfl)
theorem dX7_dates_9 : decode cX7_dates 9 = .ok (.i2l, 1) := dk_133 (dk_at dksX7_dates_0 9 rfl rfl)
theorem dX7_dates_10 : decode cX7_dates 10 = .ok (.invokevirtual 246, 3) := dk_182 0 246 (dk_at dksX7_dates_0 10 rfl rfl)
theorem dX7_dates_13 : decode cX7_dates 13 = .ok (.invokevirtual 383, 3) := dk_182 1 127 (dk_at dksX7_dates_0 13 rfl rfl)
theorem dX7_dates_16 : decode cX7_dates 16 = .ok (.istore_n 3, 1) := dk_62 (dk_at dksX7_dates_0 16 rfl rfl)
theorem dX7_dates_17 : decode cX7_dates 17 = .ok (.iload_n 3, 1) := dk_29 (dk_at dksX7_dates_0 17 rfl rfl)
theorem dX7_dates_18 : decode cX7_dates 18 = .ok (.ifCond .eq 5, 3) := dk_153 0 5 (dk_at dksX7_dates_0 18 rfl rfl)
theorem dX7_dates_21 : decode cX7_dates 21 = .ok (.iload_n 3, 1) := dk_29 (dk_at dksX7_dates_0 21 rfl rfl)
theorem dX7_dates_22 : decode cX7_dates 22 = .ok (.ireturn, 1) := dk_172 (dk_at dksX7_dates_0 22 rfl rfl)
theorem dX7_dates_23 : decode cX7_dates 23 = .ok (.aload_n 0, 1) := dk_42 (dk_at dksX7_dates_0 23 rfl rfl)
theorem dX7_dates_24 : decode cX7_dates 24 = .ok (.iload_n 1, 1) := dk_27 (dk_at dksX7_dates_1 0 rfl rfl)
theorem dX7_dates_25 : decode cX7_dates 25 = .ok (.iload_n 2, 1) := dk_28 (dk_at dksX7_dates_1 1 rfl rfl)
theorem dX7_dates_26 : decode cX7_dates 26 = .ok (.invokevirtual 387, 3) := dk_182 1 131 (dk_at dksX7_dates_1 2 rfl rfl)
theorem dX7_dates_29 : decode cX7_dates 29 = .ok (.aload_n 0, 1) := dk_42 (dk_at dksX7_dates_1 5 rfl rfl)
theorem dX7_dates_30 : decode cX7_dates 30 = .ok (.getfield 368, 3) := dk_180 1 112 (dk_at dksX7_dates_1 6 rfl rfl)
theorem dX7_dates_33 : decode cX7_dates 33 = .ok (.invokestatic 377, 3) := dk_184 1 121 (dk_at dksX7_dates_1 9 rfl rfl)
theorem dX7_dates_36 : decode cX7_dates 36 = .ok (.ireturn, 1) := dk_172 (dk_at dksX7_dates_1 12 rfl rfl)
abbrev cX7_whyNot : ByteArray := prog_12_method_97_code
def yX7_whyNot : MethodName := ⟨RX7, "whyNot", "(IZ)I"⟩
def dkwX7_whyNot_5 : List UInt8 := [154, 0, 6, 16, 254, 172, 132, 3, 3, 167, 255, 183, 3, 172]
abbrev dktX7_whyNot_5 : List UInt8 := dkwX7_whyNot_5 ++ []
def dkwX7_whyNot_4 : List UInt8 := [182, 0, 249, 153, 0, 22, 42, 180, 0, 16, 21, 4, 5, 96, 47, 9, 20, 1, 110, 184, 0, 79]
abbrev dktX7_whyNot_4 : List UInt8 := dkwX7_whyNot_4 ++ dktX7_whyNot_5
def dkwX7_whyNot_3 : List UInt8 := [42, 180, 0, 16, 21, 4, 47, 182, 0, 246, 153, 0, 38, 42, 42, 180, 0, 16, 21, 4, 4, 96, 47]
abbrev dktX7_whyNot_3 : List UInt8 := dkwX7_whyNot_3 ++ dktX7_whyNot_4
def dkwX7_whyNot_2 : List UInt8 := [16, 254, 172, 3, 62, 29, 42, 180, 0, 13, 27, 46, 162, 0, 69, 16, 60, 27, 104, 29, 96, 54, 4, 42]
abbrev dktX7_whyNot_2 : List UInt8 := dkwX7_whyNot_2 ++ dktX7_whyNot_3
def dkwX7_whyNot_1 : List UInt8 := [180, 0, 7, 27, 46, 2, 160, 0, 6, 16, 250, 172, 42, 180, 0, 13, 27, 46, 6, 112, 153, 0, 6]
abbrev dktX7_whyNot_1 : List UInt8 := dkwX7_whyNot_1 ++ dktX7_whyNot_2
def dkwX7_whyNot_0 : List UInt8 := [27, 184, 0, 83, 153, 0, 14, 42, 182, 0, 240, 153, 0, 7, 28, 154, 0, 6, 16, 254, 172, 42]
abbrev dktX7_whyNot_0 : List UInt8 := dkwX7_whyNot_0 ++ dktX7_whyNot_1
theorem dksX7_whyNot_0 : cX7_whyNot.data.toList.drop 0 = dktX7_whyNot_0 := by decide +kernel
theorem dksX7_whyNot_1 : cX7_whyNot.data.toList.drop 22 = dktX7_whyNot_1 := dk_seg dksX7_whyNot_0 22 rfl rfl
theorem dksX7_whyNot_2 : cX7_whyNot.data.toList.drop 45 = dktX7_whyNot_2 := dk_seg dksX7_whyNot_1 23 rfl rfl
theorem dksX7_whyNot_3 : cX7_whyNot.data.toList.drop 69 = dktX7_whyNot_3 := dk_seg dksX7_whyNot_2 24 rfl rfl
theorem dksX7_whyNot_4 : cX7_whyNot.data.toList.drop 92 = dktX7_whyNot_4 := dk_seg dksX7_whyNot_3 23 rfl rfl
theorem dksX7_whyNot_5 : cX7_whyNot.data.toList.drop 114 = dktX7_whyNot_5 := dk_seg dksX7_whyNot_4 22 rfl rfl
theorem dX7_whyNot_0 : decode cX7_whyNot 0 = .ok (.iload_n 1, 1) := dk_27 (dk_at dksX7_whyNot_0 0 rfl rfl)
theorem dX7_whyNot_1 : decode cX7_whyNot 1 = .ok (.invokestatic 83, 3) := dk_184 0 83 (dk_at dksX7_whyNot_0 1 rfl rfl)
theorem dX7_whyNot_4 : decode cX7_whyNot 4 = .ok (.ifCond .eq 14, 3) := dk_153 0 14 (dk_at dksX7_whyNot_0 4 rfl rfl)
theorem dX7_whyNot_7 : decode cX7_whyNot 7 = .ok (.aload_n 0, 1) := dk_42 (dk_at dksX7_whyNot_0 7 rfl rfl)
theorem dX7_whyNot_8 : decode cX7_whyNot 8 = .ok (.invokevirtual 240, 3) := dk_182 0 240 (dk_at dksX7_whyNot_0 8 rfl rfl)
theorem dX7_whyNot_11 : decode cX7_whyNot 11 = .ok (.ifCond .eq 7, 3) := dk_153 0 7 (dk_at dksX7_whyNot_0 11 rfl rfl)
theorem dX7_whyNot_14 : decode cX7_whyNot 14 = .ok (.iload_n 2, 1) := dk_28 (dk_at dksX7_whyNot_0 14 rfl rfl)
theorem dX7_whyNot_15 : decode cX7_whyNot 15 = .ok (.ifCond .ne 6, 3) := dk_154 0 6 (dk_at dksX7_whyNot_0 15 rfl rfl)
theorem dX7_whyNot_18 : decode cX7_whyNot 18 = .ok (.bipush (-2), 2) := dk_16 254 (dk_at dksX7_whyNot_0 18 rfl rfl)
theorem dX7_whyNot_20 : decode cX7_whyNot 20 = .ok (.ireturn, 1) := dk_172 (dk_at dksX7_whyNot_0 20 rfl rfl)
theorem dX7_whyNot_21 : decode cX7_whyNot 21 = .ok (.aload_n 0, 1) := dk_42 (dk_at dksX7_whyNot_0 21 rfl rfl)
theorem dX7_whyNot_22 : decode cX7_whyNot 22 = .ok (.getfield 7, 3) := dk_180 0 7 (dk_at dksX7_whyNot_1 0 rfl rfl)
theorem dX7_whyNot_25 : decode cX7_whyNot 25 = .ok (.iload_n 1, 1) := dk_27 (dk_at dksX7_whyNot_1 3 rfl rfl)
theorem dX7_whyNot_26 : decode cX7_whyNot 26 = .ok (.iaload, 1) := dk_46 (dk_at dksX7_whyNot_1 4 rfl rfl)
theorem dX7_whyNot_27 : decode cX7_whyNot 27 = .ok (.iconst (-1), 1) := dk_2 (dk_at dksX7_whyNot_1 5 rfl rfl)
theorem dX7_whyNot_28 : decode cX7_whyNot 28 = .ok (.if_icmp .ne 6, 3) := dk_160 0 6 (dk_at dksX7_whyNot_1 6 rfl rfl)
theorem dX7_whyNot_31 : decode cX7_whyNot 31 = .ok (.bipush (-6), 2) := dk_16 250 (dk_at dksX7_whyNot_1 9 rfl rfl)
theorem dX7_whyNot_33 : decode cX7_whyNot 33 = .ok (.ireturn, 1) := dk_172 (dk_at dksX7_whyNot_1 11 rfl rfl)
theorem dX7_whyNot_34 : decode cX7_whyNot 34 = .ok (.aload_n 0, 1) := dk_42 (dk_at dksX7_whyNot_1 12 rfl rfl)
theorem dX7_whyNot_35 : decode cX7_whyNot 35 = .ok (.getfield 13, 3) := dk_180 0 13 (dk_at dksX7_whyNot_1 13 rfl rfl)
theorem dX7_whyNot_38 : decode cX7_whyNot 38 = .ok (.iload_n 1, 1) := dk_27 (dk_at dksX7_whyNot_1 16 rfl rfl)
theorem dX7_whyNot_39 : decode cX7_whyNot 39 = .ok (.iaload, 1) := dk_46 (dk_at dksX7_whyNot_1 17 rfl rfl)
theorem dX7_whyNot_40 : decode cX7_whyNot 40 = .ok (.iconst 3, 1) := dk_6 (dk_at dksX7_whyNot_1 18 rfl rfl)
theorem dX7_whyNot_41 : decode cX7_whyNot 41 = .ok (.irem, 1) := dk_112 (dk_at dksX7_whyNot_1 19 rfl rfl)
theorem dX7_whyNot_42 : decode cX7_whyNot 42 = .ok (.ifCond .eq 6, 3) := dk_153 0 6 (dk_at dksX7_whyNot_1 20 rfl rfl)
theorem dX7_whyNot_45 : decode cX7_whyNot 45 = .ok (.bipush (-2), 2) := dk_16 254 (dk_at dksX7_whyNot_2 0 rfl rfl)
theorem dX7_whyNot_47 : decode cX7_whyNot 47 = .ok (.ireturn, 1) := dk_172 (dk_at dksX7_whyNot_2 2 rfl rfl)
theorem dX7_whyNot_48 : decode cX7_whyNot 48 = .ok (.iconst 0, 1) := dk_3 (dk_at dksX7_whyNot_2 3 rfl rfl)
theorem dX7_whyNot_49 : decode cX7_whyNot 49 = .ok (.istore_n 3, 1) := dk_62 (dk_at dksX7_whyNot_2 4 rfl rfl)
theorem dX7_whyNot_50 : decode cX7_whyNot 50 = .ok (.iload_n 3, 1) := dk_29 (dk_at dksX7_whyNot_2 5 rfl rfl)
theorem dX7_whyNot_51 : decode cX7_whyNot 51 = .ok (.aload_n 0, 1) := dk_42 (dk_at dksX7_whyNot_2 6 rfl rfl)
theorem dX7_whyNot_52 : decode cX7_whyNot 52 = .ok (.getfield 13, 3) := dk_180 0 13 (dk_at dksX7_whyNot_2 7 rfl rfl)
theorem dX7_whyNot_55 : decode cX7_whyNot 55 = .ok (.iload_n 1, 1) := dk_27 (dk_at dksX7_whyNot_2 10 rfl rfl)
theorem dX7_whyNot_56 : decode cX7_whyNot 56 = .ok (.iaload, 1) := dk_46 (dk_at dksX7_whyNot_2 11 rfl rfl)
theorem dX7_whyNot_57 : decode cX7_whyNot 57 = .ok (.if_icmp .ge 69, 3) := dk_162 0 69 (dk_at dksX7_whyNot_2 12 rfl rfl)
theorem dX7_whyNot_60 : decode cX7_whyNot 60 = .ok (.bipush 60, 2) := dk_16 60 (dk_at dksX7_whyNot_2 15 rfl rfl)
theorem dX7_whyNot_62 : decode cX7_whyNot 62 = .ok (.iload_n 1, 1) := dk_27 (dk_at dksX7_whyNot_2 17 rfl rfl)
theorem dX7_whyNot_63 : decode cX7_whyNot 63 = .ok (.imul, 1) := dk_104 (dk_at dksX7_whyNot_2 18 rfl rfl)
theorem dX7_whyNot_64 : decode cX7_whyNot 64 = .ok (.iload_n 3, 1) := dk_29 (dk_at dksX7_whyNot_2 19 rfl rfl)
theorem dX7_whyNot_65 : decode cX7_whyNot 65 = .ok (.iadd, 1) := dk_96 (dk_at dksX7_whyNot_2 20 rfl rfl)
theorem dX7_whyNot_66 : decode cX7_whyNot 66 = .ok (.istore 4, 2) := dk_54 4 (dk_at dksX7_whyNot_2 21 rfl rfl)
theorem dX7_whyNot_68 : decode cX7_whyNot 68 = .ok (.aload_n 0, 1) := dk_42 (dk_at dksX7_whyNot_2 23 rfl rfl)
theorem dX7_whyNot_69 : decode cX7_whyNot 69 = .ok (.aload_n 0, 1) := dk_42 (dk_at dksX7_whyNot_3 0 rfl rfl)
theorem dX7_whyNot_70 : decode cX7_whyNot 70 = .ok (.getfield 16, 3) := dk_180 0 16 (dk_at dksX7_whyNot_3 1 rfl rfl)
theorem dX7_whyNot_73 : decode cX7_whyNot 73 = .ok (.iload 4, 2) := dk_21 4 (dk_at dksX7_whyNot_3 4 rfl rfl)
theorem dX7_whyNot_75 : decode cX7_whyNot 75 = .ok (.laload, 1) := dk_47 (dk_at dksX7_whyNot_3 6 rfl rfl)
theorem dX7_whyNot_76 : decode cX7_whyNot 76 = .ok (.invokevirtual 246, 3) := dk_182 0 246 (dk_at dksX7_whyNot_3 7 rfl rfl)
theorem dX7_whyNot_79 : decode cX7_whyNot 79 = .ok (.ifCond .eq 38, 3) := dk_153 0 38 (dk_at dksX7_whyNot_3 10 rfl rfl)
theorem dX7_whyNot_82 : decode cX7_whyNot 82 = .ok (.aload_n 0, 1) := dk_42 (dk_at dksX7_whyNot_3 13 rfl rfl)
theorem dX7_whyNot_83 : decode cX7_whyNot 83 = .ok (.aload_n 0, 1) := dk_42 (dk_at dksX7_whyNot_3 14 rfl rfl)
theorem dX7_whyNot_84 : decode cX7_whyNot 84 = .ok (.getfield 16, 3) := dk_180 0 16 (dk_at dksX7_whyNot_3 15 rfl rfl)
theorem dX7_whyNot_87 : decode cX7_whyNot 87 = .ok (.iload 4, 2) := dk_21 4 (dk_at dksX7_whyNot_3 18 rfl rfl)
theorem dX7_whyNot_89 : decode cX7_whyNot 89 = .ok (.iconst 1, 1) := dk_4 (dk_at dksX7_whyNot_3 20 rfl rfl)
theorem dX7_whyNot_90 : decode cX7_whyNot 90 = .ok (.iadd, 1) := dk_96 (dk_at dksX7_whyNot_3 21 rfl rfl)
theorem dX7_whyNot_91 : decode cX7_whyNot 91 = .ok (.laload, 1) := dk_47 (dk_at dksX7_whyNot_3 22 rfl rfl)
theorem dX7_whyNot_92 : decode cX7_whyNot 92 = .ok (.invokevirtual 249, 3) := dk_182 0 249 (dk_at dksX7_whyNot_4 0 rfl rfl)
theorem dX7_whyNot_95 : decode cX7_whyNot 95 = .ok (.ifCond .eq 22, 3) := dk_153 0 22 (dk_at dksX7_whyNot_4 3 rfl rfl)
theorem dX7_whyNot_98 : decode cX7_whyNot 98 = .ok (.aload_n 0, 1) := dk_42 (dk_at dksX7_whyNot_4 6 rfl rfl)
theorem dX7_whyNot_99 : decode cX7_whyNot 99 = .ok (.getfield 16, 3) := dk_180 0 16 (dk_at dksX7_whyNot_4 7 rfl rfl)
theorem dX7_whyNot_102 : decode cX7_whyNot 102 = .ok (.iload 4, 2) := dk_21 4 (dk_at dksX7_whyNot_4 10 rfl rfl)
theorem dX7_whyNot_104 : decode cX7_whyNot 104 = .ok (.iconst 2, 1) := dk_5 (dk_at dksX7_whyNot_4 12 rfl rfl)
theorem dX7_whyNot_105 : decode cX7_whyNot 105 = .ok (.iadd, 1) := dk_96 (dk_at dksX7_whyNot_4 13 rfl rfl)
theorem dX7_whyNot_106 : decode cX7_whyNot 106 = .ok (.laload, 1) := dk_47 (dk_at dksX7_whyNot_4 14 rfl rfl)
theorem dX7_whyNot_107 : decode cX7_whyNot 107 = .ok (.lconst 0, 1) := dk_9 (dk_at dksX7_whyNot_4 15 rfl rfl)
theorem dX7_whyNot_108 : decode cX7_whyNot 108 = .ok (.ldc2_w 366, 3) := dk_20 1 110 (dk_at dksX7_whyNot_4 16 rfl rfl)
theorem dX7_whyNot_111 : decode cX7_whyNot 111 = .ok (.invokestatic 79, 3) := dk_184 0 79 (dk_at dksX7_whyNot_4 19 rfl rfl)
theorem dX7_whyNot_114 : decode cX7_whyNot 114 = .ok (.ifCond .ne 6, 3) := dk_154 0 6 (dk_at dksX7_whyNot_5 0 rfl rfl)
theorem dX7_whyNot_117 : decode cX7_whyNot 117 = .ok (.bipush (-2), 2) := dk_16 254 (dk_at dksX7_whyNot_5 3 rfl rfl)
theorem dX7_whyNot_119 : decode cX7_whyNot 119 = .ok (.ireturn, 1) := dk_172 (dk_at dksX7_whyNot_5 5 rfl rfl)
theorem dX7_whyNot_120 : decode cX7_whyNot 120 = .ok (.iinc 3 3, 3) := dk_132 3 3 (dk_at dksX7_whyNot_5 6 rfl rfl)
theorem dX7_whyNot_123 : decode cX7_whyNot 123 = .ok (.goto (-73), 3) := dk_167 255 183 (dk_at dksX7_whyNot_5 9 rfl rfl)
theorem dX7_whyNot_126 : decode cX7_whyNot 126 = .ok (.iconst 0, 1) := dk_3 (dk_at dksX7_whyNot_5 12 rfl rfl)
theorem dX7_whyNot_127 : decode cX7_whyNot 127 = .ok (.ireturn, 1) := dk_172 (dk_at dksX7_whyNot_5 13 rfl rfl)
abbrev cX7_laysDates : ByteArray := prog_12_method_99_code
def yX7_laysDates : MethodName := ⟨RX7, "laysDates", "(II)V"⟩
def dkwX7_laysDates_9 : List UInt8 := [167, 255, 184, 177]
abbrev dktX7_laysDates_9 : List UInt8 := dkwX7_laysDates_9 ++ []
def dkwX7_laysDates_8 : List UInt8 := [42, 180, 1, 124, 161, 0, 6, 167, 0, 14, 42, 29, 181, 1, 118, 42, 21, 4, 181, 1, 124, 132, 3, 1]
abbrev dktX7_laysDates_8 : List UInt8 := dkwX7_laysDates_8 ++ dktX7_laysDates_9
def dkwX7_laysDates_7 : List UInt8 := [180, 0, 71, 16, 61, 29, 104, 21, 5, 96, 46, 184, 1, 24, 54, 4, 132, 5, 1, 167, 255, 227, 21, 4]
abbrev dktX7_laysDates_7 : List UInt8 := dkwX7_laysDates_7 ++ dktX7_laysDates_8
def dkwX7_laysDates_6 : List UInt8 := [182, 0, 243, 163, 0, 70, 3, 54, 4, 3, 54, 5, 21, 5, 16, 60, 163, 0, 28, 21, 4, 42]
abbrev dktX7_laysDates_6 : List UInt8 := dkwX7_laysDates_6 ++ dktX7_laysDates_7
def dkwX7_laysDates_5 : List UInt8 := [167, 255, 167, 42, 2, 181, 1, 118, 42, 42, 180, 1, 112, 184, 1, 121, 181, 1, 124, 3, 62, 29, 42]
abbrev dktX7_laysDates_5 : List UInt8 := dkwX7_laysDates_5 ++ dktX7_laysDates_6
def dkwX7_laysDates_4 : List UInt8 := [42, 28, 21, 4, 182, 1, 27, 96, 92, 46, 4, 96, 79, 132, 4, 1, 167, 255, 222, 132, 3, 1]
abbrev dktX7_laysDates_4 : List UInt8 := dkwX7_laysDates_4 ++ dktX7_laysDates_5
def dkwX7_laysDates_3 : List UInt8 := [181, 1, 112, 3, 54, 4, 21, 4, 42, 182, 0, 243, 163, 0, 31, 42, 180, 0, 71, 16, 61, 21, 4, 104]
abbrev dktX7_laysDates_3 : List UInt8 := dkwX7_laysDates_3 ++ dktX7_laysDates_4
def dkwX7_laysDates_2 : List UInt8 := [42, 182, 1, 62, 42, 27, 182, 1, 115, 154, 0, 6, 167, 0, 55, 42, 89, 180, 1, 112, 4, 29, 120, 128]
abbrev dktX7_laysDates_2 : List UInt8 := dkwX7_laysDates_2 ++ dktX7_laysDates_3
def dkwX7_laysDates_1 : List UInt8 := [167, 255, 239, 3, 62, 29, 42, 182, 0, 243, 163, 0, 87, 42, 182, 1, 59, 42, 180, 0, 53, 28, 29, 79]
abbrev dktX7_laysDates_1 : List UInt8 := dkwX7_laysDates_1 ++ dktX7_laysDates_2
def dkwX7_laysDates_0 : List UInt8 := [42, 3, 181, 1, 112, 3, 62, 29, 17, 5, 1, 162, 0, 16, 42, 180, 0, 71, 29, 3, 79, 132, 3, 1]
abbrev dktX7_laysDates_0 : List UInt8 := dkwX7_laysDates_0 ++ dktX7_laysDates_1
theorem dksX7_laysDates_0 : cX7_laysDates.data.toList.drop 0 = dktX7_laysDates_0 := by decide +kernel
theorem dksX7_laysDates_1 : cX7_laysDates.data.toList.drop 24 = dktX7_laysDates_1 := dk_seg dksX7_laysDates_0 24 rfl rfl
theorem dksX7_laysDates_2 : cX7_laysDates.data.toList.drop 48 = dktX7_laysDates_2 := dk_seg dksX7_laysDates_1 24 rfl rfl
theorem dksX7_laysDates_3 : cX7_laysDates.data.toList.drop 72 = dktX7_laysDates_3 := dk_seg dksX7_laysDates_2 24 rfl rfl
theorem dksX7_laysDates_4 : cX7_laysDates.data.toList.drop 96 = dktX7_laysDates_4 := dk_seg dksX7_laysDates_3 24 rfl rfl
theorem dksX7_laysDates_5 : cX7_laysDates.data.toList.drop 118 = dktX7_laysDates_5 := dk_seg dksX7_laysDates_4 22 rfl rfl
theorem dksX7_laysDates_6 : cX7_laysDates.data.toList.drop 141 = dktX7_laysDates_6 := dk_seg dksX7_laysDates_5 23 rfl rfl
theorem dksX7_laysDates_7 : cX7_laysDates.data.toList.drop 163 = dktX7_laysDates_7 := dk_seg dksX7_laysDates_6 22 rfl rfl
theorem dksX7_laysDates_8 : cX7_laysDates.data.toList.drop 187 = dktX7_laysDates_8 := dk_seg dksX7_laysDates_7 24 rfl rfl
theorem dksX7_laysDates_9 : cX7_laysDates.data.toList.drop 211 = dktX7_laysDates_9 := dk_seg dksX7_laysDates_8 24 rfl rfl
theorem dX7_laysDates_0 : decode cX7_laysDates 0 = .ok (.aload_n 0, 1) := dk_42 (dk_at dksX7_laysDates_0 0 rfl rfl)
theorem dX7_laysDates_1 : decode cX7_laysDates 1 = .ok (.iconst 0, 1) := dk_3 (dk_at dksX7_laysDates_0 1 rfl rfl)
theorem dX7_laysDates_2 : decode cX7_laysDates 2 = .ok (.putfield 368, 3) := dk_181 1 112 (dk_at dksX7_laysDates_0 2 rfl rfl)
theorem dX7_laysDates_5 : decode cX7_laysDates 5 = .ok (.iconst 0, 1) := dk_3 (dk_at dksX7_laysDates_0 5 rfl rfl)
theorem dX7_laysDates_6 : decode cX7_laysDates 6 = .ok (.istore_n 3, 1) := dk_62 (dk_at dksX7_laysDates_0 6 rfl rfl)
theorem dX7_laysDates_7 : decode cX7_laysDates 7 = .ok (.iload_n 3, 1) := dk_29 (dk_at dksX7_laysDates_0 7 rfl rfl)
theorem dX7_laysDates_8 : decode cX7_laysDates 8 = .ok (.sipush 1281, 3) := dk_17 5 1 (dk_at dksX7_laysDates_0 8 rfl rfl)
theorem dX7_laysDates_11 : decode cX7_laysDates 11 = .ok (.if_icmp .ge 16, 3) := dk_162 0 16 (dk_at dksX7_laysDates_0 11 rfl rfl)
theorem dX7_laysDates_14 : decode cX7_laysDates 14 = .ok (.aload_n 0, 1) := dk_42 (dk_at dksX7_laysDates_0 14 rfl rfl)
theorem dX7_laysDates_15 : decode cX7_laysDates 15 = .ok (.getfield 71, 3) := dk_180 0 71 (dk_at dksX7_laysDates_0 15 rfl rfl)
theorem dX7_laysDates_18 : decode cX7_laysDates 18 = .ok (.iload_n 3, 1) := dk_29 (dk_at dksX7_laysDates_0 18 rfl rfl)
theorem dX7_laysDates_19 : decode cX7_laysDates 19 = .ok (.iconst 0, 1) := dk_3 (dk_at dksX7_laysDates_0 19 rfl rfl)
theorem dX7_laysDates_20 : decode cX7_laysDates 20 = .ok (.iastore, 1) := dk_79 (dk_at dksX7_laysDates_0 20 rfl rfl)
theorem dX7_laysDates_21 : decode cX7_laysDates 21 = .ok (.iinc 3 1, 3) := dk_132 3 1 (dk_at dksX7_laysDates_0 21 rfl rfl)
theorem dX7_laysDates_24 : decode cX7_laysDates 24 = .ok (.goto (-17), 3) := dk_167 255 239 (dk_at dksX7_laysDates_1 0 rfl rfl)
theorem dX7_laysDates_27 : decode cX7_laysDates 27 = .ok (.iconst 0, 1) := dk_3 (dk_at dksX7_laysDates_1 3 rfl rfl)
theorem dX7_laysDates_28 : decode cX7_laysDates 28 = .ok (.istore_n 3, 1) := dk_62 (dk_at dksX7_laysDates_1 4 rfl rfl)
theorem dX7_laysDates_29 : decode cX7_laysDates 29 = .ok (.iload_n 3, 1) := dk_29 (dk_at dksX7_laysDates_1 5 rfl rfl)
theorem dX7_laysDates_30 : decode cX7_laysDates 30 = .ok (.aload_n 0, 1) := dk_42 (dk_at dksX7_laysDates_1 6 rfl rfl)
theorem dX7_laysDates_31 : decode cX7_laysDates 31 = .ok (.invokevirtual 243, 3) := dk_182 0 243 (dk_at dksX7_laysDates_1 7 rfl rfl)
theorem dX7_laysDates_34 : decode cX7_laysDates 34 = .ok (.if_icmp .gt 87, 3) := dk_163 0 87 (dk_at dksX7_laysDates_1 10 rfl rfl)
theorem dX7_laysDates_37 : decode cX7_laysDates 37 = .ok (.aload_n 0, 1) := dk_42 (dk_at dksX7_laysDates_1 13 rfl rfl)
theorem dX7_laysDates_38 : decode cX7_laysDates 38 = .ok (.invokevirtual 315, 3) := dk_182 1 59 (dk_at dksX7_laysDates_1 14 rfl rfl)
theorem dX7_laysDates_41 : decode cX7_laysDates 41 = .ok (.aload_n 0, 1) := dk_42 (dk_at dksX7_laysDates_1 17 rfl rfl)
theorem dX7_laysDates_42 : decode cX7_laysDates 42 = .ok (.getfield 53, 3) := dk_180 0 53 (dk_at dksX7_laysDates_1 18 rfl rfl)
theorem dX7_laysDates_45 : decode cX7_laysDates 45 = .ok (.iload_n 2, 1) := dk_28 (dk_at dksX7_laysDates_1 21 rfl rfl)
theorem dX7_laysDates_46 : decode cX7_laysDates 46 = .ok (.iload_n 3, 1) := dk_29 (dk_at dksX7_laysDates_1 22 rfl rfl)
theorem dX7_laysDates_47 : decode cX7_laysDates 47 = .ok (.iastore, 1) := dk_79 (dk_at dksX7_laysDates_1 23 rfl rfl)
theorem dX7_laysDates_48 : decode cX7_laysDates 48 = .ok (.aload_n 0, 1) := dk_42 (dk_at dksX7_laysDates_2 0 rfl rfl)
theorem dX7_laysDates_49 : decode cX7_laysDates 49 = .ok (.invokevirtual 318, 3) := dk_182 1 62 (dk_at dksX7_laysDates_2 1 rfl rfl)
theorem dX7_laysDates_52 : decode cX7_laysDates 52 = .ok (.aload_n 0, 1) := dk_42 (dk_at dksX7_laysDates_2 4 rfl rfl)
theorem dX7_laysDates_53 : decode cX7_laysDates 53 = .ok (.iload_n 1, 1) := dk_27 (dk_at dksX7_laysDates_2 5 rfl rfl)
theorem dX7_laysDates_54 : decode cX7_laysDates 54 = .ok (.invokevirtual 371, 3) := dk_182 1 115 (dk_at dksX7_laysDates_2 6 rfl rfl)
theorem dX7_laysDates_57 : decode cX7_laysDates 57 = .ok (.ifCond .ne 6, 3) := dk_154 0 6 (dk_at dksX7_laysDates_2 9 rfl rfl)
theorem dX7_laysDates_60 : decode cX7_laysDates 60 = .ok (.goto 55, 3) := dk_167 0 55 (dk_at dksX7_laysDates_2 12 rfl rfl)
theorem dX7_laysDates_63 : decode cX7_laysDates 63 = .ok (.aload_n 0, 1) := dk_42 (dk_at dksX7_laysDates_2 15 rfl rfl)
theorem dX7_laysDates_64 : decode cX7_laysDates 64 = .ok (.dup, 1) := dk_89 (dk_at dksX7_laysDates_2 16 rfl rfl)
theorem dX7_laysDates_65 : decode cX7_laysDates 65 = .ok (.getfield 368, 3) := dk_180 1 112 (dk_at dksX7_laysDates_2 17 rfl rfl)
theorem dX7_laysDates_68 : decode cX7_laysDates 68 = .ok (.iconst 1, 1) := dk_4 (dk_at dksX7_laysDates_2 20 rfl rfl)
theorem dX7_laysDates_69 : decode cX7_laysDates 69 = .ok (.iload_n 3, 1) := dk_29 (dk_at dksX7_laysDates_2 21 rfl rfl)
theorem dX7_laysDates_70 : decode cX7_laysDates 70 = .ok (.ishl, 1) := dk_120 (dk_at dksX7_laysDates_2 22 rfl rfl)
theorem dX7_laysDates_71 : decode cX7_laysDates 71 = .ok (.ior, 1) := dk_128 (dk_at dksX7_laysDates_2 23 rfl rfl)
theorem dX7_laysDates_72 : decode cX7_laysDates 72 = .ok (.putfield 368, 3) := dk_181 1 112 (dk_at dksX7_laysDates_3 0 rfl rfl)
theorem dX7_laysDates_75 : decode cX7_laysDates 75 = .ok (.iconst 0, 1) := dk_3 (dk_at dksX7_laysDates_3 3 rfl rfl)
theorem dX7_laysDates_76 : decode cX7_laysDates 76 = .ok (.istore 4, 2) := dk_54 4 (dk_at dksX7_laysDates_3 4 rfl rfl)
theorem dX7_laysDates_78 : decode cX7_laysDates 78 = .ok (.iload 4, 2) := dk_21 4 (dk_at dksX7_laysDates_3 6 rfl rfl)
theorem dX7_laysDates_80 : decode cX7_laysDates 80 = .ok (.aload_n 0, 1) := dk_42 (dk_at dksX7_laysDates_3 8 rfl rfl)
theorem dX7_laysDates_81 : decode cX7_laysDates 81 = .ok (.invokevirtual 243, 3) := dk_182 0 243 (dk_at dksX7_laysDates_3 9 rfl rfl)
theorem dX7_laysDates_84 : decode cX7_laysDates 84 = .ok (.if_icmp .gt 31, 3) := dk_163 0 31 (dk_at dksX7_laysDates_3 12 rfl rfl)
theorem dX7_laysDates_87 : decode cX7_laysDates 87 = .ok (.aload_n 0, 1) := dk_42 (dk_at dksX7_laysDates_3 15 rfl rfl)
theorem dX7_laysDates_88 : decode cX7_laysDates 88 = .ok (.getfield 71, 3) := dk_180 0 71 (dk_at dksX7_laysDates_3 16 rfl rfl)
theorem dX7_laysDates_91 : decode cX7_laysDates 91 = .ok (.bipush 61, 2) := dk_16 61 (dk_at dksX7_laysDates_3 19 rfl rfl)
theorem dX7_laysDates_93 : decode cX7_laysDates 93 = .ok (.iload 4, 2) := dk_21 4 (dk_at dksX7_laysDates_3 21 rfl rfl)
theorem dX7_laysDates_95 : decode cX7_laysDates 95 = .ok (.imul, 1) := dk_104 (dk_at dksX7_laysDates_3 23 rfl rfl)
theorem dX7_laysDates_96 : decode cX7_laysDates 96 = .ok (.aload_n 0, 1) := dk_42 (dk_at dksX7_laysDates_4 0 rfl rfl)
theorem dX7_laysDates_97 : decode cX7_laysDates 97 = .ok (.iload_n 2, 1) := dk_28 (dk_at dksX7_laysDates_4 1 rfl rfl)
theorem dX7_laysDates_98 : decode cX7_laysDates 98 = .ok (.iload 4, 2) := dk_21 4 (dk_at dksX7_laysDates_4 2 rfl rfl)
theorem dX7_laysDates_100 : decode cX7_laysDates 100 = .ok (.invokevirtual 283, 3) := dk_182 1 27 (dk_at dksX7_laysDates_4 4 rfl rfl)
theorem dX7_laysDates_103 : decode cX7_laysDates 103 = .ok (.iadd, 1) := dk_96 (dk_at dksX7_laysDates_4 7 rfl rfl)
theorem dX7_laysDates_104 : decode cX7_laysDates 104 = .ok (.dup2, 1) := dk_92 (dk_at dksX7_laysDates_4 8 rfl rfl)
theorem dX7_laysDates_105 : decode cX7_laysDates 105 = .ok (.iaload, 1) := dk_46 (dk_at dksX7_laysDates_4 9 rfl rfl)
theorem dX7_laysDates_106 : decode cX7_laysDates 106 = .ok (.iconst 1, 1) := dk_4 (dk_at dksX7_laysDates_4 10 rfl rfl)
theorem dX7_laysDates_107 : decode cX7_laysDates 107 = .ok (.iadd, 1) := dk_96 (dk_at dksX7_laysDates_4 11 rfl rfl)
theorem dX7_laysDates_108 : decode cX7_laysDates 108 = .ok (.iastore, 1) := dk_79 (dk_at dksX7_laysDates_4 12 rfl rfl)
theorem dX7_laysDates_109 : decode cX7_laysDates 109 = .ok (.iinc 4 1, 3) := dk_132 4 1 (dk_at dksX7_laysDates_4 13 rfl rfl)
theorem dX7_laysDates_112 : decode cX7_laysDates 112 = .ok (.goto (-34), 3) := dk_167 255 222 (dk_at dksX7_laysDates_4 16 rfl rfl)
theorem dX7_laysDates_115 : decode cX7_laysDates 115 = .ok (.iinc 3 1, 3) := dk_132 3 1 (dk_at dksX7_laysDates_4 19 rfl rfl)
theorem dX7_laysDates_118 : decode cX7_laysDates 118 = .ok (.goto (-89), 3) := dk_167 255 167 (dk_at dksX7_laysDates_5 0 rfl rfl)
theorem dX7_laysDates_121 : decode cX7_laysDates 121 = .ok (.aload_n 0, 1) := dk_42 (dk_at dksX7_laysDates_5 3 rfl rfl)
theorem dX7_laysDates_122 : decode cX7_laysDates 122 = .ok (.iconst (-1), 1) := dk_2 (dk_at dksX7_laysDates_5 4 rfl rfl)
theorem dX7_laysDates_123 : decode cX7_laysDates 123 = .ok (.putfield 374, 3) := dk_181 1 118 (dk_at dksX7_laysDates_5 5 rfl rfl)
theorem dX7_laysDates_126 : decode cX7_laysDates 126 = .ok (.aload_n 0, 1) := dk_42 (dk_at dksX7_laysDates_5 8 rfl rfl)
theorem dX7_laysDates_127 : decode cX7_laysDates 127 = .ok (.aload_n 0, 1) := dk_42 (dk_at dksX7_laysDates_5 9 rfl rfl)
theorem dX7_laysDates_128 : decode cX7_laysDates 128 = .ok (.getfield 368, 3) := dk_180 1 112 (dk_at dksX7_laysDates_5 10 rfl rfl)
theorem dX7_laysDates_131 : decode cX7_laysDates 131 = .ok (.invokestatic 377, 3) := dk_184 1 121 (dk_at dksX7_laysDates_5 13 rfl rfl)
theorem dX7_laysDates_134 : decode cX7_laysDates 134 = .ok (.putfield 380, 3) := dk_181 1 124 (dk_at dksX7_laysDates_5 16 rfl rfl)
theorem dX7_laysDates_137 : decode cX7_laysDates 137 = .ok (.iconst 0, 1) := dk_3 (dk_at dksX7_laysDates_5 19 rfl rfl)
theorem dX7_laysDates_138 : decode cX7_laysDates 138 = .ok (.istore_n 3, 1) := dk_62 (dk_at dksX7_laysDates_5 20 rfl rfl)
theorem dX7_laysDates_139 : decode cX7_laysDates 139 = .ok (.iload_n 3, 1) := dk_29 (dk_at dksX7_laysDates_5 21 rfl rfl)
theorem dX7_laysDates_140 : decode cX7_laysDates 140 = .ok (.aload_n 0, 1) := dk_42 (dk_at dksX7_laysDates_5 22 rfl rfl)
theorem dX7_laysDates_141 : decode cX7_laysDates 141 = .ok (.invokevirtual 243, 3) := dk_182 0 243 (dk_at dksX7_laysDates_6 0 rfl rfl)
theorem dX7_laysDates_144 : decode cX7_laysDates 144 = .ok (.if_icmp .gt 70, 3) := dk_163 0 70 (dk_at dksX7_laysDates_6 3 rfl rfl)
theorem dX7_laysDates_147 : decode cX7_laysDates 147 = .ok (.iconst 0, 1) := dk_3 (dk_at dksX7_laysDates_6 6 rfl rfl)
theorem dX7_laysDates_148 : decode cX7_laysDates 148 = .ok (.istore 4, 2) := dk_54 4 (dk_at dksX7_laysDates_6 7 rfl rfl)
theorem dX7_laysDates_150 : decode cX7_laysDates 150 = .ok (.iconst 0, 1) := dk_3 (dk_at dksX7_laysDates_6 9 rfl rfl)
theorem dX7_laysDates_151 : decode cX7_laysDates 151 = .ok (.istore 5, 2) := dk_54 5 (dk_at dksX7_laysDates_6 10 rfl rfl)
theorem dX7_laysDates_153 : decode cX7_laysDates 153 = .ok (.iload 5, 2) := dk_21 5 (dk_at dksX7_laysDates_6 12 rfl rfl)
theorem dX7_laysDates_155 : decode cX7_laysDates 155 = .ok (.bipush 60, 2) := dk_16 60 (dk_at dksX7_laysDates_6 14 rfl rfl)
theorem dX7_laysDates_157 : decode cX7_laysDates 157 = .ok (.if_icmp .gt 28, 3) := dk_163 0 28 (dk_at dksX7_laysDates_6 16 rfl rfl)
theorem dX7_laysDates_160 : decode cX7_laysDates 160 = .ok (.iload 4, 2) := dk_21 4 (dk_at dksX7_laysDates_6 19 rfl rfl)
theorem dX7_laysDates_162 : decode cX7_laysDates 162 = .ok (.aload_n 0, 1) := dk_42 (dk_at dksX7_laysDates_6 21 rfl rfl)
theorem dX7_laysDates_163 : decode cX7_laysDates 163 = .ok (.getfield 71, 3) := dk_180 0 71 (dk_at dksX7_laysDates_7 0 rfl rfl)
theorem dX7_laysDates_166 : decode cX7_laysDates 166 = .ok (.bipush 61, 2) := dk_16 61 (dk_at dksX7_laysDates_7 3 rfl rfl)
theorem dX7_laysDates_168 : decode cX7_laysDates 168 = .ok (.iload_n 3, 1) := dk_29 (dk_at dksX7_laysDates_7 5 rfl rfl)
theorem dX7_laysDates_169 : decode cX7_laysDates 169 = .ok (.imul, 1) := dk_104 (dk_at dksX7_laysDates_7 6 rfl rfl)
theorem dX7_laysDates_170 : decode cX7_laysDates 170 = .ok (.iload 5, 2) := dk_21 5 (dk_at dksX7_laysDates_7 7 rfl rfl)
theorem dX7_laysDates_172 : decode cX7_laysDates 172 = .ok (.iadd, 1) := dk_96 (dk_at dksX7_laysDates_7 9 rfl rfl)
theorem dX7_laysDates_173 : decode cX7_laysDates 173 = .ok (.iaload, 1) := dk_46 (dk_at dksX7_laysDates_7 10 rfl rfl)
theorem dX7_laysDates_174 : decode cX7_laysDates 174 = .ok (.invokestatic 280, 3) := dk_184 1 24 (dk_at dksX7_laysDates_7 11 rfl rfl)
theorem dX7_laysDates_177 : decode cX7_laysDates 177 = .ok (.istore 4, 2) := dk_54 4 (dk_at dksX7_laysDates_7 14 rfl rfl)
theorem dX7_laysDates_179 : decode cX7_laysDates 179 = .ok (.iinc 5 1, 3) := dk_132 5 1 (dk_at dksX7_laysDates_7 16 rfl rfl)
theorem dX7_laysDates_182 : decode cX7_laysDates 182 = .ok (.goto (-29), 3) := dk_167 255 227 (dk_at dksX7_laysDates_7 19 rfl rfl)
theorem dX7_laysDates_185 : decode cX7_laysDates 185 = .ok (.iload 4, 2) := dk_21 4 (dk_at dksX7_laysDates_7 22 rfl rfl)
theorem dX7_laysDates_187 : decode cX7_laysDates 187 = .ok (.aload_n 0, 1) := dk_42 (dk_at dksX7_laysDates_8 0 rfl rfl)
theorem dX7_laysDates_188 : decode cX7_laysDates 188 = .ok (.getfield 380, 3) := dk_180 1 124 (dk_at dksX7_laysDates_8 1 rfl rfl)
theorem dX7_laysDates_191 : decode cX7_laysDates 191 = .ok (.if_icmp .lt 6, 3) := dk_161 0 6 (dk_at dksX7_laysDates_8 4 rfl rfl)
theorem dX7_laysDates_194 : decode cX7_laysDates 194 = .ok (.goto 14, 3) := dk_167 0 14 (dk_at dksX7_laysDates_8 7 rfl rfl)
theorem dX7_laysDates_197 : decode cX7_laysDates 197 = .ok (.aload_n 0, 1) := dk_42 (dk_at dksX7_laysDates_8 10 rfl rfl)
theorem dX7_laysDates_198 : decode cX7_laysDates 198 = .ok (.iload_n 3, 1) := dk_29 (dk_at dksX7_laysDates_8 11 rfl rfl)
theorem dX7_laysDates_199 : decode cX7_laysDates 199 = .ok (.putfield 374, 3) := dk_181 1 118 (dk_at dksX7_laysDates_8 12 rfl rfl)
theorem dX7_laysDates_202 : decode cX7_laysDates 202 = .ok (.aload_n 0, 1) := dk_42 (dk_at dksX7_laysDates_8 15 rfl rfl)
theorem dX7_laysDates_203 : decode cX7_laysDates 203 = .ok (.iload 4, 2) := dk_21 4 (dk_at dksX7_laysDates_8 16 rfl rfl)
theorem dX7_laysDates_205 : decode cX7_laysDates 205 = .ok (.putfield 380, 3) := dk_181 1 124 (dk_at dksX7_laysDates_8 18 rfl rfl)
theorem dX7_laysDates_208 : decode cX7_laysDates 208 = .ok (.iinc 3 1, 3) := dk_132 3 1 (dk_at dksX7_laysDates_8 21 rfl rfl)
theorem dX7_laysDates_211 : decode cX7_laysDates 211 = .ok (.goto (-72), 3) := dk_167 255 184 (dk_at dksX7_laysDates_9 0 rfl rfl)
theorem dX7_laysDates_214 : decode cX7_laysDates 214 = .ok (.return_, 1) := dk_177 (dk_at dksX7_laysDates_9 3 rfl rfl)
abbrev cX7_isSo : ByteArray := prog_12_method_98_code
def yX7_isSo : MethodName := ⟨RX7, "isSo", "(I)Z"⟩
def dkwX7_isSo_2 : List UInt8 := [148, 153, 0, 5, 3, 172, 132, 2, 3, 167, 255, 201, 4, 172]
abbrev dktX7_isSo_2 : List UInt8 := dkwX7_isSo_2 ++ []
def dkwX7_isSo_1 : List UInt8 := [29, 47, 136, 42, 180, 0, 16, 29, 4, 96, 47, 136, 182, 1, 27, 133, 42, 180, 0, 16, 29, 5, 96, 47]
abbrev dktX7_isSo_1 : List UInt8 := dkwX7_isSo_1 ++ dktX7_isSo_2
def dkwX7_isSo_0 : List UInt8 := [3, 61, 28, 42, 180, 0, 13, 27, 46, 162, 0, 51, 16, 60, 27, 104, 28, 96, 62, 42, 42, 180, 0, 16]
abbrev dktX7_isSo_0 : List UInt8 := dkwX7_isSo_0 ++ dktX7_isSo_1
theorem dksX7_isSo_0 : cX7_isSo.data.toList.drop 0 = dktX7_isSo_0 := by decide +kernel
theorem dksX7_isSo_1 : cX7_isSo.data.toList.drop 24 = dktX7_isSo_1 := dk_seg dksX7_isSo_0 24 rfl rfl
theorem dksX7_isSo_2 : cX7_isSo.data.toList.drop 48 = dktX7_isSo_2 := dk_seg dksX7_isSo_1 24 rfl rfl
theorem dX7_isSo_0 : decode cX7_isSo 0 = .ok (.iconst 0, 1) := dk_3 (dk_at dksX7_isSo_0 0 rfl rfl)
theorem dX7_isSo_1 : decode cX7_isSo 1 = .ok (.istore_n 2, 1) := dk_61 (dk_at dksX7_isSo_0 1 rfl rfl)
theorem dX7_isSo_2 : decode cX7_isSo 2 = .ok (.iload_n 2, 1) := dk_28 (dk_at dksX7_isSo_0 2 rfl rfl)
theorem dX7_isSo_3 : decode cX7_isSo 3 = .ok (.aload_n 0, 1) := dk_42 (dk_at dksX7_isSo_0 3 rfl rfl)
theorem dX7_isSo_4 : decode cX7_isSo 4 = .ok (.getfield 13, 3) := dk_180 0 13 (dk_at dksX7_isSo_0 4 rfl rfl)
theorem dX7_isSo_7 : decode cX7_isSo 7 = .ok (.iload_n 1, 1) := dk_27 (dk_at dksX7_isSo_0 7 rfl rfl)
theorem dX7_isSo_8 : decode cX7_isSo 8 = .ok (.iaload, 1) := dk_46 (dk_at dksX7_isSo_0 8 rfl rfl)
theorem dX7_isSo_9 : decode cX7_isSo 9 = .ok (.if_icmp .ge 51, 3) := dk_162 0 51 (dk_at dksX7_isSo_0 9 rfl rfl)
theorem dX7_isSo_12 : decode cX7_isSo 12 = .ok (.bipush 60, 2) := dk_16 60 (dk_at dksX7_isSo_0 12 rfl rfl)
theorem dX7_isSo_14 : decode cX7_isSo 14 = .ok (.iload_n 1, 1) := dk_27 (dk_at dksX7_isSo_0 14 rfl rfl)
theorem dX7_isSo_15 : decode cX7_isSo 15 = .ok (.imul, 1) := dk_104 (dk_at dksX7_isSo_0 15 rfl rfl)
theorem dX7_isSo_16 : decode cX7_isSo 16 = .ok (.iload_n 2, 1) := dk_28 (dk_at dksX7_isSo_0 16 rfl rfl)
theorem dX7_isSo_17 : decode cX7_isSo 17 = .ok (.iadd, 1) := dk_96 (dk_at dksX7_isSo_0 17 rfl rfl)
theorem dX7_isSo_18 : decode cX7_isSo 18 = .ok (.istore_n 3, 1) := dk_62 (dk_at dksX7_isSo_0 18 rfl rfl)
theorem dX7_isSo_19 : decode cX7_isSo 19 = .ok (.aload_n 0, 1) := dk_42 (dk_at dksX7_isSo_0 19 rfl rfl)
theorem dX7_isSo_20 : decode cX7_isSo 20 = .ok (.aload_n 0, 1) := dk_42 (dk_at dksX7_isSo_0 20 rfl rfl)
theorem dX7_isSo_21 : decode cX7_isSo 21 = .ok (.getfield 16, 3) := dk_180 0 16 (dk_at dksX7_isSo_0 21 rfl rfl)
theorem dX7_isSo_24 : decode cX7_isSo 24 = .ok (.iload_n 3, 1) := dk_29 (dk_at dksX7_isSo_1 0 rfl rfl)
theorem dX7_isSo_25 : decode cX7_isSo 25 = .ok (.laload, 1) := dk_47 (dk_at dksX7_isSo_1 1 rfl rfl)
theorem dX7_isSo_26 : decode cX7_isSo 26 = .ok (.l2i, 1) := dk_136 (dk_at dksX7_isSo_1 2 rfl rfl)
theorem dX7_isSo_27 : decode cX7_isSo 27 = .ok (.aload_n 0, 1) := dk_42 (dk_at dksX7_isSo_1 3 rfl rfl)
theorem dX7_isSo_28 : decode cX7_isSo 28 = .ok (.getfield 16, 3) := dk_180 0 16 (dk_at dksX7_isSo_1 4 rfl rfl)
theorem dX7_isSo_31 : decode cX7_isSo 31 = .ok (.iload_n 3, 1) := dk_29 (dk_at dksX7_isSo_1 7 rfl rfl)
theorem dX7_isSo_32 : decode cX7_isSo 32 = .ok (.iconst 1, 1) := dk_4 (dk_at dksX7_isSo_1 8 rfl rfl)
theorem dX7_isSo_33 : decode cX7_isSo 33 = .ok (.iadd, 1) := dk_96 (dk_at dksX7_isSo_1 9 rfl rfl)
theorem dX7_isSo_34 : decode cX7_isSo 34 = .ok (.laload, 1) := dk_47 (dk_at dksX7_isSo_1 10 rfl rfl)
theorem dX7_isSo_35 : decode cX7_isSo 35 = .ok (.l2i, 1) := dk_136 (dk_at dksX7_isSo_1 11 rfl rfl)
theorem dX7_isSo_36 : decode cX7_isSo 36 = .ok (.invokevirtual 283, 3) := dk_182 1 27 (dk_at dksX7_isSo_1 12 rfl rfl)
theorem dX7_isSo_39 : decode cX7_isSo 39 = .ok (.i2l, 1) := dk_133 (dk_at dksX7_isSo_1 15 rfl rfl)
theorem dX7_isSo_40 : decode cX7_isSo 40 = .ok (.aload_n 0, 1) := dk_42 (dk_at dksX7_isSo_1 16 rfl rfl)
theorem dX7_isSo_41 : decode cX7_isSo 41 = .ok (.getfield 16, 3) := dk_180 0 16 (dk_at dksX7_isSo_1 17 rfl rfl)
theorem dX7_isSo_44 : decode cX7_isSo 44 = .ok (.iload_n 3, 1) := dk_29 (dk_at dksX7_isSo_1 20 rfl rfl)
theorem dX7_isSo_45 : decode cX7_isSo 45 = .ok (.iconst 2, 1) := dk_5 (dk_at dksX7_isSo_1 21 rfl rfl)
theorem dX7_isSo_46 : decode cX7_isSo 46 = .ok (.iadd, 1) := dk_96 (dk_at dksX7_isSo_1 22 rfl rfl)
theorem dX7_isSo_47 : decode cX7_isSo 47 = .ok (.laload, 1) := dk_47 (dk_at dksX7_isSo_1 23 rfl rfl)
theorem dX7_isSo_48 : decode cX7_isSo 48 = .ok (.lcmp, 1) := dk_148 (dk_at dksX7_isSo_2 0 rfl rfl)
theorem dX7_isSo_49 : decode cX7_isSo 49 = .ok (.ifCond .eq 5, 3) := dk_153 0 5 (dk_at dksX7_isSo_2 1 rfl rfl)
theorem dX7_isSo_52 : decode cX7_isSo 52 = .ok (.iconst 0, 1) := dk_3 (dk_at dksX7_isSo_2 4 rfl rfl)
theorem dX7_isSo_53 : decode cX7_isSo 53 = .ok (.ireturn, 1) := dk_172 (dk_at dksX7_isSo_2 5 rfl rfl)
theorem dX7_isSo_54 : decode cX7_isSo 54 = .ok (.iinc 2 3, 3) := dk_132 2 3 (dk_at dksX7_isSo_2 6 rfl rfl)
theorem dX7_isSo_57 : decode cX7_isSo 57 = .ok (.goto (-55), 3) := dk_167 255 201 (dk_at dksX7_isSo_2 9 rfl rfl)
theorem dX7_isSo_60 : decode cX7_isSo 60 = .ok (.iconst 1, 1) := dk_4 (dk_at dksX7_isSo_2 12 rfl rfl)
theorem dX7_isSo_61 : decode cX7_isSo 61 = .ok (.ireturn, 1) := dk_172 (dk_at dksX7_isSo_2 13 rfl rfl)
abbrev cX7_sizeOf : ByteArray := prog_12_method_46_code
def yX7_sizeOf : MethodName := ⟨RX7, "sizeOf", "(I)I"⟩
def dkwX7_sizeOf_0 : List UInt8 := [3, 60, 26, 61, 28, 153, 0, 15, 132, 1, 1, 28, 28, 4, 100, 126, 61, 167, 255, 243, 27, 172]
abbrev dktX7_sizeOf_0 : List UInt8 := dkwX7_sizeOf_0 ++ []
theorem dksX7_sizeOf_0 : cX7_sizeOf.data.toList.drop 0 = dktX7_sizeOf_0 := by decide +kernel
theorem dX7_sizeOf_0 : decode cX7_sizeOf 0 = .ok (.iconst 0, 1) := dk_3 (dk_at dksX7_sizeOf_0 0 rfl rfl)
theorem dX7_sizeOf_1 : decode cX7_sizeOf 1 = .ok (.istore_n 1, 1) := dk_60 (dk_at dksX7_sizeOf_0 1 rfl rfl)
theorem dX7_sizeOf_2 : decode cX7_sizeOf 2 = .ok (.iload_n 0, 1) := dk_26 (dk_at dksX7_sizeOf_0 2 rfl rfl)
theorem dX7_sizeOf_3 : decode cX7_sizeOf 3 = .ok (.istore_n 2, 1) := dk_61 (dk_at dksX7_sizeOf_0 3 rfl rfl)
theorem dX7_sizeOf_4 : decode cX7_sizeOf 4 = .ok (.iload_n 2, 1) := dk_28 (dk_at dksX7_sizeOf_0 4 rfl rfl)
theorem dX7_sizeOf_5 : decode cX7_sizeOf 5 = .ok (.ifCond .eq 15, 3) := dk_153 0 15 (dk_at dksX7_sizeOf_0 5 rfl rfl)
theorem dX7_sizeOf_8 : decode cX7_sizeOf 8 = .ok (.iinc 1 1, 3) := dk_132 1 1 (dk_at dksX7_sizeOf_0 8 rfl rfl)
theorem dX7_sizeOf_11 : decode cX7_sizeOf 11 = .ok (.iload_n 2, 1) := dk_28 (dk_at dksX7_sizeOf_0 11 rfl rfl)
theorem dX7_sizeOf_12 : decode cX7_sizeOf 12 = .ok (.iload_n 2, 1) := dk_28 (dk_at dksX7_sizeOf_0 12 rfl rfl)
theorem dX7_sizeOf_13 : decode cX7_sizeOf 13 = .ok (.iconst 1, 1) := dk_4 (dk_at dksX7_sizeOf_0 13 rfl rfl)
theorem dX7_sizeOf_14 : decode cX7_sizeOf 14 = .ok (.isub, 1) := dk_100 (dk_at dksX7_sizeOf_0 14 rfl rfl)
theorem dX7_sizeOf_15 : decode cX7_sizeOf 15 = .ok (.iand, 1) := dk_126 (dk_at dksX7_sizeOf_0 15 rfl rfl)
theorem dX7_sizeOf_16 : decode cX7_sizeOf 16 = .ok (.istore_n 2, 1) := dk_61 (dk_at dksX7_sizeOf_0 16 rfl rfl)
theorem dX7_sizeOf_17 : decode cX7_sizeOf 17 = .ok (.goto (-13), 3) := dk_167 255 243 (dk_at dksX7_sizeOf_0 17 rfl rfl)
theorem dX7_sizeOf_20 : decode cX7_sizeOf 20 = .ok (.iload_n 1, 1) := dk_27 (dk_at dksX7_sizeOf_0 20 rfl rfl)
theorem dX7_sizeOf_21 : decode cX7_sizeOf 21 = .ok (.ireturn, 1) := dk_172 (dk_at dksX7_sizeOf_0 21 rfl rfl)
abbrev cX7_first : ByteArray := prog_12_method_101_code
def yX7_first : MethodName := ⟨RX7, "first", "(II)I"⟩
def dkwX7_first_2 : List UInt8 := [184, 1, 17, 153, 0, 6, 21, 4, 172, 132, 4, 1, 167, 255, 229, 2, 172]
abbrev dktX7_first_2 : List UInt8 := dkwX7_first_2 ++ []
def dkwX7_first_1 : List UInt8 := [27, 28, 182, 1, 131, 3, 54, 4, 21, 4, 42, 182, 0, 243, 163, 0, 24, 42, 180, 1, 112, 21, 4]
abbrev dktX7_first_1 : List UInt8 := dkwX7_first_1 ++ dktX7_first_2
def dkwX7_first_0 : List UInt8 := [42, 3, 181, 0, 74, 42, 27, 42, 28, 133, 182, 0, 246, 182, 1, 127, 62, 29, 153, 0, 5, 29, 172, 42]
abbrev dktX7_first_0 : List UInt8 := dkwX7_first_0 ++ dktX7_first_1
theorem dksX7_first_0 : cX7_first.data.toList.drop 0 = dktX7_first_0 := by decide +kernel
theorem dksX7_first_1 : cX7_first.data.toList.drop 24 = dktX7_first_1 := dk_seg dksX7_first_0 24 rfl rfl
theorem dksX7_first_2 : cX7_first.data.toList.drop 47 = dktX7_first_2 := dk_seg dksX7_first_1 23 rfl rfl
theorem dX7_first_0 : decode cX7_first 0 = .ok (.aload_n 0, 1) := dk_42 (dk_at dksX7_first_0 0 rfl rfl)
theorem dX7_first_1 : decode cX7_first 1 = .ok (.iconst 0, 1) := dk_3 (dk_at dksX7_first_0 1 rfl rfl)
theorem dX7_first_2 : decode cX7_first 2 = .ok (.putfield 74, 3) := dk_181 0 74 (dk_at dksX7_first_0 2 rfl rfl)
theorem dX7_first_5 : decode cX7_first 5 = .ok (.aload_n 0, 1) := dk_42 (dk_at dksX7_first_0 5 rfl rfl)
theorem dX7_first_6 : decode cX7_first 6 = .ok (.iload_n 1, 1) := dk_27 (dk_at dksX7_first_0 6 rfl rfl)
theorem dX7_first_7 : decode cX7_first 7 = .ok (.aload_n 0, 1) := dk_42 (dk_at dksX7_first_0 7 rfl rfl)
theorem dX7_first_8 : decode cX7_first 8 = .ok (.iload_n 2, 1) := dk_28 (dk_at dksX7_first_0 8 rfl rfl)
theorem dX7_first_9 : decode cX7_first 9 = .ok (.i2l, 1) := dk_133 (dk_at dksX7_first_0 9 rfl rfl)
theorem dX7_first_10 : decode cX7_first 10 = .ok (.invokevirtual 246, 3) := dk_182 0 246 (dk_at dksX7_first_0 10 rfl rfl)
theorem dX7_first_13 : decode cX7_first 13 = .ok (.invokevirtual 383, 3) := dk_182 1 127 (dk_at dksX7_first_0 13 rfl rfl)
theorem dX7_first_16 : decode cX7_first 16 = .ok (.istore_n 3, 1) := dk_62 (dk_at dksX7_first_0 16 rfl rfl)
theorem dX7_first_17 : decode cX7_first 17 = .ok (.iload_n 3, 1) := dk_29 (dk_at dksX7_first_0 17 rfl rfl)
theorem dX7_first_18 : decode cX7_first 18 = .ok (.ifCond .eq 5, 3) := dk_153 0 5 (dk_at dksX7_first_0 18 rfl rfl)
theorem dX7_first_21 : decode cX7_first 21 = .ok (.iload_n 3, 1) := dk_29 (dk_at dksX7_first_0 21 rfl rfl)
theorem dX7_first_22 : decode cX7_first 22 = .ok (.ireturn, 1) := dk_172 (dk_at dksX7_first_0 22 rfl rfl)
theorem dX7_first_23 : decode cX7_first 23 = .ok (.aload_n 0, 1) := dk_42 (dk_at dksX7_first_0 23 rfl rfl)
theorem dX7_first_24 : decode cX7_first 24 = .ok (.iload_n 1, 1) := dk_27 (dk_at dksX7_first_1 0 rfl rfl)
theorem dX7_first_25 : decode cX7_first 25 = .ok (.iload_n 2, 1) := dk_28 (dk_at dksX7_first_1 1 rfl rfl)
theorem dX7_first_26 : decode cX7_first 26 = .ok (.invokevirtual 387, 3) := dk_182 1 131 (dk_at dksX7_first_1 2 rfl rfl)
theorem dX7_first_29 : decode cX7_first 29 = .ok (.iconst 0, 1) := dk_3 (dk_at dksX7_first_1 5 rfl rfl)
theorem dX7_first_30 : decode cX7_first 30 = .ok (.istore 4, 2) := dk_54 4 (dk_at dksX7_first_1 6 rfl rfl)
theorem dX7_first_32 : decode cX7_first 32 = .ok (.iload 4, 2) := dk_21 4 (dk_at dksX7_first_1 8 rfl rfl)
theorem dX7_first_34 : decode cX7_first 34 = .ok (.aload_n 0, 1) := dk_42 (dk_at dksX7_first_1 10 rfl rfl)
theorem dX7_first_35 : decode cX7_first 35 = .ok (.invokevirtual 243, 3) := dk_182 0 243 (dk_at dksX7_first_1 11 rfl rfl)
theorem dX7_first_38 : decode cX7_first 38 = .ok (.if_icmp .gt 24, 3) := dk_163 0 24 (dk_at dksX7_first_1 14 rfl rfl)
theorem dX7_first_41 : decode cX7_first 41 = .ok (.aload_n 0, 1) := dk_42 (dk_at dksX7_first_1 17 rfl rfl)
theorem dX7_first_42 : decode cX7_first 42 = .ok (.getfield 368, 3) := dk_180 1 112 (dk_at dksX7_first_1 18 rfl rfl)
theorem dX7_first_45 : decode cX7_first 45 = .ok (.iload 4, 2) := dk_21 4 (dk_at dksX7_first_1 21 rfl rfl)
theorem dX7_first_47 : decode cX7_first 47 = .ok (.invokestatic 273, 3) := dk_184 1 17 (dk_at dksX7_first_2 0 rfl rfl)
theorem dX7_first_50 : decode cX7_first 50 = .ok (.ifCond .eq 6, 3) := dk_153 0 6 (dk_at dksX7_first_2 3 rfl rfl)
theorem dX7_first_53 : decode cX7_first 53 = .ok (.iload 4, 2) := dk_21 4 (dk_at dksX7_first_2 6 rfl rfl)
theorem dX7_first_55 : decode cX7_first 55 = .ok (.ireturn, 1) := dk_172 (dk_at dksX7_first_2 8 rfl rfl)
theorem dX7_first_56 : decode cX7_first 56 = .ok (.iinc 4 1, 3) := dk_132 4 1 (dk_at dksX7_first_2 9 rfl rfl)
theorem dX7_first_59 : decode cX7_first 59 = .ok (.goto (-27), 3) := dk_167 255 229 (dk_at dksX7_first_2 12 rfl rfl)
theorem dX7_first_62 : decode cX7_first 62 = .ok (.iconst (-1), 1) := dk_2 (dk_at dksX7_first_2 15 rfl rfl)
theorem dX7_first_63 : decode cX7_first 63 = .ok (.ireturn, 1) := dk_172 (dk_at dksX7_first_2 16 rfl rfl)
abbrev cX7_last : ByteArray := prog_12_method_102_code
def yX7_last : MethodName := ⟨RX7, "last", "(II)I"⟩
def dkwX7_last_2 : List UInt8 := [184, 1, 17, 153, 0, 6, 21, 4, 172, 132, 4, 255, 167, 255, 233, 2, 172]
abbrev dktX7_last_2 : List UInt8 := dkwX7_last_2 ++ []
def dkwX7_last_1 : List UInt8 := [27, 28, 182, 1, 131, 42, 182, 0, 243, 54, 4, 21, 4, 155, 0, 24, 42, 180, 1, 112, 21, 4]
abbrev dktX7_last_1 : List UInt8 := dkwX7_last_1 ++ dktX7_last_2
def dkwX7_last_0 : List UInt8 := [42, 3, 181, 0, 74, 42, 27, 42, 28, 133, 182, 0, 246, 182, 1, 127, 62, 29, 153, 0, 5, 29, 172, 42]
abbrev dktX7_last_0 : List UInt8 := dkwX7_last_0 ++ dktX7_last_1
theorem dksX7_last_0 : cX7_last.data.toList.drop 0 = dktX7_last_0 := by decide +kernel
theorem dksX7_last_1 : cX7_last.data.toList.drop 24 = dktX7_last_1 := dk_seg dksX7_last_0 24 rfl rfl
theorem dksX7_last_2 : cX7_last.data.toList.drop 46 = dktX7_last_2 := dk_seg dksX7_last_1 22 rfl rfl
theorem dX7_last_0 : decode cX7_last 0 = .ok (.aload_n 0, 1) := dk_42 (dk_at dksX7_last_0 0 rfl rfl)
theorem dX7_last_1 : decode cX7_last 1 = .ok (.iconst 0, 1) := dk_3 (dk_at dksX7_last_0 1 rfl rfl)
theorem dX7_last_2 : decode cX7_last 2 = .ok (.putfield 74, 3) := dk_181 0 74 (dk_at dksX7_last_0 2 rfl rfl)
theorem dX7_last_5 : decode cX7_last 5 = .ok (.aload_n 0, 1) := dk_42 (dk_at dksX7_last_0 5 rfl rfl)
theorem dX7_last_6 : decode cX7_last 6 = .ok (.iload_n 1, 1) := dk_27 (dk_at dksX7_last_0 6 rfl rfl)
theorem dX7_last_7 : decode cX7_last 7 = .ok (.aload_n 0, 1) := dk_42 (dk_at dksX7_last_0 7 rfl rfl)
theorem dX7_last_8 : decode cX7_last 8 = .ok (.iload_n 2, 1) := dk_28 (dk_at dksX7_last_0 8 rfl rfl)
theorem dX7_last_9 : decode cX7_last 9 = .ok (.i2l, 1) := dk_133 (dk_at dksX7_last_0 9 rfl rfl)
theorem dX7_last_10 : decode cX7_last 10 = .ok (.invokevirtual 246, 3) := dk_182 0 246 (dk_at dksX7_last_0 10 rfl rfl)
theorem dX7_last_13 : decode cX7_last 13 = .ok (.invokevirtual 383, 3) := dk_182 1 127 (dk_at dksX7_last_0 13 rfl rfl)
theorem dX7_last_16 : decode cX7_last 16 = .ok (.istore_n 3, 1) := dk_62 (dk_at dksX7_last_0 16 rfl rfl)
theorem dX7_last_17 : decode cX7_last 17 = .ok (.iload_n 3, 1) := dk_29 (dk_at dksX7_last_0 17 rfl rfl)
theorem dX7_last_18 : decode cX7_last 18 = .ok (.ifCond .eq 5, 3) := dk_153 0 5 (dk_at dksX7_last_0 18 rfl rfl)
theorem dX7_last_21 : decode cX7_last 21 = .ok (.iload_n 3, 1) := dk_29 (dk_at dksX7_last_0 21 rfl rfl)
theorem dX7_last_22 : decode cX7_last 22 = .ok (.ireturn, 1) := dk_172 (dk_at dksX7_last_0 22 rfl rfl)
theorem dX7_last_23 : decode cX7_last 23 = .ok (.aload_n 0, 1) := dk_42 (dk_at dksX7_last_0 23 rfl rfl)
theorem dX7_last_24 : decode cX7_last 24 = .ok (.iload_n 1, 1) := dk_27 (dk_at dksX7_last_1 0 rfl rfl)
theorem dX7_last_25 : decode cX7_last 25 = .ok (.iload_n 2, 1) := dk_28 (dk_at dksX7_last_1 1 rfl rfl)
theorem dX7_last_26 : decode cX7_last 26 = .ok (.invokevirtual 387, 3) := dk_182 1 131 (dk_at dksX7_last_1 2 rfl rfl)
theorem dX7_last_29 : decode cX7_last 29 = .ok (.aload_n 0, 1) := dk_42 (dk_at dksX7_last_1 5 rfl rfl)
theorem dX7_last_30 : decode cX7_last 30 = .ok (.invokevirtual 243, 3) := dk_182 0 243 (dk_at dksX7_last_1 6 rfl rfl)
theorem dX7_last_33 : decode cX7_last 33 = .ok (.istore 4, 2) := dk_54 4 (dk_at dksX7_last_1 9 rfl rfl)
theorem dX7_last_35 : decode cX7_last 35 = .ok (.iload 4, 2) := dk_21 4 (dk_at dksX7_last_1 11 rfl rfl)
theorem dX7_last_37 : decode cX7_last 37 = .ok (.ifCond .lt 24, 3) := dk_155 0 24 (dk_at dksX7_last_1 13 rfl rfl)
theorem dX7_last_40 : decode cX7_last 40 = .ok (.aload_n 0, 1) := dk_42 (dk_at dksX7_last_1 16 rfl rfl)
theorem dX7_last_41 : decode cX7_last 41 = .ok (.getfield 368, 3) := dk_180 1 112 (dk_at dksX7_last_1 17 rfl rfl)
theorem dX7_last_44 : decode cX7_last 44 = .ok (.iload 4, 2) := dk_21 4 (dk_at dksX7_last_1 20 rfl rfl)
theorem dX7_last_46 : decode cX7_last 46 = .ok (.invokestatic 273, 3) := dk_184 1 17 (dk_at dksX7_last_2 0 rfl rfl)
theorem dX7_last_49 : decode cX7_last 49 = .ok (.ifCond .eq 6, 3) := dk_153 0 6 (dk_at dksX7_last_2 3 rfl rfl)
theorem dX7_last_52 : decode cX7_last 52 = .ok (.iload 4, 2) := dk_21 4 (dk_at dksX7_last_2 6 rfl rfl)
theorem dX7_last_54 : decode cX7_last 54 = .ok (.ireturn, 1) := dk_172 (dk_at dksX7_last_2 8 rfl rfl)
theorem dX7_last_55 : decode cX7_last 55 = .ok (.iinc 4 (-1), 3) := dk_132 4 255 (dk_at dksX7_last_2 9 rfl rfl)
theorem dX7_last_58 : decode cX7_last 58 = .ok (.goto (-23), 3) := dk_167 255 233 (dk_at dksX7_last_2 12 rfl rfl)
theorem dX7_last_61 : decode cX7_last 61 = .ok (.iconst (-1), 1) := dk_2 (dk_at dksX7_last_2 15 rfl rfl)
theorem dX7_last_62 : decode cX7_last 62 = .ok (.ireturn, 1) := dk_172 (dk_at dksX7_last_2 16 rfl rfl)
abbrev cX7_ask : ByteArray := prog_12_method_103_code
def yX7_ask : MethodName := ⟨RX7, "ask", "(II)I"⟩
def dkwX7_ask_1 : List UInt8 := [27, 28, 182, 1, 131, 42, 180, 1, 118, 172]
abbrev dktX7_ask_1 : List UInt8 := dkwX7_ask_1 ++ []
def dkwX7_ask_0 : List UInt8 := [42, 3, 181, 0, 74, 42, 27, 42, 28, 133, 182, 0, 246, 182, 1, 127, 62, 29, 153, 0, 5, 29, 172, 42]
abbrev dktX7_ask_0 : List UInt8 := dkwX7_ask_0 ++ dktX7_ask_1
theorem dksX7_ask_0 : cX7_ask.data.toList.drop 0 = dktX7_ask_0 := by decide +kernel
theorem dksX7_ask_1 : cX7_ask.data.toList.drop 24 = dktX7_ask_1 := dk_seg dksX7_ask_0 24 rfl rfl
theorem dX7_ask_0 : decode cX7_ask 0 = .ok (.aload_n 0, 1) := dk_42 (dk_at dksX7_ask_0 0 rfl rfl)
theorem dX7_ask_1 : decode cX7_ask 1 = .ok (.iconst 0, 1) := dk_3 (dk_at dksX7_ask_0 1 rfl rfl)
theorem dX7_ask_2 : decode cX7_ask 2 = .ok (.putfield 74, 3) := dk_181 0 74 (dk_at dksX7_ask_0 2 rfl rfl)
theorem dX7_ask_5 : decode cX7_ask 5 = .ok (.aload_n 0, 1) := dk_42 (dk_at dksX7_ask_0 5 rfl rfl)
theorem dX7_ask_6 : decode cX7_ask 6 = .ok (.iload_n 1, 1) := dk_27 (dk_at dksX7_ask_0 6 rfl rfl)
theorem dX7_ask_7 : decode cX7_ask 7 = .ok (.aload_n 0, 1) := dk_42 (dk_at dksX7_ask_0 7 rfl rfl)
theorem dX7_ask_8 : decode cX7_ask 8 = .ok (.iload_n 2, 1) := dk_28 (dk_at dksX7_ask_0 8 rfl rfl)
theorem dX7_ask_9 : decode cX7_ask 9 = .ok (.i2l, 1) := dk_133 (dk_at dksX7_ask_0 9 rfl rfl)
theorem dX7_ask_10 : decode cX7_ask 10 = .ok (.invokevirtual 246, 3) := dk_182 0 246 (dk_at dksX7_ask_0 10 rfl rfl)
theorem dX7_ask_13 : decode cX7_ask 13 = .ok (.invokevirtual 383, 3) := dk_182 1 127 (dk_at dksX7_ask_0 13 rfl rfl)
theorem dX7_ask_16 : decode cX7_ask 16 = .ok (.istore_n 3, 1) := dk_62 (dk_at dksX7_ask_0 16 rfl rfl)
theorem dX7_ask_17 : decode cX7_ask 17 = .ok (.iload_n 3, 1) := dk_29 (dk_at dksX7_ask_0 17 rfl rfl)
theorem dX7_ask_18 : decode cX7_ask 18 = .ok (.ifCond .eq 5, 3) := dk_153 0 5 (dk_at dksX7_ask_0 18 rfl rfl)
theorem dX7_ask_21 : decode cX7_ask 21 = .ok (.iload_n 3, 1) := dk_29 (dk_at dksX7_ask_0 21 rfl rfl)
theorem dX7_ask_22 : decode cX7_ask 22 = .ok (.ireturn, 1) := dk_172 (dk_at dksX7_ask_0 22 rfl rfl)
theorem dX7_ask_23 : decode cX7_ask 23 = .ok (.aload_n 0, 1) := dk_42 (dk_at dksX7_ask_0 23 rfl rfl)
theorem dX7_ask_24 : decode cX7_ask 24 = .ok (.iload_n 1, 1) := dk_27 (dk_at dksX7_ask_1 0 rfl rfl)
theorem dX7_ask_25 : decode cX7_ask 25 = .ok (.iload_n 2, 1) := dk_28 (dk_at dksX7_ask_1 1 rfl rfl)
theorem dX7_ask_26 : decode cX7_ask 26 = .ok (.invokevirtual 387, 3) := dk_182 1 131 (dk_at dksX7_ask_1 2 rfl rfl)
theorem dX7_ask_29 : decode cX7_ask 29 = .ok (.aload_n 0, 1) := dk_42 (dk_at dksX7_ask_1 5 rfl rfl)
theorem dX7_ask_30 : decode cX7_ask 30 = .ok (.getfield 374, 3) := dk_180 1 118 (dk_at dksX7_ask_1 6 rfl rfl)
theorem dX7_ask_33 : decode cX7_ask 33 = .ok (.ireturn, 1) := dk_172 (dk_at dksX7_ask_1 9 rfl rfl)
abbrev cX7_leaves : ByteArray := prog_12_method_104_code
def yX7_leaves : MethodName := ⟨RX7, "leaves", "(II)I"⟩
def dkwX7_leaves_1 : List UInt8 := [27, 28, 182, 1, 131, 42, 180, 1, 124, 172]
abbrev dktX7_leaves_1 : List UInt8 := dkwX7_leaves_1 ++ []
def dkwX7_leaves_0 : List UInt8 := [42, 3, 181, 0, 74, 42, 27, 42, 28, 133, 182, 0, 246, 182, 1, 127, 62, 29, 153, 0, 5, 29, 172, 42]
abbrev dktX7_leaves_0 : List UInt8 := dkwX7_leaves_0 ++ dktX7_leaves_1
theorem dksX7_leaves_0 : cX7_leaves.data.toList.drop 0 = dktX7_leaves_0 := by decide +kernel
theorem dksX7_leaves_1 : cX7_leaves.data.toList.drop 24 = dktX7_leaves_1 := dk_seg dksX7_leaves_0 24 rfl rfl
theorem dX7_leaves_0 : decode cX7_leaves 0 = .ok (.aload_n 0, 1) := dk_42 (dk_at dksX7_leaves_0 0 rfl rfl)
theorem dX7_leaves_1 : decode cX7_leaves 1 = .ok (.iconst 0, 1) := dk_3 (dk_at dksX7_leaves_0 1 rfl rfl)
theorem dX7_leaves_2 : decode cX7_leaves 2 = .ok (.putfield 74, 3) := dk_181 0 74 (dk_at dksX7_leaves_0 2 rfl rfl)
theorem dX7_leaves_5 : decode cX7_leaves 5 = .ok (.aload_n 0, 1) := dk_42 (dk_at dksX7_leaves_0 5 rfl rfl)
theorem dX7_leaves_6 : decode cX7_leaves 6 = .ok (.iload_n 1, 1) := dk_27 (dk_at dksX7_leaves_0 6 rfl rfl)
theorem dX7_leaves_7 : decode cX7_leaves 7 = .ok (.aload_n 0, 1) := dk_42 (dk_at dksX7_leaves_0 7 rfl rfl)
theorem dX7_leaves_8 : decode cX7_leaves 8 = .ok (.iload_n 2, 1) := dk_28 (dk_at dksX7_leaves_0 8 rfl rfl)
theorem dX7_leaves_9 : decode cX7_leaves 9 = .ok (.i2l, 1) := dk_133 (dk_at dksX7_leaves_0 9 rfl rfl)
theorem dX7_leaves_10 : decode cX7_leaves 10 = .ok (.invokevirtual 246, 3) := dk_182 0 246 (dk_at dksX7_leaves_0 10 rfl rfl)
theorem dX7_leaves_13 : decode cX7_leaves 13 = .ok (.invokevirtual 383, 3) := dk_182 1 127 (dk_at dksX7_leaves_0 13 rfl rfl)
theorem dX7_leaves_16 : decode cX7_leaves 16 = .ok (.istore_n 3, 1) := dk_62 (dk_at dksX7_leaves_0 16 rfl rfl)
theorem dX7_leaves_17 : decode cX7_leaves 17 = .ok (.iload_n 3, 1) := dk_29 (dk_at dksX7_leaves_0 17 rfl rfl)
theorem dX7_leaves_18 : decode cX7_leaves 18 = .ok (.ifCond .eq 5, 3) := dk_153 0 5 (dk_at dksX7_leaves_0 18 rfl rfl)
theorem dX7_leaves_21 : decode cX7_leaves 21 = .ok (.iload_n 3, 1) := dk_29 (dk_at dksX7_leaves_0 21 rfl rfl)
theorem dX7_leaves_22 : decode cX7_leaves 22 = .ok (.ireturn, 1) := dk_172 (dk_at dksX7_leaves_0 22 rfl rfl)
theorem dX7_leaves_23 : decode cX7_leaves 23 = .ok (.aload_n 0, 1) := dk_42 (dk_at dksX7_leaves_0 23 rfl rfl)
theorem dX7_leaves_24 : decode cX7_leaves 24 = .ok (.iload_n 1, 1) := dk_27 (dk_at dksX7_leaves_1 0 rfl rfl)
theorem dX7_leaves_25 : decode cX7_leaves 25 = .ok (.iload_n 2, 1) := dk_28 (dk_at dksX7_leaves_1 1 rfl rfl)
theorem dX7_leaves_26 : decode cX7_leaves 26 = .ok (.invokevirtual 387, 3) := dk_182 1 131 (dk_at dksX7_leaves_1 2 rfl rfl)
theorem dX7_leaves_29 : decode cX7_leaves 29 = .ok (.aload_n 0, 1) := dk_42 (dk_at dksX7_leaves_1 5 rfl rfl)
theorem dX7_leaves_30 : decode cX7_leaves 30 = .ok (.getfield 380, 3) := dk_180 1 124 (dk_at dksX7_leaves_1 6 rfl rfl)
theorem dX7_leaves_33 : decode cX7_leaves 33 = .ok (.ireturn, 1) := dk_172 (dk_at dksX7_leaves_1 9 rfl rfl)
abbrev cX7_kinds : ByteArray := prog_12_method_105_code
def yX7_kinds : MethodName := ⟨RX7, "kinds", "(II)I"⟩
def dkwX7_kinds_3 : List UInt8 := [167, 0, 4, 3, 128, 54, 4, 132, 5, 1, 167, 255, 205, 21, 4, 172]
abbrev dktX7_kinds_3 : List UInt8 := dkwX7_kinds_3 ++ []
def dkwX7_kinds_2 : List UInt8 := [28, 21, 5, 79, 42, 182, 1, 62, 21, 4, 42, 27, 182, 1, 115, 153, 0, 10, 4, 21, 5, 120]
abbrev dktX7_kinds_2 : List UInt8 := dkwX7_kinds_2 ++ dktX7_kinds_3
def dkwX7_kinds_1 : List UInt8 := [54, 4, 3, 54, 5, 21, 5, 42, 180, 0, 34, 6, 46, 162, 0, 46, 42, 182, 1, 59, 42, 180, 0, 56]
abbrev dktX7_kinds_1 : List UInt8 := dkwX7_kinds_1 ++ dktX7_kinds_2
def dkwX7_kinds_0 : List UInt8 := [42, 3, 181, 0, 74, 42, 27, 42, 28, 133, 182, 0, 246, 182, 1, 127, 62, 29, 153, 0, 5, 29, 172, 3]
abbrev dktX7_kinds_0 : List UInt8 := dkwX7_kinds_0 ++ dktX7_kinds_1
theorem dksX7_kinds_0 : cX7_kinds.data.toList.drop 0 = dktX7_kinds_0 := by decide +kernel
theorem dksX7_kinds_1 : cX7_kinds.data.toList.drop 24 = dktX7_kinds_1 := dk_seg dksX7_kinds_0 24 rfl rfl
theorem dksX7_kinds_2 : cX7_kinds.data.toList.drop 48 = dktX7_kinds_2 := dk_seg dksX7_kinds_1 24 rfl rfl
theorem dksX7_kinds_3 : cX7_kinds.data.toList.drop 70 = dktX7_kinds_3 := dk_seg dksX7_kinds_2 22 rfl rfl
theorem dX7_kinds_0 : decode cX7_kinds 0 = .ok (.aload_n 0, 1) := dk_42 (dk_at dksX7_kinds_0 0 rfl rfl)
theorem dX7_kinds_1 : decode cX7_kinds 1 = .ok (.iconst 0, 1) := dk_3 (dk_at dksX7_kinds_0 1 rfl rfl)
theorem dX7_kinds_2 : decode cX7_kinds 2 = .ok (.putfield 74, 3) := dk_181 0 74 (dk_at dksX7_kinds_0 2 rfl rfl)
theorem dX7_kinds_5 : decode cX7_kinds 5 = .ok (.aload_n 0, 1) := dk_42 (dk_at dksX7_kinds_0 5 rfl rfl)
theorem dX7_kinds_6 : decode cX7_kinds 6 = .ok (.iload_n 1, 1) := dk_27 (dk_at dksX7_kinds_0 6 rfl rfl)
theorem dX7_kinds_7 : decode cX7_kinds 7 = .ok (.aload_n 0, 1) := dk_42 (dk_at dksX7_kinds_0 7 rfl rfl)
theorem dX7_kinds_8 : decode cX7_kinds 8 = .ok (.iload_n 2, 1) := dk_28 (dk_at dksX7_kinds_0 8 rfl rfl)
theorem dX7_kinds_9 : decode cX7_kinds 9 = .ok (.i2l, 1) := dk_133 (dk_at dksX7_kinds_0 9 rfl rfl)
theorem dX7_kinds_10 : decode cX7_kinds 10 = .ok (.invokevirtual 246, 3) := dk_182 0 246 (dk_at dksX7_kinds_0 10 rfl rfl)
theorem dX7_kinds_13 : decode cX7_kinds 13 = .ok (.invokevirtual 383, 3) := dk_182 1 127 (dk_at dksX7_kinds_0 13 rfl rfl)
theorem dX7_kinds_16 : decode cX7_kinds 16 = .ok (.istore_n 3, 1) := dk_62 (dk_at dksX7_kinds_0 16 rfl rfl)
theorem dX7_kinds_17 : decode cX7_kinds 17 = .ok (.iload_n 3, 1) := dk_29 (dk_at dksX7_kinds_0 17 rfl rfl)
theorem dX7_kinds_18 : decode cX7_kinds 18 = .ok (.ifCond .eq 5, 3) := dk_153 0 5 (dk_at dksX7_kinds_0 18 rfl rfl)
theorem dX7_kinds_21 : decode cX7_kinds 21 = .ok (.iload_n 3, 1) := dk_29 (dk_at dksX7_kinds_0 21 rfl rfl)
theorem dX7_kinds_22 : decode cX7_kinds 22 = .ok (.ireturn, 1) := dk_172 (dk_at dksX7_kinds_0 22 rfl rfl)
theorem dX7_kinds_23 : decode cX7_kinds 23 = .ok (.iconst 0, 1) := dk_3 (dk_at dksX7_kinds_0 23 rfl rfl)
theorem dX7_kinds_24 : decode cX7_kinds 24 = .ok (.istore 4, 2) := dk_54 4 (dk_at dksX7_kinds_1 0 rfl rfl)
theorem dX7_kinds_26 : decode cX7_kinds 26 = .ok (.iconst 0, 1) := dk_3 (dk_at dksX7_kinds_1 2 rfl rfl)
theorem dX7_kinds_27 : decode cX7_kinds 27 = .ok (.istore 5, 2) := dk_54 5 (dk_at dksX7_kinds_1 3 rfl rfl)
theorem dX7_kinds_29 : decode cX7_kinds 29 = .ok (.iload 5, 2) := dk_21 5 (dk_at dksX7_kinds_1 5 rfl rfl)
theorem dX7_kinds_31 : decode cX7_kinds 31 = .ok (.aload_n 0, 1) := dk_42 (dk_at dksX7_kinds_1 7 rfl rfl)
theorem dX7_kinds_32 : decode cX7_kinds 32 = .ok (.getfield 34, 3) := dk_180 0 34 (dk_at dksX7_kinds_1 8 rfl rfl)
theorem dX7_kinds_35 : decode cX7_kinds 35 = .ok (.iconst 3, 1) := dk_6 (dk_at dksX7_kinds_1 11 rfl rfl)
theorem dX7_kinds_36 : decode cX7_kinds 36 = .ok (.iaload, 1) := dk_46 (dk_at dksX7_kinds_1 12 rfl rfl)
theorem dX7_kinds_37 : decode cX7_kinds 37 = .ok (.if_icmp .ge 46, 3) := dk_162 0 46 (dk_at dksX7_kinds_1 13 rfl rfl)
theorem dX7_kinds_40 : decode cX7_kinds 40 = .ok (.aload_n 0, 1) := dk_42 (dk_at dksX7_kinds_1 16 rfl rfl)
theorem dX7_kinds_41 : decode cX7_kinds 41 = .ok (.invokevirtual 315, 3) := dk_182 1 59 (dk_at dksX7_kinds_1 17 rfl rfl)
theorem dX7_kinds_44 : decode cX7_kinds 44 = .ok (.aload_n 0, 1) := dk_42 (dk_at dksX7_kinds_1 20 rfl rfl)
theorem dX7_kinds_45 : decode cX7_kinds 45 = .ok (.getfield 56, 3) := dk_180 0 56 (dk_at dksX7_kinds_1 21 rfl rfl)
theorem dX7_kinds_48 : decode cX7_kinds 48 = .ok (.iload_n 2, 1) := dk_28 (dk_at dksX7_kinds_2 0 rfl rfl)
theorem dX7_kinds_49 : decode cX7_kinds 49 = .ok (.iload 5, 2) := dk_21 5 (dk_at dksX7_kinds_2 1 rfl rfl)
theorem dX7_kinds_51 : decode cX7_kinds 51 = .ok (.iastore, 1) := dk_79 (dk_at dksX7_kinds_2 3 rfl rfl)
theorem dX7_kinds_52 : decode cX7_kinds 52 = .ok (.aload_n 0, 1) := dk_42 (dk_at dksX7_kinds_2 4 rfl rfl)
theorem dX7_kinds_53 : decode cX7_kinds 53 = .ok (.invokevirtual 318, 3) := dk_182 1 62 (dk_at dksX7_kinds_2 5 rfl rfl)
theorem dX7_kinds_56 : decode cX7_kinds 56 = .ok (.iload 4, 2) := dk_21 4 (dk_at dksX7_kinds_2 8 rfl rfl)
theorem dX7_kinds_58 : decode cX7_kinds 58 = .ok (.aload_n 0, 1) := dk_42 (dk_at dksX7_kinds_2 10 rfl rfl)
theorem dX7_kinds_59 : decode cX7_kinds 59 = .ok (.iload_n 1, 1) := dk_27 (dk_at dksX7_kinds_2 11 rfl rfl)
theorem dX7_kinds_60 : decode cX7_kinds 60 = .ok (.invokevirtual 371, 3) := dk_182 1 115 (dk_at dksX7_kinds_2 12 rfl rfl)
theorem dX7_kinds_63 : decode cX7_kinds 63 = .ok (.ifCond .eq 10, 3) := dk_153 0 10 (dk_at dksX7_kinds_2 15 rfl rfl)
theorem dX7_kinds_66 : decode cX7_kinds 66 = .ok (.iconst 1, 1) := dk_4 (dk_at dksX7_kinds_2 18 rfl rfl)
theorem dX7_kinds_67 : decode cX7_kinds 67 = .ok (.iload 5, 2) := dk_21 5 (dk_at dksX7_kinds_2 19 rfl rfl)
theorem dX7_kinds_69 : decode cX7_kinds 69 = .ok (.ishl, 1) := dk_120 (dk_at dksX7_kinds_2 21 rfl rfl)
theorem dX7_kinds_70 : decode cX7_kinds 70 = .ok (.goto 4, 3) := dk_167 0 4 (dk_at dksX7_kinds_3 0 rfl rfl)
theorem dX7_kinds_73 : decode cX7_kinds 73 = .ok (.iconst 0, 1) := dk_3 (dk_at dksX7_kinds_3 3 rfl rfl)
theorem dX7_kinds_74 : decode cX7_kinds 74 = .ok (.ior, 1) := dk_128 (dk_at dksX7_kinds_3 4 rfl rfl)
theorem dX7_kinds_75 : decode cX7_kinds 75 = .ok (.istore 4, 2) := dk_54 4 (dk_at dksX7_kinds_3 5 rfl rfl)
theorem dX7_kinds_77 : decode cX7_kinds 77 = .ok (.iinc 5 1, 3) := dk_132 5 1 (dk_at dksX7_kinds_3 7 rfl rfl)
theorem dX7_kinds_80 : decode cX7_kinds 80 = .ok (.goto (-51), 3) := dk_167 255 205 (dk_at dksX7_kinds_3 10 rfl rfl)
theorem dX7_kinds_83 : decode cX7_kinds 83 = .ok (.iload 4, 2) := dk_21 4 (dk_at dksX7_kinds_3 13 rfl rfl)
theorem dX7_kinds_85 : decode cX7_kinds 85 = .ok (.ireturn, 1) := dk_172 (dk_at dksX7_kinds_3 15 rfl rfl)
abbrev cX7_laws : ByteArray := prog_12_method_107_code
def yX7_laws : MethodName := ⟨RX7, "laws", "(I)I"⟩
def dkwX7_laws_2 : List UInt8 := [21, 4, 120, 167, 0, 4, 3, 128, 62, 132, 4, 1, 167, 255, 221, 29, 172]
abbrev dktX7_laws_2 : List UInt8 := dkwX7_laws_2 ++ []
def dkwX7_laws_1 : List UInt8 := [21, 4, 7, 162, 0, 35, 42, 21, 4, 182, 1, 134, 87, 29, 42, 27, 182, 1, 115, 153, 0, 10, 4]
abbrev dktX7_laws_1 : List UInt8 := dkwX7_laws_1 ++ dktX7_laws_2
def dkwX7_laws_0 : List UInt8 := [42, 3, 181, 0, 74, 42, 27, 4, 182, 1, 127, 61, 28, 153, 0, 5, 28, 172, 3, 62, 3, 54, 4]
abbrev dktX7_laws_0 : List UInt8 := dkwX7_laws_0 ++ dktX7_laws_1
theorem dksX7_laws_0 : cX7_laws.data.toList.drop 0 = dktX7_laws_0 := by decide +kernel
theorem dksX7_laws_1 : cX7_laws.data.toList.drop 23 = dktX7_laws_1 := dk_seg dksX7_laws_0 23 rfl rfl
theorem dksX7_laws_2 : cX7_laws.data.toList.drop 46 = dktX7_laws_2 := dk_seg dksX7_laws_1 23 rfl rfl
theorem dX7_laws_0 : decode cX7_laws 0 = .ok (.aload_n 0, 1) := dk_42 (dk_at dksX7_laws_0 0 rfl rfl)
theorem dX7_laws_1 : decode cX7_laws 1 = .ok (.iconst 0, 1) := dk_3 (dk_at dksX7_laws_0 1 rfl rfl)
theorem dX7_laws_2 : decode cX7_laws 2 = .ok (.putfield 74, 3) := dk_181 0 74 (dk_at dksX7_laws_0 2 rfl rfl)
theorem dX7_laws_5 : decode cX7_laws 5 = .ok (.aload_n 0, 1) := dk_42 (dk_at dksX7_laws_0 5 rfl rfl)
theorem dX7_laws_6 : decode cX7_laws 6 = .ok (.iload_n 1, 1) := dk_27 (dk_at dksX7_laws_0 6 rfl rfl)
theorem dX7_laws_7 : decode cX7_laws 7 = .ok (.iconst 1, 1) := dk_4 (dk_at dksX7_laws_0 7 rfl rfl)
theorem dX7_laws_8 : decode cX7_laws 8 = .ok (.invokevirtual 383, 3) := dk_182 1 127 (dk_at dksX7_laws_0 8 rfl rfl)
theorem dX7_laws_11 : decode cX7_laws 11 = .ok (.istore_n 2, 1) := dk_61 (dk_at dksX7_laws_0 11 rfl rfl)
theorem dX7_laws_12 : decode cX7_laws 12 = .ok (.iload_n 2, 1) := dk_28 (dk_at dksX7_laws_0 12 rfl rfl)
theorem dX7_laws_13 : decode cX7_laws 13 = .ok (.ifCond .eq 5, 3) := dk_153 0 5 (dk_at dksX7_laws_0 13 rfl rfl)
theorem dX7_laws_16 : decode cX7_laws 16 = .ok (.iload_n 2, 1) := dk_28 (dk_at dksX7_laws_0 16 rfl rfl)
theorem dX7_laws_17 : decode cX7_laws 17 = .ok (.ireturn, 1) := dk_172 (dk_at dksX7_laws_0 17 rfl rfl)
theorem dX7_laws_18 : decode cX7_laws 18 = .ok (.iconst 0, 1) := dk_3 (dk_at dksX7_laws_0 18 rfl rfl)
theorem dX7_laws_19 : decode cX7_laws 19 = .ok (.istore_n 3, 1) := dk_62 (dk_at dksX7_laws_0 19 rfl rfl)
theorem dX7_laws_20 : decode cX7_laws 20 = .ok (.iconst 0, 1) := dk_3 (dk_at dksX7_laws_0 20 rfl rfl)
theorem dX7_laws_21 : decode cX7_laws 21 = .ok (.istore 4, 2) := dk_54 4 (dk_at dksX7_laws_0 21 rfl rfl)
theorem dX7_laws_23 : decode cX7_laws 23 = .ok (.iload 4, 2) := dk_21 4 (dk_at dksX7_laws_1 0 rfl rfl)
theorem dX7_laws_25 : decode cX7_laws 25 = .ok (.iconst 4, 1) := dk_7 (dk_at dksX7_laws_1 2 rfl rfl)
theorem dX7_laws_26 : decode cX7_laws 26 = .ok (.if_icmp .ge 35, 3) := dk_162 0 35 (dk_at dksX7_laws_1 3 rfl rfl)
theorem dX7_laws_29 : decode cX7_laws 29 = .ok (.aload_n 0, 1) := dk_42 (dk_at dksX7_laws_1 6 rfl rfl)
theorem dX7_laws_30 : decode cX7_laws 30 = .ok (.iload 4, 2) := dk_21 4 (dk_at dksX7_laws_1 7 rfl rfl)
theorem dX7_laws_32 : decode cX7_laws 32 = .ok (.invokevirtual 390, 3) := dk_182 1 134 (dk_at dksX7_laws_1 9 rfl rfl)
theorem dX7_laws_35 : decode cX7_laws 35 = .ok (.pop, 1) := dk_87 (dk_at dksX7_laws_1 12 rfl rfl)
theorem dX7_laws_36 : decode cX7_laws 36 = .ok (.iload_n 3, 1) := dk_29 (dk_at dksX7_laws_1 13 rfl rfl)
theorem dX7_laws_37 : decode cX7_laws 37 = .ok (.aload_n 0, 1) := dk_42 (dk_at dksX7_laws_1 14 rfl rfl)
theorem dX7_laws_38 : decode cX7_laws 38 = .ok (.iload_n 1, 1) := dk_27 (dk_at dksX7_laws_1 15 rfl rfl)
theorem dX7_laws_39 : decode cX7_laws 39 = .ok (.invokevirtual 371, 3) := dk_182 1 115 (dk_at dksX7_laws_1 16 rfl rfl)
theorem dX7_laws_42 : decode cX7_laws 42 = .ok (.ifCond .eq 10, 3) := dk_153 0 10 (dk_at dksX7_laws_1 19 rfl rfl)
theorem dX7_laws_45 : decode cX7_laws 45 = .ok (.iconst 1, 1) := dk_4 (dk_at dksX7_laws_1 22 rfl rfl)
theorem dX7_laws_46 : decode cX7_laws 46 = .ok (.iload 4, 2) := dk_21 4 (dk_at dksX7_laws_2 0 rfl rfl)
theorem dX7_laws_48 : decode cX7_laws 48 = .ok (.ishl, 1) := dk_120 (dk_at dksX7_laws_2 2 rfl rfl)
theorem dX7_laws_49 : decode cX7_laws 49 = .ok (.goto 4, 3) := dk_167 0 4 (dk_at dksX7_laws_2 3 rfl rfl)
theorem dX7_laws_52 : decode cX7_laws 52 = .ok (.iconst 0, 1) := dk_3 (dk_at dksX7_laws_2 6 rfl rfl)
theorem dX7_laws_53 : decode cX7_laws 53 = .ok (.ior, 1) := dk_128 (dk_at dksX7_laws_2 7 rfl rfl)
theorem dX7_laws_54 : decode cX7_laws 54 = .ok (.istore_n 3, 1) := dk_62 (dk_at dksX7_laws_2 8 rfl rfl)
theorem dX7_laws_55 : decode cX7_laws 55 = .ok (.iinc 4 1, 3) := dk_132 4 1 (dk_at dksX7_laws_2 9 rfl rfl)
theorem dX7_laws_58 : decode cX7_laws 58 = .ok (.goto (-35), 3) := dk_167 255 221 (dk_at dksX7_laws_2 12 rfl rfl)
theorem dX7_laws_61 : decode cX7_laws 61 = .ok (.iload_n 3, 1) := dk_29 (dk_at dksX7_laws_2 15 rfl rfl)
theorem dX7_laws_62 : decode cX7_laws 62 = .ok (.ireturn, 1) := dk_172 (dk_at dksX7_laws_2 16 rfl rfl)
abbrev cX7_allBy : ByteArray := prog_12_method_106_code
def yX7_allBy : MethodName := ⟨RX7, "allBy", "(I)I"⟩
def dkwX7_allBy_0 : List UInt8 := [42, 182, 1, 59, 42, 27, 181, 0, 252, 42, 182, 1, 62, 42, 42, 182, 0, 243, 182, 1, 90, 172]
abbrev dktX7_allBy_0 : List UInt8 := dkwX7_allBy_0 ++ []
theorem dksX7_allBy_0 : cX7_allBy.data.toList.drop 0 = dktX7_allBy_0 := by decide +kernel
theorem dX7_allBy_0 : decode cX7_allBy 0 = .ok (.aload_n 0, 1) := dk_42 (dk_at dksX7_allBy_0 0 rfl rfl)
theorem dX7_allBy_1 : decode cX7_allBy 1 = .ok (.invokevirtual 315, 3) := dk_182 1 59 (dk_at dksX7_allBy_0 1 rfl rfl)
theorem dX7_allBy_4 : decode cX7_allBy 4 = .ok (.aload_n 0, 1) := dk_42 (dk_at dksX7_allBy_0 4 rfl rfl)
theorem dX7_allBy_5 : decode cX7_allBy 5 = .ok (.iload_n 1, 1) := dk_27 (dk_at dksX7_allBy_0 5 rfl rfl)
theorem dX7_allBy_6 : decode cX7_allBy 6 = .ok (.putfield 252, 3) := dk_181 0 252 (dk_at dksX7_allBy_0 6 rfl rfl)
theorem dX7_allBy_9 : decode cX7_allBy 9 = .ok (.aload_n 0, 1) := dk_42 (dk_at dksX7_allBy_0 9 rfl rfl)
theorem dX7_allBy_10 : decode cX7_allBy 10 = .ok (.invokevirtual 318, 3) := dk_182 1 62 (dk_at dksX7_allBy_0 10 rfl rfl)
theorem dX7_allBy_13 : decode cX7_allBy 13 = .ok (.aload_n 0, 1) := dk_42 (dk_at dksX7_allBy_0 13 rfl rfl)
theorem dX7_allBy_14 : decode cX7_allBy 14 = .ok (.aload_n 0, 1) := dk_42 (dk_at dksX7_allBy_0 14 rfl rfl)
theorem dX7_allBy_15 : decode cX7_allBy 15 = .ok (.invokevirtual 243, 3) := dk_182 0 243 (dk_at dksX7_allBy_0 15 rfl rfl)
theorem dX7_allBy_18 : decode cX7_allBy 18 = .ok (.invokevirtual 346, 3) := dk_182 1 90 (dk_at dksX7_allBy_0 18 rfl rfl)
theorem dX7_allBy_21 : decode cX7_allBy 21 = .ok (.ireturn, 1) := dk_172 (dk_at dksX7_allBy_0 21 rfl rfl)
abbrev cX7_by : ByteArray := prog_12_method_108_code
def yX7_by : MethodName := ⟨RX7, "by", "(I)I"⟩
def dkwX7_by_1 : List UInt8 := [42, 27, 182, 1, 134, 167, 0, 5, 16, 254, 172]
abbrev dktX7_by_1 : List UInt8 := dkwX7_by_1 ++ []
def dkwX7_by_0 : List UInt8 := [42, 3, 181, 0, 74, 42, 182, 0, 240, 153, 0, 23, 27, 133, 9, 20, 0, 77, 184, 0, 79, 153, 0, 11]
abbrev dktX7_by_0 : List UInt8 := dkwX7_by_0 ++ dktX7_by_1
theorem dksX7_by_0 : cX7_by.data.toList.drop 0 = dktX7_by_0 := by decide +kernel
theorem dksX7_by_1 : cX7_by.data.toList.drop 24 = dktX7_by_1 := dk_seg dksX7_by_0 24 rfl rfl
theorem dX7_by_0 : decode cX7_by 0 = .ok (.aload_n 0, 1) := dk_42 (dk_at dksX7_by_0 0 rfl rfl)
theorem dX7_by_1 : decode cX7_by 1 = .ok (.iconst 0, 1) := dk_3 (dk_at dksX7_by_0 1 rfl rfl)
theorem dX7_by_2 : decode cX7_by 2 = .ok (.putfield 74, 3) := dk_181 0 74 (dk_at dksX7_by_0 2 rfl rfl)
theorem dX7_by_5 : decode cX7_by 5 = .ok (.aload_n 0, 1) := dk_42 (dk_at dksX7_by_0 5 rfl rfl)
theorem dX7_by_6 : decode cX7_by 6 = .ok (.invokevirtual 240, 3) := dk_182 0 240 (dk_at dksX7_by_0 6 rfl rfl)
theorem dX7_by_9 : decode cX7_by 9 = .ok (.ifCond .eq 23, 3) := dk_153 0 23 (dk_at dksX7_by_0 9 rfl rfl)
theorem dX7_by_12 : decode cX7_by 12 = .ok (.iload_n 1, 1) := dk_27 (dk_at dksX7_by_0 12 rfl rfl)
theorem dX7_by_13 : decode cX7_by 13 = .ok (.i2l, 1) := dk_133 (dk_at dksX7_by_0 13 rfl rfl)
theorem dX7_by_14 : decode cX7_by 14 = .ok (.lconst 0, 1) := dk_9 (dk_at dksX7_by_0 14 rfl rfl)
theorem dX7_by_15 : decode cX7_by 15 = .ok (.ldc2_w 77, 3) := dk_20 0 77 (dk_at dksX7_by_0 15 rfl rfl)
theorem dX7_by_18 : decode cX7_by 18 = .ok (.invokestatic 79, 3) := dk_184 0 79 (dk_at dksX7_by_0 18 rfl rfl)
theorem dX7_by_21 : decode cX7_by 21 = .ok (.ifCond .eq 11, 3) := dk_153 0 11 (dk_at dksX7_by_0 21 rfl rfl)
theorem dX7_by_24 : decode cX7_by 24 = .ok (.aload_n 0, 1) := dk_42 (dk_at dksX7_by_1 0 rfl rfl)
theorem dX7_by_25 : decode cX7_by 25 = .ok (.iload_n 1, 1) := dk_27 (dk_at dksX7_by_1 1 rfl rfl)
theorem dX7_by_26 : decode cX7_by 26 = .ok (.invokevirtual 390, 3) := dk_182 1 134 (dk_at dksX7_by_1 2 rfl rfl)
theorem dX7_by_29 : decode cX7_by 29 = .ok (.goto 5, 3) := dk_167 0 5 (dk_at dksX7_by_1 5 rfl rfl)
theorem dX7_by_32 : decode cX7_by 32 = .ok (.bipush (-2), 2) := dk_16 254 (dk_at dksX7_by_1 8 rfl rfl)
theorem dX7_by_34 : decode cX7_by 34 = .ok (.ireturn, 1) := dk_172 (dk_at dksX7_by_1 10 rfl rfl)
abbrev cX7_law : ByteArray := prog_12_method_109_code
def yX7_law : MethodName := ⟨RX7, "law", "()I"⟩
def dkwX7_law_1 : List UInt8 := [42, 28, 182, 1, 134, 42, 27, 182, 1, 134, 164, 0, 5, 28, 60, 132, 2, 1, 167, 255, 233, 27, 172]
abbrev dktX7_law_1 : List UInt8 := dkwX7_law_1 ++ []
def dkwX7_law_0 : List UInt8 := [42, 3, 181, 0, 74, 42, 182, 0, 240, 154, 0, 6, 16, 254, 172, 3, 60, 4, 61, 28, 7, 162, 0, 24]
abbrev dktX7_law_0 : List UInt8 := dkwX7_law_0 ++ dktX7_law_1
theorem dksX7_law_0 : cX7_law.data.toList.drop 0 = dktX7_law_0 := by decide +kernel
theorem dksX7_law_1 : cX7_law.data.toList.drop 24 = dktX7_law_1 := dk_seg dksX7_law_0 24 rfl rfl
theorem dX7_law_0 : decode cX7_law 0 = .ok (.aload_n 0, 1) := dk_42 (dk_at dksX7_law_0 0 rfl rfl)
theorem dX7_law_1 : decode cX7_law 1 = .ok (.iconst 0, 1) := dk_3 (dk_at dksX7_law_0 1 rfl rfl)
theorem dX7_law_2 : decode cX7_law 2 = .ok (.putfield 74, 3) := dk_181 0 74 (dk_at dksX7_law_0 2 rfl rfl)
theorem dX7_law_5 : decode cX7_law 5 = .ok (.aload_n 0, 1) := dk_42 (dk_at dksX7_law_0 5 rfl rfl)
theorem dX7_law_6 : decode cX7_law 6 = .ok (.invokevirtual 240, 3) := dk_182 0 240 (dk_at dksX7_law_0 6 rfl rfl)
theorem dX7_law_9 : decode cX7_law 9 = .ok (.ifCond .ne 6, 3) := dk_154 0 6 (dk_at dksX7_law_0 9 rfl rfl)
theorem dX7_law_12 : decode cX7_law 12 = .ok (.bipush (-2), 2) := dk_16 254 (dk_at dksX7_law_0 12 rfl rfl)
theorem dX7_law_14 : decode cX7_law 14 = .ok (.ireturn, 1) := dk_172 (dk_at dksX7_law_0 14 rfl rfl)
theorem dX7_law_15 : decode cX7_law 15 = .ok (.iconst 0, 1) := dk_3 (dk_at dksX7_law_0 15 rfl rfl)
theorem dX7_law_16 : decode cX7_law 16 = .ok (.istore_n 1, 1) := dk_60 (dk_at dksX7_law_0 16 rfl rfl)
theorem dX7_law_17 : decode cX7_law 17 = .ok (.iconst 1, 1) := dk_4 (dk_at dksX7_law_0 17 rfl rfl)
theorem dX7_law_18 : decode cX7_law 18 = .ok (.istore_n 2, 1) := dk_61 (dk_at dksX7_law_0 18 rfl rfl)
theorem dX7_law_19 : decode cX7_law 19 = .ok (.iload_n 2, 1) := dk_28 (dk_at dksX7_law_0 19 rfl rfl)
theorem dX7_law_20 : decode cX7_law 20 = .ok (.iconst 4, 1) := dk_7 (dk_at dksX7_law_0 20 rfl rfl)
theorem dX7_law_21 : decode cX7_law 21 = .ok (.if_icmp .ge 24, 3) := dk_162 0 24 (dk_at dksX7_law_0 21 rfl rfl)
theorem dX7_law_24 : decode cX7_law 24 = .ok (.aload_n 0, 1) := dk_42 (dk_at dksX7_law_1 0 rfl rfl)
theorem dX7_law_25 : decode cX7_law 25 = .ok (.iload_n 2, 1) := dk_28 (dk_at dksX7_law_1 1 rfl rfl)
theorem dX7_law_26 : decode cX7_law 26 = .ok (.invokevirtual 390, 3) := dk_182 1 134 (dk_at dksX7_law_1 2 rfl rfl)
theorem dX7_law_29 : decode cX7_law 29 = .ok (.aload_n 0, 1) := dk_42 (dk_at dksX7_law_1 5 rfl rfl)
theorem dX7_law_30 : decode cX7_law 30 = .ok (.iload_n 1, 1) := dk_27 (dk_at dksX7_law_1 6 rfl rfl)
theorem dX7_law_31 : decode cX7_law 31 = .ok (.invokevirtual 390, 3) := dk_182 1 134 (dk_at dksX7_law_1 7 rfl rfl)
theorem dX7_law_34 : decode cX7_law 34 = .ok (.if_icmp .le 5, 3) := dk_164 0 5 (dk_at dksX7_law_1 10 rfl rfl)
theorem dX7_law_37 : decode cX7_law 37 = .ok (.iload_n 2, 1) := dk_28 (dk_at dksX7_law_1 13 rfl rfl)
theorem dX7_law_38 : decode cX7_law 38 = .ok (.istore_n 1, 1) := dk_60 (dk_at dksX7_law_1 14 rfl rfl)
theorem dX7_law_39 : decode cX7_law 39 = .ok (.iinc 2 1, 3) := dk_132 2 1 (dk_at dksX7_law_1 15 rfl rfl)
theorem dX7_law_42 : decode cX7_law 42 = .ok (.goto (-23), 3) := dk_167 255 233 (dk_at dksX7_law_1 18 rfl rfl)
theorem dX7_law_45 : decode cX7_law 45 = .ok (.iload_n 1, 1) := dk_27 (dk_at dksX7_law_1 21 rfl rfl)
theorem dX7_law_46 : decode cX7_law 46 = .ok (.ireturn, 1) := dk_172 (dk_at dksX7_law_1 22 rfl rfl)
abbrev cX7_bold : ByteArray := prog_12_method_110_code
def yX7_bold : MethodName := ⟨RX7, "bold", "(II)I"⟩
def dkwX7_bold_4 : List UInt8 := [29, 172]
abbrev dktX7_bold_4 : List UInt8 := dkwX7_bold_4 ++ []
def dkwX7_bold_3 : List UInt8 := [21, 4, 28, 182, 1, 27, 42, 29, 28, 182, 1, 27, 164, 0, 6, 21, 4, 62, 132, 4, 1, 167, 255, 197]
abbrev dktX7_bold_3 : List UInt8 := dkwX7_bold_3 ++ dktX7_bold_4
def dkwX7_bold_2 : List UInt8 := [21, 4, 104, 46, 27, 160, 0, 37, 42, 21, 4, 28, 182, 1, 37, 153, 0, 27, 29, 2, 159, 0, 19, 42]
abbrev dktX7_bold_2 : List UInt8 := dkwX7_bold_2 ++ dktX7_bold_3
def dkwX7_bold_1 : List UInt8 := [172, 42, 182, 1, 81, 2, 62, 3, 54, 4, 21, 4, 42, 182, 0, 236, 162, 0, 56, 42, 180, 0, 43, 7]
abbrev dktX7_bold_1 : List UInt8 := dkwX7_bold_1 ++ dktX7_bold_2
def dkwX7_bold_0 : List UInt8 := [42, 3, 181, 0, 74, 42, 27, 182, 1, 70, 153, 0, 12, 42, 28, 133, 182, 0, 249, 154, 0, 6, 16, 254]
abbrev dktX7_bold_0 : List UInt8 := dkwX7_bold_0 ++ dktX7_bold_1
theorem dksX7_bold_0 : cX7_bold.data.toList.drop 0 = dktX7_bold_0 := by decide +kernel
theorem dksX7_bold_1 : cX7_bold.data.toList.drop 24 = dktX7_bold_1 := dk_seg dksX7_bold_0 24 rfl rfl
theorem dksX7_bold_2 : cX7_bold.data.toList.drop 48 = dktX7_bold_2 := dk_seg dksX7_bold_1 24 rfl rfl
theorem dksX7_bold_3 : cX7_bold.data.toList.drop 72 = dktX7_bold_3 := dk_seg dksX7_bold_2 24 rfl rfl
theorem dksX7_bold_4 : cX7_bold.data.toList.drop 96 = dktX7_bold_4 := dk_seg dksX7_bold_3 24 rfl rfl
theorem dX7_bold_0 : decode cX7_bold 0 = .ok (.aload_n 0, 1) := dk_42 (dk_at dksX7_bold_0 0 rfl rfl)
theorem dX7_bold_1 : decode cX7_bold 1 = .ok (.iconst 0, 1) := dk_3 (dk_at dksX7_bold_0 1 rfl rfl)
theorem dX7_bold_2 : decode cX7_bold 2 = .ok (.putfield 74, 3) := dk_181 0 74 (dk_at dksX7_bold_0 2 rfl rfl)
theorem dX7_bold_5 : decode cX7_bold 5 = .ok (.aload_n 0, 1) := dk_42 (dk_at dksX7_bold_0 5 rfl rfl)
theorem dX7_bold_6 : decode cX7_bold 6 = .ok (.iload_n 1, 1) := dk_27 (dk_at dksX7_bold_0 6 rfl rfl)
theorem dX7_bold_7 : decode cX7_bold 7 = .ok (.invokevirtual 326, 3) := dk_182 1 70 (dk_at dksX7_bold_0 7 rfl rfl)
theorem dX7_bold_10 : decode cX7_bold 10 = .ok (.ifCond .eq 12, 3) := dk_153 0 12 (dk_at dksX7_bold_0 10 rfl rfl)
theorem dX7_bold_13 : decode cX7_bold 13 = .ok (.aload_n 0, 1) := dk_42 (dk_at dksX7_bold_0 13 rfl rfl)
theorem dX7_bold_14 : decode cX7_bold 14 = .ok (.iload_n 2, 1) := dk_28 (dk_at dksX7_bold_0 14 rfl rfl)
theorem dX7_bold_15 : decode cX7_bold 15 = .ok (.i2l, 1) := dk_133 (dk_at dksX7_bold_0 15 rfl rfl)
theorem dX7_bold_16 : decode cX7_bold 16 = .ok (.invokevirtual 249, 3) := dk_182 0 249 (dk_at dksX7_bold_0 16 rfl rfl)
theorem dX7_bold_19 : decode cX7_bold 19 = .ok (.ifCond .ne 6, 3) := dk_154 0 6 (dk_at dksX7_bold_0 19 rfl rfl)
theorem dX7_bold_22 : decode cX7_bold 22 = .ok (.bipush (-2), 2) := dk_16 254 (dk_at dksX7_bold_0 22 rfl rfl)
theorem dX7_bold_24 : decode cX7_bold 24 = .ok (.ireturn, 1) := dk_172 (dk_at dksX7_bold_1 0 rfl rfl)
theorem dX7_bold_25 : decode cX7_bold 25 = .ok (.aload_n 0, 1) := dk_42 (dk_at dksX7_bold_1 1 rfl rfl)
theorem dX7_bold_26 : decode cX7_bold 26 = .ok (.invokevirtual 337, 3) := dk_182 1 81 (dk_at dksX7_bold_1 2 rfl rfl)
theorem dX7_bold_29 : decode cX7_bold 29 = .ok (.iconst (-1), 1) := dk_2 (dk_at dksX7_bold_1 5 rfl rfl)
theorem dX7_bold_30 : decode cX7_bold 30 = .ok (.istore_n 3, 1) := dk_62 (dk_at dksX7_bold_1 6 rfl rfl)
theorem dX7_bold_31 : decode cX7_bold 31 = .ok (.iconst 0, 1) := dk_3 (dk_at dksX7_bold_1 7 rfl rfl)
theorem dX7_bold_32 : decode cX7_bold 32 = .ok (.istore 4, 2) := dk_54 4 (dk_at dksX7_bold_1 8 rfl rfl)
theorem dX7_bold_34 : decode cX7_bold 34 = .ok (.iload 4, 2) := dk_21 4 (dk_at dksX7_bold_1 10 rfl rfl)
theorem dX7_bold_36 : decode cX7_bold 36 = .ok (.aload_n 0, 1) := dk_42 (dk_at dksX7_bold_1 12 rfl rfl)
theorem dX7_bold_37 : decode cX7_bold 37 = .ok (.invokevirtual 236, 3) := dk_182 0 236 (dk_at dksX7_bold_1 13 rfl rfl)
theorem dX7_bold_40 : decode cX7_bold 40 = .ok (.if_icmp .ge 56, 3) := dk_162 0 56 (dk_at dksX7_bold_1 16 rfl rfl)
theorem dX7_bold_43 : decode cX7_bold 43 = .ok (.aload_n 0, 1) := dk_42 (dk_at dksX7_bold_1 19 rfl rfl)
theorem dX7_bold_44 : decode cX7_bold 44 = .ok (.getfield 43, 3) := dk_180 0 43 (dk_at dksX7_bold_1 20 rfl rfl)
theorem dX7_bold_47 : decode cX7_bold 47 = .ok (.iconst 4, 1) := dk_7 (dk_at dksX7_bold_1 23 rfl rfl)
theorem dX7_bold_48 : decode cX7_bold 48 = .ok (.iload 4, 2) := dk_21 4 (dk_at dksX7_bold_2 0 rfl rfl)
theorem dX7_bold_50 : decode cX7_bold 50 = .ok (.imul, 1) := dk_104 (dk_at dksX7_bold_2 2 rfl rfl)
theorem dX7_bold_51 : decode cX7_bold 51 = .ok (.iaload, 1) := dk_46 (dk_at dksX7_bold_2 3 rfl rfl)
theorem dX7_bold_52 : decode cX7_bold 52 = .ok (.iload_n 1, 1) := dk_27 (dk_at dksX7_bold_2 4 rfl rfl)
theorem dX7_bold_53 : decode cX7_bold 53 = .ok (.if_icmp .ne 37, 3) := dk_160 0 37 (dk_at dksX7_bold_2 5 rfl rfl)
theorem dX7_bold_56 : decode cX7_bold 56 = .ok (.aload_n 0, 1) := dk_42 (dk_at dksX7_bold_2 8 rfl rfl)
theorem dX7_bold_57 : decode cX7_bold 57 = .ok (.iload 4, 2) := dk_21 4 (dk_at dksX7_bold_2 9 rfl rfl)
theorem dX7_bold_59 : decode cX7_bold 59 = .ok (.iload_n 2, 1) := dk_28 (dk_at dksX7_bold_2 11 rfl rfl)
theorem dX7_bold_60 : decode cX7_bold 60 = .ok (.invokevirtual 293, 3) := dk_182 1 37 (dk_at dksX7_bold_2 12 rfl rfl)
theorem dX7_bold_63 : decode cX7_bold 63 = .ok (.ifCond .eq 27, 3) := dk_153 0 27 (dk_at dksX7_bold_2 15 rfl rfl)
theorem dX7_bold_66 : decode cX7_bold 66 = .ok (.iload_n 3, 1) := dk_29 (dk_at dksX7_bold_2 18 rfl rfl)
theorem dX7_bold_67 : decode cX7_bold 67 = .ok (.iconst (-1), 1) := dk_2 (dk_at dksX7_bold_2 19 rfl rfl)
theorem dX7_bold_68 : decode cX7_bold 68 = .ok (.if_icmp .eq 19, 3) := dk_159 0 19 (dk_at dksX7_bold_2 20 rfl rfl)
theorem dX7_bold_71 : decode cX7_bold 71 = .ok (.aload_n 0, 1) := dk_42 (dk_at dksX7_bold_2 23 rfl rfl)
theorem dX7_bold_72 : decode cX7_bold 72 = .ok (.iload 4, 2) := dk_21 4 (dk_at dksX7_bold_3 0 rfl rfl)
theorem dX7_bold_74 : decode cX7_bold 74 = .ok (.iload_n 2, 1) := dk_28 (dk_at dksX7_bold_3 2 rfl rfl)
theorem dX7_bold_75 : decode cX7_bold 75 = .ok (.invokevirtual 283, 3) := dk_182 1 27 (dk_at dksX7_bold_3 3 rfl rfl)
theorem dX7_bold_78 : decode cX7_bold 78 = .ok (.aload_n 0, 1) := dk_42 (dk_at dksX7_bold_3 6 rfl rfl)
theorem dX7_bold_79 : decode cX7_bold 79 = .ok (.iload_n 3, 1) := dk_29 (dk_at dksX7_bold_3 7 rfl rfl)
theorem dX7_bold_80 : decode cX7_bold 80 = .ok (.iload_n 2, 1) := dk_28 (dk_at dksX7_bold_3 8 rfl rfl)
theorem dX7_bold_81 : decode cX7_bold 81 = .ok (.invokevirtual 283, 3) := dk_182 1 27 (dk_at dksX7_bold_3 9 rfl rfl)
theorem dX7_bold_84 : decode cX7_bold 84 = .ok (.if_icmp .le 6, 3) := dk_164 0 6 (dk_at dksX7_bold_3 12 rfl rfl)
theorem dX7_bold_87 : decode cX7_bold 87 = .ok (.iload 4, 2) := dk_21 4 (dk_at dksX7_bold_3 15 rfl rfl)
theorem dX7_bold_89 : decode cX7_bold 89 = .ok (.istore_n 3, 1) := dk_62 (dk_at dksX7_bold_3 17 rfl rfl)
theorem dX7_bold_90 : decode cX7_bold 90 = .ok (.iinc 4 1, 3) := dk_132 4 1 (dk_at dksX7_bold_3 18 rfl rfl)
theorem dX7_bold_93 : decode cX7_bold 93 = .ok (.goto (-59), 3) := dk_167 255 197 (dk_at dksX7_bold_3 21 rfl rfl)
theorem dX7_bold_96 : decode cX7_bold 96 = .ok (.iload_n 3, 1) := dk_29 (dk_at dksX7_bold_4 0 rfl rfl)
theorem dX7_bold_97 : decode cX7_bold 97 = .ok (.ireturn, 1) := dk_172 (dk_at dksX7_bold_4 1 rfl rfl)
abbrev cX7_sum : ByteArray := prog_12_method_111_code
def yX7_sum : MethodName := ⟨RX7, "sum", "(II)I"⟩
def dkwX7_sum_3 : List UInt8 := [132, 4, 1, 167, 255, 217, 29, 172]
abbrev dktX7_sum_3 : List UInt8 := dkwX7_sum_3 ++ []
def dkwX7_sum_2 : List UInt8 := [7, 21, 4, 104, 46, 27, 160, 0, 13, 42, 21, 4, 28, 182, 1, 27, 167, 0, 4, 3, 96, 62]
abbrev dktX7_sum_2 : List UInt8 := dkwX7_sum_2 ++ dktX7_sum_3
def dkwX7_sum_1 : List UInt8 := [172, 42, 182, 1, 81, 3, 62, 3, 54, 4, 21, 4, 42, 182, 0, 236, 162, 0, 36, 29, 42, 180, 0, 43]
abbrev dktX7_sum_1 : List UInt8 := dkwX7_sum_1 ++ dktX7_sum_2
def dkwX7_sum_0 : List UInt8 := [42, 3, 181, 0, 74, 42, 27, 182, 1, 70, 153, 0, 12, 42, 28, 133, 182, 0, 249, 154, 0, 6, 16, 254]
abbrev dktX7_sum_0 : List UInt8 := dkwX7_sum_0 ++ dktX7_sum_1
theorem dksX7_sum_0 : cX7_sum.data.toList.drop 0 = dktX7_sum_0 := by decide +kernel
theorem dksX7_sum_1 : cX7_sum.data.toList.drop 24 = dktX7_sum_1 := dk_seg dksX7_sum_0 24 rfl rfl
theorem dksX7_sum_2 : cX7_sum.data.toList.drop 48 = dktX7_sum_2 := dk_seg dksX7_sum_1 24 rfl rfl
theorem dksX7_sum_3 : cX7_sum.data.toList.drop 70 = dktX7_sum_3 := dk_seg dksX7_sum_2 22 rfl rfl
theorem dX7_sum_0 : decode cX7_sum 0 = .ok (.aload_n 0, 1) := dk_42 (dk_at dksX7_sum_0 0 rfl rfl)
theorem dX7_sum_1 : decode cX7_sum 1 = .ok (.iconst 0, 1) := dk_3 (dk_at dksX7_sum_0 1 rfl rfl)
theorem dX7_sum_2 : decode cX7_sum 2 = .ok (.putfield 74, 3) := dk_181 0 74 (dk_at dksX7_sum_0 2 rfl rfl)
theorem dX7_sum_5 : decode cX7_sum 5 = .ok (.aload_n 0, 1) := dk_42 (dk_at dksX7_sum_0 5 rfl rfl)
theorem dX7_sum_6 : decode cX7_sum 6 = .ok (.iload_n 1, 1) := dk_27 (dk_at dksX7_sum_0 6 rfl rfl)
theorem dX7_sum_7 : decode cX7_sum 7 = .ok (.invokevirtual 326, 3) := dk_182 1 70 (dk_at dksX7_sum_0 7 rfl rfl)
theorem dX7_sum_10 : decode cX7_sum 10 = .ok (.ifCond .eq 12, 3) := dk_153 0 12 (dk_at dksX7_sum_0 10 rfl rfl)
theorem dX7_sum_13 : decode cX7_sum 13 = .ok (.aload_n 0, 1) := dk_42 (dk_at dksX7_sum_0 13 rfl rfl)
theorem dX7_sum_14 : decode cX7_sum 14 = .ok (.iload_n 2, 1) := dk_28 (dk_at dksX7_sum_0 14 rfl rfl)
theorem dX7_sum_15 : decode cX7_sum 15 = .ok (.i2l, 1) := dk_133 (dk_at dksX7_sum_0 15 rfl rfl)
theorem dX7_sum_16 : decode cX7_sum 16 = .ok (.invokevirtual 249, 3) := dk_182 0 249 (dk_at dksX7_sum_0 16 rfl rfl)
theorem dX7_sum_19 : decode cX7_sum 19 = .ok (.ifCond .ne 6, 3) := dk_154 0 6 (dk_at dksX7_sum_0 19 rfl rfl)
theorem dX7_sum_22 : decode cX7_sum 22 = .ok (.bipush (-2), 2) := dk_16 254 (dk_at dksX7_sum_0 22 rfl rfl)
theorem dX7_sum_24 : decode cX7_sum 24 = .ok (.ireturn, 1) := dk_172 (dk_at dksX7_sum_1 0 rfl rfl)
theorem dX7_sum_25 : decode cX7_sum 25 = .ok (.aload_n 0, 1) := dk_42 (dk_at dksX7_sum_1 1 rfl rfl)
theorem dX7_sum_26 : decode cX7_sum 26 = .ok (.invokevirtual 337, 3) := dk_182 1 81 (dk_at dksX7_sum_1 2 rfl rfl)
theorem dX7_sum_29 : decode cX7_sum 29 = .ok (.iconst 0, 1) := dk_3 (dk_at dksX7_sum_1 5 rfl rfl)
theorem dX7_sum_30 : decode cX7_sum 30 = .ok (.istore_n 3, 1) := dk_62 (dk_at dksX7_sum_1 6 rfl rfl)
theorem dX7_sum_31 : decode cX7_sum 31 = .ok (.iconst 0, 1) := dk_3 (dk_at dksX7_sum_1 7 rfl rfl)
theorem dX7_sum_32 : decode cX7_sum 32 = .ok (.istore 4, 2) := dk_54 4 (dk_at dksX7_sum_1 8 rfl rfl)
theorem dX7_sum_34 : decode cX7_sum 34 = .ok (.iload 4, 2) := dk_21 4 (dk_at dksX7_sum_1 10 rfl rfl)
theorem dX7_sum_36 : decode cX7_sum 36 = .ok (.aload_n 0, 1) := dk_42 (dk_at dksX7_sum_1 12 rfl rfl)
theorem dX7_sum_37 : decode cX7_sum 37 = .ok (.invokevirtual 236, 3) := dk_182 0 236 (dk_at dksX7_sum_1 13 rfl rfl)
theorem dX7_sum_40 : decode cX7_sum 40 = .ok (.if_icmp .ge 36, 3) := dk_162 0 36 (dk_at dksX7_sum_1 16 rfl rfl)
theorem dX7_sum_43 : decode cX7_sum 43 = .ok (.iload_n 3, 1) := dk_29 (dk_at dksX7_sum_1 19 rfl rfl)
theorem dX7_sum_44 : decode cX7_sum 44 = .ok (.aload_n 0, 1) := dk_42 (dk_at dksX7_sum_1 20 rfl rfl)
theorem dX7_sum_45 : decode cX7_sum 45 = .ok (.getfield 43, 3) := dk_180 0 43 (dk_at dksX7_sum_1 21 rfl rfl)
theorem dX7_sum_48 : decode cX7_sum 48 = .ok (.iconst 4, 1) := dk_7 (dk_at dksX7_sum_2 0 rfl rfl)
theorem dX7_sum_49 : decode cX7_sum 49 = .ok (.iload 4, 2) := dk_21 4 (dk_at dksX7_sum_2 1 rfl rfl)
theorem dX7_sum_51 : decode cX7_sum 51 = .ok (.imul, 1) := dk_104 (dk_at dksX7_sum_2 3 rfl rfl)
theorem dX7_sum_52 : decode cX7_sum 52 = .ok (.iaload, 1) := dk_46 (dk_at dksX7_sum_2 4 rfl rfl)
theorem dX7_sum_53 : decode cX7_sum 53 = .ok (.iload_n 1, 1) := dk_27 (dk_at dksX7_sum_2 5 rfl rfl)
theorem dX7_sum_54 : decode cX7_sum 54 = .ok (.if_icmp .ne 13, 3) := dk_160 0 13 (dk_at dksX7_sum_2 6 rfl rfl)
theorem dX7_sum_57 : decode cX7_sum 57 = .ok (.aload_n 0, 1) := dk_42 (dk_at dksX7_sum_2 9 rfl rfl)
theorem dX7_sum_58 : decode cX7_sum 58 = .ok (.iload 4, 2) := dk_21 4 (dk_at dksX7_sum_2 10 rfl rfl)
theorem dX7_sum_60 : decode cX7_sum 60 = .ok (.iload_n 2, 1) := dk_28 (dk_at dksX7_sum_2 12 rfl rfl)
theorem dX7_sum_61 : decode cX7_sum 61 = .ok (.invokevirtual 283, 3) := dk_182 1 27 (dk_at dksX7_sum_2 13 rfl rfl)
theorem dX7_sum_64 : decode cX7_sum 64 = .ok (.goto 4, 3) := dk_167 0 4 (dk_at dksX7_sum_2 16 rfl rfl)
theorem dX7_sum_67 : decode cX7_sum 67 = .ok (.iconst 0, 1) := dk_3 (dk_at dksX7_sum_2 19 rfl rfl)
theorem dX7_sum_68 : decode cX7_sum 68 = .ok (.iadd, 1) := dk_96 (dk_at dksX7_sum_2 20 rfl rfl)
theorem dX7_sum_69 : decode cX7_sum 69 = .ok (.istore_n 3, 1) := dk_62 (dk_at dksX7_sum_2 21 rfl rfl)
theorem dX7_sum_70 : decode cX7_sum 70 = .ok (.iinc 4 1, 3) := dk_132 4 1 (dk_at dksX7_sum_3 0 rfl rfl)
theorem dX7_sum_73 : decode cX7_sum 73 = .ok (.goto (-39), 3) := dk_167 255 217 (dk_at dksX7_sum_3 3 rfl rfl)
theorem dX7_sum_76 : decode cX7_sum 76 = .ok (.iload_n 3, 1) := dk_29 (dk_at dksX7_sum_3 6 rfl rfl)
theorem dX7_sum_77 : decode cX7_sum 77 = .ok (.ireturn, 1) := dk_172 (dk_at dksX7_sum_3 7 rfl rfl)
abbrev cX7_spread : ByteArray := prog_12_method_112_code
def yX7_spread : MethodName := ⟨RX7, "spread", "(I)I"⟩
def dkwX7_spread_2 : List UInt8 := [2, 182, 1, 93, 27, 182, 1, 27, 100, 172]
abbrev dktX7_spread_2 : List UInt8 := dkwX7_spread_2 ++ []
def dkwX7_spread_1 : List UInt8 := [182, 1, 75, 154, 0, 7, 3, 167, 0, 26, 42, 42, 27, 4, 182, 1, 93, 27, 182, 1, 27, 42, 42, 27]
abbrev dktX7_spread_1 : List UInt8 := dkwX7_spread_1 ++ dktX7_spread_2
def dkwX7_spread_0 : List UInt8 := [42, 3, 181, 0, 74, 42, 27, 133, 182, 0, 249, 154, 0, 6, 16, 254, 172, 42, 182, 1, 81, 42, 27]
abbrev dktX7_spread_0 : List UInt8 := dkwX7_spread_0 ++ dktX7_spread_1
theorem dksX7_spread_0 : cX7_spread.data.toList.drop 0 = dktX7_spread_0 := by decide +kernel
theorem dksX7_spread_1 : cX7_spread.data.toList.drop 23 = dktX7_spread_1 := dk_seg dksX7_spread_0 23 rfl rfl
theorem dksX7_spread_2 : cX7_spread.data.toList.drop 47 = dktX7_spread_2 := dk_seg dksX7_spread_1 24 rfl rfl
theorem dX7_spread_0 : decode cX7_spread 0 = .ok (.aload_n 0, 1) := dk_42 (dk_at dksX7_spread_0 0 rfl rfl)
theorem dX7_spread_1 : decode cX7_spread 1 = .ok (.iconst 0, 1) := dk_3 (dk_at dksX7_spread_0 1 rfl rfl)
theorem dX7_spread_2 : decode cX7_spread 2 = .ok (.putfield 74, 3) := dk_181 0 74 (dk_at dksX7_spread_0 2 rfl rfl)
theorem dX7_spread_5 : decode cX7_spread 5 = .ok (.aload_n 0, 1) := dk_42 (dk_at dksX7_spread_0 5 rfl rfl)
theorem dX7_spread_6 : decode cX7_spread 6 = .ok (.iload_n 1, 1) := dk_27 (dk_at dksX7_spread_0 6 rfl rfl)
theorem dX7_spread_7 : decode cX7_spread 7 = .ok (.i2l, 1) := dk_133 (dk_at dksX7_spread_0 7 rfl rfl)
theorem dX7_spread_8 : decode cX7_spread 8 = .ok (.invokevirtual 249, 3) := dk_182 0 249 (dk_at dksX7_spread_0 8 rfl rfl)
theorem dX7_spread_11 : decode cX7_spread 11 = .ok (.ifCond .ne 6, 3) := dk_154 0 6 (dk_at dksX7_spread_0 11 rfl rfl)
theorem dX7_spread_14 : decode cX7_spread 14 = .ok (.bipush (-2), 2) := dk_16 254 (dk_at dksX7_spread_0 14 rfl rfl)
theorem dX7_spread_16 : decode cX7_spread 16 = .ok (.ireturn, 1) := dk_172 (dk_at dksX7_spread_0 16 rfl rfl)
theorem dX7_spread_17 : decode cX7_spread 17 = .ok (.aload_n 0, 1) := dk_42 (dk_at dksX7_spread_0 17 rfl rfl)
theorem dX7_spread_18 : decode cX7_spread 18 = .ok (.invokevirtual 337, 3) := dk_182 1 81 (dk_at dksX7_spread_0 18 rfl rfl)
theorem dX7_spread_21 : decode cX7_spread 21 = .ok (.aload_n 0, 1) := dk_42 (dk_at dksX7_spread_0 21 rfl rfl)
theorem dX7_spread_22 : decode cX7_spread 22 = .ok (.iload_n 1, 1) := dk_27 (dk_at dksX7_spread_0 22 rfl rfl)
theorem dX7_spread_23 : decode cX7_spread 23 = .ok (.invokevirtual 331, 3) := dk_182 1 75 (dk_at dksX7_spread_1 0 rfl rfl)
theorem dX7_spread_26 : decode cX7_spread 26 = .ok (.ifCond .ne 7, 3) := dk_154 0 7 (dk_at dksX7_spread_1 3 rfl rfl)
theorem dX7_spread_29 : decode cX7_spread 29 = .ok (.iconst 0, 1) := dk_3 (dk_at dksX7_spread_1 6 rfl rfl)
theorem dX7_spread_30 : decode cX7_spread 30 = .ok (.goto 26, 3) := dk_167 0 26 (dk_at dksX7_spread_1 7 rfl rfl)
theorem dX7_spread_33 : decode cX7_spread 33 = .ok (.aload_n 0, 1) := dk_42 (dk_at dksX7_spread_1 10 rfl rfl)
theorem dX7_spread_34 : decode cX7_spread 34 = .ok (.aload_n 0, 1) := dk_42 (dk_at dksX7_spread_1 11 rfl rfl)
theorem dX7_spread_35 : decode cX7_spread 35 = .ok (.iload_n 1, 1) := dk_27 (dk_at dksX7_spread_1 12 rfl rfl)
theorem dX7_spread_36 : decode cX7_spread 36 = .ok (.iconst 1, 1) := dk_4 (dk_at dksX7_spread_1 13 rfl rfl)
theorem dX7_spread_37 : decode cX7_spread 37 = .ok (.invokevirtual 349, 3) := dk_182 1 93 (dk_at dksX7_spread_1 14 rfl rfl)
theorem dX7_spread_40 : decode cX7_spread 40 = .ok (.iload_n 1, 1) := dk_27 (dk_at dksX7_spread_1 17 rfl rfl)
theorem dX7_spread_41 : decode cX7_spread 41 = .ok (.invokevirtual 283, 3) := dk_182 1 27 (dk_at dksX7_spread_1 18 rfl rfl)
theorem dX7_spread_44 : decode cX7_spread 44 = .ok (.aload_n 0, 1) := dk_42 (dk_at dksX7_spread_1 21 rfl rfl)
theorem dX7_spread_45 : decode cX7_spread 45 = .ok (.aload_n 0, 1) := dk_42 (dk_at dksX7_spread_1 22 rfl rfl)
theorem dX7_spread_46 : decode cX7_spread 46 = .ok (.iload_n 1, 1) := dk_27 (dk_at dksX7_spread_1 23 rfl rfl)
theorem dX7_spread_47 : decode cX7_spread 47 = .ok (.iconst (-1), 1) := dk_2 (dk_at dksX7_spread_2 0 rfl rfl)
theorem dX7_spread_48 : decode cX7_spread 48 = .ok (.invokevirtual 349, 3) := dk_182 1 93 (dk_at dksX7_spread_2 1 rfl rfl)
theorem dX7_spread_51 : decode cX7_spread 51 = .ok (.iload_n 1, 1) := dk_27 (dk_at dksX7_spread_2 4 rfl rfl)
theorem dX7_spread_52 : decode cX7_spread 52 = .ok (.invokevirtual 283, 3) := dk_182 1 27 (dk_at dksX7_spread_2 5 rfl rfl)
theorem dX7_spread_55 : decode cX7_spread 55 = .ok (.isub, 1) := dk_100 (dk_at dksX7_spread_2 8 rfl rfl)
theorem dX7_spread_56 : decode cX7_spread 56 = .ok (.ireturn, 1) := dk_172 (dk_at dksX7_spread_2 9 rfl rfl)
abbrev cX7_uses : ByteArray := prog_12_method_113_code
def yX7_uses : MethodName := ⟨RX7, "uses", "(I)I"⟩
def dkwX7_uses_2 : List UInt8 := [167, 0, 4, 3, 128, 61, 132, 3, 1, 167, 255, 221, 28, 172]
abbrev dktX7_uses_2 : List UInt8 := dkwX7_uses_2 ++ []
def dkwX7_uses_1 : List UInt8 := [182, 0, 236, 162, 0, 33, 28, 42, 180, 0, 43, 7, 29, 104, 4, 96, 46, 27, 160, 0, 9, 4, 29, 120]
abbrev dktX7_uses_1 : List UInt8 := dkwX7_uses_1 ++ dktX7_uses_2
def dkwX7_uses_0 : List UInt8 := [42, 3, 181, 0, 74, 42, 27, 182, 1, 65, 154, 0, 6, 16, 254, 172, 3, 61, 3, 62, 29, 42]
abbrev dktX7_uses_0 : List UInt8 := dkwX7_uses_0 ++ dktX7_uses_1
theorem dksX7_uses_0 : cX7_uses.data.toList.drop 0 = dktX7_uses_0 := by decide +kernel
theorem dksX7_uses_1 : cX7_uses.data.toList.drop 22 = dktX7_uses_1 := dk_seg dksX7_uses_0 22 rfl rfl
theorem dksX7_uses_2 : cX7_uses.data.toList.drop 46 = dktX7_uses_2 := dk_seg dksX7_uses_1 24 rfl rfl
theorem dX7_uses_0 : decode cX7_uses 0 = .ok (.aload_n 0, 1) := dk_42 (dk_at dksX7_uses_0 0 rfl rfl)
theorem dX7_uses_1 : decode cX7_uses 1 = .ok (.iconst 0, 1) := dk_3 (dk_at dksX7_uses_0 1 rfl rfl)
theorem dX7_uses_2 : decode cX7_uses 2 = .ok (.putfield 74, 3) := dk_181 0 74 (dk_at dksX7_uses_0 2 rfl rfl)
theorem dX7_uses_5 : decode cX7_uses 5 = .ok (.aload_n 0, 1) := dk_42 (dk_at dksX7_uses_0 5 rfl rfl)
theorem dX7_uses_6 : decode cX7_uses 6 = .ok (.iload_n 1, 1) := dk_27 (dk_at dksX7_uses_0 6 rfl rfl)
theorem dX7_uses_7 : decode cX7_uses 7 = .ok (.invokevirtual 321, 3) := dk_182 1 65 (dk_at dksX7_uses_0 7 rfl rfl)
theorem dX7_uses_10 : decode cX7_uses 10 = .ok (.ifCond .ne 6, 3) := dk_154 0 6 (dk_at dksX7_uses_0 10 rfl rfl)
theorem dX7_uses_13 : decode cX7_uses 13 = .ok (.bipush (-2), 2) := dk_16 254 (dk_at dksX7_uses_0 13 rfl rfl)
theorem dX7_uses_15 : decode cX7_uses 15 = .ok (.ireturn, 1) := dk_172 (dk_at dksX7_uses_0 15 rfl rfl)
theorem dX7_uses_16 : decode cX7_uses 16 = .ok (.iconst 0, 1) := dk_3 (dk_at dksX7_uses_0 16 rfl rfl)
theorem dX7_uses_17 : decode cX7_uses 17 = .ok (.istore_n 2, 1) := dk_61 (dk_at dksX7_uses_0 17 rfl rfl)
theorem dX7_uses_18 : decode cX7_uses 18 = .ok (.iconst 0, 1) := dk_3 (dk_at dksX7_uses_0 18 rfl rfl)
theorem dX7_uses_19 : decode cX7_uses 19 = .ok (.istore_n 3, 1) := dk_62 (dk_at dksX7_uses_0 19 rfl rfl)
theorem dX7_uses_20 : decode cX7_uses 20 = .ok (.iload_n 3, 1) := dk_29 (dk_at dksX7_uses_0 20 rfl rfl)
theorem dX7_uses_21 : decode cX7_uses 21 = .ok (.aload_n 0, 1) := dk_42 (dk_at dksX7_uses_0 21 rfl rfl)
theorem dX7_uses_22 : decode cX7_uses 22 = .ok (.invokevirtual 236, 3) := dk_182 0 236 (dk_at dksX7_uses_1 0 rfl rfl)
theorem dX7_uses_25 : decode cX7_uses 25 = .ok (.if_icmp .ge 33, 3) := dk_162 0 33 (dk_at dksX7_uses_1 3 rfl rfl)
theorem dX7_uses_28 : decode cX7_uses 28 = .ok (.iload_n 2, 1) := dk_28 (dk_at dksX7_uses_1 6 rfl rfl)
theorem dX7_uses_29 : decode cX7_uses 29 = .ok (.aload_n 0, 1) := dk_42 (dk_at dksX7_uses_1 7 rfl rfl)
theorem dX7_uses_30 : decode cX7_uses 30 = .ok (.getfield 43, 3) := dk_180 0 43 (dk_at dksX7_uses_1 8 rfl rfl)
theorem dX7_uses_33 : decode cX7_uses 33 = .ok (.iconst 4, 1) := dk_7 (dk_at dksX7_uses_1 11 rfl rfl)
theorem dX7_uses_34 : decode cX7_uses 34 = .ok (.iload_n 3, 1) := dk_29 (dk_at dksX7_uses_1 12 rfl rfl)
theorem dX7_uses_35 : decode cX7_uses 35 = .ok (.imul, 1) := dk_104 (dk_at dksX7_uses_1 13 rfl rfl)
theorem dX7_uses_36 : decode cX7_uses 36 = .ok (.iconst 1, 1) := dk_4 (dk_at dksX7_uses_1 14 rfl rfl)
theorem dX7_uses_37 : decode cX7_uses 37 = .ok (.iadd, 1) := dk_96 (dk_at dksX7_uses_1 15 rfl rfl)
theorem dX7_uses_38 : decode cX7_uses 38 = .ok (.iaload, 1) := dk_46 (dk_at dksX7_uses_1 16 rfl rfl)
theorem dX7_uses_39 : decode cX7_uses 39 = .ok (.iload_n 1, 1) := dk_27 (dk_at dksX7_uses_1 17 rfl rfl)
theorem dX7_uses_40 : decode cX7_uses 40 = .ok (.if_icmp .ne 9, 3) := dk_160 0 9 (dk_at dksX7_uses_1 18 rfl rfl)
theorem dX7_uses_43 : decode cX7_uses 43 = .ok (.iconst 1, 1) := dk_4 (dk_at dksX7_uses_1 21 rfl rfl)
theorem dX7_uses_44 : decode cX7_uses 44 = .ok (.iload_n 3, 1) := dk_29 (dk_at dksX7_uses_1 22 rfl rfl)
theorem dX7_uses_45 : decode cX7_uses 45 = .ok (.ishl, 1) := dk_120 (dk_at dksX7_uses_1 23 rfl rfl)
theorem dX7_uses_46 : decode cX7_uses 46 = .ok (.goto 4, 3) := dk_167 0 4 (dk_at dksX7_uses_2 0 rfl rfl)
theorem dX7_uses_49 : decode cX7_uses 49 = .ok (.iconst 0, 1) := dk_3 (dk_at dksX7_uses_2 3 rfl rfl)
theorem dX7_uses_50 : decode cX7_uses 50 = .ok (.ior, 1) := dk_128 (dk_at dksX7_uses_2 4 rfl rfl)
theorem dX7_uses_51 : decode cX7_uses 51 = .ok (.istore_n 2, 1) := dk_61 (dk_at dksX7_uses_2 5 rfl rfl)
theorem dX7_uses_52 : decode cX7_uses 52 = .ok (.iinc 3 1, 3) := dk_132 3 1 (dk_at dksX7_uses_2 6 rfl rfl)
theorem dX7_uses_55 : decode cX7_uses 55 = .ok (.goto (-35), 3) := dk_167 255 221 (dk_at dksX7_uses_2 9 rfl rfl)
theorem dX7_uses_58 : decode cX7_uses 58 = .ok (.iload_n 2, 1) := dk_28 (dk_at dksX7_uses_2 12 rfl rfl)
theorem dX7_uses_59 : decode cX7_uses 59 = .ok (.ireturn, 1) := dk_172 (dk_at dksX7_uses_2 13 rfl rfl)
abbrev cX7_newest : ByteArray := prog_12_method_115_code
def yX7_newest : MethodName := ⟨RX7, "newest", "(I)I"⟩
def dkwX7_newest_1 : List UInt8 := [182, 1, 137, 172]
abbrev dktX7_newest_1 : List UInt8 := dkwX7_newest_1 ++ []
def dkwX7_newest_0 : List UInt8 := [42, 3, 181, 0, 74, 42, 27, 133, 182, 0, 249, 154, 0, 6, 16, 254, 172, 42, 182, 1, 59, 42, 27, 4]
abbrev dktX7_newest_0 : List UInt8 := dkwX7_newest_0 ++ dktX7_newest_1
theorem dksX7_newest_0 : cX7_newest.data.toList.drop 0 = dktX7_newest_0 := by decide +kernel
theorem dksX7_newest_1 : cX7_newest.data.toList.drop 24 = dktX7_newest_1 := dk_seg dksX7_newest_0 24 rfl rfl
theorem dX7_newest_0 : decode cX7_newest 0 = .ok (.aload_n 0, 1) := dk_42 (dk_at dksX7_newest_0 0 rfl rfl)
theorem dX7_newest_1 : decode cX7_newest 1 = .ok (.iconst 0, 1) := dk_3 (dk_at dksX7_newest_0 1 rfl rfl)
theorem dX7_newest_2 : decode cX7_newest 2 = .ok (.putfield 74, 3) := dk_181 0 74 (dk_at dksX7_newest_0 2 rfl rfl)
theorem dX7_newest_5 : decode cX7_newest 5 = .ok (.aload_n 0, 1) := dk_42 (dk_at dksX7_newest_0 5 rfl rfl)
theorem dX7_newest_6 : decode cX7_newest 6 = .ok (.iload_n 1, 1) := dk_27 (dk_at dksX7_newest_0 6 rfl rfl)
theorem dX7_newest_7 : decode cX7_newest 7 = .ok (.i2l, 1) := dk_133 (dk_at dksX7_newest_0 7 rfl rfl)
theorem dX7_newest_8 : decode cX7_newest 8 = .ok (.invokevirtual 249, 3) := dk_182 0 249 (dk_at dksX7_newest_0 8 rfl rfl)
theorem dX7_newest_11 : decode cX7_newest 11 = .ok (.ifCond .ne 6, 3) := dk_154 0 6 (dk_at dksX7_newest_0 11 rfl rfl)
theorem dX7_newest_14 : decode cX7_newest 14 = .ok (.bipush (-2), 2) := dk_16 254 (dk_at dksX7_newest_0 14 rfl rfl)
theorem dX7_newest_16 : decode cX7_newest 16 = .ok (.ireturn, 1) := dk_172 (dk_at dksX7_newest_0 16 rfl rfl)
theorem dX7_newest_17 : decode cX7_newest 17 = .ok (.aload_n 0, 1) := dk_42 (dk_at dksX7_newest_0 17 rfl rfl)
theorem dX7_newest_18 : decode cX7_newest 18 = .ok (.invokevirtual 315, 3) := dk_182 1 59 (dk_at dksX7_newest_0 18 rfl rfl)
theorem dX7_newest_21 : decode cX7_newest 21 = .ok (.aload_n 0, 1) := dk_42 (dk_at dksX7_newest_0 21 rfl rfl)
theorem dX7_newest_22 : decode cX7_newest 22 = .ok (.iload_n 1, 1) := dk_27 (dk_at dksX7_newest_0 22 rfl rfl)
theorem dX7_newest_23 : decode cX7_newest 23 = .ok (.iconst 1, 1) := dk_4 (dk_at dksX7_newest_0 23 rfl rfl)
theorem dX7_newest_24 : decode cX7_newest 24 = .ok (.invokevirtual 393, 3) := dk_182 1 137 (dk_at dksX7_newest_1 0 rfl rfl)
theorem dX7_newest_27 : decode cX7_newest 27 = .ok (.ireturn, 1) := dk_172 (dk_at dksX7_newest_1 3 rfl rfl)
abbrev cX7_writtenBy : ByteArray := prog_12_method_114_code
def yX7_writtenBy : MethodName := ⟨RX7, "writtenBy", "(II)I"⟩
def dkwX7_writtenBy_2 : List UInt8 := [164, 0, 6, 21, 4, 62, 132, 4, 1, 167, 255, 206, 29, 172]
abbrev dktX7_writtenBy_2 : List UInt8 := dkwX7_writtenBy_2 ++ []
def dkwX7_writtenBy_1 : List UInt8 := [29, 2, 159, 0, 23, 28, 42, 180, 0, 53, 21, 4, 46, 104, 28, 42, 180, 0, 53, 29, 46, 104]
abbrev dktX7_writtenBy_1 : List UInt8 := dkwX7_writtenBy_1 ++ dktX7_writtenBy_2
def dkwX7_writtenBy_0 : List UInt8 := [2, 62, 3, 54, 4, 21, 4, 42, 182, 0, 236, 162, 0, 47, 42, 21, 4, 27, 182, 1, 37, 153, 0, 31]
abbrev dktX7_writtenBy_0 : List UInt8 := dkwX7_writtenBy_0 ++ dktX7_writtenBy_1
theorem dksX7_writtenBy_0 : cX7_writtenBy.data.toList.drop 0 = dktX7_writtenBy_0 := by decide +kernel
theorem dksX7_writtenBy_1 : cX7_writtenBy.data.toList.drop 24 = dktX7_writtenBy_1 := dk_seg dksX7_writtenBy_0 24 rfl rfl
theorem dksX7_writtenBy_2 : cX7_writtenBy.data.toList.drop 46 = dktX7_writtenBy_2 := dk_seg dksX7_writtenBy_1 22 rfl rfl
theorem dX7_writtenBy_0 : decode cX7_writtenBy 0 = .ok (.iconst (-1), 1) := dk_2 (dk_at dksX7_writtenBy_0 0 rfl rfl)
theorem dX7_writtenBy_1 : decode cX7_writtenBy 1 = .ok (.istore_n 3, 1) := dk_62 (dk_at dksX7_writtenBy_0 1 rfl rfl)
theorem dX7_writtenBy_2 : decode cX7_writtenBy 2 = .ok (.iconst 0, 1) := dk_3 (dk_at dksX7_writtenBy_0 2 rfl rfl)
theorem dX7_writtenBy_3 : decode cX7_writtenBy 3 = .ok (.istore 4, 2) := dk_54 4 (dk_at dksX7_writtenBy_0 3 rfl rfl)
theorem dX7_writtenBy_5 : decode cX7_writtenBy 5 = .ok (.iload 4, 2) := dk_21 4 (dk_at dksX7_writtenBy_0 5 rfl rfl)
theorem dX7_writtenBy_7 : decode cX7_writtenBy 7 = .ok (.aload_n 0, 1) := dk_42 (dk_at dksX7_writtenBy_0 7 rfl rfl)
theorem dX7_writtenBy_8 : decode cX7_writtenBy 8 = .ok (.invokevirtual 236, 3) := dk_182 0 236 (dk_at dksX7_writtenBy_0 8 rfl rfl)
theorem dX7_writtenBy_11 : decode cX7_writtenBy 11 = .ok (.if_icmp .ge 47, 3) := dk_162 0 47 (dk_at dksX7_writtenBy_0 11 rfl rfl)
theorem dX7_writtenBy_14 : decode cX7_writtenBy 14 = .ok (.aload_n 0, 1) := dk_42 (dk_at dksX7_writtenBy_0 14 rfl rfl)
theorem dX7_writtenBy_15 : decode cX7_writtenBy 15 = .ok (.iload 4, 2) := dk_21 4 (dk_at dksX7_writtenBy_0 15 rfl rfl)
theorem dX7_writtenBy_17 : decode cX7_writtenBy 17 = .ok (.iload_n 1, 1) := dk_27 (dk_at dksX7_writtenBy_0 17 rfl rfl)
theorem dX7_writtenBy_18 : decode cX7_writtenBy 18 = .ok (.invokevirtual 293, 3) := dk_182 1 37 (dk_at dksX7_writtenBy_0 18 rfl rfl)
theorem dX7_writtenBy_21 : decode cX7_writtenBy 21 = .ok (.ifCond .eq 31, 3) := dk_153 0 31 (dk_at dksX7_writtenBy_0 21 rfl rfl)
theorem dX7_writtenBy_24 : decode cX7_writtenBy 24 = .ok (.iload_n 3, 1) := dk_29 (dk_at dksX7_writtenBy_1 0 rfl rfl)
theorem dX7_writtenBy_25 : decode cX7_writtenBy 25 = .ok (.iconst (-1), 1) := dk_2 (dk_at dksX7_writtenBy_1 1 rfl rfl)
theorem dX7_writtenBy_26 : decode cX7_writtenBy 26 = .ok (.if_icmp .eq 23, 3) := dk_159 0 23 (dk_at dksX7_writtenBy_1 2 rfl rfl)
theorem dX7_writtenBy_29 : decode cX7_writtenBy 29 = .ok (.iload_n 2, 1) := dk_28 (dk_at dksX7_writtenBy_1 5 rfl rfl)
theorem dX7_writtenBy_30 : decode cX7_writtenBy 30 = .ok (.aload_n 0, 1) := dk_42 (dk_at dksX7_writtenBy_1 6 rfl rfl)
theorem dX7_writtenBy_31 : decode cX7_writtenBy 31 = .ok (.getfield 53, 3) := dk_180 0 53 (dk_at dksX7_writtenBy_1 7 rfl rfl)
theorem dX7_writtenBy_34 : decode cX7_writtenBy 34 = .ok (.iload 4, 2) := dk_21 4 (dk_at dksX7_writtenBy_1 10 rfl rfl)
theorem dX7_writtenBy_36 : decode cX7_writtenBy 36 = .ok (.iaload, 1) := dk_46 (dk_at dksX7_writtenBy_1 12 rfl rfl)
theorem dX7_writtenBy_37 : decode cX7_writtenBy 37 = .ok (.imul, 1) := dk_104 (dk_at dksX7_writtenBy_1 13 rfl rfl)
theorem dX7_writtenBy_38 : decode cX7_writtenBy 38 = .ok (.iload_n 2, 1) := dk_28 (dk_at dksX7_writtenBy_1 14 rfl rfl)
theorem dX7_writtenBy_39 : decode cX7_writtenBy 39 = .ok (.aload_n 0, 1) := dk_42 (dk_at dksX7_writtenBy_1 15 rfl rfl)
theorem dX7_writtenBy_40 : decode cX7_writtenBy 40 = .ok (.getfield 53, 3) := dk_180 0 53 (dk_at dksX7_writtenBy_1 16 rfl rfl)
theorem dX7_writtenBy_43 : decode cX7_writtenBy 43 = .ok (.iload_n 3, 1) := dk_29 (dk_at dksX7_writtenBy_1 19 rfl rfl)
theorem dX7_writtenBy_44 : decode cX7_writtenBy 44 = .ok (.iaload, 1) := dk_46 (dk_at dksX7_writtenBy_1 20 rfl rfl)
theorem dX7_writtenBy_45 : decode cX7_writtenBy 45 = .ok (.imul, 1) := dk_104 (dk_at dksX7_writtenBy_1 21 rfl rfl)
theorem dX7_writtenBy_46 : decode cX7_writtenBy 46 = .ok (.if_icmp .le 6, 3) := dk_164 0 6 (dk_at dksX7_writtenBy_2 0 rfl rfl)
theorem dX7_writtenBy_49 : decode cX7_writtenBy 49 = .ok (.iload 4, 2) := dk_21 4 (dk_at dksX7_writtenBy_2 3 rfl rfl)
theorem dX7_writtenBy_51 : decode cX7_writtenBy 51 = .ok (.istore_n 3, 1) := dk_62 (dk_at dksX7_writtenBy_2 5 rfl rfl)
theorem dX7_writtenBy_52 : decode cX7_writtenBy 52 = .ok (.iinc 4 1, 3) := dk_132 4 1 (dk_at dksX7_writtenBy_2 6 rfl rfl)
theorem dX7_writtenBy_55 : decode cX7_writtenBy 55 = .ok (.goto (-50), 3) := dk_167 255 206 (dk_at dksX7_writtenBy_2 9 rfl rfl)
theorem dX7_writtenBy_58 : decode cX7_writtenBy 58 = .ok (.iload_n 3, 1) := dk_29 (dk_at dksX7_writtenBy_2 12 rfl rfl)
theorem dX7_writtenBy_59 : decode cX7_writtenBy 59 = .ok (.ireturn, 1) := dk_172 (dk_at dksX7_writtenBy_2 13 rfl rfl)
abbrev cX7_oldest : ByteArray := prog_12_method_116_code
def yX7_oldest : MethodName := ⟨RX7, "oldest", "(I)I"⟩
def dkwX7_oldest_1 : List UInt8 := [182, 1, 137, 172]
abbrev dktX7_oldest_1 : List UInt8 := dkwX7_oldest_1 ++ []
def dkwX7_oldest_0 : List UInt8 := [42, 3, 181, 0, 74, 42, 27, 133, 182, 0, 249, 154, 0, 6, 16, 254, 172, 42, 182, 1, 59, 42, 27, 2]
abbrev dktX7_oldest_0 : List UInt8 := dkwX7_oldest_0 ++ dktX7_oldest_1
theorem dksX7_oldest_0 : cX7_oldest.data.toList.drop 0 = dktX7_oldest_0 := by decide +kernel
theorem dksX7_oldest_1 : cX7_oldest.data.toList.drop 24 = dktX7_oldest_1 := dk_seg dksX7_oldest_0 24 rfl rfl
theorem dX7_oldest_0 : decode cX7_oldest 0 = .ok (.aload_n 0, 1) := dk_42 (dk_at dksX7_oldest_0 0 rfl rfl)
theorem dX7_oldest_1 : decode cX7_oldest 1 = .ok (.iconst 0, 1) := dk_3 (dk_at dksX7_oldest_0 1 rfl rfl)
theorem dX7_oldest_2 : decode cX7_oldest 2 = .ok (.putfield 74, 3) := dk_181 0 74 (dk_at dksX7_oldest_0 2 rfl rfl)
theorem dX7_oldest_5 : decode cX7_oldest 5 = .ok (.aload_n 0, 1) := dk_42 (dk_at dksX7_oldest_0 5 rfl rfl)
theorem dX7_oldest_6 : decode cX7_oldest 6 = .ok (.iload_n 1, 1) := dk_27 (dk_at dksX7_oldest_0 6 rfl rfl)
theorem dX7_oldest_7 : decode cX7_oldest 7 = .ok (.i2l, 1) := dk_133 (dk_at dksX7_oldest_0 7 rfl rfl)
theorem dX7_oldest_8 : decode cX7_oldest 8 = .ok (.invokevirtual 249, 3) := dk_182 0 249 (dk_at dksX7_oldest_0 8 rfl rfl)
theorem dX7_oldest_11 : decode cX7_oldest 11 = .ok (.ifCond .ne 6, 3) := dk_154 0 6 (dk_at dksX7_oldest_0 11 rfl rfl)
theorem dX7_oldest_14 : decode cX7_oldest 14 = .ok (.bipush (-2), 2) := dk_16 254 (dk_at dksX7_oldest_0 14 rfl rfl)
theorem dX7_oldest_16 : decode cX7_oldest 16 = .ok (.ireturn, 1) := dk_172 (dk_at dksX7_oldest_0 16 rfl rfl)
theorem dX7_oldest_17 : decode cX7_oldest 17 = .ok (.aload_n 0, 1) := dk_42 (dk_at dksX7_oldest_0 17 rfl rfl)
theorem dX7_oldest_18 : decode cX7_oldest 18 = .ok (.invokevirtual 315, 3) := dk_182 1 59 (dk_at dksX7_oldest_0 18 rfl rfl)
theorem dX7_oldest_21 : decode cX7_oldest 21 = .ok (.aload_n 0, 1) := dk_42 (dk_at dksX7_oldest_0 21 rfl rfl)
theorem dX7_oldest_22 : decode cX7_oldest 22 = .ok (.iload_n 1, 1) := dk_27 (dk_at dksX7_oldest_0 22 rfl rfl)
theorem dX7_oldest_23 : decode cX7_oldest 23 = .ok (.iconst (-1), 1) := dk_2 (dk_at dksX7_oldest_0 23 rfl rfl)
theorem dX7_oldest_24 : decode cX7_oldest 24 = .ok (.invokevirtual 393, 3) := dk_182 1 137 (dk_at dksX7_oldest_1 0 rfl rfl)
theorem dX7_oldest_27 : decode cX7_oldest 27 = .ok (.ireturn, 1) := dk_172 (dk_at dksX7_oldest_1 3 rfl rfl)
abbrev cX7_steady : ByteArray := prog_12_method_117_code
def yX7_steady : MethodName := ⟨RX7, "steady", "(I)I"⟩
def dkwX7_steady_4 : List UInt8 := [132, 4, 1, 167, 255, 187, 28, 172]
abbrev dktX7_steady_4 : List UInt8 := dkwX7_steady_4 ++ []
def dkwX7_steady_3 : List UInt8 := [21, 4, 4, 100, 182, 1, 27, 160, 0, 9, 29, 4, 96, 167, 0, 4, 4, 62, 28, 29, 184, 1, 24, 61]
abbrev dktX7_steady_3 : List UInt8 := dkwX7_steady_3 ++ dktX7_steady_4
def dkwX7_steady_2 : List UInt8 := [167, 0, 47, 21, 4, 42, 180, 0, 53, 27, 46, 164, 0, 28, 42, 27, 21, 4, 182, 1, 27, 42, 27]
abbrev dktX7_steady_2 : List UInt8 := dkwX7_steady_2 ++ dktX7_steady_3
def dkwX7_steady_1 : List UInt8 := [62, 3, 54, 4, 21, 4, 42, 182, 0, 243, 163, 0, 66, 42, 27, 21, 4, 182, 1, 37, 154, 0, 6]
abbrev dktX7_steady_1 : List UInt8 := dkwX7_steady_1 ++ dktX7_steady_2
def dkwX7_steady_0 : List UInt8 := [42, 3, 181, 0, 74, 42, 27, 133, 182, 0, 246, 154, 0, 6, 16, 254, 172, 42, 182, 1, 81, 3, 61, 3]
abbrev dktX7_steady_0 : List UInt8 := dkwX7_steady_0 ++ dktX7_steady_1
theorem dksX7_steady_0 : cX7_steady.data.toList.drop 0 = dktX7_steady_0 := by decide +kernel
theorem dksX7_steady_1 : cX7_steady.data.toList.drop 24 = dktX7_steady_1 := dk_seg dksX7_steady_0 24 rfl rfl
theorem dksX7_steady_2 : cX7_steady.data.toList.drop 47 = dktX7_steady_2 := dk_seg dksX7_steady_1 23 rfl rfl
theorem dksX7_steady_3 : cX7_steady.data.toList.drop 70 = dktX7_steady_3 := dk_seg dksX7_steady_2 23 rfl rfl
theorem dksX7_steady_4 : cX7_steady.data.toList.drop 94 = dktX7_steady_4 := dk_seg dksX7_steady_3 24 rfl rfl
theorem dX7_steady_0 : decode cX7_steady 0 = .ok (.aload_n 0, 1) := dk_42 (dk_at dksX7_steady_0 0 rfl rfl)
theorem dX7_steady_1 : decode cX7_steady 1 = .ok (.iconst 0, 1) := dk_3 (dk_at dksX7_steady_0 1 rfl rfl)
theorem dX7_steady_2 : decode cX7_steady 2 = .ok (.putfield 74, 3) := dk_181 0 74 (dk_at dksX7_steady_0 2 rfl rfl)
theorem dX7_steady_5 : decode cX7_steady 5 = .ok (.aload_n 0, 1) := dk_42 (dk_at dksX7_steady_0 5 rfl rfl)
theorem dX7_steady_6 : decode cX7_steady 6 = .ok (.iload_n 1, 1) := dk_27 (dk_at dksX7_steady_0 6 rfl rfl)
theorem dX7_steady_7 : decode cX7_steady 7 = .ok (.i2l, 1) := dk_133 (dk_at dksX7_steady_0 7 rfl rfl)
theorem dX7_steady_8 : decode cX7_steady 8 = .ok (.invokevirtual 246, 3) := dk_182 0 246 (dk_at dksX7_steady_0 8 rfl rfl)
theorem dX7_steady_11 : decode cX7_steady 11 = .ok (.ifCond .ne 6, 3) := dk_154 0 6 (dk_at dksX7_steady_0 11 rfl rfl)
theorem dX7_steady_14 : decode cX7_steady 14 = .ok (.bipush (-2), 2) := dk_16 254 (dk_at dksX7_steady_0 14 rfl rfl)
theorem dX7_steady_16 : decode cX7_steady 16 = .ok (.ireturn, 1) := dk_172 (dk_at dksX7_steady_0 16 rfl rfl)
theorem dX7_steady_17 : decode cX7_steady 17 = .ok (.aload_n 0, 1) := dk_42 (dk_at dksX7_steady_0 17 rfl rfl)
theorem dX7_steady_18 : decode cX7_steady 18 = .ok (.invokevirtual 337, 3) := dk_182 1 81 (dk_at dksX7_steady_0 18 rfl rfl)
theorem dX7_steady_21 : decode cX7_steady 21 = .ok (.iconst 0, 1) := dk_3 (dk_at dksX7_steady_0 21 rfl rfl)
theorem dX7_steady_22 : decode cX7_steady 22 = .ok (.istore_n 2, 1) := dk_61 (dk_at dksX7_steady_0 22 rfl rfl)
theorem dX7_steady_23 : decode cX7_steady 23 = .ok (.iconst 0, 1) := dk_3 (dk_at dksX7_steady_0 23 rfl rfl)
theorem dX7_steady_24 : decode cX7_steady 24 = .ok (.istore_n 3, 1) := dk_62 (dk_at dksX7_steady_1 0 rfl rfl)
theorem dX7_steady_25 : decode cX7_steady 25 = .ok (.iconst 0, 1) := dk_3 (dk_at dksX7_steady_1 1 rfl rfl)
theorem dX7_steady_26 : decode cX7_steady 26 = .ok (.istore 4, 2) := dk_54 4 (dk_at dksX7_steady_1 2 rfl rfl)
theorem dX7_steady_28 : decode cX7_steady 28 = .ok (.iload 4, 2) := dk_21 4 (dk_at dksX7_steady_1 4 rfl rfl)
theorem dX7_steady_30 : decode cX7_steady 30 = .ok (.aload_n 0, 1) := dk_42 (dk_at dksX7_steady_1 6 rfl rfl)
theorem dX7_steady_31 : decode cX7_steady 31 = .ok (.invokevirtual 243, 3) := dk_182 0 243 (dk_at dksX7_steady_1 7 rfl rfl)
theorem dX7_steady_34 : decode cX7_steady 34 = .ok (.if_icmp .gt 66, 3) := dk_163 0 66 (dk_at dksX7_steady_1 10 rfl rfl)
theorem dX7_steady_37 : decode cX7_steady 37 = .ok (.aload_n 0, 1) := dk_42 (dk_at dksX7_steady_1 13 rfl rfl)
theorem dX7_steady_38 : decode cX7_steady 38 = .ok (.iload_n 1, 1) := dk_27 (dk_at dksX7_steady_1 14 rfl rfl)
theorem dX7_steady_39 : decode cX7_steady 39 = .ok (.iload 4, 2) := dk_21 4 (dk_at dksX7_steady_1 15 rfl rfl)
theorem dX7_steady_41 : decode cX7_steady 41 = .ok (.invokevirtual 293, 3) := dk_182 1 37 (dk_at dksX7_steady_1 17 rfl rfl)
theorem dX7_steady_44 : decode cX7_steady 44 = .ok (.ifCond .ne 6, 3) := dk_154 0 6 (dk_at dksX7_steady_1 20 rfl rfl)
theorem dX7_steady_47 : decode cX7_steady 47 = .ok (.goto 47, 3) := dk_167 0 47 (dk_at dksX7_steady_2 0 rfl rfl)
theorem dX7_steady_50 : decode cX7_steady 50 = .ok (.iload 4, 2) := dk_21 4 (dk_at dksX7_steady_2 3 rfl rfl)
theorem dX7_steady_52 : decode cX7_steady 52 = .ok (.aload_n 0, 1) := dk_42 (dk_at dksX7_steady_2 5 rfl rfl)
theorem dX7_steady_53 : decode cX7_steady 53 = .ok (.getfield 53, 3) := dk_180 0 53 (dk_at dksX7_steady_2 6 rfl rfl)
theorem dX7_steady_56 : decode cX7_steady 56 = .ok (.iload_n 1, 1) := dk_27 (dk_at dksX7_steady_2 9 rfl rfl)
theorem dX7_steady_57 : decode cX7_steady 57 = .ok (.iaload, 1) := dk_46 (dk_at dksX7_steady_2 10 rfl rfl)
theorem dX7_steady_58 : decode cX7_steady 58 = .ok (.if_icmp .le 28, 3) := dk_164 0 28 (dk_at dksX7_steady_2 11 rfl rfl)
theorem dX7_steady_61 : decode cX7_steady 61 = .ok (.aload_n 0, 1) := dk_42 (dk_at dksX7_steady_2 14 rfl rfl)
theorem dX7_steady_62 : decode cX7_steady 62 = .ok (.iload_n 1, 1) := dk_27 (dk_at dksX7_steady_2 15 rfl rfl)
theorem dX7_steady_63 : decode cX7_steady 63 = .ok (.iload 4, 2) := dk_21 4 (dk_at dksX7_steady_2 16 rfl rfl)
theorem dX7_steady_65 : decode cX7_steady 65 = .ok (.invokevirtual 283, 3) := dk_182 1 27 (dk_at dksX7_steady_2 18 rfl rfl)
theorem dX7_steady_68 : decode cX7_steady 68 = .ok (.aload_n 0, 1) := dk_42 (dk_at dksX7_steady_2 21 rfl rfl)
theorem dX7_steady_69 : decode cX7_steady 69 = .ok (.iload_n 1, 1) := dk_27 (dk_at dksX7_steady_2 22 rfl rfl)
theorem dX7_steady_70 : decode cX7_steady 70 = .ok (.iload 4, 2) := dk_21 4 (dk_at dksX7_steady_3 0 rfl rfl)
theorem dX7_steady_72 : decode cX7_steady 72 = .ok (.iconst 1, 1) := dk_4 (dk_at dksX7_steady_3 2 rfl rfl)
theorem dX7_steady_73 : decode cX7_steady 73 = .ok (.isub, 1) := dk_100 (dk_at dksX7_steady_3 3 rfl rfl)
theorem dX7_steady_74 : decode cX7_steady 74 = .ok (.invokevirtual 283, 3) := dk_182 1 27 (dk_at dksX7_steady_3 4 rfl rfl)
theorem dX7_steady_77 : decode cX7_steady 77 = .ok (.if_icmp .ne 9, 3) := dk_160 0 9 (dk_at dksX7_steady_3 7 rfl rfl)
theorem dX7_steady_80 : decode cX7_steady 80 = .ok (.iload_n 3, 1) := dk_29 (dk_at dksX7_steady_3 10 rfl rfl)
theorem dX7_steady_81 : decode cX7_steady 81 = .ok (.iconst 1, 1) := dk_4 (dk_at dksX7_steady_3 11 rfl rfl)
theorem dX7_steady_82 : decode cX7_steady 82 = .ok (.iadd, 1) := dk_96 (dk_at dksX7_steady_3 12 rfl rfl)
theorem dX7_steady_83 : decode cX7_steady 83 = .ok (.goto 4, 3) := dk_167 0 4 (dk_at dksX7_steady_3 13 rfl rfl)
theorem dX7_steady_86 : decode cX7_steady 86 = .ok (.iconst 1, 1) := dk_4 (dk_at dksX7_steady_3 16 rfl rfl)
theorem dX7_steady_87 : decode cX7_steady 87 = .ok (.istore_n 3, 1) := dk_62 (dk_at dksX7_steady_3 17 rfl rfl)
theorem dX7_steady_88 : decode cX7_steady 88 = .ok (.iload_n 2, 1) := dk_28 (dk_at dksX7_steady_3 18 rfl rfl)
theorem dX7_steady_89 : decode cX7_steady 89 = .ok (.iload_n 3, 1) := dk_29 (dk_at dksX7_steady_3 19 rfl rfl)
theorem dX7_steady_90 : decode cX7_steady 90 = .ok (.invokestatic 280, 3) := dk_184 1 24 (dk_at dksX7_steady_3 20 rfl rfl)
theorem dX7_steady_93 : decode cX7_steady 93 = .ok (.istore_n 2, 1) := dk_61 (dk_at dksX7_steady_3 23 rfl rfl)
theorem dX7_steady_94 : decode cX7_steady 94 = .ok (.iinc 4 1, 3) := dk_132 4 1 (dk_at dksX7_steady_4 0 rfl rfl)
theorem dX7_steady_97 : decode cX7_steady 97 = .ok (.goto (-69), 3) := dk_167 255 187 (dk_at dksX7_steady_4 3 rfl rfl)
theorem dX7_steady_100 : decode cX7_steady 100 = .ok (.iload_n 2, 1) := dk_28 (dk_at dksX7_steady_4 6 rfl rfl)
theorem dX7_steady_101 : decode cX7_steady 101 = .ok (.ireturn, 1) := dk_172 (dk_at dksX7_steady_4 7 rfl rfl)
abbrev cX7_falls : ByteArray := prog_12_method_118_code
def yX7_falls : MethodName := ⟨RX7, "falls", "(I)I"⟩
def dkwX7_falls_2 : List UInt8 := [162, 0, 7, 4, 167, 0, 4, 3, 96, 61, 132, 3, 1, 167, 255, 220, 28, 172]
abbrev dktX7_falls_2 : List UInt8 := dkwX7_falls_2 ++ []
def dkwX7_falls_1 : List UInt8 := [62, 29, 42, 182, 0, 243, 163, 0, 34, 28, 42, 27, 29, 182, 1, 27, 42, 27, 29, 4, 100, 182, 1, 27]
abbrev dktX7_falls_1 : List UInt8 := dkwX7_falls_1 ++ dktX7_falls_2
def dkwX7_falls_0 : List UInt8 := [42, 3, 181, 0, 74, 42, 27, 133, 182, 0, 246, 154, 0, 6, 16, 254, 172, 42, 182, 1, 81, 3, 61, 4]
abbrev dktX7_falls_0 : List UInt8 := dkwX7_falls_0 ++ dktX7_falls_1
theorem dksX7_falls_0 : cX7_falls.data.toList.drop 0 = dktX7_falls_0 := by decide +kernel
theorem dksX7_falls_1 : cX7_falls.data.toList.drop 24 = dktX7_falls_1 := dk_seg dksX7_falls_0 24 rfl rfl
theorem dksX7_falls_2 : cX7_falls.data.toList.drop 48 = dktX7_falls_2 := dk_seg dksX7_falls_1 24 rfl rfl
theorem dX7_falls_0 : decode cX7_falls 0 = .ok (.aload_n 0, 1) := dk_42 (dk_at dksX7_falls_0 0 rfl rfl)
theorem dX7_falls_1 : decode cX7_falls 1 = .ok (.iconst 0, 1) := dk_3 (dk_at dksX7_falls_0 1 rfl rfl)
theorem dX7_falls_2 : decode cX7_falls 2 = .ok (.putfield 74, 3) := dk_181 0 74 (dk_at dksX7_falls_0 2 rfl rfl)
theorem dX7_falls_5 : decode cX7_falls 5 = .ok (.aload_n 0, 1) := dk_42 (dk_at dksX7_falls_0 5 rfl rfl)
theorem dX7_falls_6 : decode cX7_falls 6 = .ok (.iload_n 1, 1) := dk_27 (dk_at dksX7_falls_0 6 rfl rfl)
theorem dX7_falls_7 : decode cX7_falls 7 = .ok (.i2l, 1) := dk_133 (dk_at dksX7_falls_0 7 rfl rfl)
theorem dX7_falls_8 : decode cX7_falls 8 = .ok (.invokevirtual 246, 3) := dk_182 0 246 (dk_at dksX7_falls_0 8 rfl rfl)
theorem dX7_falls_11 : decode cX7_falls 11 = .ok (.ifCond .ne 6, 3) := dk_154 0 6 (dk_at dksX7_falls_0 11 rfl rfl)
theorem dX7_falls_14 : decode cX7_falls 14 = .ok (.bipush (-2), 2) := dk_16 254 (dk_at dksX7_falls_0 14 rfl rfl)
theorem dX7_falls_16 : decode cX7_falls 16 = .ok (.ireturn, 1) := dk_172 (dk_at dksX7_falls_0 16 rfl rfl)
theorem dX7_falls_17 : decode cX7_falls 17 = .ok (.aload_n 0, 1) := dk_42 (dk_at dksX7_falls_0 17 rfl rfl)
theorem dX7_falls_18 : decode cX7_falls 18 = .ok (.invokevirtual 337, 3) := dk_182 1 81 (dk_at dksX7_falls_0 18 rfl rfl)
theorem dX7_falls_21 : decode cX7_falls 21 = .ok (.iconst 0, 1) := dk_3 (dk_at dksX7_falls_0 21 rfl rfl)
theorem dX7_falls_22 : decode cX7_falls 22 = .ok (.istore_n 2, 1) := dk_61 (dk_at dksX7_falls_0 22 rfl rfl)
theorem dX7_falls_23 : decode cX7_falls 23 = .ok (.iconst 1, 1) := dk_4 (dk_at dksX7_falls_0 23 rfl rfl)
theorem dX7_falls_24 : decode cX7_falls 24 = .ok (.istore_n 3, 1) := dk_62 (dk_at dksX7_falls_1 0 rfl rfl)
theorem dX7_falls_25 : decode cX7_falls 25 = .ok (.iload_n 3, 1) := dk_29 (dk_at dksX7_falls_1 1 rfl rfl)
theorem dX7_falls_26 : decode cX7_falls 26 = .ok (.aload_n 0, 1) := dk_42 (dk_at dksX7_falls_1 2 rfl rfl)
theorem dX7_falls_27 : decode cX7_falls 27 = .ok (.invokevirtual 243, 3) := dk_182 0 243 (dk_at dksX7_falls_1 3 rfl rfl)
theorem dX7_falls_30 : decode cX7_falls 30 = .ok (.if_icmp .gt 34, 3) := dk_163 0 34 (dk_at dksX7_falls_1 6 rfl rfl)
theorem dX7_falls_33 : decode cX7_falls 33 = .ok (.iload_n 2, 1) := dk_28 (dk_at dksX7_falls_1 9 rfl rfl)
theorem dX7_falls_34 : decode cX7_falls 34 = .ok (.aload_n 0, 1) := dk_42 (dk_at dksX7_falls_1 10 rfl rfl)
theorem dX7_falls_35 : decode cX7_falls 35 = .ok (.iload_n 1, 1) := dk_27 (dk_at dksX7_falls_1 11 rfl rfl)
theorem dX7_falls_36 : decode cX7_falls 36 = .ok (.iload_n 3, 1) := dk_29 (dk_at dksX7_falls_1 12 rfl rfl)
theorem dX7_falls_37 : decode cX7_falls 37 = .ok (.invokevirtual 283, 3) := dk_182 1 27 (dk_at dksX7_falls_1 13 rfl rfl)
theorem dX7_falls_40 : decode cX7_falls 40 = .ok (.aload_n 0, 1) := dk_42 (dk_at dksX7_falls_1 16 rfl rfl)
theorem dX7_falls_41 : decode cX7_falls 41 = .ok (.iload_n 1, 1) := dk_27 (dk_at dksX7_falls_1 17 rfl rfl)
theorem dX7_falls_42 : decode cX7_falls 42 = .ok (.iload_n 3, 1) := dk_29 (dk_at dksX7_falls_1 18 rfl rfl)
theorem dX7_falls_43 : decode cX7_falls 43 = .ok (.iconst 1, 1) := dk_4 (dk_at dksX7_falls_1 19 rfl rfl)
theorem dX7_falls_44 : decode cX7_falls 44 = .ok (.isub, 1) := dk_100 (dk_at dksX7_falls_1 20 rfl rfl)
theorem dX7_falls_45 : decode cX7_falls 45 = .ok (.invokevirtual 283, 3) := dk_182 1 27 (dk_at dksX7_falls_1 21 rfl rfl)
theorem dX7_falls_48 : decode cX7_falls 48 = .ok (.if_icmp .ge 7, 3) := dk_162 0 7 (dk_at dksX7_falls_2 0 rfl rfl)
theorem dX7_falls_51 : decode cX7_falls 51 = .ok (.iconst 1, 1) := dk_4 (dk_at dksX7_falls_2 3 rfl rfl)
theorem dX7_falls_52 : decode cX7_falls 52 = .ok (.goto 4, 3) := dk_167 0 4 (dk_at dksX7_falls_2 4 rfl rfl)
theorem dX7_falls_55 : decode cX7_falls 55 = .ok (.iconst 0, 1) := dk_3 (dk_at dksX7_falls_2 7 rfl rfl)
theorem dX7_falls_56 : decode cX7_falls 56 = .ok (.iadd, 1) := dk_96 (dk_at dksX7_falls_2 8 rfl rfl)
theorem dX7_falls_57 : decode cX7_falls 57 = .ok (.istore_n 2, 1) := dk_61 (dk_at dksX7_falls_2 9 rfl rfl)
theorem dX7_falls_58 : decode cX7_falls 58 = .ok (.iinc 3 1, 3) := dk_132 3 1 (dk_at dksX7_falls_2 10 rfl rfl)
theorem dX7_falls_61 : decode cX7_falls 61 = .ok (.goto (-36), 3) := dk_167 255 220 (dk_at dksX7_falls_2 13 rfl rfl)
theorem dX7_falls_64 : decode cX7_falls 64 = .ok (.iload_n 2, 1) := dk_28 (dk_at dksX7_falls_2 16 rfl rfl)
theorem dX7_falls_65 : decode cX7_falls 65 = .ok (.ireturn, 1) := dk_172 (dk_at dksX7_falls_2 17 rfl rfl)
abbrev cX7_age : ByteArray := prog_12_method_119_code
def yX7_age : MethodName := ⟨RX7, "age", "(II)I"⟩
def dkwX7_age_1 : List UInt8 := [182, 1, 37, 153, 0, 14, 28, 42, 180, 0, 53, 27, 46, 100, 167, 0, 4, 2, 172]
abbrev dktX7_age_1 : List UInt8 := dkwX7_age_1 ++ []
def dkwX7_age_0 : List UInt8 := [42, 3, 181, 0, 74, 42, 27, 28, 182, 1, 78, 154, 0, 6, 16, 254, 172, 42, 182, 1, 59, 42, 27, 28]
abbrev dktX7_age_0 : List UInt8 := dkwX7_age_0 ++ dktX7_age_1
theorem dksX7_age_0 : cX7_age.data.toList.drop 0 = dktX7_age_0 := by decide +kernel
theorem dksX7_age_1 : cX7_age.data.toList.drop 24 = dktX7_age_1 := dk_seg dksX7_age_0 24 rfl rfl
theorem dX7_age_0 : decode cX7_age 0 = .ok (.aload_n 0, 1) := dk_42 (dk_at dksX7_age_0 0 rfl rfl)
theorem dX7_age_1 : decode cX7_age 1 = .ok (.iconst 0, 1) := dk_3 (dk_at dksX7_age_0 1 rfl rfl)
theorem dX7_age_2 : decode cX7_age 2 = .ok (.putfield 74, 3) := dk_181 0 74 (dk_at dksX7_age_0 2 rfl rfl)
theorem dX7_age_5 : decode cX7_age 5 = .ok (.aload_n 0, 1) := dk_42 (dk_at dksX7_age_0 5 rfl rfl)
theorem dX7_age_6 : decode cX7_age 6 = .ok (.iload_n 1, 1) := dk_27 (dk_at dksX7_age_0 6 rfl rfl)
theorem dX7_age_7 : decode cX7_age 7 = .ok (.iload_n 2, 1) := dk_28 (dk_at dksX7_age_0 7 rfl rfl)
theorem dX7_age_8 : decode cX7_age 8 = .ok (.invokevirtual 334, 3) := dk_182 1 78 (dk_at dksX7_age_0 8 rfl rfl)
theorem dX7_age_11 : decode cX7_age 11 = .ok (.ifCond .ne 6, 3) := dk_154 0 6 (dk_at dksX7_age_0 11 rfl rfl)
theorem dX7_age_14 : decode cX7_age 14 = .ok (.bipush (-2), 2) := dk_16 254 (dk_at dksX7_age_0 14 rfl rfl)
theorem dX7_age_16 : decode cX7_age 16 = .ok (.ireturn, 1) := dk_172 (dk_at dksX7_age_0 16 rfl rfl)
theorem dX7_age_17 : decode cX7_age 17 = .ok (.aload_n 0, 1) := dk_42 (dk_at dksX7_age_0 17 rfl rfl)
theorem dX7_age_18 : decode cX7_age 18 = .ok (.invokevirtual 315, 3) := dk_182 1 59 (dk_at dksX7_age_0 18 rfl rfl)
theorem dX7_age_21 : decode cX7_age 21 = .ok (.aload_n 0, 1) := dk_42 (dk_at dksX7_age_0 21 rfl rfl)
theorem dX7_age_22 : decode cX7_age 22 = .ok (.iload_n 1, 1) := dk_27 (dk_at dksX7_age_0 22 rfl rfl)
theorem dX7_age_23 : decode cX7_age 23 = .ok (.iload_n 2, 1) := dk_28 (dk_at dksX7_age_0 23 rfl rfl)
theorem dX7_age_24 : decode cX7_age 24 = .ok (.invokevirtual 293, 3) := dk_182 1 37 (dk_at dksX7_age_1 0 rfl rfl)
theorem dX7_age_27 : decode cX7_age 27 = .ok (.ifCond .eq 14, 3) := dk_153 0 14 (dk_at dksX7_age_1 3 rfl rfl)
theorem dX7_age_30 : decode cX7_age 30 = .ok (.iload_n 2, 1) := dk_28 (dk_at dksX7_age_1 6 rfl rfl)
theorem dX7_age_31 : decode cX7_age 31 = .ok (.aload_n 0, 1) := dk_42 (dk_at dksX7_age_1 7 rfl rfl)
theorem dX7_age_32 : decode cX7_age 32 = .ok (.getfield 53, 3) := dk_180 0 53 (dk_at dksX7_age_1 8 rfl rfl)
theorem dX7_age_35 : decode cX7_age 35 = .ok (.iload_n 1, 1) := dk_27 (dk_at dksX7_age_1 11 rfl rfl)
theorem dX7_age_36 : decode cX7_age 36 = .ok (.iaload, 1) := dk_46 (dk_at dksX7_age_1 12 rfl rfl)
theorem dX7_age_37 : decode cX7_age 37 = .ok (.isub, 1) := dk_100 (dk_at dksX7_age_1 13 rfl rfl)
theorem dX7_age_38 : decode cX7_age 38 = .ok (.goto 4, 3) := dk_167 0 4 (dk_at dksX7_age_1 14 rfl rfl)
theorem dX7_age_41 : decode cX7_age 41 = .ok (.iconst (-1), 1) := dk_2 (dk_at dksX7_age_1 17 rfl rfl)
theorem dX7_age_42 : decode cX7_age 42 = .ok (.ireturn, 1) := dk_172 (dk_at dksX7_age_1 18 rfl rfl)
abbrev cX7_honest : ByteArray := prog_12_method_120_code
def yX7_honest : MethodName := ⟨RX7, "honest", "(I)I"⟩
def dkwX7_honest_3 : List UInt8 := [167, 0, 4, 3, 128, 61, 132, 3, 1, 167, 255, 204, 28, 172]
abbrev dktX7_honest_3 : List UInt8 := dkwX7_honest_3 ++ []
def dkwX7_honest_2 : List UInt8 := [182, 1, 107, 42, 180, 0, 43, 7, 29, 104, 4, 96, 46, 184, 1, 17, 153, 0, 9, 4, 29, 120]
abbrev dktX7_honest_2 : List UInt8 := dkwX7_honest_2 ++ dktX7_honest_3
def dkwX7_honest_1 : List UInt8 := [62, 29, 42, 182, 0, 236, 162, 0, 50, 28, 42, 29, 27, 182, 1, 37, 153, 0, 31, 42, 29, 27]
abbrev dktX7_honest_1 : List UInt8 := dkwX7_honest_1 ++ dktX7_honest_2
def dkwX7_honest_0 : List UInt8 := [42, 3, 181, 0, 74, 42, 27, 133, 182, 0, 249, 154, 0, 6, 16, 254, 172, 42, 182, 1, 81, 3, 61, 3]
abbrev dktX7_honest_0 : List UInt8 := dkwX7_honest_0 ++ dktX7_honest_1
theorem dksX7_honest_0 : cX7_honest.data.toList.drop 0 = dktX7_honest_0 := by decide +kernel
theorem dksX7_honest_1 : cX7_honest.data.toList.drop 24 = dktX7_honest_1 := dk_seg dksX7_honest_0 24 rfl rfl
theorem dksX7_honest_2 : cX7_honest.data.toList.drop 46 = dktX7_honest_2 := dk_seg dksX7_honest_1 22 rfl rfl
theorem dksX7_honest_3 : cX7_honest.data.toList.drop 68 = dktX7_honest_3 := dk_seg dksX7_honest_2 22 rfl rfl
theorem dX7_honest_0 : decode cX7_honest 0 = .ok (.aload_n 0, 1) := dk_42 (dk_at dksX7_honest_0 0 rfl rfl)
theorem dX7_honest_1 : decode cX7_honest 1 = .ok (.iconst 0, 1) := dk_3 (dk_at dksX7_honest_0 1 rfl rfl)
theorem dX7_honest_2 : decode cX7_honest 2 = .ok (.putfield 74, 3) := dk_181 0 74 (dk_at dksX7_honest_0 2 rfl rfl)
theorem dX7_honest_5 : decode cX7_honest 5 = .ok (.aload_n 0, 1) := dk_42 (dk_at dksX7_honest_0 5 rfl rfl)
theorem dX7_honest_6 : decode cX7_honest 6 = .ok (.iload_n 1, 1) := dk_27 (dk_at dksX7_honest_0 6 rfl rfl)
theorem dX7_honest_7 : decode cX7_honest 7 = .ok (.i2l, 1) := dk_133 (dk_at dksX7_honest_0 7 rfl rfl)
theorem dX7_honest_8 : decode cX7_honest 8 = .ok (.invokevirtual 249, 3) := dk_182 0 249 (dk_at dksX7_honest_0 8 rfl rfl)
theorem dX7_honest_11 : decode cX7_honest 11 = .ok (.ifCond .ne 6, 3) := dk_154 0 6 (dk_at dksX7_honest_0 11 rfl rfl)
theorem dX7_honest_14 : decode cX7_honest 14 = .ok (.bipush (-2), 2) := dk_16 254 (dk_at dksX7_honest_0 14 rfl rfl)
theorem dX7_honest_16 : decode cX7_honest 16 = .ok (.ireturn, 1) := dk_172 (dk_at dksX7_honest_0 16 rfl rfl)
theorem dX7_honest_17 : decode cX7_honest 17 = .ok (.aload_n 0, 1) := dk_42 (dk_at dksX7_honest_0 17 rfl rfl)
theorem dX7_honest_18 : decode cX7_honest 18 = .ok (.invokevirtual 337, 3) := dk_182 1 81 (dk_at dksX7_honest_0 18 rfl rfl)
theorem dX7_honest_21 : decode cX7_honest 21 = .ok (.iconst 0, 1) := dk_3 (dk_at dksX7_honest_0 21 rfl rfl)
theorem dX7_honest_22 : decode cX7_honest 22 = .ok (.istore_n 2, 1) := dk_61 (dk_at dksX7_honest_0 22 rfl rfl)
theorem dX7_honest_23 : decode cX7_honest 23 = .ok (.iconst 0, 1) := dk_3 (dk_at dksX7_honest_0 23 rfl rfl)
theorem dX7_honest_24 : decode cX7_honest 24 = .ok (.istore_n 3, 1) := dk_62 (dk_at dksX7_honest_1 0 rfl rfl)
theorem dX7_honest_25 : decode cX7_honest 25 = .ok (.iload_n 3, 1) := dk_29 (dk_at dksX7_honest_1 1 rfl rfl)
theorem dX7_honest_26 : decode cX7_honest 26 = .ok (.aload_n 0, 1) := dk_42 (dk_at dksX7_honest_1 2 rfl rfl)
theorem dX7_honest_27 : decode cX7_honest 27 = .ok (.invokevirtual 236, 3) := dk_182 0 236 (dk_at dksX7_honest_1 3 rfl rfl)
theorem dX7_honest_30 : decode cX7_honest 30 = .ok (.if_icmp .ge 50, 3) := dk_162 0 50 (dk_at dksX7_honest_1 6 rfl rfl)
theorem dX7_honest_33 : decode cX7_honest 33 = .ok (.iload_n 2, 1) := dk_28 (dk_at dksX7_honest_1 9 rfl rfl)
theorem dX7_honest_34 : decode cX7_honest 34 = .ok (.aload_n 0, 1) := dk_42 (dk_at dksX7_honest_1 10 rfl rfl)
theorem dX7_honest_35 : decode cX7_honest 35 = .ok (.iload_n 3, 1) := dk_29 (dk_at dksX7_honest_1 11 rfl rfl)
theorem dX7_honest_36 : decode cX7_honest 36 = .ok (.iload_n 1, 1) := dk_27 (dk_at dksX7_honest_1 12 rfl rfl)
theorem dX7_honest_37 : decode cX7_honest 37 = .ok (.invokevirtual 293, 3) := dk_182 1 37 (dk_at dksX7_honest_1 13 rfl rfl)
theorem dX7_honest_40 : decode cX7_honest 40 = .ok (.ifCond .eq 31, 3) := dk_153 0 31 (dk_at dksX7_honest_1 16 rfl rfl)
theorem dX7_honest_43 : decode cX7_honest 43 = .ok (.aload_n 0, 1) := dk_42 (dk_at dksX7_honest_1 19 rfl rfl)
theorem dX7_honest_44 : decode cX7_honest 44 = .ok (.iload_n 3, 1) := dk_29 (dk_at dksX7_honest_1 20 rfl rfl)
theorem dX7_honest_45 : decode cX7_honest 45 = .ok (.iload_n 1, 1) := dk_27 (dk_at dksX7_honest_1 21 rfl rfl)
theorem dX7_honest_46 : decode cX7_honest 46 = .ok (.invokevirtual 363, 3) := dk_182 1 107 (dk_at dksX7_honest_2 0 rfl rfl)
theorem dX7_honest_49 : decode cX7_honest 49 = .ok (.aload_n 0, 1) := dk_42 (dk_at dksX7_honest_2 3 rfl rfl)
theorem dX7_honest_50 : decode cX7_honest 50 = .ok (.getfield 43, 3) := dk_180 0 43 (dk_at dksX7_honest_2 4 rfl rfl)
theorem dX7_honest_53 : decode cX7_honest 53 = .ok (.iconst 4, 1) := dk_7 (dk_at dksX7_honest_2 7 rfl rfl)
theorem dX7_honest_54 : decode cX7_honest 54 = .ok (.iload_n 3, 1) := dk_29 (dk_at dksX7_honest_2 8 rfl rfl)
theorem dX7_honest_55 : decode cX7_honest 55 = .ok (.imul, 1) := dk_104 (dk_at dksX7_honest_2 9 rfl rfl)
theorem dX7_honest_56 : decode cX7_honest 56 = .ok (.iconst 1, 1) := dk_4 (dk_at dksX7_honest_2 10 rfl rfl)
theorem dX7_honest_57 : decode cX7_honest 57 = .ok (.iadd, 1) := dk_96 (dk_at dksX7_honest_2 11 rfl rfl)
theorem dX7_honest_58 : decode cX7_honest 58 = .ok (.iaload, 1) := dk_46 (dk_at dksX7_honest_2 12 rfl rfl)
theorem dX7_honest_59 : decode cX7_honest 59 = .ok (.invokestatic 273, 3) := dk_184 1 17 (dk_at dksX7_honest_2 13 rfl rfl)
theorem dX7_honest_62 : decode cX7_honest 62 = .ok (.ifCond .eq 9, 3) := dk_153 0 9 (dk_at dksX7_honest_2 16 rfl rfl)
theorem dX7_honest_65 : decode cX7_honest 65 = .ok (.iconst 1, 1) := dk_4 (dk_at dksX7_honest_2 19 rfl rfl)
theorem dX7_honest_66 : decode cX7_honest 66 = .ok (.iload_n 3, 1) := dk_29 (dk_at dksX7_honest_2 20 rfl rfl)
theorem dX7_honest_67 : decode cX7_honest 67 = .ok (.ishl, 1) := dk_120 (dk_at dksX7_honest_2 21 rfl rfl)
theorem dX7_honest_68 : decode cX7_honest 68 = .ok (.goto 4, 3) := dk_167 0 4 (dk_at dksX7_honest_3 0 rfl rfl)
theorem dX7_honest_71 : decode cX7_honest 71 = .ok (.iconst 0, 1) := dk_3 (dk_at dksX7_honest_3 3 rfl rfl)
theorem dX7_honest_72 : decode cX7_honest 72 = .ok (.ior, 1) := dk_128 (dk_at dksX7_honest_3 4 rfl rfl)
theorem dX7_honest_73 : decode cX7_honest 73 = .ok (.istore_n 2, 1) := dk_61 (dk_at dksX7_honest_3 5 rfl rfl)
theorem dX7_honest_74 : decode cX7_honest 74 = .ok (.iinc 3 1, 3) := dk_132 3 1 (dk_at dksX7_honest_3 6 rfl rfl)
theorem dX7_honest_77 : decode cX7_honest 77 = .ok (.goto (-52), 3) := dk_167 255 204 (dk_at dksX7_honest_3 9 rfl rfl)
theorem dX7_honest_80 : decode cX7_honest 80 = .ok (.iload_n 2, 1) := dk_28 (dk_at dksX7_honest_3 12 rfl rfl)
theorem dX7_honest_81 : decode cX7_honest 81 = .ok (.ireturn, 1) := dk_172 (dk_at dksX7_honest_3 13 rfl rfl)
abbrev cX7_peaks : ByteArray := prog_12_method_121_code
def yX7_peaks : MethodName := ⟨RX7, "peaks", "()I"⟩
def dkwX7_peaks_2 : List UInt8 := [132, 2, 1, 167, 255, 230, 27, 172]
abbrev dktX7_peaks_2 : List UInt8 := dkwX7_peaks_2 ++ []
def dkwX7_peaks_1 : List UInt8 := [42, 182, 0, 243, 163, 0, 24, 42, 28, 182, 1, 90, 42, 27, 182, 1, 90, 164, 0, 5, 28, 60]
abbrev dktX7_peaks_1 : List UInt8 := dkwX7_peaks_1 ++ dktX7_peaks_2
def dkwX7_peaks_0 : List UInt8 := [42, 3, 181, 0, 74, 42, 182, 0, 240, 154, 0, 6, 16, 254, 172, 42, 182, 1, 81, 3, 60, 4, 61, 28]
abbrev dktX7_peaks_0 : List UInt8 := dkwX7_peaks_0 ++ dktX7_peaks_1
theorem dksX7_peaks_0 : cX7_peaks.data.toList.drop 0 = dktX7_peaks_0 := by decide +kernel
theorem dksX7_peaks_1 : cX7_peaks.data.toList.drop 24 = dktX7_peaks_1 := dk_seg dksX7_peaks_0 24 rfl rfl
theorem dksX7_peaks_2 : cX7_peaks.data.toList.drop 46 = dktX7_peaks_2 := dk_seg dksX7_peaks_1 22 rfl rfl
theorem dX7_peaks_0 : decode cX7_peaks 0 = .ok (.aload_n 0, 1) := dk_42 (dk_at dksX7_peaks_0 0 rfl rfl)
theorem dX7_peaks_1 : decode cX7_peaks 1 = .ok (.iconst 0, 1) := dk_3 (dk_at dksX7_peaks_0 1 rfl rfl)
theorem dX7_peaks_2 : decode cX7_peaks 2 = .ok (.putfield 74, 3) := dk_181 0 74 (dk_at dksX7_peaks_0 2 rfl rfl)
theorem dX7_peaks_5 : decode cX7_peaks 5 = .ok (.aload_n 0, 1) := dk_42 (dk_at dksX7_peaks_0 5 rfl rfl)
theorem dX7_peaks_6 : decode cX7_peaks 6 = .ok (.invokevirtual 240, 3) := dk_182 0 240 (dk_at dksX7_peaks_0 6 rfl rfl)
theorem dX7_peaks_9 : decode cX7_peaks 9 = .ok (.ifCond .ne 6, 3) := dk_154 0 6 (dk_at dksX7_peaks_0 9 rfl rfl)
theorem dX7_peaks_12 : decode cX7_peaks 12 = .ok (.bipush (-2), 2) := dk_16 254 (dk_at dksX7_peaks_0 12 rfl rfl)
theorem dX7_peaks_14 : decode cX7_peaks 14 = .ok (.ireturn, 1) := dk_172 (dk_at dksX7_peaks_0 14 rfl rfl)
theorem dX7_peaks_15 : decode cX7_peaks 15 = .ok (.aload_n 0, 1) := dk_42 (dk_at dksX7_peaks_0 15 rfl rfl)
theorem dX7_peaks_16 : decode cX7_peaks 16 = .ok (.invokevirtual 337, 3) := dk_182 1 81 (dk_at dksX7_peaks_0 16 rfl rfl)
theorem dX7_peaks_19 : decode cX7_peaks 19 = .ok (.iconst 0, 1) := dk_3 (dk_at dksX7_peaks_0 19 rfl rfl)
theorem dX7_peaks_20 : decode cX7_peaks 20 = .ok (.istore_n 1, 1) := dk_60 (dk_at dksX7_peaks_0 20 rfl rfl)
theorem dX7_peaks_21 : decode cX7_peaks 21 = .ok (.iconst 1, 1) := dk_4 (dk_at dksX7_peaks_0 21 rfl rfl)
theorem dX7_peaks_22 : decode cX7_peaks 22 = .ok (.istore_n 2, 1) := dk_61 (dk_at dksX7_peaks_0 22 rfl rfl)
theorem dX7_peaks_23 : decode cX7_peaks 23 = .ok (.iload_n 2, 1) := dk_28 (dk_at dksX7_peaks_0 23 rfl rfl)
theorem dX7_peaks_24 : decode cX7_peaks 24 = .ok (.aload_n 0, 1) := dk_42 (dk_at dksX7_peaks_1 0 rfl rfl)
theorem dX7_peaks_25 : decode cX7_peaks 25 = .ok (.invokevirtual 243, 3) := dk_182 0 243 (dk_at dksX7_peaks_1 1 rfl rfl)
theorem dX7_peaks_28 : decode cX7_peaks 28 = .ok (.if_icmp .gt 24, 3) := dk_163 0 24 (dk_at dksX7_peaks_1 4 rfl rfl)
theorem dX7_peaks_31 : decode cX7_peaks 31 = .ok (.aload_n 0, 1) := dk_42 (dk_at dksX7_peaks_1 7 rfl rfl)
theorem dX7_peaks_32 : decode cX7_peaks 32 = .ok (.iload_n 2, 1) := dk_28 (dk_at dksX7_peaks_1 8 rfl rfl)
theorem dX7_peaks_33 : decode cX7_peaks 33 = .ok (.invokevirtual 346, 3) := dk_182 1 90 (dk_at dksX7_peaks_1 9 rfl rfl)
theorem dX7_peaks_36 : decode cX7_peaks 36 = .ok (.aload_n 0, 1) := dk_42 (dk_at dksX7_peaks_1 12 rfl rfl)
theorem dX7_peaks_37 : decode cX7_peaks 37 = .ok (.iload_n 1, 1) := dk_27 (dk_at dksX7_peaks_1 13 rfl rfl)
theorem dX7_peaks_38 : decode cX7_peaks 38 = .ok (.invokevirtual 346, 3) := dk_182 1 90 (dk_at dksX7_peaks_1 14 rfl rfl)
theorem dX7_peaks_41 : decode cX7_peaks 41 = .ok (.if_icmp .le 5, 3) := dk_164 0 5 (dk_at dksX7_peaks_1 17 rfl rfl)
theorem dX7_peaks_44 : decode cX7_peaks 44 = .ok (.iload_n 2, 1) := dk_28 (dk_at dksX7_peaks_1 20 rfl rfl)
theorem dX7_peaks_45 : decode cX7_peaks 45 = .ok (.istore_n 1, 1) := dk_60 (dk_at dksX7_peaks_1 21 rfl rfl)
theorem dX7_peaks_46 : decode cX7_peaks 46 = .ok (.iinc 2 1, 3) := dk_132 2 1 (dk_at dksX7_peaks_2 0 rfl rfl)
theorem dX7_peaks_49 : decode cX7_peaks 49 = .ok (.goto (-26), 3) := dk_167 255 230 (dk_at dksX7_peaks_2 3 rfl rfl)
theorem dX7_peaks_52 : decode cX7_peaks 52 = .ok (.iload_n 1, 1) := dk_27 (dk_at dksX7_peaks_2 6 rfl rfl)
theorem dX7_peaks_53 : decode cX7_peaks 53 = .ok (.ireturn, 1) := dk_172 (dk_at dksX7_peaks_2 7 rfl rfl)
abbrev cX7_lasts : ByteArray := prog_12_method_122_code
def yX7_lasts : MethodName := ⟨RX7, "lasts", "(I)I"⟩
def dkwX7_lasts_2 : List UInt8 := [167, 0, 4, 3, 96, 61, 132, 3, 1, 167, 255, 225, 28, 172]
abbrev dktX7_lasts_2 : List UInt8 := dkwX7_lasts_2 ++ []
def dkwX7_lasts_1 : List UInt8 := [62, 29, 42, 182, 0, 243, 163, 0, 29, 28, 42, 29, 182, 1, 87, 27, 184, 1, 17, 153, 0, 7, 4]
abbrev dktX7_lasts_1 : List UInt8 := dkwX7_lasts_1 ++ dktX7_lasts_2
def dkwX7_lasts_0 : List UInt8 := [42, 3, 181, 0, 74, 42, 27, 133, 182, 0, 246, 154, 0, 6, 16, 254, 172, 42, 182, 1, 81, 3, 61, 3]
abbrev dktX7_lasts_0 : List UInt8 := dkwX7_lasts_0 ++ dktX7_lasts_1
theorem dksX7_lasts_0 : cX7_lasts.data.toList.drop 0 = dktX7_lasts_0 := by decide +kernel
theorem dksX7_lasts_1 : cX7_lasts.data.toList.drop 24 = dktX7_lasts_1 := dk_seg dksX7_lasts_0 24 rfl rfl
theorem dksX7_lasts_2 : cX7_lasts.data.toList.drop 47 = dktX7_lasts_2 := dk_seg dksX7_lasts_1 23 rfl rfl
theorem dX7_lasts_0 : decode cX7_lasts 0 = .ok (.aload_n 0, 1) := dk_42 (dk_at dksX7_lasts_0 0 rfl rfl)
theorem dX7_lasts_1 : decode cX7_lasts 1 = .ok (.iconst 0, 1) := dk_3 (dk_at dksX7_lasts_0 1 rfl rfl)
theorem dX7_lasts_2 : decode cX7_lasts 2 = .ok (.putfield 74, 3) := dk_181 0 74 (dk_at dksX7_lasts_0 2 rfl rfl)
theorem dX7_lasts_5 : decode cX7_lasts 5 = .ok (.aload_n 0, 1) := dk_42 (dk_at dksX7_lasts_0 5 rfl rfl)
theorem dX7_lasts_6 : decode cX7_lasts 6 = .ok (.iload_n 1, 1) := dk_27 (dk_at dksX7_lasts_0 6 rfl rfl)
theorem dX7_lasts_7 : decode cX7_lasts 7 = .ok (.i2l, 1) := dk_133 (dk_at dksX7_lasts_0 7 rfl rfl)
theorem dX7_lasts_8 : decode cX7_lasts 8 = .ok (.invokevirtual 246, 3) := dk_182 0 246 (dk_at dksX7_lasts_0 8 rfl rfl)
theorem dX7_lasts_11 : decode cX7_lasts 11 = .ok (.ifCond .ne 6, 3) := dk_154 0 6 (dk_at dksX7_lasts_0 11 rfl rfl)
theorem dX7_lasts_14 : decode cX7_lasts 14 = .ok (.bipush (-2), 2) := dk_16 254 (dk_at dksX7_lasts_0 14 rfl rfl)
theorem dX7_lasts_16 : decode cX7_lasts 16 = .ok (.ireturn, 1) := dk_172 (dk_at dksX7_lasts_0 16 rfl rfl)
theorem dX7_lasts_17 : decode cX7_lasts 17 = .ok (.aload_n 0, 1) := dk_42 (dk_at dksX7_lasts_0 17 rfl rfl)
theorem dX7_lasts_18 : decode cX7_lasts 18 = .ok (.invokevirtual 337, 3) := dk_182 1 81 (dk_at dksX7_lasts_0 18 rfl rfl)
theorem dX7_lasts_21 : decode cX7_lasts 21 = .ok (.iconst 0, 1) := dk_3 (dk_at dksX7_lasts_0 21 rfl rfl)
theorem dX7_lasts_22 : decode cX7_lasts 22 = .ok (.istore_n 2, 1) := dk_61 (dk_at dksX7_lasts_0 22 rfl rfl)
theorem dX7_lasts_23 : decode cX7_lasts 23 = .ok (.iconst 0, 1) := dk_3 (dk_at dksX7_lasts_0 23 rfl rfl)
theorem dX7_lasts_24 : decode cX7_lasts 24 = .ok (.istore_n 3, 1) := dk_62 (dk_at dksX7_lasts_1 0 rfl rfl)
theorem dX7_lasts_25 : decode cX7_lasts 25 = .ok (.iload_n 3, 1) := dk_29 (dk_at dksX7_lasts_1 1 rfl rfl)
theorem dX7_lasts_26 : decode cX7_lasts 26 = .ok (.aload_n 0, 1) := dk_42 (dk_at dksX7_lasts_1 2 rfl rfl)
theorem dX7_lasts_27 : decode cX7_lasts 27 = .ok (.invokevirtual 243, 3) := dk_182 0 243 (dk_at dksX7_lasts_1 3 rfl rfl)
theorem dX7_lasts_30 : decode cX7_lasts 30 = .ok (.if_icmp .gt 29, 3) := dk_163 0 29 (dk_at dksX7_lasts_1 6 rfl rfl)
theorem dX7_lasts_33 : decode cX7_lasts 33 = .ok (.iload_n 2, 1) := dk_28 (dk_at dksX7_lasts_1 9 rfl rfl)
theorem dX7_lasts_34 : decode cX7_lasts 34 = .ok (.aload_n 0, 1) := dk_42 (dk_at dksX7_lasts_1 10 rfl rfl)
theorem dX7_lasts_35 : decode cX7_lasts 35 = .ok (.iload_n 3, 1) := dk_29 (dk_at dksX7_lasts_1 11 rfl rfl)
theorem dX7_lasts_36 : decode cX7_lasts 36 = .ok (.invokevirtual 343, 3) := dk_182 1 87 (dk_at dksX7_lasts_1 12 rfl rfl)
theorem dX7_lasts_39 : decode cX7_lasts 39 = .ok (.iload_n 1, 1) := dk_27 (dk_at dksX7_lasts_1 15 rfl rfl)
theorem dX7_lasts_40 : decode cX7_lasts 40 = .ok (.invokestatic 273, 3) := dk_184 1 17 (dk_at dksX7_lasts_1 16 rfl rfl)
theorem dX7_lasts_43 : decode cX7_lasts 43 = .ok (.ifCond .eq 7, 3) := dk_153 0 7 (dk_at dksX7_lasts_1 19 rfl rfl)
theorem dX7_lasts_46 : decode cX7_lasts 46 = .ok (.iconst 1, 1) := dk_4 (dk_at dksX7_lasts_1 22 rfl rfl)
theorem dX7_lasts_47 : decode cX7_lasts 47 = .ok (.goto 4, 3) := dk_167 0 4 (dk_at dksX7_lasts_2 0 rfl rfl)
theorem dX7_lasts_50 : decode cX7_lasts 50 = .ok (.iconst 0, 1) := dk_3 (dk_at dksX7_lasts_2 3 rfl rfl)
theorem dX7_lasts_51 : decode cX7_lasts 51 = .ok (.iadd, 1) := dk_96 (dk_at dksX7_lasts_2 4 rfl rfl)
theorem dX7_lasts_52 : decode cX7_lasts 52 = .ok (.istore_n 2, 1) := dk_61 (dk_at dksX7_lasts_2 5 rfl rfl)
theorem dX7_lasts_53 : decode cX7_lasts 53 = .ok (.iinc 3 1, 3) := dk_132 3 1 (dk_at dksX7_lasts_2 6 rfl rfl)
theorem dX7_lasts_56 : decode cX7_lasts 56 = .ok (.goto (-31), 3) := dk_167 255 225 (dk_at dksX7_lasts_2 9 rfl rfl)
theorem dX7_lasts_59 : decode cX7_lasts 59 = .ok (.iload_n 2, 1) := dk_28 (dk_at dksX7_lasts_2 12 rfl rfl)
theorem dX7_lasts_60 : decode cX7_lasts 60 = .ok (.ireturn, 1) := dk_172 (dk_at dksX7_lasts_2 13 rfl rfl)
abbrev cX7_order : ByteArray := prog_12_method_123_code
def yX7_order : MethodName := ⟨RX7, "order", "(I)I"⟩
def dkwX7_order_4 : List UInt8 := [132, 2, 1, 167, 255, 178, 4, 172]
abbrev dktX7_order_4 : List UInt8 := dkwX7_order_4 ++ []
def dkwX7_order_3 : List UInt8 := [46, 42, 180, 0, 43, 7, 28, 104, 5, 96, 46, 162, 0, 5, 3, 172, 132, 3, 1, 167, 255, 196]
abbrev dktX7_order_3 : List UInt8 := dkwX7_order_3 ++ dktX7_order_4
def dkwX7_order_2 : List UInt8 := [160, 0, 40, 42, 180, 0, 43, 7, 29, 104, 46, 27, 160, 0, 28, 42, 180, 0, 43, 7, 29, 104, 5, 96]
abbrev dktX7_order_2 : List UInt8 := dkwX7_order_2 ++ dktX7_order_3
def dkwX7_order_1 : List UInt8 := [162, 0, 76, 28, 4, 96, 62, 29, 42, 182, 0, 236, 162, 0, 58, 42, 180, 0, 43, 7, 28, 104, 46, 27]
abbrev dktX7_order_1 : List UInt8 := dkwX7_order_1 ++ dktX7_order_2
def dkwX7_order_0 : List UInt8 := [42, 3, 181, 0, 74, 42, 27, 182, 1, 70, 154, 0, 6, 16, 254, 172, 3, 61, 28, 42, 182, 0, 236]
abbrev dktX7_order_0 : List UInt8 := dkwX7_order_0 ++ dktX7_order_1
theorem dksX7_order_0 : cX7_order.data.toList.drop 0 = dktX7_order_0 := by decide +kernel
theorem dksX7_order_1 : cX7_order.data.toList.drop 23 = dktX7_order_1 := dk_seg dksX7_order_0 23 rfl rfl
theorem dksX7_order_2 : cX7_order.data.toList.drop 47 = dktX7_order_2 := dk_seg dksX7_order_1 24 rfl rfl
theorem dksX7_order_3 : cX7_order.data.toList.drop 71 = dktX7_order_3 := dk_seg dksX7_order_2 24 rfl rfl
theorem dksX7_order_4 : cX7_order.data.toList.drop 93 = dktX7_order_4 := dk_seg dksX7_order_3 22 rfl rfl
theorem dX7_order_0 : decode cX7_order 0 = .ok (.aload_n 0, 1) := dk_42 (dk_at dksX7_order_0 0 rfl rfl)
theorem dX7_order_1 : decode cX7_order 1 = .ok (.iconst 0, 1) := dk_3 (dk_at dksX7_order_0 1 rfl rfl)
theorem dX7_order_2 : decode cX7_order 2 = .ok (.putfield 74, 3) := dk_181 0 74 (dk_at dksX7_order_0 2 rfl rfl)
theorem dX7_order_5 : decode cX7_order 5 = .ok (.aload_n 0, 1) := dk_42 (dk_at dksX7_order_0 5 rfl rfl)
theorem dX7_order_6 : decode cX7_order 6 = .ok (.iload_n 1, 1) := dk_27 (dk_at dksX7_order_0 6 rfl rfl)
theorem dX7_order_7 : decode cX7_order 7 = .ok (.invokevirtual 326, 3) := dk_182 1 70 (dk_at dksX7_order_0 7 rfl rfl)
theorem dX7_order_10 : decode cX7_order 10 = .ok (.ifCond .ne 6, 3) := dk_154 0 6 (dk_at dksX7_order_0 10 rfl rfl)
theorem dX7_order_13 : decode cX7_order 13 = .ok (.bipush (-2), 2) := dk_16 254 (dk_at dksX7_order_0 13 rfl rfl)
theorem dX7_order_15 : decode cX7_order 15 = .ok (.ireturn, 1) := dk_172 (dk_at dksX7_order_0 15 rfl rfl)
theorem dX7_order_16 : decode cX7_order 16 = .ok (.iconst 0, 1) := dk_3 (dk_at dksX7_order_0 16 rfl rfl)
theorem dX7_order_17 : decode cX7_order 17 = .ok (.istore_n 2, 1) := dk_61 (dk_at dksX7_order_0 17 rfl rfl)
theorem dX7_order_18 : decode cX7_order 18 = .ok (.iload_n 2, 1) := dk_28 (dk_at dksX7_order_0 18 rfl rfl)
theorem dX7_order_19 : decode cX7_order 19 = .ok (.aload_n 0, 1) := dk_42 (dk_at dksX7_order_0 19 rfl rfl)
theorem dX7_order_20 : decode cX7_order 20 = .ok (.invokevirtual 236, 3) := dk_182 0 236 (dk_at dksX7_order_0 20 rfl rfl)
theorem dX7_order_23 : decode cX7_order 23 = .ok (.if_icmp .ge 76, 3) := dk_162 0 76 (dk_at dksX7_order_1 0 rfl rfl)
theorem dX7_order_26 : decode cX7_order 26 = .ok (.iload_n 2, 1) := dk_28 (dk_at dksX7_order_1 3 rfl rfl)
theorem dX7_order_27 : decode cX7_order 27 = .ok (.iconst 1, 1) := dk_4 (dk_at dksX7_order_1 4 rfl rfl)
theorem dX7_order_28 : decode cX7_order 28 = .ok (.iadd, 1) := dk_96 (dk_at dksX7_order_1 5 rfl rfl)
theorem dX7_order_29 : decode cX7_order 29 = .ok (.istore_n 3, 1) := dk_62 (dk_at dksX7_order_1 6 rfl rfl)
theorem dX7_order_30 : decode cX7_order 30 = .ok (.iload_n 3, 1) := dk_29 (dk_at dksX7_order_1 7 rfl rfl)
theorem dX7_order_31 : decode cX7_order 31 = .ok (.aload_n 0, 1) := dk_42 (dk_at dksX7_order_1 8 rfl rfl)
theorem dX7_order_32 : decode cX7_order 32 = .ok (.invokevirtual 236, 3) := dk_182 0 236 (dk_at dksX7_order_1 9 rfl rfl)
theorem dX7_order_35 : decode cX7_order 35 = .ok (.if_icmp .ge 58, 3) := dk_162 0 58 (dk_at dksX7_order_1 12 rfl rfl)
theorem dX7_order_38 : decode cX7_order 38 = .ok (.aload_n 0, 1) := dk_42 (dk_at dksX7_order_1 15 rfl rfl)
theorem dX7_order_39 : decode cX7_order 39 = .ok (.getfield 43, 3) := dk_180 0 43 (dk_at dksX7_order_1 16 rfl rfl)
theorem dX7_order_42 : decode cX7_order 42 = .ok (.iconst 4, 1) := dk_7 (dk_at dksX7_order_1 19 rfl rfl)
theorem dX7_order_43 : decode cX7_order 43 = .ok (.iload_n 2, 1) := dk_28 (dk_at dksX7_order_1 20 rfl rfl)
theorem dX7_order_44 : decode cX7_order 44 = .ok (.imul, 1) := dk_104 (dk_at dksX7_order_1 21 rfl rfl)
theorem dX7_order_45 : decode cX7_order 45 = .ok (.iaload, 1) := dk_46 (dk_at dksX7_order_1 22 rfl rfl)
theorem dX7_order_46 : decode cX7_order 46 = .ok (.iload_n 1, 1) := dk_27 (dk_at dksX7_order_1 23 rfl rfl)
theorem dX7_order_47 : decode cX7_order 47 = .ok (.if_icmp .ne 40, 3) := dk_160 0 40 (dk_at dksX7_order_2 0 rfl rfl)
theorem dX7_order_50 : decode cX7_order 50 = .ok (.aload_n 0, 1) := dk_42 (dk_at dksX7_order_2 3 rfl rfl)
theorem dX7_order_51 : decode cX7_order 51 = .ok (.getfield 43, 3) := dk_180 0 43 (dk_at dksX7_order_2 4 rfl rfl)
theorem dX7_order_54 : decode cX7_order 54 = .ok (.iconst 4, 1) := dk_7 (dk_at dksX7_order_2 7 rfl rfl)
theorem dX7_order_55 : decode cX7_order 55 = .ok (.iload_n 3, 1) := dk_29 (dk_at dksX7_order_2 8 rfl rfl)
theorem dX7_order_56 : decode cX7_order 56 = .ok (.imul, 1) := dk_104 (dk_at dksX7_order_2 9 rfl rfl)
theorem dX7_order_57 : decode cX7_order 57 = .ok (.iaload, 1) := dk_46 (dk_at dksX7_order_2 10 rfl rfl)
theorem dX7_order_58 : decode cX7_order 58 = .ok (.iload_n 1, 1) := dk_27 (dk_at dksX7_order_2 11 rfl rfl)
theorem dX7_order_59 : decode cX7_order 59 = .ok (.if_icmp .ne 28, 3) := dk_160 0 28 (dk_at dksX7_order_2 12 rfl rfl)
theorem dX7_order_62 : decode cX7_order 62 = .ok (.aload_n 0, 1) := dk_42 (dk_at dksX7_order_2 15 rfl rfl)
theorem dX7_order_63 : decode cX7_order 63 = .ok (.getfield 43, 3) := dk_180 0 43 (dk_at dksX7_order_2 16 rfl rfl)
theorem dX7_order_66 : decode cX7_order 66 = .ok (.iconst 4, 1) := dk_7 (dk_at dksX7_order_2 19 rfl rfl)
theorem dX7_order_67 : decode cX7_order 67 = .ok (.iload_n 3, 1) := dk_29 (dk_at dksX7_order_2 20 rfl rfl)
theorem dX7_order_68 : decode cX7_order 68 = .ok (.imul, 1) := dk_104 (dk_at dksX7_order_2 21 rfl rfl)
theorem dX7_order_69 : decode cX7_order 69 = .ok (.iconst 2, 1) := dk_5 (dk_at dksX7_order_2 22 rfl rfl)
theorem dX7_order_70 : decode cX7_order 70 = .ok (.iadd, 1) := dk_96 (dk_at dksX7_order_2 23 rfl rfl)
theorem dX7_order_71 : decode cX7_order 71 = .ok (.iaload, 1) := dk_46 (dk_at dksX7_order_3 0 rfl rfl)
theorem dX7_order_72 : decode cX7_order 72 = .ok (.aload_n 0, 1) := dk_42 (dk_at dksX7_order_3 1 rfl rfl)
theorem dX7_order_73 : decode cX7_order 73 = .ok (.getfield 43, 3) := dk_180 0 43 (dk_at dksX7_order_3 2 rfl rfl)
theorem dX7_order_76 : decode cX7_order 76 = .ok (.iconst 4, 1) := dk_7 (dk_at dksX7_order_3 5 rfl rfl)
theorem dX7_order_77 : decode cX7_order 77 = .ok (.iload_n 2, 1) := dk_28 (dk_at dksX7_order_3 6 rfl rfl)
theorem dX7_order_78 : decode cX7_order 78 = .ok (.imul, 1) := dk_104 (dk_at dksX7_order_3 7 rfl rfl)
theorem dX7_order_79 : decode cX7_order 79 = .ok (.iconst 2, 1) := dk_5 (dk_at dksX7_order_3 8 rfl rfl)
theorem dX7_order_80 : decode cX7_order 80 = .ok (.iadd, 1) := dk_96 (dk_at dksX7_order_3 9 rfl rfl)
theorem dX7_order_81 : decode cX7_order 81 = .ok (.iaload, 1) := dk_46 (dk_at dksX7_order_3 10 rfl rfl)
theorem dX7_order_82 : decode cX7_order 82 = .ok (.if_icmp .ge 5, 3) := dk_162 0 5 (dk_at dksX7_order_3 11 rfl rfl)
theorem dX7_order_85 : decode cX7_order 85 = .ok (.iconst 0, 1) := dk_3 (dk_at dksX7_order_3 14 rfl rfl)
theorem dX7_order_86 : decode cX7_order 86 = .ok (.ireturn, 1) := dk_172 (dk_at dksX7_order_3 15 rfl rfl)
theorem dX7_order_87 : decode cX7_order 87 = .ok (.iinc 3 1, 3) := dk_132 3 1 (dk_at dksX7_order_3 16 rfl rfl)
theorem dX7_order_90 : decode cX7_order 90 = .ok (.goto (-60), 3) := dk_167 255 196 (dk_at dksX7_order_3 19 rfl rfl)
theorem dX7_order_93 : decode cX7_order 93 = .ok (.iinc 2 1, 3) := dk_132 2 1 (dk_at dksX7_order_4 0 rfl rfl)
theorem dX7_order_96 : decode cX7_order 96 = .ok (.goto (-78), 3) := dk_167 255 178 (dk_at dksX7_order_4 3 rfl rfl)
theorem dX7_order_99 : decode cX7_order 99 = .ok (.iconst 1, 1) := dk_4 (dk_at dksX7_order_4 6 rfl rfl)
theorem dX7_order_100 : decode cX7_order 100 = .ok (.ireturn, 1) := dk_172 (dk_at dksX7_order_4 7 rfl rfl)
abbrev cX7_match : ByteArray := prog_12_method_124_code
def yX7_match : MethodName := ⟨RX7, "match", "(II)I"⟩
def dkwX7_match_3 : List UInt8 := [182, 1, 99, 154, 0, 7, 4, 167, 0, 4, 3, 96, 62, 132, 4, 1, 167, 255, 205, 29, 172]
abbrev dktX7_match_3 : List UInt8 := dkwX7_match_3 ++ []
def dkwX7_match_2 : List UInt8 := [21, 4, 182, 1, 37, 153, 0, 28, 42, 28, 21, 4, 182, 1, 37, 153, 0, 18, 42, 27, 28, 21, 4]
abbrev dktX7_match_2 : List UInt8 := dkwX7_match_2 ++ dktX7_match_3
def dkwX7_match_1 : List UInt8 := [16, 254, 172, 42, 182, 1, 81, 3, 62, 3, 54, 4, 21, 4, 42, 182, 0, 243, 163, 0, 48, 29, 42, 27]
abbrev dktX7_match_1 : List UInt8 := dkwX7_match_1 ++ dktX7_match_2
def dkwX7_match_0 : List UInt8 := [42, 3, 181, 0, 74, 42, 27, 133, 182, 0, 246, 153, 0, 12, 42, 28, 133, 182, 0, 246, 154, 0, 6]
abbrev dktX7_match_0 : List UInt8 := dkwX7_match_0 ++ dktX7_match_1
theorem dksX7_match_0 : cX7_match.data.toList.drop 0 = dktX7_match_0 := by decide +kernel
theorem dksX7_match_1 : cX7_match.data.toList.drop 23 = dktX7_match_1 := dk_seg dksX7_match_0 23 rfl rfl
theorem dksX7_match_2 : cX7_match.data.toList.drop 47 = dktX7_match_2 := dk_seg dksX7_match_1 24 rfl rfl
theorem dksX7_match_3 : cX7_match.data.toList.drop 70 = dktX7_match_3 := dk_seg dksX7_match_2 23 rfl rfl
theorem dX7_match_0 : decode cX7_match 0 = .ok (.aload_n 0, 1) := dk_42 (dk_at dksX7_match_0 0 rfl rfl)
theorem dX7_match_1 : decode cX7_match 1 = .ok (.iconst 0, 1) := dk_3 (dk_at dksX7_match_0 1 rfl rfl)
theorem dX7_match_2 : decode cX7_match 2 = .ok (.putfield 74, 3) := dk_181 0 74 (dk_at dksX7_match_0 2 rfl rfl)
theorem dX7_match_5 : decode cX7_match 5 = .ok (.aload_n 0, 1) := dk_42 (dk_at dksX7_match_0 5 rfl rfl)
theorem dX7_match_6 : decode cX7_match 6 = .ok (.iload_n 1, 1) := dk_27 (dk_at dksX7_match_0 6 rfl rfl)
theorem dX7_match_7 : decode cX7_match 7 = .ok (.i2l, 1) := dk_133 (dk_at dksX7_match_0 7 rfl rfl)
theorem dX7_match_8 : decode cX7_match 8 = .ok (.invokevirtual 246, 3) := dk_182 0 246 (dk_at dksX7_match_0 8 rfl rfl)
theorem dX7_match_11 : decode cX7_match 11 = .ok (.ifCond .eq 12, 3) := dk_153 0 12 (dk_at dksX7_match_0 11 rfl rfl)
theorem dX7_match_14 : decode cX7_match 14 = .ok (.aload_n 0, 1) := dk_42 (dk_at dksX7_match_0 14 rfl rfl)
theorem dX7_match_15 : decode cX7_match 15 = .ok (.iload_n 2, 1) := dk_28 (dk_at dksX7_match_0 15 rfl rfl)
theorem dX7_match_16 : decode cX7_match 16 = .ok (.i2l, 1) := dk_133 (dk_at dksX7_match_0 16 rfl rfl)
theorem dX7_match_17 : decode cX7_match 17 = .ok (.invokevirtual 246, 3) := dk_182 0 246 (dk_at dksX7_match_0 17 rfl rfl)
theorem dX7_match_20 : decode cX7_match 20 = .ok (.ifCond .ne 6, 3) := dk_154 0 6 (dk_at dksX7_match_0 20 rfl rfl)
theorem dX7_match_23 : decode cX7_match 23 = .ok (.bipush (-2), 2) := dk_16 254 (dk_at dksX7_match_1 0 rfl rfl)
theorem dX7_match_25 : decode cX7_match 25 = .ok (.ireturn, 1) := dk_172 (dk_at dksX7_match_1 2 rfl rfl)
theorem dX7_match_26 : decode cX7_match 26 = .ok (.aload_n 0, 1) := dk_42 (dk_at dksX7_match_1 3 rfl rfl)
theorem dX7_match_27 : decode cX7_match 27 = .ok (.invokevirtual 337, 3) := dk_182 1 81 (dk_at dksX7_match_1 4 rfl rfl)
theorem dX7_match_30 : decode cX7_match 30 = .ok (.iconst 0, 1) := dk_3 (dk_at dksX7_match_1 7 rfl rfl)
theorem dX7_match_31 : decode cX7_match 31 = .ok (.istore_n 3, 1) := dk_62 (dk_at dksX7_match_1 8 rfl rfl)
theorem dX7_match_32 : decode cX7_match 32 = .ok (.iconst 0, 1) := dk_3 (dk_at dksX7_match_1 9 rfl rfl)
theorem dX7_match_33 : decode cX7_match 33 = .ok (.istore 4, 2) := dk_54 4 (dk_at dksX7_match_1 10 rfl rfl)
theorem dX7_match_35 : decode cX7_match 35 = .ok (.iload 4, 2) := dk_21 4 (dk_at dksX7_match_1 12 rfl rfl)
theorem dX7_match_37 : decode cX7_match 37 = .ok (.aload_n 0, 1) := dk_42 (dk_at dksX7_match_1 14 rfl rfl)
theorem dX7_match_38 : decode cX7_match 38 = .ok (.invokevirtual 243, 3) := dk_182 0 243 (dk_at dksX7_match_1 15 rfl rfl)
theorem dX7_match_41 : decode cX7_match 41 = .ok (.if_icmp .gt 48, 3) := dk_163 0 48 (dk_at dksX7_match_1 18 rfl rfl)
theorem dX7_match_44 : decode cX7_match 44 = .ok (.iload_n 3, 1) := dk_29 (dk_at dksX7_match_1 21 rfl rfl)
theorem dX7_match_45 : decode cX7_match 45 = .ok (.aload_n 0, 1) := dk_42 (dk_at dksX7_match_1 22 rfl rfl)
theorem dX7_match_46 : decode cX7_match 46 = .ok (.iload_n 1, 1) := dk_27 (dk_at dksX7_match_1 23 rfl rfl)
theorem dX7_match_47 : decode cX7_match 47 = .ok (.iload 4, 2) := dk_21 4 (dk_at dksX7_match_2 0 rfl rfl)
theorem dX7_match_49 : decode cX7_match 49 = .ok (.invokevirtual 293, 3) := dk_182 1 37 (dk_at dksX7_match_2 2 rfl rfl)
theorem dX7_match_52 : decode cX7_match 52 = .ok (.ifCond .eq 28, 3) := dk_153 0 28 (dk_at dksX7_match_2 5 rfl rfl)
theorem dX7_match_55 : decode cX7_match 55 = .ok (.aload_n 0, 1) := dk_42 (dk_at dksX7_match_2 8 rfl rfl)
theorem dX7_match_56 : decode cX7_match 56 = .ok (.iload_n 2, 1) := dk_28 (dk_at dksX7_match_2 9 rfl rfl)
theorem dX7_match_57 : decode cX7_match 57 = .ok (.iload 4, 2) := dk_21 4 (dk_at dksX7_match_2 10 rfl rfl)
theorem dX7_match_59 : decode cX7_match 59 = .ok (.invokevirtual 293, 3) := dk_182 1 37 (dk_at dksX7_match_2 12 rfl rfl)
theorem dX7_match_62 : decode cX7_match 62 = .ok (.ifCond .eq 18, 3) := dk_153 0 18 (dk_at dksX7_match_2 15 rfl rfl)
theorem dX7_match_65 : decode cX7_match 65 = .ok (.aload_n 0, 1) := dk_42 (dk_at dksX7_match_2 18 rfl rfl)
theorem dX7_match_66 : decode cX7_match 66 = .ok (.iload_n 1, 1) := dk_27 (dk_at dksX7_match_2 19 rfl rfl)
theorem dX7_match_67 : decode cX7_match 67 = .ok (.iload_n 2, 1) := dk_28 (dk_at dksX7_match_2 20 rfl rfl)
theorem dX7_match_68 : decode cX7_match 68 = .ok (.iload 4, 2) := dk_21 4 (dk_at dksX7_match_2 21 rfl rfl)
theorem dX7_match_70 : decode cX7_match 70 = .ok (.invokevirtual 355, 3) := dk_182 1 99 (dk_at dksX7_match_3 0 rfl rfl)
theorem dX7_match_73 : decode cX7_match 73 = .ok (.ifCond .ne 7, 3) := dk_154 0 7 (dk_at dksX7_match_3 3 rfl rfl)
theorem dX7_match_76 : decode cX7_match 76 = .ok (.iconst 1, 1) := dk_4 (dk_at dksX7_match_3 6 rfl rfl)
theorem dX7_match_77 : decode cX7_match 77 = .ok (.goto 4, 3) := dk_167 0 4 (dk_at dksX7_match_3 7 rfl rfl)
theorem dX7_match_80 : decode cX7_match 80 = .ok (.iconst 0, 1) := dk_3 (dk_at dksX7_match_3 10 rfl rfl)
theorem dX7_match_81 : decode cX7_match 81 = .ok (.iadd, 1) := dk_96 (dk_at dksX7_match_3 11 rfl rfl)
theorem dX7_match_82 : decode cX7_match 82 = .ok (.istore_n 3, 1) := dk_62 (dk_at dksX7_match_3 12 rfl rfl)
theorem dX7_match_83 : decode cX7_match 83 = .ok (.iinc 4 1, 3) := dk_132 4 1 (dk_at dksX7_match_3 13 rfl rfl)
theorem dX7_match_86 : decode cX7_match 86 = .ok (.goto (-51), 3) := dk_167 255 205 (dk_at dksX7_match_3 16 rfl rfl)
theorem dX7_match_89 : decode cX7_match 89 = .ok (.iload_n 3, 1) := dk_29 (dk_at dksX7_match_3 19 rfl rfl)
theorem dX7_match_90 : decode cX7_match 90 = .ok (.ireturn, 1) := dk_172 (dk_at dksX7_match_3 20 rfl rfl)
abbrev cX7_later : ByteArray := prog_12_method_125_code
def yX7_later : MethodName := ⟨RX7, "later", "(II)I"⟩
def dkwX7_later_2 : List UInt8 := [42, 27, 182, 1, 142, 172]
abbrev dktX7_later_2 : List UInt8 := dkwX7_later_2 ++ []
def dkwX7_later_1 : List UInt8 := [154, 0, 6, 16, 254, 172, 42, 182, 1, 59, 42, 180, 0, 53, 27, 92, 46, 28, 96, 79, 42, 182, 1, 62]
abbrev dktX7_later_1 : List UInt8 := dkwX7_later_1 ++ dktX7_later_2
def dkwX7_later_0 : List UInt8 := [42, 3, 181, 0, 74, 42, 27, 133, 182, 0, 246, 153, 0, 15, 28, 133, 9, 20, 1, 140, 184, 0, 79]
abbrev dktX7_later_0 : List UInt8 := dkwX7_later_0 ++ dktX7_later_1
theorem dksX7_later_0 : cX7_later.data.toList.drop 0 = dktX7_later_0 := by decide +kernel
theorem dksX7_later_1 : cX7_later.data.toList.drop 23 = dktX7_later_1 := dk_seg dksX7_later_0 23 rfl rfl
theorem dksX7_later_2 : cX7_later.data.toList.drop 47 = dktX7_later_2 := dk_seg dksX7_later_1 24 rfl rfl
theorem dX7_later_0 : decode cX7_later 0 = .ok (.aload_n 0, 1) := dk_42 (dk_at dksX7_later_0 0 rfl rfl)
theorem dX7_later_1 : decode cX7_later 1 = .ok (.iconst 0, 1) := dk_3 (dk_at dksX7_later_0 1 rfl rfl)
theorem dX7_later_2 : decode cX7_later 2 = .ok (.putfield 74, 3) := dk_181 0 74 (dk_at dksX7_later_0 2 rfl rfl)
theorem dX7_later_5 : decode cX7_later 5 = .ok (.aload_n 0, 1) := dk_42 (dk_at dksX7_later_0 5 rfl rfl)
theorem dX7_later_6 : decode cX7_later 6 = .ok (.iload_n 1, 1) := dk_27 (dk_at dksX7_later_0 6 rfl rfl)
theorem dX7_later_7 : decode cX7_later 7 = .ok (.i2l, 1) := dk_133 (dk_at dksX7_later_0 7 rfl rfl)
theorem dX7_later_8 : decode cX7_later 8 = .ok (.invokevirtual 246, 3) := dk_182 0 246 (dk_at dksX7_later_0 8 rfl rfl)
theorem dX7_later_11 : decode cX7_later 11 = .ok (.ifCond .eq 15, 3) := dk_153 0 15 (dk_at dksX7_later_0 11 rfl rfl)
theorem dX7_later_14 : decode cX7_later 14 = .ok (.iload_n 2, 1) := dk_28 (dk_at dksX7_later_0 14 rfl rfl)
theorem dX7_later_15 : decode cX7_later 15 = .ok (.i2l, 1) := dk_133 (dk_at dksX7_later_0 15 rfl rfl)
theorem dX7_later_16 : decode cX7_later 16 = .ok (.lconst 0, 1) := dk_9 (dk_at dksX7_later_0 16 rfl rfl)
theorem dX7_later_17 : decode cX7_later 17 = .ok (.ldc2_w 396, 3) := dk_20 1 140 (dk_at dksX7_later_0 17 rfl rfl)
theorem dX7_later_20 : decode cX7_later 20 = .ok (.invokestatic 79, 3) := dk_184 0 79 (dk_at dksX7_later_0 20 rfl rfl)
theorem dX7_later_23 : decode cX7_later 23 = .ok (.ifCond .ne 6, 3) := dk_154 0 6 (dk_at dksX7_later_1 0 rfl rfl)
theorem dX7_later_26 : decode cX7_later 26 = .ok (.bipush (-2), 2) := dk_16 254 (dk_at dksX7_later_1 3 rfl rfl)
theorem dX7_later_28 : decode cX7_later 28 = .ok (.ireturn, 1) := dk_172 (dk_at dksX7_later_1 5 rfl rfl)
theorem dX7_later_29 : decode cX7_later 29 = .ok (.aload_n 0, 1) := dk_42 (dk_at dksX7_later_1 6 rfl rfl)
theorem dX7_later_30 : decode cX7_later 30 = .ok (.invokevirtual 315, 3) := dk_182 1 59 (dk_at dksX7_later_1 7 rfl rfl)
theorem dX7_later_33 : decode cX7_later 33 = .ok (.aload_n 0, 1) := dk_42 (dk_at dksX7_later_1 10 rfl rfl)
theorem dX7_later_34 : decode cX7_later 34 = .ok (.getfield 53, 3) := dk_180 0 53 (dk_at dksX7_later_1 11 rfl rfl)
theorem dX7_later_37 : decode cX7_later 37 = .ok (.iload_n 1, 1) := dk_27 (dk_at dksX7_later_1 14 rfl rfl)
theorem dX7_later_38 : decode cX7_later 38 = .ok (.dup2, 1) := dk_92 (dk_at dksX7_later_1 15 rfl rfl)
theorem dX7_later_39 : decode cX7_later 39 = .ok (.iaload, 1) := dk_46 (dk_at dksX7_later_1 16 rfl rfl)
theorem dX7_later_40 : decode cX7_later 40 = .ok (.iload_n 2, 1) := dk_28 (dk_at dksX7_later_1 17 rfl rfl)
theorem dX7_later_41 : decode cX7_later 41 = .ok (.iadd, 1) := dk_96 (dk_at dksX7_later_1 18 rfl rfl)
theorem dX7_later_42 : decode cX7_later 42 = .ok (.iastore, 1) := dk_79 (dk_at dksX7_later_1 19 rfl rfl)
theorem dX7_later_43 : decode cX7_later 43 = .ok (.aload_n 0, 1) := dk_42 (dk_at dksX7_later_1 20 rfl rfl)
theorem dX7_later_44 : decode cX7_later 44 = .ok (.invokevirtual 318, 3) := dk_182 1 62 (dk_at dksX7_later_1 21 rfl rfl)
theorem dX7_later_47 : decode cX7_later 47 = .ok (.aload_n 0, 1) := dk_42 (dk_at dksX7_later_2 0 rfl rfl)
theorem dX7_later_48 : decode cX7_later 48 = .ok (.iload_n 1, 1) := dk_27 (dk_at dksX7_later_2 1 rfl rfl)
theorem dX7_later_49 : decode cX7_later 49 = .ok (.invokevirtual 398, 3) := dk_182 1 142 (dk_at dksX7_later_2 2 rfl rfl)
theorem dX7_later_52 : decode cX7_later 52 = .ok (.ireturn, 1) := dk_172 (dk_at dksX7_later_2 5 rfl rfl)
abbrev cX7_lastOf : ByteArray := prog_12_method_61_code
def yX7_lastOf : MethodName := ⟨RX7, "lastOf", "(I)I"⟩
def dkwX7_lastOf_0 : List UInt8 := [42, 27, 42, 182, 0, 243, 182, 1, 27, 172]
abbrev dktX7_lastOf_0 : List UInt8 := dkwX7_lastOf_0 ++ []
theorem dksX7_lastOf_0 : cX7_lastOf.data.toList.drop 0 = dktX7_lastOf_0 := by decide +kernel
theorem dX7_lastOf_0 : decode cX7_lastOf 0 = .ok (.aload_n 0, 1) := dk_42 (dk_at dksX7_lastOf_0 0 rfl rfl)
theorem dX7_lastOf_1 : decode cX7_lastOf 1 = .ok (.iload_n 1, 1) := dk_27 (dk_at dksX7_lastOf_0 1 rfl rfl)
theorem dX7_lastOf_2 : decode cX7_lastOf 2 = .ok (.aload_n 0, 1) := dk_42 (dk_at dksX7_lastOf_0 2 rfl rfl)
theorem dX7_lastOf_3 : decode cX7_lastOf 3 = .ok (.invokevirtual 243, 3) := dk_182 0 243 (dk_at dksX7_lastOf_0 3 rfl rfl)
theorem dX7_lastOf_6 : decode cX7_lastOf 6 = .ok (.invokevirtual 283, 3) := dk_182 1 27 (dk_at dksX7_lastOf_0 6 rfl rfl)
theorem dX7_lastOf_9 : decode cX7_lastOf 9 = .ok (.ireturn, 1) := dk_172 (dk_at dksX7_lastOf_0 9 rfl rfl)
abbrev cX7_other : ByteArray := prog_12_method_126_code
def yX7_other : MethodName := ⟨RX7, "other", "(II)I"⟩
def dkwX7_other_1 : List UInt8 := [172, 42, 182, 1, 59, 42, 180, 0, 56, 27, 28, 79, 42, 182, 1, 62, 42, 27, 182, 1, 142, 172]
abbrev dktX7_other_1 : List UInt8 := dkwX7_other_1 ++ []
def dkwX7_other_0 : List UInt8 := [42, 3, 181, 0, 74, 42, 27, 133, 182, 0, 246, 153, 0, 11, 42, 28, 182, 1, 65, 154, 0, 6, 16, 254]
abbrev dktX7_other_0 : List UInt8 := dkwX7_other_0 ++ dktX7_other_1
theorem dksX7_other_0 : cX7_other.data.toList.drop 0 = dktX7_other_0 := by decide +kernel
theorem dksX7_other_1 : cX7_other.data.toList.drop 24 = dktX7_other_1 := dk_seg dksX7_other_0 24 rfl rfl
theorem dX7_other_0 : decode cX7_other 0 = .ok (.aload_n 0, 1) := dk_42 (dk_at dksX7_other_0 0 rfl rfl)
theorem dX7_other_1 : decode cX7_other 1 = .ok (.iconst 0, 1) := dk_3 (dk_at dksX7_other_0 1 rfl rfl)
theorem dX7_other_2 : decode cX7_other 2 = .ok (.putfield 74, 3) := dk_181 0 74 (dk_at dksX7_other_0 2 rfl rfl)
theorem dX7_other_5 : decode cX7_other 5 = .ok (.aload_n 0, 1) := dk_42 (dk_at dksX7_other_0 5 rfl rfl)
theorem dX7_other_6 : decode cX7_other 6 = .ok (.iload_n 1, 1) := dk_27 (dk_at dksX7_other_0 6 rfl rfl)
theorem dX7_other_7 : decode cX7_other 7 = .ok (.i2l, 1) := dk_133 (dk_at dksX7_other_0 7 rfl rfl)
theorem dX7_other_8 : decode cX7_other 8 = .ok (.invokevirtual 246, 3) := dk_182 0 246 (dk_at dksX7_other_0 8 rfl rfl)
theorem dX7_other_11 : decode cX7_other 11 = .ok (.ifCond .eq 11, 3) := dk_153 0 11 (dk_at dksX7_other_0 11 rfl rfl)
theorem dX7_other_14 : decode cX7_other 14 = .ok (.aload_n 0, 1) := dk_42 (dk_at dksX7_other_0 14 rfl rfl)
theorem dX7_other_15 : decode cX7_other 15 = .ok (.iload_n 2, 1) := dk_28 (dk_at dksX7_other_0 15 rfl rfl)
theorem dX7_other_16 : decode cX7_other 16 = .ok (.invokevirtual 321, 3) := dk_182 1 65 (dk_at dksX7_other_0 16 rfl rfl)
theorem dX7_other_19 : decode cX7_other 19 = .ok (.ifCond .ne 6, 3) := dk_154 0 6 (dk_at dksX7_other_0 19 rfl rfl)
theorem dX7_other_22 : decode cX7_other 22 = .ok (.bipush (-2), 2) := dk_16 254 (dk_at dksX7_other_0 22 rfl rfl)
theorem dX7_other_24 : decode cX7_other 24 = .ok (.ireturn, 1) := dk_172 (dk_at dksX7_other_1 0 rfl rfl)
theorem dX7_other_25 : decode cX7_other 25 = .ok (.aload_n 0, 1) := dk_42 (dk_at dksX7_other_1 1 rfl rfl)
theorem dX7_other_26 : decode cX7_other 26 = .ok (.invokevirtual 315, 3) := dk_182 1 59 (dk_at dksX7_other_1 2 rfl rfl)
theorem dX7_other_29 : decode cX7_other 29 = .ok (.aload_n 0, 1) := dk_42 (dk_at dksX7_other_1 5 rfl rfl)
theorem dX7_other_30 : decode cX7_other 30 = .ok (.getfield 56, 3) := dk_180 0 56 (dk_at dksX7_other_1 6 rfl rfl)
theorem dX7_other_33 : decode cX7_other 33 = .ok (.iload_n 1, 1) := dk_27 (dk_at dksX7_other_1 9 rfl rfl)
theorem dX7_other_34 : decode cX7_other 34 = .ok (.iload_n 2, 1) := dk_28 (dk_at dksX7_other_1 10 rfl rfl)
theorem dX7_other_35 : decode cX7_other 35 = .ok (.iastore, 1) := dk_79 (dk_at dksX7_other_1 11 rfl rfl)
theorem dX7_other_36 : decode cX7_other 36 = .ok (.aload_n 0, 1) := dk_42 (dk_at dksX7_other_1 12 rfl rfl)
theorem dX7_other_37 : decode cX7_other 37 = .ok (.invokevirtual 318, 3) := dk_182 1 62 (dk_at dksX7_other_1 13 rfl rfl)
theorem dX7_other_40 : decode cX7_other 40 = .ok (.aload_n 0, 1) := dk_42 (dk_at dksX7_other_1 16 rfl rfl)
theorem dX7_other_41 : decode cX7_other 41 = .ok (.iload_n 1, 1) := dk_27 (dk_at dksX7_other_1 17 rfl rfl)
theorem dX7_other_42 : decode cX7_other 42 = .ok (.invokevirtual 398, 3) := dk_182 1 142 (dk_at dksX7_other_1 18 rfl rfl)
theorem dX7_other_45 : decode cX7_other 45 = .ok (.ireturn, 1) := dk_172 (dk_at dksX7_other_1 21 rfl rfl)
abbrev cX7_hide : ByteArray := prog_12_method_127_code
def yX7_hide : MethodName := ⟨RX7, "hide", "(II)I"⟩
def dkwX7_hide_2 : List UInt8 := [182, 1, 62, 42, 27, 182, 1, 142, 8, 162, 0, 5, 29, 172, 132, 3, 1, 167, 255, 213, 2, 172]
abbrev dktX7_hide_2 : List UInt8 := dkwX7_hide_2 ++ []
def dkwX7_hide_1 : List UInt8 := [163, 0, 43, 42, 182, 1, 59, 42, 27, 181, 1, 5, 42, 28, 181, 1, 47, 42, 29, 181, 1, 8, 42]
abbrev dktX7_hide_1 : List UInt8 := dkwX7_hide_1 ++ dktX7_hide_2
def dkwX7_hide_0 : List UInt8 := [42, 3, 181, 0, 74, 42, 27, 28, 182, 1, 78, 154, 0, 6, 16, 254, 172, 3, 62, 29, 16, 9]
abbrev dktX7_hide_0 : List UInt8 := dkwX7_hide_0 ++ dktX7_hide_1
theorem dksX7_hide_0 : cX7_hide.data.toList.drop 0 = dktX7_hide_0 := by decide +kernel
theorem dksX7_hide_1 : cX7_hide.data.toList.drop 22 = dktX7_hide_1 := dk_seg dksX7_hide_0 22 rfl rfl
theorem dksX7_hide_2 : cX7_hide.data.toList.drop 45 = dktX7_hide_2 := dk_seg dksX7_hide_1 23 rfl rfl
theorem dX7_hide_0 : decode cX7_hide 0 = .ok (.aload_n 0, 1) := dk_42 (dk_at dksX7_hide_0 0 rfl rfl)
theorem dX7_hide_1 : decode cX7_hide 1 = .ok (.iconst 0, 1) := dk_3 (dk_at dksX7_hide_0 1 rfl rfl)
theorem dX7_hide_2 : decode cX7_hide 2 = .ok (.putfield 74, 3) := dk_181 0 74 (dk_at dksX7_hide_0 2 rfl rfl)
theorem dX7_hide_5 : decode cX7_hide 5 = .ok (.aload_n 0, 1) := dk_42 (dk_at dksX7_hide_0 5 rfl rfl)
theorem dX7_hide_6 : decode cX7_hide 6 = .ok (.iload_n 1, 1) := dk_27 (dk_at dksX7_hide_0 6 rfl rfl)
theorem dX7_hide_7 : decode cX7_hide 7 = .ok (.iload_n 2, 1) := dk_28 (dk_at dksX7_hide_0 7 rfl rfl)
theorem dX7_hide_8 : decode cX7_hide 8 = .ok (.invokevirtual 334, 3) := dk_182 1 78 (dk_at dksX7_hide_0 8 rfl rfl)
theorem dX7_hide_11 : decode cX7_hide 11 = .ok (.ifCond .ne 6, 3) := dk_154 0 6 (dk_at dksX7_hide_0 11 rfl rfl)
theorem dX7_hide_14 : decode cX7_hide 14 = .ok (.bipush (-2), 2) := dk_16 254 (dk_at dksX7_hide_0 14 rfl rfl)
theorem dX7_hide_16 : decode cX7_hide 16 = .ok (.ireturn, 1) := dk_172 (dk_at dksX7_hide_0 16 rfl rfl)
theorem dX7_hide_17 : decode cX7_hide 17 = .ok (.iconst 0, 1) := dk_3 (dk_at dksX7_hide_0 17 rfl rfl)
theorem dX7_hide_18 : decode cX7_hide 18 = .ok (.istore_n 3, 1) := dk_62 (dk_at dksX7_hide_0 18 rfl rfl)
theorem dX7_hide_19 : decode cX7_hide 19 = .ok (.iload_n 3, 1) := dk_29 (dk_at dksX7_hide_0 19 rfl rfl)
theorem dX7_hide_20 : decode cX7_hide 20 = .ok (.bipush 9, 2) := dk_16 9 (dk_at dksX7_hide_0 20 rfl rfl)
theorem dX7_hide_22 : decode cX7_hide 22 = .ok (.if_icmp .gt 43, 3) := dk_163 0 43 (dk_at dksX7_hide_1 0 rfl rfl)
theorem dX7_hide_25 : decode cX7_hide 25 = .ok (.aload_n 0, 1) := dk_42 (dk_at dksX7_hide_1 3 rfl rfl)
theorem dX7_hide_26 : decode cX7_hide 26 = .ok (.invokevirtual 315, 3) := dk_182 1 59 (dk_at dksX7_hide_1 4 rfl rfl)
theorem dX7_hide_29 : decode cX7_hide 29 = .ok (.aload_n 0, 1) := dk_42 (dk_at dksX7_hide_1 7 rfl rfl)
theorem dX7_hide_30 : decode cX7_hide 30 = .ok (.iload_n 1, 1) := dk_27 (dk_at dksX7_hide_1 8 rfl rfl)
theorem dX7_hide_31 : decode cX7_hide 31 = .ok (.putfield 261, 3) := dk_181 1 5 (dk_at dksX7_hide_1 9 rfl rfl)
theorem dX7_hide_34 : decode cX7_hide 34 = .ok (.aload_n 0, 1) := dk_42 (dk_at dksX7_hide_1 12 rfl rfl)
theorem dX7_hide_35 : decode cX7_hide 35 = .ok (.iload_n 2, 1) := dk_28 (dk_at dksX7_hide_1 13 rfl rfl)
theorem dX7_hide_36 : decode cX7_hide 36 = .ok (.putfield 303, 3) := dk_181 1 47 (dk_at dksX7_hide_1 14 rfl rfl)
theorem dX7_hide_39 : decode cX7_hide 39 = .ok (.aload_n 0, 1) := dk_42 (dk_at dksX7_hide_1 17 rfl rfl)
theorem dX7_hide_40 : decode cX7_hide 40 = .ok (.iload_n 3, 1) := dk_29 (dk_at dksX7_hide_1 18 rfl rfl)
theorem dX7_hide_41 : decode cX7_hide 41 = .ok (.putfield 264, 3) := dk_181 1 8 (dk_at dksX7_hide_1 19 rfl rfl)
theorem dX7_hide_44 : decode cX7_hide 44 = .ok (.aload_n 0, 1) := dk_42 (dk_at dksX7_hide_1 22 rfl rfl)
theorem dX7_hide_45 : decode cX7_hide 45 = .ok (.invokevirtual 318, 3) := dk_182 1 62 (dk_at dksX7_hide_2 0 rfl rfl)
theorem dX7_hide_48 : decode cX7_hide 48 = .ok (.aload_n 0, 1) := dk_42 (dk_at dksX7_hide_2 3 rfl rfl)
theorem dX7_hide_49 : decode cX7_hide 49 = .ok (.iload_n 1, 1) := dk_27 (dk_at dksX7_hide_2 4 rfl rfl)
theorem dX7_hide_50 : decode cX7_hide 50 = .ok (.invokevirtual 398, 3) := dk_182 1 142 (dk_at dksX7_hide_2 5 rfl rfl)
theorem dX7_hide_53 : decode cX7_hide 53 = .ok (.iconst 5, 1) := dk_8 (dk_at dksX7_hide_2 8 rfl rfl)
theorem dX7_hide_54 : decode cX7_hide 54 = .ok (.if_icmp .ge 5, 3) := dk_162 0 5 (dk_at dksX7_hide_2 9 rfl rfl)
theorem dX7_hide_57 : decode cX7_hide 57 = .ok (.iload_n 3, 1) := dk_29 (dk_at dksX7_hide_2 12 rfl rfl)
theorem dX7_hide_58 : decode cX7_hide 58 = .ok (.ireturn, 1) := dk_172 (dk_at dksX7_hide_2 13 rfl rfl)
theorem dX7_hide_59 : decode cX7_hide 59 = .ok (.iinc 3 1, 3) := dk_132 3 1 (dk_at dksX7_hide_2 14 rfl rfl)
theorem dX7_hide_62 : decode cX7_hide 62 = .ok (.goto (-43), 3) := dk_167 255 213 (dk_at dksX7_hide_2 17 rfl rfl)
theorem dX7_hide_65 : decode cX7_hide 65 = .ok (.iconst (-1), 1) := dk_2 (dk_at dksX7_hide_2 20 rfl rfl)
theorem dX7_hide_66 : decode cX7_hide 66 = .ok (.ireturn, 1) := dk_172 (dk_at dksX7_hide_2 21 rfl rfl)
abbrev cX7_save : ByteArray := prog_12_method_128_code
def yX7_save : MethodName := ⟨RX7, "save", "(I)I"⟩
def dkwX7_save_3 : List UInt8 := [167, 255, 204, 2, 172]
abbrev dktX7_save_3 : List UInt8 := dkwX7_save_3 ++ []
def dkwX7_save_2 : List UInt8 := [42, 28, 181, 1, 50, 42, 182, 1, 62, 42, 27, 182, 1, 142, 8, 161, 0, 5, 28, 172, 132, 2, 1]
abbrev dktX7_save_2 : List UInt8 := dkwX7_save_2 ++ dktX7_save_3
def dkwX7_save_1 : List UInt8 := [163, 0, 50, 42, 182, 1, 59, 42, 27, 28, 182, 1, 37, 154, 0, 6, 167, 0, 28, 42, 27, 181, 1, 11]
abbrev dktX7_save_1 : List UInt8 := dkwX7_save_1 ++ dktX7_save_2
def dkwX7_save_0 : List UInt8 := [42, 3, 181, 0, 74, 42, 27, 133, 182, 0, 246, 154, 0, 6, 16, 254, 172, 3, 61, 28, 42, 182, 0, 243]
abbrev dktX7_save_0 : List UInt8 := dkwX7_save_0 ++ dktX7_save_1
theorem dksX7_save_0 : cX7_save.data.toList.drop 0 = dktX7_save_0 := by decide +kernel
theorem dksX7_save_1 : cX7_save.data.toList.drop 24 = dktX7_save_1 := dk_seg dksX7_save_0 24 rfl rfl
theorem dksX7_save_2 : cX7_save.data.toList.drop 48 = dktX7_save_2 := dk_seg dksX7_save_1 24 rfl rfl
theorem dksX7_save_3 : cX7_save.data.toList.drop 71 = dktX7_save_3 := dk_seg dksX7_save_2 23 rfl rfl
theorem dX7_save_0 : decode cX7_save 0 = .ok (.aload_n 0, 1) := dk_42 (dk_at dksX7_save_0 0 rfl rfl)
theorem dX7_save_1 : decode cX7_save 1 = .ok (.iconst 0, 1) := dk_3 (dk_at dksX7_save_0 1 rfl rfl)
theorem dX7_save_2 : decode cX7_save 2 = .ok (.putfield 74, 3) := dk_181 0 74 (dk_at dksX7_save_0 2 rfl rfl)
theorem dX7_save_5 : decode cX7_save 5 = .ok (.aload_n 0, 1) := dk_42 (dk_at dksX7_save_0 5 rfl rfl)
theorem dX7_save_6 : decode cX7_save 6 = .ok (.iload_n 1, 1) := dk_27 (dk_at dksX7_save_0 6 rfl rfl)
theorem dX7_save_7 : decode cX7_save 7 = .ok (.i2l, 1) := dk_133 (dk_at dksX7_save_0 7 rfl rfl)
theorem dX7_save_8 : decode cX7_save 8 = .ok (.invokevirtual 246, 3) := dk_182 0 246 (dk_at dksX7_save_0 8 rfl rfl)
theorem dX7_save_11 : decode cX7_save 11 = .ok (.ifCond .ne 6, 3) := dk_154 0 6 (dk_at dksX7_save_0 11 rfl rfl)
theorem dX7_save_14 : decode cX7_save 14 = .ok (.bipush (-2), 2) := dk_16 254 (dk_at dksX7_save_0 14 rfl rfl)
theorem dX7_save_16 : decode cX7_save 16 = .ok (.ireturn, 1) := dk_172 (dk_at dksX7_save_0 16 rfl rfl)
theorem dX7_save_17 : decode cX7_save 17 = .ok (.iconst 0, 1) := dk_3 (dk_at dksX7_save_0 17 rfl rfl)
theorem dX7_save_18 : decode cX7_save 18 = .ok (.istore_n 2, 1) := dk_61 (dk_at dksX7_save_0 18 rfl rfl)
theorem dX7_save_19 : decode cX7_save 19 = .ok (.iload_n 2, 1) := dk_28 (dk_at dksX7_save_0 19 rfl rfl)
theorem dX7_save_20 : decode cX7_save 20 = .ok (.aload_n 0, 1) := dk_42 (dk_at dksX7_save_0 20 rfl rfl)
theorem dX7_save_21 : decode cX7_save 21 = .ok (.invokevirtual 243, 3) := dk_182 0 243 (dk_at dksX7_save_0 21 rfl rfl)
theorem dX7_save_24 : decode cX7_save 24 = .ok (.if_icmp .gt 50, 3) := dk_163 0 50 (dk_at dksX7_save_1 0 rfl rfl)
theorem dX7_save_27 : decode cX7_save 27 = .ok (.aload_n 0, 1) := dk_42 (dk_at dksX7_save_1 3 rfl rfl)
theorem dX7_save_28 : decode cX7_save 28 = .ok (.invokevirtual 315, 3) := dk_182 1 59 (dk_at dksX7_save_1 4 rfl rfl)
theorem dX7_save_31 : decode cX7_save 31 = .ok (.aload_n 0, 1) := dk_42 (dk_at dksX7_save_1 7 rfl rfl)
theorem dX7_save_32 : decode cX7_save 32 = .ok (.iload_n 1, 1) := dk_27 (dk_at dksX7_save_1 8 rfl rfl)
theorem dX7_save_33 : decode cX7_save 33 = .ok (.iload_n 2, 1) := dk_28 (dk_at dksX7_save_1 9 rfl rfl)
theorem dX7_save_34 : decode cX7_save 34 = .ok (.invokevirtual 293, 3) := dk_182 1 37 (dk_at dksX7_save_1 10 rfl rfl)
theorem dX7_save_37 : decode cX7_save 37 = .ok (.ifCond .ne 6, 3) := dk_154 0 6 (dk_at dksX7_save_1 13 rfl rfl)
theorem dX7_save_40 : decode cX7_save 40 = .ok (.goto 28, 3) := dk_167 0 28 (dk_at dksX7_save_1 16 rfl rfl)
theorem dX7_save_43 : decode cX7_save 43 = .ok (.aload_n 0, 1) := dk_42 (dk_at dksX7_save_1 19 rfl rfl)
theorem dX7_save_44 : decode cX7_save 44 = .ok (.iload_n 1, 1) := dk_27 (dk_at dksX7_save_1 20 rfl rfl)
theorem dX7_save_45 : decode cX7_save 45 = .ok (.putfield 267, 3) := dk_181 1 11 (dk_at dksX7_save_1 21 rfl rfl)
theorem dX7_save_48 : decode cX7_save 48 = .ok (.aload_n 0, 1) := dk_42 (dk_at dksX7_save_2 0 rfl rfl)
theorem dX7_save_49 : decode cX7_save 49 = .ok (.iload_n 2, 1) := dk_28 (dk_at dksX7_save_2 1 rfl rfl)
theorem dX7_save_50 : decode cX7_save 50 = .ok (.putfield 306, 3) := dk_181 1 50 (dk_at dksX7_save_2 2 rfl rfl)
theorem dX7_save_53 : decode cX7_save 53 = .ok (.aload_n 0, 1) := dk_42 (dk_at dksX7_save_2 5 rfl rfl)
theorem dX7_save_54 : decode cX7_save 54 = .ok (.invokevirtual 318, 3) := dk_182 1 62 (dk_at dksX7_save_2 6 rfl rfl)
theorem dX7_save_57 : decode cX7_save 57 = .ok (.aload_n 0, 1) := dk_42 (dk_at dksX7_save_2 9 rfl rfl)
theorem dX7_save_58 : decode cX7_save 58 = .ok (.iload_n 1, 1) := dk_27 (dk_at dksX7_save_2 10 rfl rfl)
theorem dX7_save_59 : decode cX7_save 59 = .ok (.invokevirtual 398, 3) := dk_182 1 142 (dk_at dksX7_save_2 11 rfl rfl)
theorem dX7_save_62 : decode cX7_save 62 = .ok (.iconst 5, 1) := dk_8 (dk_at dksX7_save_2 14 rfl rfl)
theorem dX7_save_63 : decode cX7_save 63 = .ok (.if_icmp .lt 5, 3) := dk_161 0 5 (dk_at dksX7_save_2 15 rfl rfl)
theorem dX7_save_66 : decode cX7_save 66 = .ok (.iload_n 2, 1) := dk_28 (dk_at dksX7_save_2 18 rfl rfl)
theorem dX7_save_67 : decode cX7_save 67 = .ok (.ireturn, 1) := dk_172 (dk_at dksX7_save_2 19 rfl rfl)
theorem dX7_save_68 : decode cX7_save 68 = .ok (.iinc 2 1, 3) := dk_132 2 1 (dk_at dksX7_save_2 20 rfl rfl)
theorem dX7_save_71 : decode cX7_save 71 = .ok (.goto (-52), 3) := dk_167 255 204 (dk_at dksX7_save_3 0 rfl rfl)
theorem dX7_save_74 : decode cX7_save 74 = .ok (.iconst (-1), 1) := dk_2 (dk_at dksX7_save_3 3 rfl rfl)
theorem dX7_save_75 : decode cX7_save 75 = .ok (.ireturn, 1) := dk_172 (dk_at dksX7_save_3 4 rfl rfl)
abbrev cX7_heavy : ByteArray := prog_12_method_129_code
def yX7_heavy : MethodName := ⟨RX7, "heavy", "()I"⟩
def dkwX7_heavy_3 : List UInt8 := [60, 42, 42, 182, 0, 243, 182, 1, 90, 61, 132, 3, 1, 167, 255, 204, 27, 172]
abbrev dktX7_heavy_3 : List UInt8 := dkwX7_heavy_3 ++ []
def dkwX7_heavy_2 : List UInt8 := [120, 181, 1, 2, 42, 182, 1, 62, 42, 42, 182, 0, 243, 182, 1, 90, 28, 161, 0, 6, 167, 0, 14, 29]
abbrev dktX7_heavy_2 : List UInt8 := dkwX7_heavy_2 ++ dktX7_heavy_3
def dkwX7_heavy_1 : List UInt8 := [182, 0, 243, 182, 1, 90, 61, 3, 62, 29, 42, 182, 0, 236, 162, 0, 50, 42, 182, 1, 59, 42, 4, 29]
abbrev dktX7_heavy_1 : List UInt8 := dkwX7_heavy_1 ++ dktX7_heavy_2
def dkwX7_heavy_0 : List UInt8 := [42, 3, 181, 0, 74, 42, 182, 0, 240, 154, 0, 6, 16, 254, 172, 42, 182, 1, 81, 2, 60, 42, 42]
abbrev dktX7_heavy_0 : List UInt8 := dkwX7_heavy_0 ++ dktX7_heavy_1
theorem dksX7_heavy_0 : cX7_heavy.data.toList.drop 0 = dktX7_heavy_0 := by decide +kernel
theorem dksX7_heavy_1 : cX7_heavy.data.toList.drop 23 = dktX7_heavy_1 := dk_seg dksX7_heavy_0 23 rfl rfl
theorem dksX7_heavy_2 : cX7_heavy.data.toList.drop 47 = dktX7_heavy_2 := dk_seg dksX7_heavy_1 24 rfl rfl
theorem dksX7_heavy_3 : cX7_heavy.data.toList.drop 71 = dktX7_heavy_3 := dk_seg dksX7_heavy_2 24 rfl rfl
theorem dX7_heavy_0 : decode cX7_heavy 0 = .ok (.aload_n 0, 1) := dk_42 (dk_at dksX7_heavy_0 0 rfl rfl)
theorem dX7_heavy_1 : decode cX7_heavy 1 = .ok (.iconst 0, 1) := dk_3 (dk_at dksX7_heavy_0 1 rfl rfl)
theorem dX7_heavy_2 : decode cX7_heavy 2 = .ok (.putfield 74, 3) := dk_181 0 74 (dk_at dksX7_heavy_0 2 rfl rfl)
theorem dX7_heavy_5 : decode cX7_heavy 5 = .ok (.aload_n 0, 1) := dk_42 (dk_at dksX7_heavy_0 5 rfl rfl)
theorem dX7_heavy_6 : decode cX7_heavy 6 = .ok (.invokevirtual 240, 3) := dk_182 0 240 (dk_at dksX7_heavy_0 6 rfl rfl)
theorem dX7_heavy_9 : decode cX7_heavy 9 = .ok (.ifCond .ne 6, 3) := dk_154 0 6 (dk_at dksX7_heavy_0 9 rfl rfl)
theorem dX7_heavy_12 : decode cX7_heavy 12 = .ok (.bipush (-2), 2) := dk_16 254 (dk_at dksX7_heavy_0 12 rfl rfl)
theorem dX7_heavy_14 : decode cX7_heavy 14 = .ok (.ireturn, 1) := dk_172 (dk_at dksX7_heavy_0 14 rfl rfl)
theorem dX7_heavy_15 : decode cX7_heavy 15 = .ok (.aload_n 0, 1) := dk_42 (dk_at dksX7_heavy_0 15 rfl rfl)
theorem dX7_heavy_16 : decode cX7_heavy 16 = .ok (.invokevirtual 337, 3) := dk_182 1 81 (dk_at dksX7_heavy_0 16 rfl rfl)
theorem dX7_heavy_19 : decode cX7_heavy 19 = .ok (.iconst (-1), 1) := dk_2 (dk_at dksX7_heavy_0 19 rfl rfl)
theorem dX7_heavy_20 : decode cX7_heavy 20 = .ok (.istore_n 1, 1) := dk_60 (dk_at dksX7_heavy_0 20 rfl rfl)
theorem dX7_heavy_21 : decode cX7_heavy 21 = .ok (.aload_n 0, 1) := dk_42 (dk_at dksX7_heavy_0 21 rfl rfl)
theorem dX7_heavy_22 : decode cX7_heavy 22 = .ok (.aload_n 0, 1) := dk_42 (dk_at dksX7_heavy_0 22 rfl rfl)
theorem dX7_heavy_23 : decode cX7_heavy 23 = .ok (.invokevirtual 243, 3) := dk_182 0 243 (dk_at dksX7_heavy_1 0 rfl rfl)
theorem dX7_heavy_26 : decode cX7_heavy 26 = .ok (.invokevirtual 346, 3) := dk_182 1 90 (dk_at dksX7_heavy_1 3 rfl rfl)
theorem dX7_heavy_29 : decode cX7_heavy 29 = .ok (.istore_n 2, 1) := dk_61 (dk_at dksX7_heavy_1 6 rfl rfl)
theorem dX7_heavy_30 : decode cX7_heavy 30 = .ok (.iconst 0, 1) := dk_3 (dk_at dksX7_heavy_1 7 rfl rfl)
theorem dX7_heavy_31 : decode cX7_heavy 31 = .ok (.istore_n 3, 1) := dk_62 (dk_at dksX7_heavy_1 8 rfl rfl)
theorem dX7_heavy_32 : decode cX7_heavy 32 = .ok (.iload_n 3, 1) := dk_29 (dk_at dksX7_heavy_1 9 rfl rfl)
theorem dX7_heavy_33 : decode cX7_heavy 33 = .ok (.aload_n 0, 1) := dk_42 (dk_at dksX7_heavy_1 10 rfl rfl)
theorem dX7_heavy_34 : decode cX7_heavy 34 = .ok (.invokevirtual 236, 3) := dk_182 0 236 (dk_at dksX7_heavy_1 11 rfl rfl)
theorem dX7_heavy_37 : decode cX7_heavy 37 = .ok (.if_icmp .ge 50, 3) := dk_162 0 50 (dk_at dksX7_heavy_1 14 rfl rfl)
theorem dX7_heavy_40 : decode cX7_heavy 40 = .ok (.aload_n 0, 1) := dk_42 (dk_at dksX7_heavy_1 17 rfl rfl)
theorem dX7_heavy_41 : decode cX7_heavy 41 = .ok (.invokevirtual 315, 3) := dk_182 1 59 (dk_at dksX7_heavy_1 18 rfl rfl)
theorem dX7_heavy_44 : decode cX7_heavy 44 = .ok (.aload_n 0, 1) := dk_42 (dk_at dksX7_heavy_1 21 rfl rfl)
theorem dX7_heavy_45 : decode cX7_heavy 45 = .ok (.iconst 1, 1) := dk_4 (dk_at dksX7_heavy_1 22 rfl rfl)
theorem dX7_heavy_46 : decode cX7_heavy 46 = .ok (.iload_n 3, 1) := dk_29 (dk_at dksX7_heavy_1 23 rfl rfl)
theorem dX7_heavy_47 : decode cX7_heavy 47 = .ok (.ishl, 1) := dk_120 (dk_at dksX7_heavy_2 0 rfl rfl)
theorem dX7_heavy_48 : decode cX7_heavy 48 = .ok (.putfield 258, 3) := dk_181 1 2 (dk_at dksX7_heavy_2 1 rfl rfl)
theorem dX7_heavy_51 : decode cX7_heavy 51 = .ok (.aload_n 0, 1) := dk_42 (dk_at dksX7_heavy_2 4 rfl rfl)
theorem dX7_heavy_52 : decode cX7_heavy 52 = .ok (.invokevirtual 318, 3) := dk_182 1 62 (dk_at dksX7_heavy_2 5 rfl rfl)
theorem dX7_heavy_55 : decode cX7_heavy 55 = .ok (.aload_n 0, 1) := dk_42 (dk_at dksX7_heavy_2 8 rfl rfl)
theorem dX7_heavy_56 : decode cX7_heavy 56 = .ok (.aload_n 0, 1) := dk_42 (dk_at dksX7_heavy_2 9 rfl rfl)
theorem dX7_heavy_57 : decode cX7_heavy 57 = .ok (.invokevirtual 243, 3) := dk_182 0 243 (dk_at dksX7_heavy_2 10 rfl rfl)
theorem dX7_heavy_60 : decode cX7_heavy 60 = .ok (.invokevirtual 346, 3) := dk_182 1 90 (dk_at dksX7_heavy_2 13 rfl rfl)
theorem dX7_heavy_63 : decode cX7_heavy 63 = .ok (.iload_n 2, 1) := dk_28 (dk_at dksX7_heavy_2 16 rfl rfl)
theorem dX7_heavy_64 : decode cX7_heavy 64 = .ok (.if_icmp .lt 6, 3) := dk_161 0 6 (dk_at dksX7_heavy_2 17 rfl rfl)
theorem dX7_heavy_67 : decode cX7_heavy 67 = .ok (.goto 14, 3) := dk_167 0 14 (dk_at dksX7_heavy_2 20 rfl rfl)
theorem dX7_heavy_70 : decode cX7_heavy 70 = .ok (.iload_n 3, 1) := dk_29 (dk_at dksX7_heavy_2 23 rfl rfl)
theorem dX7_heavy_71 : decode cX7_heavy 71 = .ok (.istore_n 1, 1) := dk_60 (dk_at dksX7_heavy_3 0 rfl rfl)
theorem dX7_heavy_72 : decode cX7_heavy 72 = .ok (.aload_n 0, 1) := dk_42 (dk_at dksX7_heavy_3 1 rfl rfl)
theorem dX7_heavy_73 : decode cX7_heavy 73 = .ok (.aload_n 0, 1) := dk_42 (dk_at dksX7_heavy_3 2 rfl rfl)
theorem dX7_heavy_74 : decode cX7_heavy 74 = .ok (.invokevirtual 243, 3) := dk_182 0 243 (dk_at dksX7_heavy_3 3 rfl rfl)
theorem dX7_heavy_77 : decode cX7_heavy 77 = .ok (.invokevirtual 346, 3) := dk_182 1 90 (dk_at dksX7_heavy_3 6 rfl rfl)
theorem dX7_heavy_80 : decode cX7_heavy 80 = .ok (.istore_n 2, 1) := dk_61 (dk_at dksX7_heavy_3 9 rfl rfl)
theorem dX7_heavy_81 : decode cX7_heavy 81 = .ok (.iinc 3 1, 3) := dk_132 3 1 (dk_at dksX7_heavy_3 10 rfl rfl)
theorem dX7_heavy_84 : decode cX7_heavy 84 = .ok (.goto (-52), 3) := dk_167 255 204 (dk_at dksX7_heavy_3 13 rfl rfl)
theorem dX7_heavy_87 : decode cX7_heavy 87 = .ok (.iload_n 1, 1) := dk_27 (dk_at dksX7_heavy_3 16 rfl rfl)
theorem dX7_heavy_88 : decode cX7_heavy 88 = .ok (.ireturn, 1) := dk_172 (dk_at dksX7_heavy_3 17 rfl rfl)
abbrev cX7_worth : ByteArray := prog_12_method_130_code
def yX7_worth : MethodName := ⟨RX7, "worth", "(I)I"⟩
def dkwX7_worth_1 : List UInt8 := [184, 0, 79, 154, 0, 6, 16, 254, 172, 42, 182, 1, 81, 42, 27, 42, 182, 0, 243, 182, 1, 96, 172]
abbrev dktX7_worth_1 : List UInt8 := dkwX7_worth_1 ++ []
def dkwX7_worth_0 : List UInt8 := [42, 3, 181, 0, 74, 42, 182, 0, 240, 153, 0, 21, 27, 133, 9, 4, 42, 182, 0, 236, 120, 133, 10, 101]
abbrev dktX7_worth_0 : List UInt8 := dkwX7_worth_0 ++ dktX7_worth_1
theorem dksX7_worth_0 : cX7_worth.data.toList.drop 0 = dktX7_worth_0 := by decide +kernel
theorem dksX7_worth_1 : cX7_worth.data.toList.drop 24 = dktX7_worth_1 := dk_seg dksX7_worth_0 24 rfl rfl
theorem dX7_worth_0 : decode cX7_worth 0 = .ok (.aload_n 0, 1) := dk_42 (dk_at dksX7_worth_0 0 rfl rfl)
theorem dX7_worth_1 : decode cX7_worth 1 = .ok (.iconst 0, 1) := dk_3 (dk_at dksX7_worth_0 1 rfl rfl)
theorem dX7_worth_2 : decode cX7_worth 2 = .ok (.putfield 74, 3) := dk_181 0 74 (dk_at dksX7_worth_0 2 rfl rfl)
theorem dX7_worth_5 : decode cX7_worth 5 = .ok (.aload_n 0, 1) := dk_42 (dk_at dksX7_worth_0 5 rfl rfl)
theorem dX7_worth_6 : decode cX7_worth 6 = .ok (.invokevirtual 240, 3) := dk_182 0 240 (dk_at dksX7_worth_0 6 rfl rfl)
theorem dX7_worth_9 : decode cX7_worth 9 = .ok (.ifCond .eq 21, 3) := dk_153 0 21 (dk_at dksX7_worth_0 9 rfl rfl)
theorem dX7_worth_12 : decode cX7_worth 12 = .ok (.iload_n 1, 1) := dk_27 (dk_at dksX7_worth_0 12 rfl rfl)
theorem dX7_worth_13 : decode cX7_worth 13 = .ok (.i2l, 1) := dk_133 (dk_at dksX7_worth_0 13 rfl rfl)
theorem dX7_worth_14 : decode cX7_worth 14 = .ok (.lconst 0, 1) := dk_9 (dk_at dksX7_worth_0 14 rfl rfl)
theorem dX7_worth_15 : decode cX7_worth 15 = .ok (.iconst 1, 1) := dk_4 (dk_at dksX7_worth_0 15 rfl rfl)
theorem dX7_worth_16 : decode cX7_worth 16 = .ok (.aload_n 0, 1) := dk_42 (dk_at dksX7_worth_0 16 rfl rfl)
theorem dX7_worth_17 : decode cX7_worth 17 = .ok (.invokevirtual 236, 3) := dk_182 0 236 (dk_at dksX7_worth_0 17 rfl rfl)
theorem dX7_worth_20 : decode cX7_worth 20 = .ok (.ishl, 1) := dk_120 (dk_at dksX7_worth_0 20 rfl rfl)
theorem dX7_worth_21 : decode cX7_worth 21 = .ok (.i2l, 1) := dk_133 (dk_at dksX7_worth_0 21 rfl rfl)
theorem dX7_worth_22 : decode cX7_worth 22 = .ok (.lconst 1, 1) := dk_10 (dk_at dksX7_worth_0 22 rfl rfl)
theorem dX7_worth_23 : decode cX7_worth 23 = .ok (.lsub, 1) := dk_101 (dk_at dksX7_worth_0 23 rfl rfl)
theorem dX7_worth_24 : decode cX7_worth 24 = .ok (.invokestatic 79, 3) := dk_184 0 79 (dk_at dksX7_worth_1 0 rfl rfl)
theorem dX7_worth_27 : decode cX7_worth 27 = .ok (.ifCond .ne 6, 3) := dk_154 0 6 (dk_at dksX7_worth_1 3 rfl rfl)
theorem dX7_worth_30 : decode cX7_worth 30 = .ok (.bipush (-2), 2) := dk_16 254 (dk_at dksX7_worth_1 6 rfl rfl)
theorem dX7_worth_32 : decode cX7_worth 32 = .ok (.ireturn, 1) := dk_172 (dk_at dksX7_worth_1 8 rfl rfl)
theorem dX7_worth_33 : decode cX7_worth 33 = .ok (.aload_n 0, 1) := dk_42 (dk_at dksX7_worth_1 9 rfl rfl)
theorem dX7_worth_34 : decode cX7_worth 34 = .ok (.invokevirtual 337, 3) := dk_182 1 81 (dk_at dksX7_worth_1 10 rfl rfl)
theorem dX7_worth_37 : decode cX7_worth 37 = .ok (.aload_n 0, 1) := dk_42 (dk_at dksX7_worth_1 13 rfl rfl)
theorem dX7_worth_38 : decode cX7_worth 38 = .ok (.iload_n 1, 1) := dk_27 (dk_at dksX7_worth_1 14 rfl rfl)
theorem dX7_worth_39 : decode cX7_worth 39 = .ok (.aload_n 0, 1) := dk_42 (dk_at dksX7_worth_1 15 rfl rfl)
theorem dX7_worth_40 : decode cX7_worth 40 = .ok (.invokevirtual 243, 3) := dk_182 0 243 (dk_at dksX7_worth_1 16 rfl rfl)
theorem dX7_worth_43 : decode cX7_worth 43 = .ok (.invokevirtual 352, 3) := dk_182 1 96 (dk_at dksX7_worth_1 19 rfl rfl)
theorem dX7_worth_46 : decode cX7_worth 46 = .ok (.ireturn, 1) := dk_172 (dk_at dksX7_worth_1 22 rfl rfl)
abbrev cX7_share : ByteArray := prog_12_method_134_code
def yX7_share : MethodName := ⟨RX7, "share", "(II)I"⟩
def dkwX7_share_5 : List UInt8 := [133, 42, 182, 0, 236, 184, 1, 145, 133, 28, 184, 1, 155, 136, 172]
abbrev dktX7_share_5 : List UInt8 := dkwX7_share_5 ++ []
def dkwX7_share_4 : List UInt8 := [182, 1, 96, 42, 21, 4, 42, 182, 0, 243, 182, 1, 96, 100, 104, 96, 62, 132, 4, 1, 167, 255, 176, 29]
abbrev dktX7_share_4 : List UInt8 := dkwX7_share_4 ++ dktX7_share_5
def dkwX7_share_3 : List UInt8 := [182, 0, 236, 21, 5, 100, 4, 100, 184, 1, 145, 104, 42, 21, 4, 4, 27, 120, 128, 42, 182, 0, 243]
abbrev dktX7_share_3 : List UInt8 := dkwX7_share_3 ++ dktX7_share_4
def dkwX7_share_2 : List UInt8 := [184, 1, 17, 153, 0, 6, 167, 0, 57, 21, 4, 184, 1, 121, 54, 5, 29, 21, 5, 184, 1, 145, 42]
abbrev dktX7_share_2 : List UInt8 := dkwX7_share_2 ++ dktX7_share_3
def dkwX7_share_1 : List UInt8 := [42, 182, 1, 81, 3, 62, 3, 54, 4, 21, 4, 4, 42, 182, 0, 236, 120, 162, 0, 75, 21, 4, 27]
abbrev dktX7_share_1 : List UInt8 := dkwX7_share_1 ++ dktX7_share_2
def dkwX7_share_0 : List UInt8 := [42, 3, 181, 0, 74, 42, 27, 133, 182, 0, 246, 153, 0, 10, 28, 184, 1, 152, 154, 0, 6, 16, 254, 172]
abbrev dktX7_share_0 : List UInt8 := dkwX7_share_0 ++ dktX7_share_1
theorem dksX7_share_0 : cX7_share.data.toList.drop 0 = dktX7_share_0 := by decide +kernel
theorem dksX7_share_1 : cX7_share.data.toList.drop 24 = dktX7_share_1 := dk_seg dksX7_share_0 24 rfl rfl
theorem dksX7_share_2 : cX7_share.data.toList.drop 47 = dktX7_share_2 := dk_seg dksX7_share_1 23 rfl rfl
theorem dksX7_share_3 : cX7_share.data.toList.drop 70 = dktX7_share_3 := dk_seg dksX7_share_2 23 rfl rfl
theorem dksX7_share_4 : cX7_share.data.toList.drop 93 = dktX7_share_4 := dk_seg dksX7_share_3 23 rfl rfl
theorem dksX7_share_5 : cX7_share.data.toList.drop 117 = dktX7_share_5 := dk_seg dksX7_share_4 24 rfl rfl
theorem dX7_share_0 : decode cX7_share 0 = .ok (.aload_n 0, 1) := dk_42 (dk_at dksX7_share_0 0 rfl rfl)
theorem dX7_share_1 : decode cX7_share 1 = .ok (.iconst 0, 1) := dk_3 (dk_at dksX7_share_0 1 rfl rfl)
theorem dX7_share_2 : decode cX7_share 2 = .ok (.putfield 74, 3) := dk_181 0 74 (dk_at dksX7_share_0 2 rfl rfl)
theorem dX7_share_5 : decode cX7_share 5 = .ok (.aload_n 0, 1) := dk_42 (dk_at dksX7_share_0 5 rfl rfl)
theorem dX7_share_6 : decode cX7_share 6 = .ok (.iload_n 1, 1) := dk_27 (dk_at dksX7_share_0 6 rfl rfl)
theorem dX7_share_7 : decode cX7_share 7 = .ok (.i2l, 1) := dk_133 (dk_at dksX7_share_0 7 rfl rfl)
theorem dX7_share_8 : decode cX7_share 8 = .ok (.invokevirtual 246, 3) := dk_182 0 246 (dk_at dksX7_share_0 8 rfl rfl)
theorem dX7_share_11 : decode cX7_share 11 = .ok (.ifCond .eq 10, 3) := dk_153 0 10 (dk_at dksX7_share_0 11 rfl rfl)
theorem dX7_share_14 : decode cX7_share 14 = .ok (.iload_n 2, 1) := dk_28 (dk_at dksX7_share_0 14 rfl rfl)
theorem dX7_share_15 : decode cX7_share 15 = .ok (.invokestatic 408, 3) := dk_184 1 152 (dk_at dksX7_share_0 15 rfl rfl)
theorem dX7_share_18 : decode cX7_share 18 = .ok (.ifCond .ne 6, 3) := dk_154 0 6 (dk_at dksX7_share_0 18 rfl rfl)
theorem dX7_share_21 : decode cX7_share 21 = .ok (.bipush (-2), 2) := dk_16 254 (dk_at dksX7_share_0 21 rfl rfl)
theorem dX7_share_23 : decode cX7_share 23 = .ok (.ireturn, 1) := dk_172 (dk_at dksX7_share_0 23 rfl rfl)
theorem dX7_share_24 : decode cX7_share 24 = .ok (.aload_n 0, 1) := dk_42 (dk_at dksX7_share_1 0 rfl rfl)
theorem dX7_share_25 : decode cX7_share 25 = .ok (.invokevirtual 337, 3) := dk_182 1 81 (dk_at dksX7_share_1 1 rfl rfl)
theorem dX7_share_28 : decode cX7_share 28 = .ok (.iconst 0, 1) := dk_3 (dk_at dksX7_share_1 4 rfl rfl)
theorem dX7_share_29 : decode cX7_share 29 = .ok (.istore_n 3, 1) := dk_62 (dk_at dksX7_share_1 5 rfl rfl)
theorem dX7_share_30 : decode cX7_share 30 = .ok (.iconst 0, 1) := dk_3 (dk_at dksX7_share_1 6 rfl rfl)
theorem dX7_share_31 : decode cX7_share 31 = .ok (.istore 4, 2) := dk_54 4 (dk_at dksX7_share_1 7 rfl rfl)
theorem dX7_share_33 : decode cX7_share 33 = .ok (.iload 4, 2) := dk_21 4 (dk_at dksX7_share_1 9 rfl rfl)
theorem dX7_share_35 : decode cX7_share 35 = .ok (.iconst 1, 1) := dk_4 (dk_at dksX7_share_1 11 rfl rfl)
theorem dX7_share_36 : decode cX7_share 36 = .ok (.aload_n 0, 1) := dk_42 (dk_at dksX7_share_1 12 rfl rfl)
theorem dX7_share_37 : decode cX7_share 37 = .ok (.invokevirtual 236, 3) := dk_182 0 236 (dk_at dksX7_share_1 13 rfl rfl)
theorem dX7_share_40 : decode cX7_share 40 = .ok (.ishl, 1) := dk_120 (dk_at dksX7_share_1 16 rfl rfl)
theorem dX7_share_41 : decode cX7_share 41 = .ok (.if_icmp .ge 75, 3) := dk_162 0 75 (dk_at dksX7_share_1 17 rfl rfl)
theorem dX7_share_44 : decode cX7_share 44 = .ok (.iload 4, 2) := dk_21 4 (dk_at dksX7_share_1 20 rfl rfl)
theorem dX7_share_46 : decode cX7_share 46 = .ok (.iload_n 1, 1) := dk_27 (dk_at dksX7_share_1 22 rfl rfl)
theorem dX7_share_47 : decode cX7_share 47 = .ok (.invokestatic 273, 3) := dk_184 1 17 (dk_at dksX7_share_2 0 rfl rfl)
theorem dX7_share_50 : decode cX7_share 50 = .ok (.ifCond .eq 6, 3) := dk_153 0 6 (dk_at dksX7_share_2 3 rfl rfl)
theorem dX7_share_53 : decode cX7_share 53 = .ok (.goto 57, 3) := dk_167 0 57 (dk_at dksX7_share_2 6 rfl rfl)
theorem dX7_share_56 : decode cX7_share 56 = .ok (.iload 4, 2) := dk_21 4 (dk_at dksX7_share_2 9 rfl rfl)
theorem dX7_share_58 : decode cX7_share 58 = .ok (.invokestatic 377, 3) := dk_184 1 121 (dk_at dksX7_share_2 11 rfl rfl)
theorem dX7_share_61 : decode cX7_share 61 = .ok (.istore 5, 2) := dk_54 5 (dk_at dksX7_share_2 14 rfl rfl)
theorem dX7_share_63 : decode cX7_share 63 = .ok (.iload_n 3, 1) := dk_29 (dk_at dksX7_share_2 16 rfl rfl)
theorem dX7_share_64 : decode cX7_share 64 = .ok (.iload 5, 2) := dk_21 5 (dk_at dksX7_share_2 17 rfl rfl)
theorem dX7_share_66 : decode cX7_share 66 = .ok (.invokestatic 401, 3) := dk_184 1 145 (dk_at dksX7_share_2 19 rfl rfl)
theorem dX7_share_69 : decode cX7_share 69 = .ok (.aload_n 0, 1) := dk_42 (dk_at dksX7_share_2 22 rfl rfl)
theorem dX7_share_70 : decode cX7_share 70 = .ok (.invokevirtual 236, 3) := dk_182 0 236 (dk_at dksX7_share_3 0 rfl rfl)
theorem dX7_share_73 : decode cX7_share 73 = .ok (.iload 5, 2) := dk_21 5 (dk_at dksX7_share_3 3 rfl rfl)
theorem dX7_share_75 : decode cX7_share 75 = .ok (.isub, 1) := dk_100 (dk_at dksX7_share_3 5 rfl rfl)
theorem dX7_share_76 : decode cX7_share 76 = .ok (.iconst 1, 1) := dk_4 (dk_at dksX7_share_3 6 rfl rfl)
theorem dX7_share_77 : decode cX7_share 77 = .ok (.isub, 1) := dk_100 (dk_at dksX7_share_3 7 rfl rfl)
theorem dX7_share_78 : decode cX7_share 78 = .ok (.invokestatic 401, 3) := dk_184 1 145 (dk_at dksX7_share_3 8 rfl rfl)
theorem dX7_share_81 : decode cX7_share 81 = .ok (.imul, 1) := dk_104 (dk_at dksX7_share_3 11 rfl rfl)
theorem dX7_share_82 : decode cX7_share 82 = .ok (.aload_n 0, 1) := dk_42 (dk_at dksX7_share_3 12 rfl rfl)
theorem dX7_share_83 : decode cX7_share 83 = .ok (.iload 4, 2) := dk_21 4 (dk_at dksX7_share_3 13 rfl rfl)
theorem dX7_share_85 : decode cX7_share 85 = .ok (.iconst 1, 1) := dk_4 (dk_at dksX7_share_3 15 rfl rfl)
theorem dX7_share_86 : decode cX7_share 86 = .ok (.iload_n 1, 1) := dk_27 (dk_at dksX7_share_3 16 rfl rfl)
theorem dX7_share_87 : decode cX7_share 87 = .ok (.ishl, 1) := dk_120 (dk_at dksX7_share_3 17 rfl rfl)
theorem dX7_share_88 : decode cX7_share 88 = .ok (.ior, 1) := dk_128 (dk_at dksX7_share_3 18 rfl rfl)
theorem dX7_share_89 : decode cX7_share 89 = .ok (.aload_n 0, 1) := dk_42 (dk_at dksX7_share_3 19 rfl rfl)
theorem dX7_share_90 : decode cX7_share 90 = .ok (.invokevirtual 243, 3) := dk_182 0 243 (dk_at dksX7_share_3 20 rfl rfl)
theorem dX7_share_93 : decode cX7_share 93 = .ok (.invokevirtual 352, 3) := dk_182 1 96 (dk_at dksX7_share_4 0 rfl rfl)
theorem dX7_share_96 : decode cX7_share 96 = .ok (.aload_n 0, 1) := dk_42 (dk_at dksX7_share_4 3 rfl rfl)
theorem dX7_share_97 : decode cX7_share 97 = .ok (.iload 4, 2) := dk_21 4 (dk_at dksX7_share_4 4 rfl rfl)
theorem dX7_share_99 : decode cX7_share 99 = .ok (.aload_n 0, 1) := dk_42 (dk_at dksX7_share_4 6 rfl rfl)
theorem dX7_share_100 : decode cX7_share 100 = .ok (.invokevirtual 243, 3) := dk_182 0 243 (dk_at dksX7_share_4 7 rfl rfl)
theorem dX7_share_103 : decode cX7_share 103 = .ok (.invokevirtual 352, 3) := dk_182 1 96 (dk_at dksX7_share_4 10 rfl rfl)
theorem dX7_share_106 : decode cX7_share 106 = .ok (.isub, 1) := dk_100 (dk_at dksX7_share_4 13 rfl rfl)
theorem dX7_share_107 : decode cX7_share 107 = .ok (.imul, 1) := dk_104 (dk_at dksX7_share_4 14 rfl rfl)
theorem dX7_share_108 : decode cX7_share 108 = .ok (.iadd, 1) := dk_96 (dk_at dksX7_share_4 15 rfl rfl)
theorem dX7_share_109 : decode cX7_share 109 = .ok (.istore_n 3, 1) := dk_62 (dk_at dksX7_share_4 16 rfl rfl)
theorem dX7_share_110 : decode cX7_share 110 = .ok (.iinc 4 1, 3) := dk_132 4 1 (dk_at dksX7_share_4 17 rfl rfl)
theorem dX7_share_113 : decode cX7_share 113 = .ok (.goto (-80), 3) := dk_167 255 176 (dk_at dksX7_share_4 20 rfl rfl)
theorem dX7_share_116 : decode cX7_share 116 = .ok (.iload_n 3, 1) := dk_29 (dk_at dksX7_share_4 23 rfl rfl)
theorem dX7_share_117 : decode cX7_share 117 = .ok (.i2l, 1) := dk_133 (dk_at dksX7_share_5 0 rfl rfl)
theorem dX7_share_118 : decode cX7_share 118 = .ok (.aload_n 0, 1) := dk_42 (dk_at dksX7_share_5 1 rfl rfl)
theorem dX7_share_119 : decode cX7_share 119 = .ok (.invokevirtual 236, 3) := dk_182 0 236 (dk_at dksX7_share_5 2 rfl rfl)
theorem dX7_share_122 : decode cX7_share 122 = .ok (.invokestatic 401, 3) := dk_184 1 145 (dk_at dksX7_share_5 5 rfl rfl)
theorem dX7_share_125 : decode cX7_share 125 = .ok (.i2l, 1) := dk_133 (dk_at dksX7_share_5 8 rfl rfl)
theorem dX7_share_126 : decode cX7_share 126 = .ok (.iload_n 2, 1) := dk_28 (dk_at dksX7_share_5 9 rfl rfl)
theorem dX7_share_127 : decode cX7_share 127 = .ok (.invokestatic 411, 3) := dk_184 1 155 (dk_at dksX7_share_5 10 rfl rfl)
theorem dX7_share_130 : decode cX7_share 130 = .ok (.l2i, 1) := dk_136 (dk_at dksX7_share_5 13 rfl rfl)
theorem dX7_share_131 : decode cX7_share 131 = .ok (.ireturn, 1) := dk_172 (dk_at dksX7_share_5 14 rfl rfl)
abbrev cX7_isHalf : ByteArray := prog_12_method_44_code
def yX7_isHalf : MethodName := ⟨RX7, "isHalf", "(I)Z"⟩
def dkwX7_isHalf_0 : List UInt8 := [26, 133, 9, 10, 184, 0, 79, 172]
abbrev dktX7_isHalf_0 : List UInt8 := dkwX7_isHalf_0 ++ []
theorem dksX7_isHalf_0 : cX7_isHalf.data.toList.drop 0 = dktX7_isHalf_0 := by decide +kernel
theorem dX7_isHalf_0 : decode cX7_isHalf 0 = .ok (.iload_n 0, 1) := dk_26 (dk_at dksX7_isHalf_0 0 rfl rfl)
theorem dX7_isHalf_1 : decode cX7_isHalf 1 = .ok (.i2l, 1) := dk_133 (dk_at dksX7_isHalf_0 1 rfl rfl)
theorem dX7_isHalf_2 : decode cX7_isHalf 2 = .ok (.lconst 0, 1) := dk_9 (dk_at dksX7_isHalf_0 2 rfl rfl)
theorem dX7_isHalf_3 : decode cX7_isHalf 3 = .ok (.lconst 1, 1) := dk_10 (dk_at dksX7_isHalf_0 3 rfl rfl)
theorem dX7_isHalf_4 : decode cX7_isHalf 4 = .ok (.invokestatic 79, 3) := dk_184 0 79 (dk_at dksX7_isHalf_0 4 rfl rfl)
theorem dX7_isHalf_7 : decode cX7_isHalf 7 = .ok (.ireturn, 1) := dk_172 (dk_at dksX7_isHalf_0 7 rfl rfl)
abbrev cX7_times : ByteArray := prog_12_method_131_code
def yX7_times : MethodName := ⟨RX7, "times", "(I)I"⟩
def dkwX7_times_0 : List UInt8 := [26, 5, 162, 0, 7, 4, 167, 0, 11, 26, 26, 4, 100, 184, 1, 145, 104, 172]
abbrev dktX7_times_0 : List UInt8 := dkwX7_times_0 ++ []
theorem dksX7_times_0 : cX7_times.data.toList.drop 0 = dktX7_times_0 := by decide +kernel
theorem dX7_times_0 : decode cX7_times 0 = .ok (.iload_n 0, 1) := dk_26 (dk_at dksX7_times_0 0 rfl rfl)
theorem dX7_times_1 : decode cX7_times 1 = .ok (.iconst 2, 1) := dk_5 (dk_at dksX7_times_0 1 rfl rfl)
theorem dX7_times_2 : decode cX7_times 2 = .ok (.if_icmp .ge 7, 3) := dk_162 0 7 (dk_at dksX7_times_0 2 rfl rfl)
theorem dX7_times_5 : decode cX7_times 5 = .ok (.iconst 1, 1) := dk_4 (dk_at dksX7_times_0 5 rfl rfl)
theorem dX7_times_6 : decode cX7_times 6 = .ok (.goto 11, 3) := dk_167 0 11 (dk_at dksX7_times_0 6 rfl rfl)
theorem dX7_times_9 : decode cX7_times 9 = .ok (.iload_n 0, 1) := dk_26 (dk_at dksX7_times_0 9 rfl rfl)
theorem dX7_times_10 : decode cX7_times 10 = .ok (.iload_n 0, 1) := dk_26 (dk_at dksX7_times_0 10 rfl rfl)
theorem dX7_times_11 : decode cX7_times 11 = .ok (.iconst 1, 1) := dk_4 (dk_at dksX7_times_0 11 rfl rfl)
theorem dX7_times_12 : decode cX7_times 12 = .ok (.isub, 1) := dk_100 (dk_at dksX7_times_0 12 rfl rfl)
theorem dX7_times_13 : decode cX7_times 13 = .ok (.invokestatic 401, 3) := dk_184 1 145 (dk_at dksX7_times_0 13 rfl rfl)
theorem dX7_times_16 : decode cX7_times 16 = .ok (.imul, 1) := dk_104 (dk_at dksX7_times_0 16 rfl rfl)
theorem dX7_times_17 : decode cX7_times 17 = .ok (.ireturn, 1) := dk_172 (dk_at dksX7_times_0 17 rfl rfl)
abbrev cX7_part : ByteArray := prog_12_method_133_code
def yX7_part : MethodName := ⟨RX7, "part", "(JJI)J"⟩
def dkwX7_part_0 : List UInt8 := [21, 4, 154, 0, 7, 30, 167, 0, 4, 32, 30, 32, 184, 1, 148, 109, 173]
abbrev dktX7_part_0 : List UInt8 := dkwX7_part_0 ++ []
theorem dksX7_part_0 : cX7_part.data.toList.drop 0 = dktX7_part_0 := by decide +kernel
theorem dX7_part_0 : decode cX7_part 0 = .ok (.iload 4, 2) := dk_21 4 (dk_at dksX7_part_0 0 rfl rfl)
theorem dX7_part_2 : decode cX7_part 2 = .ok (.ifCond .ne 7, 3) := dk_154 0 7 (dk_at dksX7_part_0 2 rfl rfl)
theorem dX7_part_5 : decode cX7_part 5 = .ok (.lload_n 0, 1) := dk_30 (dk_at dksX7_part_0 5 rfl rfl)
theorem dX7_part_6 : decode cX7_part 6 = .ok (.goto 4, 3) := dk_167 0 4 (dk_at dksX7_part_0 6 rfl rfl)
theorem dX7_part_9 : decode cX7_part 9 = .ok (.lload_n 2, 1) := dk_32 (dk_at dksX7_part_0 9 rfl rfl)
theorem dX7_part_10 : decode cX7_part 10 = .ok (.lload_n 0, 1) := dk_30 (dk_at dksX7_part_0 10 rfl rfl)
theorem dX7_part_11 : decode cX7_part 11 = .ok (.lload_n 2, 1) := dk_32 (dk_at dksX7_part_0 11 rfl rfl)
theorem dX7_part_12 : decode cX7_part 12 = .ok (.invokestatic 404, 3) := dk_184 1 148 (dk_at dksX7_part_0 12 rfl rfl)
theorem dX7_part_15 : decode cX7_part 15 = .ok (.ldiv, 1) := dk_109 (dk_at dksX7_part_0 15 rfl rfl)
theorem dX7_part_16 : decode cX7_part 16 = .ok (.lreturn, 1) := dk_173 (dk_at dksX7_part_0 16 rfl rfl)
abbrev cX7_common : ByteArray := prog_12_method_132_code
def yX7_common : MethodName := ⟨RX7, "common", "(JJ)J"⟩
def dkwX7_common_0 : List UInt8 := [32, 9, 148, 154, 0, 7, 30, 167, 0, 10, 32, 30, 32, 113, 184, 1, 148, 173]
abbrev dktX7_common_0 : List UInt8 := dkwX7_common_0 ++ []
theorem dksX7_common_0 : cX7_common.data.toList.drop 0 = dktX7_common_0 := by decide +kernel
theorem dX7_common_0 : decode cX7_common 0 = .ok (.lload_n 2, 1) := dk_32 (dk_at dksX7_common_0 0 rfl rfl)
theorem dX7_common_1 : decode cX7_common 1 = .ok (.lconst 0, 1) := dk_9 (dk_at dksX7_common_0 1 rfl rfl)
theorem dX7_common_2 : decode cX7_common 2 = .ok (.lcmp, 1) := dk_148 (dk_at dksX7_common_0 2 rfl rfl)
theorem dX7_common_3 : decode cX7_common 3 = .ok (.ifCond .ne 7, 3) := dk_154 0 7 (dk_at dksX7_common_0 3 rfl rfl)
theorem dX7_common_6 : decode cX7_common 6 = .ok (.lload_n 0, 1) := dk_30 (dk_at dksX7_common_0 6 rfl rfl)
theorem dX7_common_7 : decode cX7_common 7 = .ok (.goto 10, 3) := dk_167 0 10 (dk_at dksX7_common_0 7 rfl rfl)
theorem dX7_common_10 : decode cX7_common 10 = .ok (.lload_n 2, 1) := dk_32 (dk_at dksX7_common_0 10 rfl rfl)
theorem dX7_common_11 : decode cX7_common 11 = .ok (.lload_n 0, 1) := dk_30 (dk_at dksX7_common_0 11 rfl rfl)
theorem dX7_common_12 : decode cX7_common 12 = .ok (.lload_n 2, 1) := dk_32 (dk_at dksX7_common_0 12 rfl rfl)
theorem dX7_common_13 : decode cX7_common 13 = .ok (.lrem, 1) := dk_113 (dk_at dksX7_common_0 13 rfl rfl)
theorem dX7_common_14 : decode cX7_common 14 = .ok (.invokestatic 404, 3) := dk_184 1 148 (dk_at dksX7_common_0 14 rfl rfl)
theorem dX7_common_17 : decode cX7_common 17 = .ok (.lreturn, 1) := dk_173 (dk_at dksX7_common_0 17 rfl rfl)
abbrev cX7_rests : ByteArray := prog_12_method_137_code
def yX7_rests : MethodName := ⟨RX7, "rests", "(II)I"⟩
def dkwX7_rests_5 : List UInt8 := [132, 4, 1, 167, 255, 158, 29, 172]
abbrev dktX7_rests_5 : List UInt8 := dkwX7_rests_5 ++ []
def dkwX7_rests_4 : List UInt8 := [167, 0, 4, 3, 54, 7, 29, 21, 7, 153, 0, 10, 4, 21, 4, 120, 167, 0, 4, 3, 128, 62]
abbrev dktX7_rests_4 : List UInt8 := dkwX7_rests_4 ++ dktX7_rests_5
def dkwX7_rests_3 : List UInt8 := [21, 5, 4, 21, 6, 100, 182, 1, 162, 42, 28, 27, 28, 21, 5, 21, 6, 182, 1, 162, 163, 0, 7, 4]
abbrev dktX7_rests_3 : List UInt8 := dkwX7_rests_3 ++ dktX7_rests_4
def dkwX7_rests_2 : List UInt8 := [21, 6, 182, 1, 162, 42, 27, 27, 28, 21, 5, 21, 6, 182, 1, 162, 163, 0, 34, 42, 28, 27, 28]
abbrev dktX7_rests_2 : List UInt8 := dkwX7_rests_2 ++ dktX7_rests_3
def dkwX7_rests_1 : List UInt8 := [7, 162, 0, 98, 21, 4, 5, 112, 54, 5, 21, 4, 5, 108, 54, 6, 42, 27, 27, 28, 4, 21, 5, 100]
abbrev dktX7_rests_1 : List UInt8 := dkwX7_rests_1 ++ dktX7_rests_2
def dkwX7_rests_0 : List UInt8 := [42, 3, 181, 0, 74, 42, 27, 28, 182, 1, 159, 154, 0, 6, 16, 254, 172, 3, 62, 3, 54, 4, 21, 4]
abbrev dktX7_rests_0 : List UInt8 := dkwX7_rests_0 ++ dktX7_rests_1
theorem dksX7_rests_0 : cX7_rests.data.toList.drop 0 = dktX7_rests_0 := by decide +kernel
theorem dksX7_rests_1 : cX7_rests.data.toList.drop 24 = dktX7_rests_1 := dk_seg dksX7_rests_0 24 rfl rfl
theorem dksX7_rests_2 : cX7_rests.data.toList.drop 48 = dktX7_rests_2 := dk_seg dksX7_rests_1 24 rfl rfl
theorem dksX7_rests_3 : cX7_rests.data.toList.drop 71 = dktX7_rests_3 := dk_seg dksX7_rests_2 23 rfl rfl
theorem dksX7_rests_4 : cX7_rests.data.toList.drop 95 = dktX7_rests_4 := dk_seg dksX7_rests_3 24 rfl rfl
theorem dksX7_rests_5 : cX7_rests.data.toList.drop 117 = dktX7_rests_5 := dk_seg dksX7_rests_4 22 rfl rfl
theorem dX7_rests_0 : decode cX7_rests 0 = .ok (.aload_n 0, 1) := dk_42 (dk_at dksX7_rests_0 0 rfl rfl)
theorem dX7_rests_1 : decode cX7_rests 1 = .ok (.iconst 0, 1) := dk_3 (dk_at dksX7_rests_0 1 rfl rfl)
theorem dX7_rests_2 : decode cX7_rests 2 = .ok (.putfield 74, 3) := dk_181 0 74 (dk_at dksX7_rests_0 2 rfl rfl)
theorem dX7_rests_5 : decode cX7_rests 5 = .ok (.aload_n 0, 1) := dk_42 (dk_at dksX7_rests_0 5 rfl rfl)
theorem dX7_rests_6 : decode cX7_rests 6 = .ok (.iload_n 1, 1) := dk_27 (dk_at dksX7_rests_0 6 rfl rfl)
theorem dX7_rests_7 : decode cX7_rests 7 = .ok (.iload_n 2, 1) := dk_28 (dk_at dksX7_rests_0 7 rfl rfl)
theorem dX7_rests_8 : decode cX7_rests 8 = .ok (.invokevirtual 415, 3) := dk_182 1 159 (dk_at dksX7_rests_0 8 rfl rfl)
theorem dX7_rests_11 : decode cX7_rests 11 = .ok (.ifCond .ne 6, 3) := dk_154 0 6 (dk_at dksX7_rests_0 11 rfl rfl)
theorem dX7_rests_14 : decode cX7_rests 14 = .ok (.bipush (-2), 2) := dk_16 254 (dk_at dksX7_rests_0 14 rfl rfl)
theorem dX7_rests_16 : decode cX7_rests 16 = .ok (.ireturn, 1) := dk_172 (dk_at dksX7_rests_0 16 rfl rfl)
theorem dX7_rests_17 : decode cX7_rests 17 = .ok (.iconst 0, 1) := dk_3 (dk_at dksX7_rests_0 17 rfl rfl)
theorem dX7_rests_18 : decode cX7_rests 18 = .ok (.istore_n 3, 1) := dk_62 (dk_at dksX7_rests_0 18 rfl rfl)
theorem dX7_rests_19 : decode cX7_rests 19 = .ok (.iconst 0, 1) := dk_3 (dk_at dksX7_rests_0 19 rfl rfl)
theorem dX7_rests_20 : decode cX7_rests 20 = .ok (.istore 4, 2) := dk_54 4 (dk_at dksX7_rests_0 20 rfl rfl)
theorem dX7_rests_22 : decode cX7_rests 22 = .ok (.iload 4, 2) := dk_21 4 (dk_at dksX7_rests_0 22 rfl rfl)
theorem dX7_rests_24 : decode cX7_rests 24 = .ok (.iconst 4, 1) := dk_7 (dk_at dksX7_rests_1 0 rfl rfl)
theorem dX7_rests_25 : decode cX7_rests 25 = .ok (.if_icmp .ge 98, 3) := dk_162 0 98 (dk_at dksX7_rests_1 1 rfl rfl)
theorem dX7_rests_28 : decode cX7_rests 28 = .ok (.iload 4, 2) := dk_21 4 (dk_at dksX7_rests_1 4 rfl rfl)
theorem dX7_rests_30 : decode cX7_rests 30 = .ok (.iconst 2, 1) := dk_5 (dk_at dksX7_rests_1 6 rfl rfl)
theorem dX7_rests_31 : decode cX7_rests 31 = .ok (.irem, 1) := dk_112 (dk_at dksX7_rests_1 7 rfl rfl)
theorem dX7_rests_32 : decode cX7_rests 32 = .ok (.istore 5, 2) := dk_54 5 (dk_at dksX7_rests_1 8 rfl rfl)
theorem dX7_rests_34 : decode cX7_rests 34 = .ok (.iload 4, 2) := dk_21 4 (dk_at dksX7_rests_1 10 rfl rfl)
theorem dX7_rests_36 : decode cX7_rests 36 = .ok (.iconst 2, 1) := dk_5 (dk_at dksX7_rests_1 12 rfl rfl)
theorem dX7_rests_37 : decode cX7_rests 37 = .ok (.idiv, 1) := dk_108 (dk_at dksX7_rests_1 13 rfl rfl)
theorem dX7_rests_38 : decode cX7_rests 38 = .ok (.istore 6, 2) := dk_54 6 (dk_at dksX7_rests_1 14 rfl rfl)
theorem dX7_rests_40 : decode cX7_rests 40 = .ok (.aload_n 0, 1) := dk_42 (dk_at dksX7_rests_1 16 rfl rfl)
theorem dX7_rests_41 : decode cX7_rests 41 = .ok (.iload_n 1, 1) := dk_27 (dk_at dksX7_rests_1 17 rfl rfl)
theorem dX7_rests_42 : decode cX7_rests 42 = .ok (.iload_n 1, 1) := dk_27 (dk_at dksX7_rests_1 18 rfl rfl)
theorem dX7_rests_43 : decode cX7_rests 43 = .ok (.iload_n 2, 1) := dk_28 (dk_at dksX7_rests_1 19 rfl rfl)
theorem dX7_rests_44 : decode cX7_rests 44 = .ok (.iconst 1, 1) := dk_4 (dk_at dksX7_rests_1 20 rfl rfl)
theorem dX7_rests_45 : decode cX7_rests 45 = .ok (.iload 5, 2) := dk_21 5 (dk_at dksX7_rests_1 21 rfl rfl)
theorem dX7_rests_47 : decode cX7_rests 47 = .ok (.isub, 1) := dk_100 (dk_at dksX7_rests_1 23 rfl rfl)
theorem dX7_rests_48 : decode cX7_rests 48 = .ok (.iload 6, 2) := dk_21 6 (dk_at dksX7_rests_2 0 rfl rfl)
theorem dX7_rests_50 : decode cX7_rests 50 = .ok (.invokevirtual 418, 3) := dk_182 1 162 (dk_at dksX7_rests_2 2 rfl rfl)
theorem dX7_rests_53 : decode cX7_rests 53 = .ok (.aload_n 0, 1) := dk_42 (dk_at dksX7_rests_2 5 rfl rfl)
theorem dX7_rests_54 : decode cX7_rests 54 = .ok (.iload_n 1, 1) := dk_27 (dk_at dksX7_rests_2 6 rfl rfl)
theorem dX7_rests_55 : decode cX7_rests 55 = .ok (.iload_n 1, 1) := dk_27 (dk_at dksX7_rests_2 7 rfl rfl)
theorem dX7_rests_56 : decode cX7_rests 56 = .ok (.iload_n 2, 1) := dk_28 (dk_at dksX7_rests_2 8 rfl rfl)
theorem dX7_rests_57 : decode cX7_rests 57 = .ok (.iload 5, 2) := dk_21 5 (dk_at dksX7_rests_2 9 rfl rfl)
theorem dX7_rests_59 : decode cX7_rests 59 = .ok (.iload 6, 2) := dk_21 6 (dk_at dksX7_rests_2 11 rfl rfl)
theorem dX7_rests_61 : decode cX7_rests 61 = .ok (.invokevirtual 418, 3) := dk_182 1 162 (dk_at dksX7_rests_2 13 rfl rfl)
theorem dX7_rests_64 : decode cX7_rests 64 = .ok (.if_icmp .gt 34, 3) := dk_163 0 34 (dk_at dksX7_rests_2 16 rfl rfl)
theorem dX7_rests_67 : decode cX7_rests 67 = .ok (.aload_n 0, 1) := dk_42 (dk_at dksX7_rests_2 19 rfl rfl)
theorem dX7_rests_68 : decode cX7_rests 68 = .ok (.iload_n 2, 1) := dk_28 (dk_at dksX7_rests_2 20 rfl rfl)
theorem dX7_rests_69 : decode cX7_rests 69 = .ok (.iload_n 1, 1) := dk_27 (dk_at dksX7_rests_2 21 rfl rfl)
theorem dX7_rests_70 : decode cX7_rests 70 = .ok (.iload_n 2, 1) := dk_28 (dk_at dksX7_rests_2 22 rfl rfl)
theorem dX7_rests_71 : decode cX7_rests 71 = .ok (.iload 5, 2) := dk_21 5 (dk_at dksX7_rests_3 0 rfl rfl)
theorem dX7_rests_73 : decode cX7_rests 73 = .ok (.iconst 1, 1) := dk_4 (dk_at dksX7_rests_3 2 rfl rfl)
theorem dX7_rests_74 : decode cX7_rests 74 = .ok (.iload 6, 2) := dk_21 6 (dk_at dksX7_rests_3 3 rfl rfl)
theorem dX7_rests_76 : decode cX7_rests 76 = .ok (.isub, 1) := dk_100 (dk_at dksX7_rests_3 5 rfl rfl)
theorem dX7_rests_77 : decode cX7_rests 77 = .ok (.invokevirtual 418, 3) := dk_182 1 162 (dk_at dksX7_rests_3 6 rfl rfl)
theorem dX7_rests_80 : decode cX7_rests 80 = .ok (.aload_n 0, 1) := dk_42 (dk_at dksX7_rests_3 9 rfl rfl)
theorem dX7_rests_81 : decode cX7_rests 81 = .ok (.iload_n 2, 1) := dk_28 (dk_at dksX7_rests_3 10 rfl rfl)
theorem dX7_rests_82 : decode cX7_rests 82 = .ok (.iload_n 1, 1) := dk_27 (dk_at dksX7_rests_3 11 rfl rfl)
theorem dX7_rests_83 : decode cX7_rests 83 = .ok (.iload_n 2, 1) := dk_28 (dk_at dksX7_rests_3 12 rfl rfl)
theorem dX7_rests_84 : decode cX7_rests 84 = .ok (.iload 5, 2) := dk_21 5 (dk_at dksX7_rests_3 13 rfl rfl)
theorem dX7_rests_86 : decode cX7_rests 86 = .ok (.iload 6, 2) := dk_21 6 (dk_at dksX7_rests_3 15 rfl rfl)
theorem dX7_rests_88 : decode cX7_rests 88 = .ok (.invokevirtual 418, 3) := dk_182 1 162 (dk_at dksX7_rests_3 17 rfl rfl)
theorem dX7_rests_91 : decode cX7_rests 91 = .ok (.if_icmp .gt 7, 3) := dk_163 0 7 (dk_at dksX7_rests_3 20 rfl rfl)
theorem dX7_rests_94 : decode cX7_rests 94 = .ok (.iconst 1, 1) := dk_4 (dk_at dksX7_rests_3 23 rfl rfl)
theorem dX7_rests_95 : decode cX7_rests 95 = .ok (.goto 4, 3) := dk_167 0 4 (dk_at dksX7_rests_4 0 rfl rfl)
theorem dX7_rests_98 : decode cX7_rests 98 = .ok (.iconst 0, 1) := dk_3 (dk_at dksX7_rests_4 3 rfl rfl)
theorem dX7_rests_99 : decode cX7_rests 99 = .ok (.istore 7, 2) := dk_54 7 (dk_at dksX7_rests_4 4 rfl rfl)
theorem dX7_rests_101 : decode cX7_rests 101 = .ok (.iload_n 3, 1) := dk_29 (dk_at dksX7_rests_4 6 rfl rfl)
theorem dX7_rests_102 : decode cX7_rests 102 = .ok (.iload 7, 2) := dk_21 7 (dk_at dksX7_rests_4 7 rfl rfl)
theorem dX7_rests_104 : decode cX7_rests 104 = .ok (.ifCond .eq 10, 3) := dk_153 0 10 (dk_at dksX7_rests_4 9 rfl rfl)
theorem dX7_rests_107 : decode cX7_rests 107 = .ok (.iconst 1, 1) := dk_4 (dk_at dksX7_rests_4 12 rfl rfl)
theorem dX7_rests_108 : decode cX7_rests 108 = .ok (.iload 4, 2) := dk_21 4 (dk_at dksX7_rests_4 13 rfl rfl)
theorem dX7_rests_110 : decode cX7_rests 110 = .ok (.ishl, 1) := dk_120 (dk_at dksX7_rests_4 15 rfl rfl)
theorem dX7_rests_111 : decode cX7_rests 111 = .ok (.goto 4, 3) := dk_167 0 4 (dk_at dksX7_rests_4 16 rfl rfl)
theorem dX7_rests_114 : decode cX7_rests 114 = .ok (.iconst 0, 1) := dk_3 (dk_at dksX7_rests_4 19 rfl rfl)
theorem dX7_rests_115 : decode cX7_rests 115 = .ok (.ior, 1) := dk_128 (dk_at dksX7_rests_4 20 rfl rfl)
theorem dX7_rests_116 : decode cX7_rests 116 = .ok (.istore_n 3, 1) := dk_62 (dk_at dksX7_rests_4 21 rfl rfl)
theorem dX7_rests_117 : decode cX7_rests 117 = .ok (.iinc 4 1, 3) := dk_132 4 1 (dk_at dksX7_rests_5 0 rfl rfl)
theorem dX7_rests_120 : decode cX7_rests 120 = .ok (.goto (-98), 3) := dk_167 255 158 (dk_at dksX7_rests_5 3 rfl rfl)
theorem dX7_rests_123 : decode cX7_rests 123 = .ok (.iload_n 3, 1) := dk_29 (dk_at dksX7_rests_5 6 rfl rfl)
theorem dX7_rests_124 : decode cX7_rests 124 = .ok (.ireturn, 1) := dk_172 (dk_at dksX7_rests_5 7 rfl rfl)
abbrev cX7_areTwo : ByteArray := prog_12_method_136_code
def yX7_areTwo : MethodName := ⟨RX7, "areTwo", "(II)Z"⟩
def dkwX7_areTwo_1 : List UInt8 := [167, 0, 4, 3, 172]
abbrev dktX7_areTwo_1 : List UInt8 := dkwX7_areTwo_1 ++ []
def dkwX7_areTwo_0 : List UInt8 := [42, 27, 182, 1, 70, 153, 0, 20, 42, 28, 182, 1, 70, 153, 0, 12, 27, 28, 159, 0, 7, 4]
abbrev dktX7_areTwo_0 : List UInt8 := dkwX7_areTwo_0 ++ dktX7_areTwo_1
theorem dksX7_areTwo_0 : cX7_areTwo.data.toList.drop 0 = dktX7_areTwo_0 := by decide +kernel
theorem dksX7_areTwo_1 : cX7_areTwo.data.toList.drop 22 = dktX7_areTwo_1 := dk_seg dksX7_areTwo_0 22 rfl rfl
theorem dX7_areTwo_0 : decode cX7_areTwo 0 = .ok (.aload_n 0, 1) := dk_42 (dk_at dksX7_areTwo_0 0 rfl rfl)
theorem dX7_areTwo_1 : decode cX7_areTwo 1 = .ok (.iload_n 1, 1) := dk_27 (dk_at dksX7_areTwo_0 1 rfl rfl)
theorem dX7_areTwo_2 : decode cX7_areTwo 2 = .ok (.invokevirtual 326, 3) := dk_182 1 70 (dk_at dksX7_areTwo_0 2 rfl rfl)
theorem dX7_areTwo_5 : decode cX7_areTwo 5 = .ok (.ifCond .eq 20, 3) := dk_153 0 20 (dk_at dksX7_areTwo_0 5 rfl rfl)
theorem dX7_areTwo_8 : decode cX7_areTwo 8 = .ok (.aload_n 0, 1) := dk_42 (dk_at dksX7_areTwo_0 8 rfl rfl)
theorem dX7_areTwo_9 : decode cX7_areTwo 9 = .ok (.iload_n 2, 1) := dk_28 (dk_at dksX7_areTwo_0 9 rfl rfl)
theorem dX7_areTwo_10 : decode cX7_areTwo 10 = .ok (.invokevirtual 326, 3) := dk_182 1 70 (dk_at dksX7_areTwo_0 10 rfl rfl)
theorem dX7_areTwo_13 : decode cX7_areTwo 13 = .ok (.ifCond .eq 12, 3) := dk_153 0 12 (dk_at dksX7_areTwo_0 13 rfl rfl)
theorem dX7_areTwo_16 : decode cX7_areTwo 16 = .ok (.iload_n 1, 1) := dk_27 (dk_at dksX7_areTwo_0 16 rfl rfl)
theorem dX7_areTwo_17 : decode cX7_areTwo 17 = .ok (.iload_n 2, 1) := dk_28 (dk_at dksX7_areTwo_0 17 rfl rfl)
theorem dX7_areTwo_18 : decode cX7_areTwo 18 = .ok (.if_icmp .eq 7, 3) := dk_159 0 7 (dk_at dksX7_areTwo_0 18 rfl rfl)
theorem dX7_areTwo_21 : decode cX7_areTwo 21 = .ok (.iconst 1, 1) := dk_4 (dk_at dksX7_areTwo_0 21 rfl rfl)
theorem dX7_areTwo_22 : decode cX7_areTwo 22 = .ok (.goto 4, 3) := dk_167 0 4 (dk_at dksX7_areTwo_1 0 rfl rfl)
theorem dX7_areTwo_25 : decode cX7_areTwo 25 = .ok (.iconst 0, 1) := dk_3 (dk_at dksX7_areTwo_1 3 rfl rfl)
theorem dX7_areTwo_26 : decode cX7_areTwo 26 = .ok (.ireturn, 1) := dk_172 (dk_at dksX7_areTwo_1 4 rfl rfl)
abbrev cX7_getsBy : ByteArray := prog_12_method_135_code
def yX7_getsBy : MethodName := ⟨RX7, "getsBy", "(IIIII)I"⟩
def dkwX7_getsBy_4 : List UInt8 := [167, 0, 5, 21, 5, 100, 172]
abbrev dktX7_getsBy_4 : List UInt8 := dkwX7_getsBy_4 ++ []
def dkwX7_getsBy_3 : List UInt8 := [167, 0, 4, 3, 96, 54, 6, 132, 7, 1, 167, 255, 211, 21, 6, 27, 28, 160, 0, 8, 21, 4]
abbrev dktX7_getsBy_3 : List UInt8 := dkwX7_getsBy_3 ++ dktX7_getsBy_4
def dkwX7_getsBy_2 : List UInt8 := [180, 0, 43, 7, 21, 7, 104, 46, 27, 160, 0, 17, 42, 21, 7, 182, 1, 142, 8, 161, 0, 7, 6]
abbrev dktX7_getsBy_2 : List UInt8 := dkwX7_getsBy_2 ++ dktX7_getsBy_3
def dkwX7_getsBy_1 : List UInt8 := [130, 79, 42, 182, 1, 62, 3, 54, 6, 3, 54, 7, 21, 7, 42, 182, 0, 236, 162, 0, 42, 21, 6, 42]
abbrev dktX7_getsBy_1 : List UInt8 := dkwX7_getsBy_1 ++ dktX7_getsBy_2
def dkwX7_getsBy_0 : List UInt8 := [42, 182, 1, 59, 42, 180, 0, 59, 28, 92, 46, 21, 4, 130, 79, 42, 180, 0, 59, 29, 92, 46, 21, 5]
abbrev dktX7_getsBy_0 : List UInt8 := dkwX7_getsBy_0 ++ dktX7_getsBy_1
theorem dksX7_getsBy_0 : cX7_getsBy.data.toList.drop 0 = dktX7_getsBy_0 := by decide +kernel
theorem dksX7_getsBy_1 : cX7_getsBy.data.toList.drop 24 = dktX7_getsBy_1 := dk_seg dksX7_getsBy_0 24 rfl rfl
theorem dksX7_getsBy_2 : cX7_getsBy.data.toList.drop 48 = dktX7_getsBy_2 := dk_seg dksX7_getsBy_1 24 rfl rfl
theorem dksX7_getsBy_3 : cX7_getsBy.data.toList.drop 71 = dktX7_getsBy_3 := dk_seg dksX7_getsBy_2 23 rfl rfl
theorem dksX7_getsBy_4 : cX7_getsBy.data.toList.drop 93 = dktX7_getsBy_4 := dk_seg dksX7_getsBy_3 22 rfl rfl
theorem dX7_getsBy_0 : decode cX7_getsBy 0 = .ok (.aload_n 0, 1) := dk_42 (dk_at dksX7_getsBy_0 0 rfl rfl)
theorem dX7_getsBy_1 : decode cX7_getsBy 1 = .ok (.invokevirtual 315, 3) := dk_182 1 59 (dk_at dksX7_getsBy_0 1 rfl rfl)
theorem dX7_getsBy_4 : decode cX7_getsBy 4 = .ok (.aload_n 0, 1) := dk_42 (dk_at dksX7_getsBy_0 4 rfl rfl)
theorem dX7_getsBy_5 : decode cX7_getsBy 5 = .ok (.getfield 59, 3) := dk_180 0 59 (dk_at dksX7_getsBy_0 5 rfl rfl)
theorem dX7_getsBy_8 : decode cX7_getsBy 8 = .ok (.iload_n 2, 1) := dk_28 (dk_at dksX7_getsBy_0 8 rfl rfl)
theorem dX7_getsBy_9 : decode cX7_getsBy 9 = .ok (.dup2, 1) := dk_92 (dk_at dksX7_getsBy_0 9 rfl rfl)
theorem dX7_getsBy_10 : decode cX7_getsBy 10 = .ok (.iaload, 1) := dk_46 (dk_at dksX7_getsBy_0 10 rfl rfl)
theorem dX7_getsBy_11 : decode cX7_getsBy 11 = .ok (.iload 4, 2) := dk_21 4 (dk_at dksX7_getsBy_0 11 rfl rfl)
theorem dX7_getsBy_13 : decode cX7_getsBy 13 = .ok (.ixor, 1) := dk_130 (dk_at dksX7_getsBy_0 13 rfl rfl)
theorem dX7_getsBy_14 : decode cX7_getsBy 14 = .ok (.iastore, 1) := dk_79 (dk_at dksX7_getsBy_0 14 rfl rfl)
theorem dX7_getsBy_15 : decode cX7_getsBy 15 = .ok (.aload_n 0, 1) := dk_42 (dk_at dksX7_getsBy_0 15 rfl rfl)
theorem dX7_getsBy_16 : decode cX7_getsBy 16 = .ok (.getfield 59, 3) := dk_180 0 59 (dk_at dksX7_getsBy_0 16 rfl rfl)
theorem dX7_getsBy_19 : decode cX7_getsBy 19 = .ok (.iload_n 3, 1) := dk_29 (dk_at dksX7_getsBy_0 19 rfl rfl)
theorem dX7_getsBy_20 : decode cX7_getsBy 20 = .ok (.dup2, 1) := dk_92 (dk_at dksX7_getsBy_0 20 rfl rfl)
theorem dX7_getsBy_21 : decode cX7_getsBy 21 = .ok (.iaload, 1) := dk_46 (dk_at dksX7_getsBy_0 21 rfl rfl)
theorem dX7_getsBy_22 : decode cX7_getsBy 22 = .ok (.iload 5, 2) := dk_21 5 (dk_at dksX7_getsBy_0 22 rfl rfl)
theorem dX7_getsBy_24 : decode cX7_getsBy 24 = .ok (.ixor, 1) := dk_130 (dk_at dksX7_getsBy_1 0 rfl rfl)
theorem dX7_getsBy_25 : decode cX7_getsBy 25 = .ok (.iastore, 1) := dk_79 (dk_at dksX7_getsBy_1 1 rfl rfl)
theorem dX7_getsBy_26 : decode cX7_getsBy 26 = .ok (.aload_n 0, 1) := dk_42 (dk_at dksX7_getsBy_1 2 rfl rfl)
theorem dX7_getsBy_27 : decode cX7_getsBy 27 = .ok (.invokevirtual 318, 3) := dk_182 1 62 (dk_at dksX7_getsBy_1 3 rfl rfl)
theorem dX7_getsBy_30 : decode cX7_getsBy 30 = .ok (.iconst 0, 1) := dk_3 (dk_at dksX7_getsBy_1 6 rfl rfl)
theorem dX7_getsBy_31 : decode cX7_getsBy 31 = .ok (.istore 6, 2) := dk_54 6 (dk_at dksX7_getsBy_1 7 rfl rfl)
theorem dX7_getsBy_33 : decode cX7_getsBy 33 = .ok (.iconst 0, 1) := dk_3 (dk_at dksX7_getsBy_1 9 rfl rfl)
theorem dX7_getsBy_34 : decode cX7_getsBy 34 = .ok (.istore 7, 2) := dk_54 7 (dk_at dksX7_getsBy_1 10 rfl rfl)
theorem dX7_getsBy_36 : decode cX7_getsBy 36 = .ok (.iload 7, 2) := dk_21 7 (dk_at dksX7_getsBy_1 12 rfl rfl)
theorem dX7_getsBy_38 : decode cX7_getsBy 38 = .ok (.aload_n 0, 1) := dk_42 (dk_at dksX7_getsBy_1 14 rfl rfl)
theorem dX7_getsBy_39 : decode cX7_getsBy 39 = .ok (.invokevirtual 236, 3) := dk_182 0 236 (dk_at dksX7_getsBy_1 15 rfl rfl)
theorem dX7_getsBy_42 : decode cX7_getsBy 42 = .ok (.if_icmp .ge 42, 3) := dk_162 0 42 (dk_at dksX7_getsBy_1 18 rfl rfl)
theorem dX7_getsBy_45 : decode cX7_getsBy 45 = .ok (.iload 6, 2) := dk_21 6 (dk_at dksX7_getsBy_1 21 rfl rfl)
theorem dX7_getsBy_47 : decode cX7_getsBy 47 = .ok (.aload_n 0, 1) := dk_42 (dk_at dksX7_getsBy_1 23 rfl rfl)
theorem dX7_getsBy_48 : decode cX7_getsBy 48 = .ok (.getfield 43, 3) := dk_180 0 43 (dk_at dksX7_getsBy_2 0 rfl rfl)
theorem dX7_getsBy_51 : decode cX7_getsBy 51 = .ok (.iconst 4, 1) := dk_7 (dk_at dksX7_getsBy_2 3 rfl rfl)
theorem dX7_getsBy_52 : decode cX7_getsBy 52 = .ok (.iload 7, 2) := dk_21 7 (dk_at dksX7_getsBy_2 4 rfl rfl)
theorem dX7_getsBy_54 : decode cX7_getsBy 54 = .ok (.imul, 1) := dk_104 (dk_at dksX7_getsBy_2 6 rfl rfl)
theorem dX7_getsBy_55 : decode cX7_getsBy 55 = .ok (.iaload, 1) := dk_46 (dk_at dksX7_getsBy_2 7 rfl rfl)
theorem dX7_getsBy_56 : decode cX7_getsBy 56 = .ok (.iload_n 1, 1) := dk_27 (dk_at dksX7_getsBy_2 8 rfl rfl)
theorem dX7_getsBy_57 : decode cX7_getsBy 57 = .ok (.if_icmp .ne 17, 3) := dk_160 0 17 (dk_at dksX7_getsBy_2 9 rfl rfl)
theorem dX7_getsBy_60 : decode cX7_getsBy 60 = .ok (.aload_n 0, 1) := dk_42 (dk_at dksX7_getsBy_2 12 rfl rfl)
theorem dX7_getsBy_61 : decode cX7_getsBy 61 = .ok (.iload 7, 2) := dk_21 7 (dk_at dksX7_getsBy_2 13 rfl rfl)
theorem dX7_getsBy_63 : decode cX7_getsBy 63 = .ok (.invokevirtual 398, 3) := dk_182 1 142 (dk_at dksX7_getsBy_2 15 rfl rfl)
theorem dX7_getsBy_66 : decode cX7_getsBy 66 = .ok (.iconst 5, 1) := dk_8 (dk_at dksX7_getsBy_2 18 rfl rfl)
theorem dX7_getsBy_67 : decode cX7_getsBy 67 = .ok (.if_icmp .lt 7, 3) := dk_161 0 7 (dk_at dksX7_getsBy_2 19 rfl rfl)
theorem dX7_getsBy_70 : decode cX7_getsBy 70 = .ok (.iconst 3, 1) := dk_6 (dk_at dksX7_getsBy_2 22 rfl rfl)
theorem dX7_getsBy_71 : decode cX7_getsBy 71 = .ok (.goto 4, 3) := dk_167 0 4 (dk_at dksX7_getsBy_3 0 rfl rfl)
theorem dX7_getsBy_74 : decode cX7_getsBy 74 = .ok (.iconst 0, 1) := dk_3 (dk_at dksX7_getsBy_3 3 rfl rfl)
theorem dX7_getsBy_75 : decode cX7_getsBy 75 = .ok (.iadd, 1) := dk_96 (dk_at dksX7_getsBy_3 4 rfl rfl)
theorem dX7_getsBy_76 : decode cX7_getsBy 76 = .ok (.istore 6, 2) := dk_54 6 (dk_at dksX7_getsBy_3 5 rfl rfl)
theorem dX7_getsBy_78 : decode cX7_getsBy 78 = .ok (.iinc 7 1, 3) := dk_132 7 1 (dk_at dksX7_getsBy_3 7 rfl rfl)
theorem dX7_getsBy_81 : decode cX7_getsBy 81 = .ok (.goto (-45), 3) := dk_167 255 211 (dk_at dksX7_getsBy_3 10 rfl rfl)
theorem dX7_getsBy_84 : decode cX7_getsBy 84 = .ok (.iload 6, 2) := dk_21 6 (dk_at dksX7_getsBy_3 13 rfl rfl)
theorem dX7_getsBy_86 : decode cX7_getsBy 86 = .ok (.iload_n 1, 1) := dk_27 (dk_at dksX7_getsBy_3 15 rfl rfl)
theorem dX7_getsBy_87 : decode cX7_getsBy 87 = .ok (.iload_n 2, 1) := dk_28 (dk_at dksX7_getsBy_3 16 rfl rfl)
theorem dX7_getsBy_88 : decode cX7_getsBy 88 = .ok (.if_icmp .ne 8, 3) := dk_160 0 8 (dk_at dksX7_getsBy_3 17 rfl rfl)
theorem dX7_getsBy_91 : decode cX7_getsBy 91 = .ok (.iload 4, 2) := dk_21 4 (dk_at dksX7_getsBy_3 20 rfl rfl)
theorem dX7_getsBy_93 : decode cX7_getsBy 93 = .ok (.goto 5, 3) := dk_167 0 5 (dk_at dksX7_getsBy_4 0 rfl rfl)
theorem dX7_getsBy_96 : decode cX7_getsBy 96 = .ok (.iload 5, 2) := dk_21 5 (dk_at dksX7_getsBy_4 3 rfl rfl)
theorem dX7_getsBy_98 : decode cX7_getsBy 98 = .ok (.isub, 1) := dk_100 (dk_at dksX7_getsBy_4 5 rfl rfl)
theorem dX7_getsBy_99 : decode cX7_getsBy 99 = .ok (.ireturn, 1) := dk_172 (dk_at dksX7_getsBy_4 6 rfl rfl)
abbrev cX7_gets : ByteArray := prog_12_method_138_code
def yX7_gets : MethodName := ⟨RX7, "gets", "(IIII)I"⟩
def dkwX7_gets_1 : List UInt8 := [184, 1, 152, 153, 0, 16, 42, 27, 27, 28, 29, 21, 4, 182, 1, 162, 167, 0, 6, 17, 252, 24, 172]
abbrev dktX7_gets_1 : List UInt8 := dkwX7_gets_1 ++ []
def dkwX7_gets_0 : List UInt8 := [42, 3, 181, 0, 74, 42, 27, 28, 182, 1, 159, 153, 0, 31, 29, 184, 1, 152, 153, 0, 24, 21, 4]
abbrev dktX7_gets_0 : List UInt8 := dkwX7_gets_0 ++ dktX7_gets_1
theorem dksX7_gets_0 : cX7_gets.data.toList.drop 0 = dktX7_gets_0 := by decide +kernel
theorem dksX7_gets_1 : cX7_gets.data.toList.drop 23 = dktX7_gets_1 := dk_seg dksX7_gets_0 23 rfl rfl
theorem dX7_gets_0 : decode cX7_gets 0 = .ok (.aload_n 0, 1) := dk_42 (dk_at dksX7_gets_0 0 rfl rfl)
theorem dX7_gets_1 : decode cX7_gets 1 = .ok (.iconst 0, 1) := dk_3 (dk_at dksX7_gets_0 1 rfl rfl)
theorem dX7_gets_2 : decode cX7_gets 2 = .ok (.putfield 74, 3) := dk_181 0 74 (dk_at dksX7_gets_0 2 rfl rfl)
theorem dX7_gets_5 : decode cX7_gets 5 = .ok (.aload_n 0, 1) := dk_42 (dk_at dksX7_gets_0 5 rfl rfl)
theorem dX7_gets_6 : decode cX7_gets 6 = .ok (.iload_n 1, 1) := dk_27 (dk_at dksX7_gets_0 6 rfl rfl)
theorem dX7_gets_7 : decode cX7_gets 7 = .ok (.iload_n 2, 1) := dk_28 (dk_at dksX7_gets_0 7 rfl rfl)
theorem dX7_gets_8 : decode cX7_gets 8 = .ok (.invokevirtual 415, 3) := dk_182 1 159 (dk_at dksX7_gets_0 8 rfl rfl)
theorem dX7_gets_11 : decode cX7_gets 11 = .ok (.ifCond .eq 31, 3) := dk_153 0 31 (dk_at dksX7_gets_0 11 rfl rfl)
theorem dX7_gets_14 : decode cX7_gets 14 = .ok (.iload_n 3, 1) := dk_29 (dk_at dksX7_gets_0 14 rfl rfl)
theorem dX7_gets_15 : decode cX7_gets 15 = .ok (.invokestatic 408, 3) := dk_184 1 152 (dk_at dksX7_gets_0 15 rfl rfl)
theorem dX7_gets_18 : decode cX7_gets 18 = .ok (.ifCond .eq 24, 3) := dk_153 0 24 (dk_at dksX7_gets_0 18 rfl rfl)
theorem dX7_gets_21 : decode cX7_gets 21 = .ok (.iload 4, 2) := dk_21 4 (dk_at dksX7_gets_0 21 rfl rfl)
theorem dX7_gets_23 : decode cX7_gets 23 = .ok (.invokestatic 408, 3) := dk_184 1 152 (dk_at dksX7_gets_1 0 rfl rfl)
theorem dX7_gets_26 : decode cX7_gets 26 = .ok (.ifCond .eq 16, 3) := dk_153 0 16 (dk_at dksX7_gets_1 3 rfl rfl)
theorem dX7_gets_29 : decode cX7_gets 29 = .ok (.aload_n 0, 1) := dk_42 (dk_at dksX7_gets_1 6 rfl rfl)
theorem dX7_gets_30 : decode cX7_gets 30 = .ok (.iload_n 1, 1) := dk_27 (dk_at dksX7_gets_1 7 rfl rfl)
theorem dX7_gets_31 : decode cX7_gets 31 = .ok (.iload_n 1, 1) := dk_27 (dk_at dksX7_gets_1 8 rfl rfl)
theorem dX7_gets_32 : decode cX7_gets 32 = .ok (.iload_n 2, 1) := dk_28 (dk_at dksX7_gets_1 9 rfl rfl)
theorem dX7_gets_33 : decode cX7_gets 33 = .ok (.iload_n 3, 1) := dk_29 (dk_at dksX7_gets_1 10 rfl rfl)
theorem dX7_gets_34 : decode cX7_gets 34 = .ok (.iload 4, 2) := dk_21 4 (dk_at dksX7_gets_1 11 rfl rfl)
theorem dX7_gets_36 : decode cX7_gets 36 = .ok (.invokevirtual 418, 3) := dk_182 1 162 (dk_at dksX7_gets_1 13 rfl rfl)
theorem dX7_gets_39 : decode cX7_gets 39 = .ok (.goto 6, 3) := dk_167 0 6 (dk_at dksX7_gets_1 16 rfl rfl)
theorem dX7_gets_42 : decode cX7_gets 42 = .ok (.sipush (-1000), 3) := dk_17 252 24 (dk_at dksX7_gets_1 19 rfl rfl)
theorem dX7_gets_45 : decode cX7_gets 45 = .ok (.ireturn, 1) := dk_172 (dk_at dksX7_gets_1 22 rfl rfl)
abbrev cX7_chance : ByteArray := prog_12_method_142_code
def yX7_chance : MethodName := ⟨RX7, "chance", "(IIII)I"⟩
def dkwX7_chance_2 : List UInt8 := [182, 1, 173, 20, 1, 168, 28, 184, 1, 165, 21, 4, 184, 1, 155, 136, 167, 0, 5, 16, 254, 172]
abbrev dktX7_chance_2 : List UInt8 := dkwX7_chance_2 ++ []
def dkwX7_chance_1 : List UInt8 := [9, 20, 1, 110, 184, 0, 79, 153, 0, 34, 21, 4, 184, 1, 152, 153, 0, 26, 42, 27, 28, 29]
abbrev dktX7_chance_1 : List UInt8 := dkwX7_chance_1 ++ dktX7_chance_2
def dkwX7_chance_0 : List UInt8 := [42, 3, 181, 0, 74, 42, 27, 133, 182, 0, 246, 153, 0, 54, 42, 28, 182, 1, 170, 153, 0, 46, 29, 133]
abbrev dktX7_chance_0 : List UInt8 := dkwX7_chance_0 ++ dktX7_chance_1
theorem dksX7_chance_0 : cX7_chance.data.toList.drop 0 = dktX7_chance_0 := by decide +kernel
theorem dksX7_chance_1 : cX7_chance.data.toList.drop 24 = dktX7_chance_1 := dk_seg dksX7_chance_0 24 rfl rfl
theorem dksX7_chance_2 : cX7_chance.data.toList.drop 46 = dktX7_chance_2 := dk_seg dksX7_chance_1 22 rfl rfl
theorem dX7_chance_0 : decode cX7_chance 0 = .ok (.aload_n 0, 1) := dk_42 (dk_at dksX7_chance_0 0 rfl rfl)
theorem dX7_chance_1 : decode cX7_chance 1 = .ok (.iconst 0, 1) := dk_3 (dk_at dksX7_chance_0 1 rfl rfl)
theorem dX7_chance_2 : decode cX7_chance 2 = .ok (.putfield 74, 3) := dk_181 0 74 (dk_at dksX7_chance_0 2 rfl rfl)
theorem dX7_chance_5 : decode cX7_chance 5 = .ok (.aload_n 0, 1) := dk_42 (dk_at dksX7_chance_0 5 rfl rfl)
theorem dX7_chance_6 : decode cX7_chance 6 = .ok (.iload_n 1, 1) := dk_27 (dk_at dksX7_chance_0 6 rfl rfl)
theorem dX7_chance_7 : decode cX7_chance 7 = .ok (.i2l, 1) := dk_133 (dk_at dksX7_chance_0 7 rfl rfl)
theorem dX7_chance_8 : decode cX7_chance 8 = .ok (.invokevirtual 246, 3) := dk_182 0 246 (dk_at dksX7_chance_0 8 rfl rfl)
theorem dX7_chance_11 : decode cX7_chance 11 = .ok (.ifCond .eq 54, 3) := dk_153 0 54 (dk_at dksX7_chance_0 11 rfl rfl)
theorem dX7_chance_14 : decode cX7_chance 14 = .ok (.aload_n 0, 1) := dk_42 (dk_at dksX7_chance_0 14 rfl rfl)
theorem dX7_chance_15 : decode cX7_chance 15 = .ok (.iload_n 2, 1) := dk_28 (dk_at dksX7_chance_0 15 rfl rfl)
theorem dX7_chance_16 : decode cX7_chance 16 = .ok (.invokevirtual 426, 3) := dk_182 1 170 (dk_at dksX7_chance_0 16 rfl rfl)
theorem dX7_chance_19 : decode cX7_chance 19 = .ok (.ifCond .eq 46, 3) := dk_153 0 46 (dk_at dksX7_chance_0 19 rfl rfl)
theorem dX7_chance_22 : decode cX7_chance 22 = .ok (.iload_n 3, 1) := dk_29 (dk_at dksX7_chance_0 22 rfl rfl)
theorem dX7_chance_23 : decode cX7_chance 23 = .ok (.i2l, 1) := dk_133 (dk_at dksX7_chance_0 23 rfl rfl)
theorem dX7_chance_24 : decode cX7_chance 24 = .ok (.lconst 0, 1) := dk_9 (dk_at dksX7_chance_1 0 rfl rfl)
theorem dX7_chance_25 : decode cX7_chance 25 = .ok (.ldc2_w 366, 3) := dk_20 1 110 (dk_at dksX7_chance_1 1 rfl rfl)
theorem dX7_chance_28 : decode cX7_chance 28 = .ok (.invokestatic 79, 3) := dk_184 0 79 (dk_at dksX7_chance_1 4 rfl rfl)
theorem dX7_chance_31 : decode cX7_chance 31 = .ok (.ifCond .eq 34, 3) := dk_153 0 34 (dk_at dksX7_chance_1 7 rfl rfl)
theorem dX7_chance_34 : decode cX7_chance 34 = .ok (.iload 4, 2) := dk_21 4 (dk_at dksX7_chance_1 10 rfl rfl)
theorem dX7_chance_36 : decode cX7_chance 36 = .ok (.invokestatic 408, 3) := dk_184 1 152 (dk_at dksX7_chance_1 12 rfl rfl)
theorem dX7_chance_39 : decode cX7_chance 39 = .ok (.ifCond .eq 26, 3) := dk_153 0 26 (dk_at dksX7_chance_1 15 rfl rfl)
theorem dX7_chance_42 : decode cX7_chance 42 = .ok (.aload_n 0, 1) := dk_42 (dk_at dksX7_chance_1 18 rfl rfl)
theorem dX7_chance_43 : decode cX7_chance 43 = .ok (.iload_n 1, 1) := dk_27 (dk_at dksX7_chance_1 19 rfl rfl)
theorem dX7_chance_44 : decode cX7_chance 44 = .ok (.iload_n 2, 1) := dk_28 (dk_at dksX7_chance_1 20 rfl rfl)
theorem dX7_chance_45 : decode cX7_chance 45 = .ok (.iload_n 3, 1) := dk_29 (dk_at dksX7_chance_1 21 rfl rfl)
theorem dX7_chance_46 : decode cX7_chance 46 = .ok (.invokevirtual 429, 3) := dk_182 1 173 (dk_at dksX7_chance_2 0 rfl rfl)
theorem dX7_chance_49 : decode cX7_chance 49 = .ok (.ldc2_w 424, 3) := dk_20 1 168 (dk_at dksX7_chance_2 3 rfl rfl)
theorem dX7_chance_52 : decode cX7_chance 52 = .ok (.iload_n 2, 1) := dk_28 (dk_at dksX7_chance_2 6 rfl rfl)
theorem dX7_chance_53 : decode cX7_chance 53 = .ok (.invokestatic 421, 3) := dk_184 1 165 (dk_at dksX7_chance_2 7 rfl rfl)
theorem dX7_chance_56 : decode cX7_chance 56 = .ok (.iload 4, 2) := dk_21 4 (dk_at dksX7_chance_2 10 rfl rfl)
theorem dX7_chance_58 : decode cX7_chance 58 = .ok (.invokestatic 411, 3) := dk_184 1 155 (dk_at dksX7_chance_2 12 rfl rfl)
theorem dX7_chance_61 : decode cX7_chance 61 = .ok (.l2i, 1) := dk_136 (dk_at dksX7_chance_2 15 rfl rfl)
theorem dX7_chance_62 : decode cX7_chance 62 = .ok (.goto 5, 3) := dk_167 0 5 (dk_at dksX7_chance_2 16 rfl rfl)
theorem dX7_chance_65 : decode cX7_chance 65 = .ok (.bipush (-2), 2) := dk_16 254 (dk_at dksX7_chance_2 19 rfl rfl)
theorem dX7_chance_67 : decode cX7_chance 67 = .ok (.ireturn, 1) := dk_172 (dk_at dksX7_chance_2 21 rfl rfl)
abbrev cX7_isSoon : ByteArray := prog_12_method_141_code
def yX7_isSoon : MethodName := ⟨RX7, "isSoon", "(I)Z"⟩
def dkwX7_isSoon_1 : List UInt8 := [153, 0, 7, 4, 167, 0, 4, 3, 172]
abbrev dktX7_isSoon_1 : List UInt8 := dkwX7_isSoon_1 ++ []
def dkwX7_isSoon_0 : List UInt8 := [42, 182, 0, 240, 153, 0, 26, 27, 133, 10, 16, 8, 42, 182, 0, 243, 184, 1, 21, 133, 184, 0, 79]
abbrev dktX7_isSoon_0 : List UInt8 := dkwX7_isSoon_0 ++ dktX7_isSoon_1
theorem dksX7_isSoon_0 : cX7_isSoon.data.toList.drop 0 = dktX7_isSoon_0 := by decide +kernel
theorem dksX7_isSoon_1 : cX7_isSoon.data.toList.drop 23 = dktX7_isSoon_1 := dk_seg dksX7_isSoon_0 23 rfl rfl
theorem dX7_isSoon_0 : decode cX7_isSoon 0 = .ok (.aload_n 0, 1) := dk_42 (dk_at dksX7_isSoon_0 0 rfl rfl)
theorem dX7_isSoon_1 : decode cX7_isSoon 1 = .ok (.invokevirtual 240, 3) := dk_182 0 240 (dk_at dksX7_isSoon_0 1 rfl rfl)
theorem dX7_isSoon_4 : decode cX7_isSoon 4 = .ok (.ifCond .eq 26, 3) := dk_153 0 26 (dk_at dksX7_isSoon_0 4 rfl rfl)
theorem dX7_isSoon_7 : decode cX7_isSoon 7 = .ok (.iload_n 1, 1) := dk_27 (dk_at dksX7_isSoon_0 7 rfl rfl)
theorem dX7_isSoon_8 : decode cX7_isSoon 8 = .ok (.i2l, 1) := dk_133 (dk_at dksX7_isSoon_0 8 rfl rfl)
theorem dX7_isSoon_9 : decode cX7_isSoon 9 = .ok (.lconst 1, 1) := dk_10 (dk_at dksX7_isSoon_0 9 rfl rfl)
theorem dX7_isSoon_10 : decode cX7_isSoon 10 = .ok (.bipush 8, 2) := dk_16 8 (dk_at dksX7_isSoon_0 10 rfl rfl)
theorem dX7_isSoon_12 : decode cX7_isSoon 12 = .ok (.aload_n 0, 1) := dk_42 (dk_at dksX7_isSoon_0 12 rfl rfl)
theorem dX7_isSoon_13 : decode cX7_isSoon 13 = .ok (.invokevirtual 243, 3) := dk_182 0 243 (dk_at dksX7_isSoon_0 13 rfl rfl)
theorem dX7_isSoon_16 : decode cX7_isSoon 16 = .ok (.invokestatic 277, 3) := dk_184 1 21 (dk_at dksX7_isSoon_0 16 rfl rfl)
theorem dX7_isSoon_19 : decode cX7_isSoon 19 = .ok (.i2l, 1) := dk_133 (dk_at dksX7_isSoon_0 19 rfl rfl)
theorem dX7_isSoon_20 : decode cX7_isSoon 20 = .ok (.invokestatic 79, 3) := dk_184 0 79 (dk_at dksX7_isSoon_0 20 rfl rfl)
theorem dX7_isSoon_23 : decode cX7_isSoon 23 = .ok (.ifCond .eq 7, 3) := dk_153 0 7 (dk_at dksX7_isSoon_1 0 rfl rfl)
theorem dX7_isSoon_26 : decode cX7_isSoon 26 = .ok (.iconst 1, 1) := dk_4 (dk_at dksX7_isSoon_1 3 rfl rfl)
theorem dX7_isSoon_27 : decode cX7_isSoon 27 = .ok (.goto 4, 3) := dk_167 0 4 (dk_at dksX7_isSoon_1 4 rfl rfl)
theorem dX7_isSoon_30 : decode cX7_isSoon 30 = .ok (.iconst 0, 1) := dk_3 (dk_at dksX7_isSoon_1 7 rfl rfl)
theorem dX7_isSoon_31 : decode cX7_isSoon 31 = .ok (.ireturn, 1) := dk_172 (dk_at dksX7_isSoon_1 8 rfl rfl)
abbrev cX7_weightOf : ByteArray := prog_12_method_140_code
def yX7_weightOf : MethodName := ⟨RX7, "weightOf", "(III)J"⟩
def dkwX7_weightOf_4 : List UInt8 := [167, 0, 4, 3, 133, 105, 97, 55, 4, 132, 6, 1, 167, 255, 159, 22, 4, 173]
abbrev dktX7_weightOf_4 : List UInt8 := dkwX7_weightOf_4 ++ []
def dkwX7_weightOf_3 : List UInt8 := [27, 2, 160, 0, 11, 42, 28, 182, 1, 90, 167, 0, 18, 42, 27, 28, 182, 1, 27, 29, 161, 0, 7, 4]
abbrev dktX7_weightOf_3 : List UInt8 := dkwX7_weightOf_3 ++ dktX7_weightOf_4
def dkwX7_weightOf_2 : List UInt8 := [180, 0, 34, 5, 46, 133, 101, 28, 21, 6, 184, 1, 121, 100, 184, 1, 165, 105, 55, 7, 22, 4, 22, 7]
abbrev dktX7_weightOf_2 : List UInt8 := dkwX7_weightOf_2 ++ dktX7_weightOf_3
def dkwX7_weightOf_1 : List UInt8 := [42, 182, 1, 62, 42, 180, 0, 34, 5, 46, 133, 21, 6, 184, 1, 121, 184, 1, 165, 20, 1, 168, 42]
abbrev dktX7_weightOf_1 : List UInt8 := dkwX7_weightOf_1 ++ dktX7_weightOf_2
def dkwX7_weightOf_0 : List UInt8 := [42, 182, 1, 59, 9, 55, 4, 3, 54, 6, 21, 6, 4, 28, 120, 162, 0, 95, 42, 21, 6, 181, 0, 255]
abbrev dktX7_weightOf_0 : List UInt8 := dkwX7_weightOf_0 ++ dktX7_weightOf_1
theorem dksX7_weightOf_0 : cX7_weightOf.data.toList.drop 0 = dktX7_weightOf_0 := by decide +kernel
theorem dksX7_weightOf_1 : cX7_weightOf.data.toList.drop 24 = dktX7_weightOf_1 := dk_seg dksX7_weightOf_0 24 rfl rfl
theorem dksX7_weightOf_2 : cX7_weightOf.data.toList.drop 47 = dktX7_weightOf_2 := dk_seg dksX7_weightOf_1 23 rfl rfl
theorem dksX7_weightOf_3 : cX7_weightOf.data.toList.drop 71 = dktX7_weightOf_3 := dk_seg dksX7_weightOf_2 24 rfl rfl
theorem dksX7_weightOf_4 : cX7_weightOf.data.toList.drop 95 = dktX7_weightOf_4 := dk_seg dksX7_weightOf_3 24 rfl rfl
theorem dX7_weightOf_0 : decode cX7_weightOf 0 = .ok (.aload_n 0, 1) := dk_42 (dk_at dksX7_weightOf_0 0 rfl rfl)
theorem dX7_weightOf_1 : decode cX7_weightOf 1 = .ok (.invokevirtual 315, 3) := dk_182 1 59 (dk_at dksX7_weightOf_0 1 rfl rfl)
theorem dX7_weightOf_4 : decode cX7_weightOf 4 = .ok (.lconst 0, 1) := dk_9 (dk_at dksX7_weightOf_0 4 rfl rfl)
theorem dX7_weightOf_5 : decode cX7_weightOf 5 = .ok (.lstore 4, 2) := dk_55 4 (dk_at dksX7_weightOf_0 5 rfl rfl)
theorem dX7_weightOf_7 : decode cX7_weightOf 7 = .ok (.iconst 0, 1) := dk_3 (dk_at dksX7_weightOf_0 7 rfl rfl)
theorem dX7_weightOf_8 : decode cX7_weightOf 8 = .ok (.istore 6, 2) := dk_54 6 (dk_at dksX7_weightOf_0 8 rfl rfl)
theorem dX7_weightOf_10 : decode cX7_weightOf 10 = .ok (.iload 6, 2) := dk_21 6 (dk_at dksX7_weightOf_0 10 rfl rfl)
theorem dX7_weightOf_12 : decode cX7_weightOf 12 = .ok (.iconst 1, 1) := dk_4 (dk_at dksX7_weightOf_0 12 rfl rfl)
theorem dX7_weightOf_13 : decode cX7_weightOf 13 = .ok (.iload_n 2, 1) := dk_28 (dk_at dksX7_weightOf_0 13 rfl rfl)
theorem dX7_weightOf_14 : decode cX7_weightOf 14 = .ok (.ishl, 1) := dk_120 (dk_at dksX7_weightOf_0 14 rfl rfl)
theorem dX7_weightOf_15 : decode cX7_weightOf 15 = .ok (.if_icmp .ge 95, 3) := dk_162 0 95 (dk_at dksX7_weightOf_0 15 rfl rfl)
theorem dX7_weightOf_18 : decode cX7_weightOf 18 = .ok (.aload_n 0, 1) := dk_42 (dk_at dksX7_weightOf_0 18 rfl rfl)
theorem dX7_weightOf_19 : decode cX7_weightOf 19 = .ok (.iload 6, 2) := dk_21 6 (dk_at dksX7_weightOf_0 19 rfl rfl)
theorem dX7_weightOf_21 : decode cX7_weightOf 21 = .ok (.putfield 255, 3) := dk_181 0 255 (dk_at dksX7_weightOf_0 21 rfl rfl)
theorem dX7_weightOf_24 : decode cX7_weightOf 24 = .ok (.aload_n 0, 1) := dk_42 (dk_at dksX7_weightOf_1 0 rfl rfl)
theorem dX7_weightOf_25 : decode cX7_weightOf 25 = .ok (.invokevirtual 318, 3) := dk_182 1 62 (dk_at dksX7_weightOf_1 1 rfl rfl)
theorem dX7_weightOf_28 : decode cX7_weightOf 28 = .ok (.aload_n 0, 1) := dk_42 (dk_at dksX7_weightOf_1 4 rfl rfl)
theorem dX7_weightOf_29 : decode cX7_weightOf 29 = .ok (.getfield 34, 3) := dk_180 0 34 (dk_at dksX7_weightOf_1 5 rfl rfl)
theorem dX7_weightOf_32 : decode cX7_weightOf 32 = .ok (.iconst 2, 1) := dk_5 (dk_at dksX7_weightOf_1 8 rfl rfl)
theorem dX7_weightOf_33 : decode cX7_weightOf 33 = .ok (.iaload, 1) := dk_46 (dk_at dksX7_weightOf_1 9 rfl rfl)
theorem dX7_weightOf_34 : decode cX7_weightOf 34 = .ok (.i2l, 1) := dk_133 (dk_at dksX7_weightOf_1 10 rfl rfl)
theorem dX7_weightOf_35 : decode cX7_weightOf 35 = .ok (.iload 6, 2) := dk_21 6 (dk_at dksX7_weightOf_1 11 rfl rfl)
theorem dX7_weightOf_37 : decode cX7_weightOf 37 = .ok (.invokestatic 377, 3) := dk_184 1 121 (dk_at dksX7_weightOf_1 13 rfl rfl)
theorem dX7_weightOf_40 : decode cX7_weightOf 40 = .ok (.invokestatic 421, 3) := dk_184 1 165 (dk_at dksX7_weightOf_1 16 rfl rfl)
theorem dX7_weightOf_43 : decode cX7_weightOf 43 = .ok (.ldc2_w 424, 3) := dk_20 1 168 (dk_at dksX7_weightOf_1 19 rfl rfl)
theorem dX7_weightOf_46 : decode cX7_weightOf 46 = .ok (.aload_n 0, 1) := dk_42 (dk_at dksX7_weightOf_1 22 rfl rfl)
theorem dX7_weightOf_47 : decode cX7_weightOf 47 = .ok (.getfield 34, 3) := dk_180 0 34 (dk_at dksX7_weightOf_2 0 rfl rfl)
theorem dX7_weightOf_50 : decode cX7_weightOf 50 = .ok (.iconst 2, 1) := dk_5 (dk_at dksX7_weightOf_2 3 rfl rfl)
theorem dX7_weightOf_51 : decode cX7_weightOf 51 = .ok (.iaload, 1) := dk_46 (dk_at dksX7_weightOf_2 4 rfl rfl)
theorem dX7_weightOf_52 : decode cX7_weightOf 52 = .ok (.i2l, 1) := dk_133 (dk_at dksX7_weightOf_2 5 rfl rfl)
theorem dX7_weightOf_53 : decode cX7_weightOf 53 = .ok (.lsub, 1) := dk_101 (dk_at dksX7_weightOf_2 6 rfl rfl)
theorem dX7_weightOf_54 : decode cX7_weightOf 54 = .ok (.iload_n 2, 1) := dk_28 (dk_at dksX7_weightOf_2 7 rfl rfl)
theorem dX7_weightOf_55 : decode cX7_weightOf 55 = .ok (.iload 6, 2) := dk_21 6 (dk_at dksX7_weightOf_2 8 rfl rfl)
theorem dX7_weightOf_57 : decode cX7_weightOf 57 = .ok (.invokestatic 377, 3) := dk_184 1 121 (dk_at dksX7_weightOf_2 10 rfl rfl)
theorem dX7_weightOf_60 : decode cX7_weightOf 60 = .ok (.isub, 1) := dk_100 (dk_at dksX7_weightOf_2 13 rfl rfl)
theorem dX7_weightOf_61 : decode cX7_weightOf 61 = .ok (.invokestatic 421, 3) := dk_184 1 165 (dk_at dksX7_weightOf_2 14 rfl rfl)
theorem dX7_weightOf_64 : decode cX7_weightOf 64 = .ok (.lmul, 1) := dk_105 (dk_at dksX7_weightOf_2 17 rfl rfl)
theorem dX7_weightOf_65 : decode cX7_weightOf 65 = .ok (.lstore 7, 2) := dk_55 7 (dk_at dksX7_weightOf_2 18 rfl rfl)
theorem dX7_weightOf_67 : decode cX7_weightOf 67 = .ok (.lload 4, 2) := dk_22 4 (dk_at dksX7_weightOf_2 20 rfl rfl)
theorem dX7_weightOf_69 : decode cX7_weightOf 69 = .ok (.lload 7, 2) := dk_22 7 (dk_at dksX7_weightOf_2 22 rfl rfl)
theorem dX7_weightOf_71 : decode cX7_weightOf 71 = .ok (.iload_n 1, 1) := dk_27 (dk_at dksX7_weightOf_3 0 rfl rfl)
theorem dX7_weightOf_72 : decode cX7_weightOf 72 = .ok (.iconst (-1), 1) := dk_2 (dk_at dksX7_weightOf_3 1 rfl rfl)
theorem dX7_weightOf_73 : decode cX7_weightOf 73 = .ok (.if_icmp .ne 11, 3) := dk_160 0 11 (dk_at dksX7_weightOf_3 2 rfl rfl)
theorem dX7_weightOf_76 : decode cX7_weightOf 76 = .ok (.aload_n 0, 1) := dk_42 (dk_at dksX7_weightOf_3 5 rfl rfl)
theorem dX7_weightOf_77 : decode cX7_weightOf 77 = .ok (.iload_n 2, 1) := dk_28 (dk_at dksX7_weightOf_3 6 rfl rfl)
theorem dX7_weightOf_78 : decode cX7_weightOf 78 = .ok (.invokevirtual 346, 3) := dk_182 1 90 (dk_at dksX7_weightOf_3 7 rfl rfl)
theorem dX7_weightOf_81 : decode cX7_weightOf 81 = .ok (.goto 18, 3) := dk_167 0 18 (dk_at dksX7_weightOf_3 10 rfl rfl)
theorem dX7_weightOf_84 : decode cX7_weightOf 84 = .ok (.aload_n 0, 1) := dk_42 (dk_at dksX7_weightOf_3 13 rfl rfl)
theorem dX7_weightOf_85 : decode cX7_weightOf 85 = .ok (.iload_n 1, 1) := dk_27 (dk_at dksX7_weightOf_3 14 rfl rfl)
theorem dX7_weightOf_86 : decode cX7_weightOf 86 = .ok (.iload_n 2, 1) := dk_28 (dk_at dksX7_weightOf_3 15 rfl rfl)
theorem dX7_weightOf_87 : decode cX7_weightOf 87 = .ok (.invokevirtual 283, 3) := dk_182 1 27 (dk_at dksX7_weightOf_3 16 rfl rfl)
theorem dX7_weightOf_90 : decode cX7_weightOf 90 = .ok (.iload_n 3, 1) := dk_29 (dk_at dksX7_weightOf_3 19 rfl rfl)
theorem dX7_weightOf_91 : decode cX7_weightOf 91 = .ok (.if_icmp .lt 7, 3) := dk_161 0 7 (dk_at dksX7_weightOf_3 20 rfl rfl)
theorem dX7_weightOf_94 : decode cX7_weightOf 94 = .ok (.iconst 1, 1) := dk_4 (dk_at dksX7_weightOf_3 23 rfl rfl)
theorem dX7_weightOf_95 : decode cX7_weightOf 95 = .ok (.goto 4, 3) := dk_167 0 4 (dk_at dksX7_weightOf_4 0 rfl rfl)
theorem dX7_weightOf_98 : decode cX7_weightOf 98 = .ok (.iconst 0, 1) := dk_3 (dk_at dksX7_weightOf_4 3 rfl rfl)
theorem dX7_weightOf_99 : decode cX7_weightOf 99 = .ok (.i2l, 1) := dk_133 (dk_at dksX7_weightOf_4 4 rfl rfl)
theorem dX7_weightOf_100 : decode cX7_weightOf 100 = .ok (.lmul, 1) := dk_105 (dk_at dksX7_weightOf_4 5 rfl rfl)
theorem dX7_weightOf_101 : decode cX7_weightOf 101 = .ok (.ladd, 1) := dk_97 (dk_at dksX7_weightOf_4 6 rfl rfl)
theorem dX7_weightOf_102 : decode cX7_weightOf 102 = .ok (.lstore 4, 2) := dk_55 4 (dk_at dksX7_weightOf_4 7 rfl rfl)
theorem dX7_weightOf_104 : decode cX7_weightOf 104 = .ok (.iinc 6 1, 3) := dk_132 6 1 (dk_at dksX7_weightOf_4 9 rfl rfl)
theorem dX7_weightOf_107 : decode cX7_weightOf 107 = .ok (.goto (-97), 3) := dk_167 255 159 (dk_at dksX7_weightOf_4 12 rfl rfl)
theorem dX7_weightOf_110 : decode cX7_weightOf 110 = .ok (.lload 4, 2) := dk_22 4 (dk_at dksX7_weightOf_4 15 rfl rfl)
theorem dX7_weightOf_112 : decode cX7_weightOf 112 = .ok (.lreturn, 1) := dk_173 (dk_at dksX7_weightOf_4 17 rfl rfl)
abbrev cX7_power : ByteArray := prog_12_method_139_code
def yX7_power : MethodName := ⟨RX7, "power", "(JI)J"⟩
def dkwX7_power_0 : List UInt8 := [28, 154, 0, 7, 10, 167, 0, 12, 30, 30, 28, 4, 100, 184, 1, 165, 105, 173]
abbrev dktX7_power_0 : List UInt8 := dkwX7_power_0 ++ []
theorem dksX7_power_0 : cX7_power.data.toList.drop 0 = dktX7_power_0 := by decide +kernel
theorem dX7_power_0 : decode cX7_power 0 = .ok (.iload_n 2, 1) := dk_28 (dk_at dksX7_power_0 0 rfl rfl)
theorem dX7_power_1 : decode cX7_power 1 = .ok (.ifCond .ne 7, 3) := dk_154 0 7 (dk_at dksX7_power_0 1 rfl rfl)
theorem dX7_power_4 : decode cX7_power 4 = .ok (.lconst 1, 1) := dk_10 (dk_at dksX7_power_0 4 rfl rfl)
theorem dX7_power_5 : decode cX7_power 5 = .ok (.goto 12, 3) := dk_167 0 12 (dk_at dksX7_power_0 5 rfl rfl)
theorem dX7_power_8 : decode cX7_power 8 = .ok (.lload_n 0, 1) := dk_30 (dk_at dksX7_power_0 8 rfl rfl)
theorem dX7_power_9 : decode cX7_power 9 = .ok (.lload_n 0, 1) := dk_30 (dk_at dksX7_power_0 9 rfl rfl)
theorem dX7_power_10 : decode cX7_power 10 = .ok (.iload_n 2, 1) := dk_28 (dk_at dksX7_power_0 10 rfl rfl)
theorem dX7_power_11 : decode cX7_power 11 = .ok (.iconst 1, 1) := dk_4 (dk_at dksX7_power_0 11 rfl rfl)
theorem dX7_power_12 : decode cX7_power 12 = .ok (.isub, 1) := dk_100 (dk_at dksX7_power_0 12 rfl rfl)
theorem dX7_power_13 : decode cX7_power 13 = .ok (.invokestatic 421, 3) := dk_184 1 165 (dk_at dksX7_power_0 13 rfl rfl)
theorem dX7_power_16 : decode cX7_power 16 = .ok (.lmul, 1) := dk_105 (dk_at dksX7_power_0 16 rfl rfl)
theorem dX7_power_17 : decode cX7_power 17 = .ok (.lreturn, 1) := dk_173 (dk_at dksX7_power_0 17 rfl rfl)
abbrev cX7_mean : ByteArray := prog_12_method_143_code
def yX7_mean : MethodName := ⟨RX7, "mean", "(II)J"⟩
def dkwX7_mean_1 : List UInt8 := [182, 1, 173, 20, 1, 168, 27, 184, 1, 165, 28, 184, 1, 155, 167, 0, 6, 20, 1, 177, 173]
abbrev dktX7_mean_1 : List UInt8 := dkwX7_mean_1 ++ []
def dkwX7_mean_0 : List UInt8 := [42, 3, 181, 0, 74, 42, 27, 182, 1, 170, 153, 0, 31, 28, 184, 1, 152, 153, 0, 24, 42, 2, 27, 3]
abbrev dktX7_mean_0 : List UInt8 := dkwX7_mean_0 ++ dktX7_mean_1
theorem dksX7_mean_0 : cX7_mean.data.toList.drop 0 = dktX7_mean_0 := by decide +kernel
theorem dksX7_mean_1 : cX7_mean.data.toList.drop 24 = dktX7_mean_1 := dk_seg dksX7_mean_0 24 rfl rfl
theorem dX7_mean_0 : decode cX7_mean 0 = .ok (.aload_n 0, 1) := dk_42 (dk_at dksX7_mean_0 0 rfl rfl)
theorem dX7_mean_1 : decode cX7_mean 1 = .ok (.iconst 0, 1) := dk_3 (dk_at dksX7_mean_0 1 rfl rfl)
theorem dX7_mean_2 : decode cX7_mean 2 = .ok (.putfield 74, 3) := dk_181 0 74 (dk_at dksX7_mean_0 2 rfl rfl)
theorem dX7_mean_5 : decode cX7_mean 5 = .ok (.aload_n 0, 1) := dk_42 (dk_at dksX7_mean_0 5 rfl rfl)
theorem dX7_mean_6 : decode cX7_mean 6 = .ok (.iload_n 1, 1) := dk_27 (dk_at dksX7_mean_0 6 rfl rfl)
theorem dX7_mean_7 : decode cX7_mean 7 = .ok (.invokevirtual 426, 3) := dk_182 1 170 (dk_at dksX7_mean_0 7 rfl rfl)
theorem dX7_mean_10 : decode cX7_mean 10 = .ok (.ifCond .eq 31, 3) := dk_153 0 31 (dk_at dksX7_mean_0 10 rfl rfl)
theorem dX7_mean_13 : decode cX7_mean 13 = .ok (.iload_n 2, 1) := dk_28 (dk_at dksX7_mean_0 13 rfl rfl)
theorem dX7_mean_14 : decode cX7_mean 14 = .ok (.invokestatic 408, 3) := dk_184 1 152 (dk_at dksX7_mean_0 14 rfl rfl)
theorem dX7_mean_17 : decode cX7_mean 17 = .ok (.ifCond .eq 24, 3) := dk_153 0 24 (dk_at dksX7_mean_0 17 rfl rfl)
theorem dX7_mean_20 : decode cX7_mean 20 = .ok (.aload_n 0, 1) := dk_42 (dk_at dksX7_mean_0 20 rfl rfl)
theorem dX7_mean_21 : decode cX7_mean 21 = .ok (.iconst (-1), 1) := dk_2 (dk_at dksX7_mean_0 21 rfl rfl)
theorem dX7_mean_22 : decode cX7_mean 22 = .ok (.iload_n 1, 1) := dk_27 (dk_at dksX7_mean_0 22 rfl rfl)
theorem dX7_mean_23 : decode cX7_mean 23 = .ok (.iconst 0, 1) := dk_3 (dk_at dksX7_mean_0 23 rfl rfl)
theorem dX7_mean_24 : decode cX7_mean 24 = .ok (.invokevirtual 429, 3) := dk_182 1 173 (dk_at dksX7_mean_1 0 rfl rfl)
theorem dX7_mean_27 : decode cX7_mean 27 = .ok (.ldc2_w 424, 3) := dk_20 1 168 (dk_at dksX7_mean_1 3 rfl rfl)
theorem dX7_mean_30 : decode cX7_mean 30 = .ok (.iload_n 1, 1) := dk_27 (dk_at dksX7_mean_1 6 rfl rfl)
theorem dX7_mean_31 : decode cX7_mean 31 = .ok (.invokestatic 421, 3) := dk_184 1 165 (dk_at dksX7_mean_1 7 rfl rfl)
theorem dX7_mean_34 : decode cX7_mean 34 = .ok (.iload_n 2, 1) := dk_28 (dk_at dksX7_mean_1 10 rfl rfl)
theorem dX7_mean_35 : decode cX7_mean 35 = .ok (.invokestatic 411, 3) := dk_184 1 155 (dk_at dksX7_mean_1 11 rfl rfl)
theorem dX7_mean_38 : decode cX7_mean 38 = .ok (.goto 6, 3) := dk_167 0 6 (dk_at dksX7_mean_1 14 rfl rfl)
theorem dX7_mean_41 : decode cX7_mean 41 = .ok (.ldc2_w 433, 3) := dk_20 1 177 (dk_at dksX7_mean_1 17 rfl rfl)
theorem dX7_mean_44 : decode cX7_mean 44 = .ok (.lreturn, 1) := dk_173 (dk_at dksX7_mean_1 20 rfl rfl)
abbrev cX7_drawn : ByteArray := prog_12_method_146_code
def yX7_drawn : MethodName := ⟨RX7, "drawn", "(II)I"⟩
def dkwX7_drawn_2 : List UInt8 := [42, 182, 0, 243, 182, 1, 87, 172]
abbrev dktX7_drawn_2 : List UInt8 := dkwX7_drawn_2 ++ []
def dkwX7_drawn_1 : List UInt8 := [154, 0, 6, 16, 254, 172, 42, 27, 133, 182, 1, 192, 28, 154, 0, 10, 42, 180, 0, 255, 167, 0, 11, 42]
abbrev dktX7_drawn_1 : List UInt8 := dkwX7_drawn_1 ++ dktX7_drawn_2
def dkwX7_drawn_0 : List UInt8 := [42, 3, 181, 0, 74, 42, 182, 0, 240, 153, 0, 17, 27, 184, 1, 189, 153, 0, 10, 28, 184, 1, 152]
abbrev dktX7_drawn_0 : List UInt8 := dkwX7_drawn_0 ++ dktX7_drawn_1
theorem dksX7_drawn_0 : cX7_drawn.data.toList.drop 0 = dktX7_drawn_0 := by decide +kernel
theorem dksX7_drawn_1 : cX7_drawn.data.toList.drop 23 = dktX7_drawn_1 := dk_seg dksX7_drawn_0 23 rfl rfl
theorem dksX7_drawn_2 : cX7_drawn.data.toList.drop 47 = dktX7_drawn_2 := dk_seg dksX7_drawn_1 24 rfl rfl
theorem dX7_drawn_0 : decode cX7_drawn 0 = .ok (.aload_n 0, 1) := dk_42 (dk_at dksX7_drawn_0 0 rfl rfl)
theorem dX7_drawn_1 : decode cX7_drawn 1 = .ok (.iconst 0, 1) := dk_3 (dk_at dksX7_drawn_0 1 rfl rfl)
theorem dX7_drawn_2 : decode cX7_drawn 2 = .ok (.putfield 74, 3) := dk_181 0 74 (dk_at dksX7_drawn_0 2 rfl rfl)
theorem dX7_drawn_5 : decode cX7_drawn 5 = .ok (.aload_n 0, 1) := dk_42 (dk_at dksX7_drawn_0 5 rfl rfl)
theorem dX7_drawn_6 : decode cX7_drawn 6 = .ok (.invokevirtual 240, 3) := dk_182 0 240 (dk_at dksX7_drawn_0 6 rfl rfl)
theorem dX7_drawn_9 : decode cX7_drawn 9 = .ok (.ifCond .eq 17, 3) := dk_153 0 17 (dk_at dksX7_drawn_0 9 rfl rfl)
theorem dX7_drawn_12 : decode cX7_drawn 12 = .ok (.iload_n 1, 1) := dk_27 (dk_at dksX7_drawn_0 12 rfl rfl)
theorem dX7_drawn_13 : decode cX7_drawn 13 = .ok (.invokestatic 445, 3) := dk_184 1 189 (dk_at dksX7_drawn_0 13 rfl rfl)
theorem dX7_drawn_16 : decode cX7_drawn 16 = .ok (.ifCond .eq 10, 3) := dk_153 0 10 (dk_at dksX7_drawn_0 16 rfl rfl)
theorem dX7_drawn_19 : decode cX7_drawn 19 = .ok (.iload_n 2, 1) := dk_28 (dk_at dksX7_drawn_0 19 rfl rfl)
theorem dX7_drawn_20 : decode cX7_drawn 20 = .ok (.invokestatic 408, 3) := dk_184 1 152 (dk_at dksX7_drawn_0 20 rfl rfl)
theorem dX7_drawn_23 : decode cX7_drawn 23 = .ok (.ifCond .ne 6, 3) := dk_154 0 6 (dk_at dksX7_drawn_1 0 rfl rfl)
theorem dX7_drawn_26 : decode cX7_drawn 26 = .ok (.bipush (-2), 2) := dk_16 254 (dk_at dksX7_drawn_1 3 rfl rfl)
theorem dX7_drawn_28 : decode cX7_drawn 28 = .ok (.ireturn, 1) := dk_172 (dk_at dksX7_drawn_1 5 rfl rfl)
theorem dX7_drawn_29 : decode cX7_drawn 29 = .ok (.aload_n 0, 1) := dk_42 (dk_at dksX7_drawn_1 6 rfl rfl)
theorem dX7_drawn_30 : decode cX7_drawn 30 = .ok (.iload_n 1, 1) := dk_27 (dk_at dksX7_drawn_1 7 rfl rfl)
theorem dX7_drawn_31 : decode cX7_drawn 31 = .ok (.i2l, 1) := dk_133 (dk_at dksX7_drawn_1 8 rfl rfl)
theorem dX7_drawn_32 : decode cX7_drawn 32 = .ok (.invokevirtual 448, 3) := dk_182 1 192 (dk_at dksX7_drawn_1 9 rfl rfl)
theorem dX7_drawn_35 : decode cX7_drawn 35 = .ok (.iload_n 2, 1) := dk_28 (dk_at dksX7_drawn_1 12 rfl rfl)
theorem dX7_drawn_36 : decode cX7_drawn 36 = .ok (.ifCond .ne 10, 3) := dk_154 0 10 (dk_at dksX7_drawn_1 13 rfl rfl)
theorem dX7_drawn_39 : decode cX7_drawn 39 = .ok (.aload_n 0, 1) := dk_42 (dk_at dksX7_drawn_1 16 rfl rfl)
theorem dX7_drawn_40 : decode cX7_drawn 40 = .ok (.getfield 255, 3) := dk_180 0 255 (dk_at dksX7_drawn_1 17 rfl rfl)
theorem dX7_drawn_43 : decode cX7_drawn 43 = .ok (.goto 11, 3) := dk_167 0 11 (dk_at dksX7_drawn_1 20 rfl rfl)
theorem dX7_drawn_46 : decode cX7_drawn 46 = .ok (.aload_n 0, 1) := dk_42 (dk_at dksX7_drawn_1 23 rfl rfl)
theorem dX7_drawn_47 : decode cX7_drawn 47 = .ok (.aload_n 0, 1) := dk_42 (dk_at dksX7_drawn_2 0 rfl rfl)
theorem dX7_drawn_48 : decode cX7_drawn 48 = .ok (.invokevirtual 243, 3) := dk_182 0 243 (dk_at dksX7_drawn_2 1 rfl rfl)
theorem dX7_drawn_51 : decode cX7_drawn 51 = .ok (.invokevirtual 343, 3) := dk_182 1 87 (dk_at dksX7_drawn_2 4 rfl rfl)
theorem dX7_drawn_54 : decode cX7_drawn 54 = .ok (.ireturn, 1) := dk_172 (dk_at dksX7_drawn_2 7 rfl rfl)
abbrev cX7_isSeed : ByteArray := prog_12_method_145_code
def yX7_isSeed : MethodName := ⟨RX7, "isSeed", "(I)Z"⟩
def dkwX7_isSeed_0 : List UInt8 := [26, 133, 9, 20, 1, 187, 184, 0, 79, 172]
abbrev dktX7_isSeed_0 : List UInt8 := dkwX7_isSeed_0 ++ []
theorem dksX7_isSeed_0 : cX7_isSeed.data.toList.drop 0 = dktX7_isSeed_0 := by decide +kernel
theorem dX7_isSeed_0 : decode cX7_isSeed 0 = .ok (.iload_n 0, 1) := dk_26 (dk_at dksX7_isSeed_0 0 rfl rfl)
theorem dX7_isSeed_1 : decode cX7_isSeed 1 = .ok (.i2l, 1) := dk_133 (dk_at dksX7_isSeed_0 1 rfl rfl)
theorem dX7_isSeed_2 : decode cX7_isSeed 2 = .ok (.lconst 0, 1) := dk_9 (dk_at dksX7_isSeed_0 2 rfl rfl)
theorem dX7_isSeed_3 : decode cX7_isSeed 3 = .ok (.ldc2_w 443, 3) := dk_20 1 187 (dk_at dksX7_isSeed_0 3 rfl rfl)
theorem dX7_isSeed_6 : decode cX7_isSeed 6 = .ok (.invokestatic 79, 3) := dk_184 0 79 (dk_at dksX7_isSeed_0 6 rfl rfl)
theorem dX7_isSeed_9 : decode cX7_isSeed 9 = .ok (.ireturn, 1) := dk_172 (dk_at dksX7_isSeed_0 9 rfl rfl)
abbrev cX7_draws : ByteArray := prog_12_method_144_code
def yX7_draws : MethodName := ⟨RX7, "draws", "(J)V"⟩
def dkwX7_draws_3 : List UInt8 := [132, 5, 1, 167, 255, 193, 42, 182, 1, 62, 177]
abbrev dktX7_draws_3 : List UInt8 := dkwX7_draws_3 ++ []
def dkwX7_draws_2 : List UInt8 := [180, 0, 34, 5, 46, 133, 148, 156, 0, 10, 4, 21, 5, 120, 167, 0, 4, 3, 128, 181, 0, 255]
abbrev dktX7_draws_2 : List UInt8 := dkwX7_draws_2 ++ dktX7_draws_3
def dkwX7_draws_1 : List UInt8 := [20, 1, 181, 97, 20, 1, 183, 113, 66, 42, 89, 180, 0, 255, 33, 20, 1, 185, 109, 20, 1, 168, 113, 42]
abbrev dktX7_draws_1 : List UInt8 := dkwX7_draws_1 ++ dktX7_draws_2
def dkwX7_draws_0 : List UInt8 := [42, 182, 1, 59, 31, 66, 3, 54, 5, 21, 5, 42, 182, 0, 243, 162, 0, 60, 20, 1, 179, 33, 105]
abbrev dktX7_draws_0 : List UInt8 := dkwX7_draws_0 ++ dktX7_draws_1
theorem dksX7_draws_0 : cX7_draws.data.toList.drop 0 = dktX7_draws_0 := by decide +kernel
theorem dksX7_draws_1 : cX7_draws.data.toList.drop 23 = dktX7_draws_1 := dk_seg dksX7_draws_0 23 rfl rfl
theorem dksX7_draws_2 : cX7_draws.data.toList.drop 47 = dktX7_draws_2 := dk_seg dksX7_draws_1 24 rfl rfl
theorem dksX7_draws_3 : cX7_draws.data.toList.drop 69 = dktX7_draws_3 := dk_seg dksX7_draws_2 22 rfl rfl
theorem dX7_draws_0 : decode cX7_draws 0 = .ok (.aload_n 0, 1) := dk_42 (dk_at dksX7_draws_0 0 rfl rfl)
theorem dX7_draws_1 : decode cX7_draws 1 = .ok (.invokevirtual 315, 3) := dk_182 1 59 (dk_at dksX7_draws_0 1 rfl rfl)
theorem dX7_draws_4 : decode cX7_draws 4 = .ok (.lload_n 1, 1) := dk_31 (dk_at dksX7_draws_0 4 rfl rfl)
theorem dX7_draws_5 : decode cX7_draws 5 = .ok (.lstore_n 3, 1) := dk_66 (dk_at dksX7_draws_0 5 rfl rfl)
theorem dX7_draws_6 : decode cX7_draws 6 = .ok (.iconst 0, 1) := dk_3 (dk_at dksX7_draws_0 6 rfl rfl)
theorem dX7_draws_7 : decode cX7_draws 7 = .ok (.istore 5, 2) := dk_54 5 (dk_at dksX7_draws_0 7 rfl rfl)
theorem dX7_draws_9 : decode cX7_draws 9 = .ok (.iload 5, 2) := dk_21 5 (dk_at dksX7_draws_0 9 rfl rfl)
theorem dX7_draws_11 : decode cX7_draws 11 = .ok (.aload_n 0, 1) := dk_42 (dk_at dksX7_draws_0 11 rfl rfl)
theorem dX7_draws_12 : decode cX7_draws 12 = .ok (.invokevirtual 243, 3) := dk_182 0 243 (dk_at dksX7_draws_0 12 rfl rfl)
theorem dX7_draws_15 : decode cX7_draws 15 = .ok (.if_icmp .ge 60, 3) := dk_162 0 60 (dk_at dksX7_draws_0 15 rfl rfl)
theorem dX7_draws_18 : decode cX7_draws 18 = .ok (.ldc2_w 435, 3) := dk_20 1 179 (dk_at dksX7_draws_0 18 rfl rfl)
theorem dX7_draws_21 : decode cX7_draws 21 = .ok (.lload_n 3, 1) := dk_33 (dk_at dksX7_draws_0 21 rfl rfl)
theorem dX7_draws_22 : decode cX7_draws 22 = .ok (.lmul, 1) := dk_105 (dk_at dksX7_draws_0 22 rfl rfl)
theorem dX7_draws_23 : decode cX7_draws 23 = .ok (.ldc2_w 437, 3) := dk_20 1 181 (dk_at dksX7_draws_1 0 rfl rfl)
theorem dX7_draws_26 : decode cX7_draws 26 = .ok (.ladd, 1) := dk_97 (dk_at dksX7_draws_1 3 rfl rfl)
theorem dX7_draws_27 : decode cX7_draws 27 = .ok (.ldc2_w 439, 3) := dk_20 1 183 (dk_at dksX7_draws_1 4 rfl rfl)
theorem dX7_draws_30 : decode cX7_draws 30 = .ok (.lrem, 1) := dk_113 (dk_at dksX7_draws_1 7 rfl rfl)
theorem dX7_draws_31 : decode cX7_draws 31 = .ok (.lstore_n 3, 1) := dk_66 (dk_at dksX7_draws_1 8 rfl rfl)
theorem dX7_draws_32 : decode cX7_draws 32 = .ok (.aload_n 0, 1) := dk_42 (dk_at dksX7_draws_1 9 rfl rfl)
theorem dX7_draws_33 : decode cX7_draws 33 = .ok (.dup, 1) := dk_89 (dk_at dksX7_draws_1 10 rfl rfl)
theorem dX7_draws_34 : decode cX7_draws 34 = .ok (.getfield 255, 3) := dk_180 0 255 (dk_at dksX7_draws_1 11 rfl rfl)
theorem dX7_draws_37 : decode cX7_draws 37 = .ok (.lload_n 3, 1) := dk_33 (dk_at dksX7_draws_1 14 rfl rfl)
theorem dX7_draws_38 : decode cX7_draws 38 = .ok (.ldc2_w 441, 3) := dk_20 1 185 (dk_at dksX7_draws_1 15 rfl rfl)
theorem dX7_draws_41 : decode cX7_draws 41 = .ok (.ldiv, 1) := dk_109 (dk_at dksX7_draws_1 18 rfl rfl)
theorem dX7_draws_42 : decode cX7_draws 42 = .ok (.ldc2_w 424, 3) := dk_20 1 168 (dk_at dksX7_draws_1 19 rfl rfl)
theorem dX7_draws_45 : decode cX7_draws 45 = .ok (.lrem, 1) := dk_113 (dk_at dksX7_draws_1 22 rfl rfl)
theorem dX7_draws_46 : decode cX7_draws 46 = .ok (.aload_n 0, 1) := dk_42 (dk_at dksX7_draws_1 23 rfl rfl)
theorem dX7_draws_47 : decode cX7_draws 47 = .ok (.getfield 34, 3) := dk_180 0 34 (dk_at dksX7_draws_2 0 rfl rfl)
theorem dX7_draws_50 : decode cX7_draws 50 = .ok (.iconst 2, 1) := dk_5 (dk_at dksX7_draws_2 3 rfl rfl)
theorem dX7_draws_51 : decode cX7_draws 51 = .ok (.iaload, 1) := dk_46 (dk_at dksX7_draws_2 4 rfl rfl)
theorem dX7_draws_52 : decode cX7_draws 52 = .ok (.i2l, 1) := dk_133 (dk_at dksX7_draws_2 5 rfl rfl)
theorem dX7_draws_53 : decode cX7_draws 53 = .ok (.lcmp, 1) := dk_148 (dk_at dksX7_draws_2 6 rfl rfl)
theorem dX7_draws_54 : decode cX7_draws 54 = .ok (.ifCond .ge 10, 3) := dk_156 0 10 (dk_at dksX7_draws_2 7 rfl rfl)
theorem dX7_draws_57 : decode cX7_draws 57 = .ok (.iconst 1, 1) := dk_4 (dk_at dksX7_draws_2 10 rfl rfl)
theorem dX7_draws_58 : decode cX7_draws 58 = .ok (.iload 5, 2) := dk_21 5 (dk_at dksX7_draws_2 11 rfl rfl)
theorem dX7_draws_60 : decode cX7_draws 60 = .ok (.ishl, 1) := dk_120 (dk_at dksX7_draws_2 13 rfl rfl)
theorem dX7_draws_61 : decode cX7_draws 61 = .ok (.goto 4, 3) := dk_167 0 4 (dk_at dksX7_draws_2 14 rfl rfl)
theorem dX7_draws_64 : decode cX7_draws 64 = .ok (.iconst 0, 1) := dk_3 (dk_at dksX7_draws_2 17 rfl rfl)
theorem dX7_draws_65 : decode cX7_draws 65 = .ok (.ior, 1) := dk_128 (dk_at dksX7_draws_2 18 rfl rfl)
theorem dX7_draws_66 : decode cX7_draws 66 = .ok (.putfield 255, 3) := dk_181 0 255 (dk_at dksX7_draws_2 19 rfl rfl)
theorem dX7_draws_69 : decode cX7_draws 69 = .ok (.iinc 5 1, 3) := dk_132 5 1 (dk_at dksX7_draws_3 0 rfl rfl)
theorem dX7_draws_72 : decode cX7_draws 72 = .ok (.goto (-63), 3) := dk_167 255 193 (dk_at dksX7_draws_3 3 rfl rfl)
theorem dX7_draws_75 : decode cX7_draws 75 = .ok (.aload_n 0, 1) := dk_42 (dk_at dksX7_draws_3 6 rfl rfl)
theorem dX7_draws_76 : decode cX7_draws 76 = .ok (.invokevirtual 318, 3) := dk_182 1 62 (dk_at dksX7_draws_3 7 rfl rfl)
theorem dX7_draws_79 : decode cX7_draws 79 = .ok (.return_, 1) := dk_177 (dk_at dksX7_draws_3 10 rfl rfl)
abbrev cX7_luck : ByteArray := prog_12_method_147_code
def yX7_luck : MethodName := ⟨RX7, "luck", "(III)I"⟩
def dkwX7_luck_3 : List UInt8 := [167, 0, 4, 3, 96, 54, 4, 132, 5, 1, 167, 255, 218, 21, 4, 172]
abbrev dktX7_luck_3 : List UInt8 := dkwX7_luck_3 ++ []
def dkwX7_luck_2 : List UInt8 := [42, 27, 133, 21, 5, 133, 97, 182, 1, 192, 21, 4, 42, 29, 182, 1, 142, 8, 161, 0, 7, 4]
abbrev dktX7_luck_2 : List UInt8 := dkwX7_luck_2 ++ dktX7_luck_3
def dkwX7_luck_1 : List UInt8 := [42, 29, 133, 182, 0, 246, 154, 0, 6, 16, 254, 172, 3, 54, 4, 3, 54, 5, 21, 5, 28, 162, 0, 38]
abbrev dktX7_luck_1 : List UInt8 := dkwX7_luck_1 ++ dktX7_luck_2
def dkwX7_luck_0 : List UInt8 := [42, 3, 181, 0, 74, 27, 184, 1, 189, 153, 0, 24, 28, 133, 10, 20, 1, 140, 184, 0, 79, 153, 0, 12]
abbrev dktX7_luck_0 : List UInt8 := dkwX7_luck_0 ++ dktX7_luck_1
theorem dksX7_luck_0 : cX7_luck.data.toList.drop 0 = dktX7_luck_0 := by decide +kernel
theorem dksX7_luck_1 : cX7_luck.data.toList.drop 24 = dktX7_luck_1 := dk_seg dksX7_luck_0 24 rfl rfl
theorem dksX7_luck_2 : cX7_luck.data.toList.drop 48 = dktX7_luck_2 := dk_seg dksX7_luck_1 24 rfl rfl
theorem dksX7_luck_3 : cX7_luck.data.toList.drop 70 = dktX7_luck_3 := dk_seg dksX7_luck_2 22 rfl rfl
theorem dX7_luck_0 : decode cX7_luck 0 = .ok (.aload_n 0, 1) := dk_42 (dk_at dksX7_luck_0 0 rfl rfl)
theorem dX7_luck_1 : decode cX7_luck 1 = .ok (.iconst 0, 1) := dk_3 (dk_at dksX7_luck_0 1 rfl rfl)
theorem dX7_luck_2 : decode cX7_luck 2 = .ok (.putfield 74, 3) := dk_181 0 74 (dk_at dksX7_luck_0 2 rfl rfl)
theorem dX7_luck_5 : decode cX7_luck 5 = .ok (.iload_n 1, 1) := dk_27 (dk_at dksX7_luck_0 5 rfl rfl)
theorem dX7_luck_6 : decode cX7_luck 6 = .ok (.invokestatic 445, 3) := dk_184 1 189 (dk_at dksX7_luck_0 6 rfl rfl)
theorem dX7_luck_9 : decode cX7_luck 9 = .ok (.ifCond .eq 24, 3) := dk_153 0 24 (dk_at dksX7_luck_0 9 rfl rfl)
theorem dX7_luck_12 : decode cX7_luck 12 = .ok (.iload_n 2, 1) := dk_28 (dk_at dksX7_luck_0 12 rfl rfl)
theorem dX7_luck_13 : decode cX7_luck 13 = .ok (.i2l, 1) := dk_133 (dk_at dksX7_luck_0 13 rfl rfl)
theorem dX7_luck_14 : decode cX7_luck 14 = .ok (.lconst 1, 1) := dk_10 (dk_at dksX7_luck_0 14 rfl rfl)
theorem dX7_luck_15 : decode cX7_luck 15 = .ok (.ldc2_w 396, 3) := dk_20 1 140 (dk_at dksX7_luck_0 15 rfl rfl)
theorem dX7_luck_18 : decode cX7_luck 18 = .ok (.invokestatic 79, 3) := dk_184 0 79 (dk_at dksX7_luck_0 18 rfl rfl)
theorem dX7_luck_21 : decode cX7_luck 21 = .ok (.ifCond .eq 12, 3) := dk_153 0 12 (dk_at dksX7_luck_0 21 rfl rfl)
theorem dX7_luck_24 : decode cX7_luck 24 = .ok (.aload_n 0, 1) := dk_42 (dk_at dksX7_luck_1 0 rfl rfl)
theorem dX7_luck_25 : decode cX7_luck 25 = .ok (.iload_n 3, 1) := dk_29 (dk_at dksX7_luck_1 1 rfl rfl)
theorem dX7_luck_26 : decode cX7_luck 26 = .ok (.i2l, 1) := dk_133 (dk_at dksX7_luck_1 2 rfl rfl)
theorem dX7_luck_27 : decode cX7_luck 27 = .ok (.invokevirtual 246, 3) := dk_182 0 246 (dk_at dksX7_luck_1 3 rfl rfl)
theorem dX7_luck_30 : decode cX7_luck 30 = .ok (.ifCond .ne 6, 3) := dk_154 0 6 (dk_at dksX7_luck_1 6 rfl rfl)
theorem dX7_luck_33 : decode cX7_luck 33 = .ok (.bipush (-2), 2) := dk_16 254 (dk_at dksX7_luck_1 9 rfl rfl)
theorem dX7_luck_35 : decode cX7_luck 35 = .ok (.ireturn, 1) := dk_172 (dk_at dksX7_luck_1 11 rfl rfl)
theorem dX7_luck_36 : decode cX7_luck 36 = .ok (.iconst 0, 1) := dk_3 (dk_at dksX7_luck_1 12 rfl rfl)
theorem dX7_luck_37 : decode cX7_luck 37 = .ok (.istore 4, 2) := dk_54 4 (dk_at dksX7_luck_1 13 rfl rfl)
theorem dX7_luck_39 : decode cX7_luck 39 = .ok (.iconst 0, 1) := dk_3 (dk_at dksX7_luck_1 15 rfl rfl)
theorem dX7_luck_40 : decode cX7_luck 40 = .ok (.istore 5, 2) := dk_54 5 (dk_at dksX7_luck_1 16 rfl rfl)
theorem dX7_luck_42 : decode cX7_luck 42 = .ok (.iload 5, 2) := dk_21 5 (dk_at dksX7_luck_1 18 rfl rfl)
theorem dX7_luck_44 : decode cX7_luck 44 = .ok (.iload_n 2, 1) := dk_28 (dk_at dksX7_luck_1 20 rfl rfl)
theorem dX7_luck_45 : decode cX7_luck 45 = .ok (.if_icmp .ge 38, 3) := dk_162 0 38 (dk_at dksX7_luck_1 21 rfl rfl)
theorem dX7_luck_48 : decode cX7_luck 48 = .ok (.aload_n 0, 1) := dk_42 (dk_at dksX7_luck_2 0 rfl rfl)
theorem dX7_luck_49 : decode cX7_luck 49 = .ok (.iload_n 1, 1) := dk_27 (dk_at dksX7_luck_2 1 rfl rfl)
theorem dX7_luck_50 : decode cX7_luck 50 = .ok (.i2l, 1) := dk_133 (dk_at dksX7_luck_2 2 rfl rfl)
theorem dX7_luck_51 : decode cX7_luck 51 = .ok (.iload 5, 2) := dk_21 5 (dk_at dksX7_luck_2 3 rfl rfl)
theorem dX7_luck_53 : decode cX7_luck 53 = .ok (.i2l, 1) := dk_133 (dk_at dksX7_luck_2 5 rfl rfl)
theorem dX7_luck_54 : decode cX7_luck 54 = .ok (.ladd, 1) := dk_97 (dk_at dksX7_luck_2 6 rfl rfl)
theorem dX7_luck_55 : decode cX7_luck 55 = .ok (.invokevirtual 448, 3) := dk_182 1 192 (dk_at dksX7_luck_2 7 rfl rfl)
theorem dX7_luck_58 : decode cX7_luck 58 = .ok (.iload 4, 2) := dk_21 4 (dk_at dksX7_luck_2 10 rfl rfl)
theorem dX7_luck_60 : decode cX7_luck 60 = .ok (.aload_n 0, 1) := dk_42 (dk_at dksX7_luck_2 12 rfl rfl)
theorem dX7_luck_61 : decode cX7_luck 61 = .ok (.iload_n 3, 1) := dk_29 (dk_at dksX7_luck_2 13 rfl rfl)
theorem dX7_luck_62 : decode cX7_luck 62 = .ok (.invokevirtual 398, 3) := dk_182 1 142 (dk_at dksX7_luck_2 14 rfl rfl)
theorem dX7_luck_65 : decode cX7_luck 65 = .ok (.iconst 5, 1) := dk_8 (dk_at dksX7_luck_2 17 rfl rfl)
theorem dX7_luck_66 : decode cX7_luck 66 = .ok (.if_icmp .lt 7, 3) := dk_161 0 7 (dk_at dksX7_luck_2 18 rfl rfl)
theorem dX7_luck_69 : decode cX7_luck 69 = .ok (.iconst 1, 1) := dk_4 (dk_at dksX7_luck_2 21 rfl rfl)
theorem dX7_luck_70 : decode cX7_luck 70 = .ok (.goto 4, 3) := dk_167 0 4 (dk_at dksX7_luck_3 0 rfl rfl)
theorem dX7_luck_73 : decode cX7_luck 73 = .ok (.iconst 0, 1) := dk_3 (dk_at dksX7_luck_3 3 rfl rfl)
theorem dX7_luck_74 : decode cX7_luck 74 = .ok (.iadd, 1) := dk_96 (dk_at dksX7_luck_3 4 rfl rfl)
theorem dX7_luck_75 : decode cX7_luck 75 = .ok (.istore 4, 2) := dk_54 4 (dk_at dksX7_luck_3 5 rfl rfl)
theorem dX7_luck_77 : decode cX7_luck 77 = .ok (.iinc 5 1, 3) := dk_132 5 1 (dk_at dksX7_luck_3 7 rfl rfl)
theorem dX7_luck_80 : decode cX7_luck 80 = .ok (.goto (-38), 3) := dk_167 255 218 (dk_at dksX7_luck_3 10 rfl rfl)
theorem dX7_luck_83 : decode cX7_luck 83 = .ok (.iload 4, 2) := dk_21 4 (dk_at dksX7_luck_3 13 rfl rfl)
theorem dX7_luck_85 : decode cX7_luck 85 = .ok (.ireturn, 1) := dk_172 (dk_at dksX7_luck_3 15 rfl rfl)
abbrev cX7_retraces : ByteArray := prog_12_method_149_code
def yX7_retraces : MethodName := ⟨RX7, "retraces", "(III)I"⟩
def dkwX7_retraces_2 : List UInt8 := [42, 182, 1, 81, 42, 27, 182, 1, 142, 172]
abbrev dktX7_retraces_2 : List UInt8 := dkwX7_retraces_2 ++ []
def dkwX7_retraces_1 : List UInt8 := [172, 42, 180, 0, 34, 16, 6, 46, 16, 30, 160, 0, 6, 16, 251, 172, 42, 3, 27, 28, 29, 182, 1, 195]
abbrev dktX7_retraces_1 : List UInt8 := dkwX7_retraces_1 ++ dktX7_retraces_2
def dkwX7_retraces_0 : List UInt8 := [42, 3, 181, 0, 74, 42, 27, 29, 182, 1, 78, 153, 0, 11, 42, 28, 182, 1, 65, 154, 0, 6, 16, 254]
abbrev dktX7_retraces_0 : List UInt8 := dkwX7_retraces_0 ++ dktX7_retraces_1
theorem dksX7_retraces_0 : cX7_retraces.data.toList.drop 0 = dktX7_retraces_0 := by decide +kernel
theorem dksX7_retraces_1 : cX7_retraces.data.toList.drop 24 = dktX7_retraces_1 := dk_seg dksX7_retraces_0 24 rfl rfl
theorem dksX7_retraces_2 : cX7_retraces.data.toList.drop 48 = dktX7_retraces_2 := dk_seg dksX7_retraces_1 24 rfl rfl
theorem dX7_retraces_0 : decode cX7_retraces 0 = .ok (.aload_n 0, 1) := dk_42 (dk_at dksX7_retraces_0 0 rfl rfl)
theorem dX7_retraces_1 : decode cX7_retraces 1 = .ok (.iconst 0, 1) := dk_3 (dk_at dksX7_retraces_0 1 rfl rfl)
theorem dX7_retraces_2 : decode cX7_retraces 2 = .ok (.putfield 74, 3) := dk_181 0 74 (dk_at dksX7_retraces_0 2 rfl rfl)
theorem dX7_retraces_5 : decode cX7_retraces 5 = .ok (.aload_n 0, 1) := dk_42 (dk_at dksX7_retraces_0 5 rfl rfl)
theorem dX7_retraces_6 : decode cX7_retraces 6 = .ok (.iload_n 1, 1) := dk_27 (dk_at dksX7_retraces_0 6 rfl rfl)
theorem dX7_retraces_7 : decode cX7_retraces 7 = .ok (.iload_n 3, 1) := dk_29 (dk_at dksX7_retraces_0 7 rfl rfl)
theorem dX7_retraces_8 : decode cX7_retraces 8 = .ok (.invokevirtual 334, 3) := dk_182 1 78 (dk_at dksX7_retraces_0 8 rfl rfl)
theorem dX7_retraces_11 : decode cX7_retraces 11 = .ok (.ifCond .eq 11, 3) := dk_153 0 11 (dk_at dksX7_retraces_0 11 rfl rfl)
theorem dX7_retraces_14 : decode cX7_retraces 14 = .ok (.aload_n 0, 1) := dk_42 (dk_at dksX7_retraces_0 14 rfl rfl)
theorem dX7_retraces_15 : decode cX7_retraces 15 = .ok (.iload_n 2, 1) := dk_28 (dk_at dksX7_retraces_0 15 rfl rfl)
theorem dX7_retraces_16 : decode cX7_retraces 16 = .ok (.invokevirtual 321, 3) := dk_182 1 65 (dk_at dksX7_retraces_0 16 rfl rfl)
theorem dX7_retraces_19 : decode cX7_retraces 19 = .ok (.ifCond .ne 6, 3) := dk_154 0 6 (dk_at dksX7_retraces_0 19 rfl rfl)
theorem dX7_retraces_22 : decode cX7_retraces 22 = .ok (.bipush (-2), 2) := dk_16 254 (dk_at dksX7_retraces_0 22 rfl rfl)
theorem dX7_retraces_24 : decode cX7_retraces 24 = .ok (.ireturn, 1) := dk_172 (dk_at dksX7_retraces_1 0 rfl rfl)
theorem dX7_retraces_25 : decode cX7_retraces 25 = .ok (.aload_n 0, 1) := dk_42 (dk_at dksX7_retraces_1 1 rfl rfl)
theorem dX7_retraces_26 : decode cX7_retraces 26 = .ok (.getfield 34, 3) := dk_180 0 34 (dk_at dksX7_retraces_1 2 rfl rfl)
theorem dX7_retraces_29 : decode cX7_retraces 29 = .ok (.bipush 6, 2) := dk_16 6 (dk_at dksX7_retraces_1 5 rfl rfl)
theorem dX7_retraces_31 : decode cX7_retraces 31 = .ok (.iaload, 1) := dk_46 (dk_at dksX7_retraces_1 7 rfl rfl)
theorem dX7_retraces_32 : decode cX7_retraces 32 = .ok (.bipush 30, 2) := dk_16 30 (dk_at dksX7_retraces_1 8 rfl rfl)
theorem dX7_retraces_34 : decode cX7_retraces 34 = .ok (.if_icmp .ne 6, 3) := dk_160 0 6 (dk_at dksX7_retraces_1 10 rfl rfl)
theorem dX7_retraces_37 : decode cX7_retraces 37 = .ok (.bipush (-5), 2) := dk_16 251 (dk_at dksX7_retraces_1 13 rfl rfl)
theorem dX7_retraces_39 : decode cX7_retraces 39 = .ok (.ireturn, 1) := dk_172 (dk_at dksX7_retraces_1 15 rfl rfl)
theorem dX7_retraces_40 : decode cX7_retraces 40 = .ok (.aload_n 0, 1) := dk_42 (dk_at dksX7_retraces_1 16 rfl rfl)
theorem dX7_retraces_41 : decode cX7_retraces 41 = .ok (.iconst 0, 1) := dk_3 (dk_at dksX7_retraces_1 17 rfl rfl)
theorem dX7_retraces_42 : decode cX7_retraces 42 = .ok (.iload_n 1, 1) := dk_27 (dk_at dksX7_retraces_1 18 rfl rfl)
theorem dX7_retraces_43 : decode cX7_retraces 43 = .ok (.iload_n 2, 1) := dk_28 (dk_at dksX7_retraces_1 19 rfl rfl)
theorem dX7_retraces_44 : decode cX7_retraces 44 = .ok (.iload_n 3, 1) := dk_29 (dk_at dksX7_retraces_1 20 rfl rfl)
theorem dX7_retraces_45 : decode cX7_retraces 45 = .ok (.invokevirtual 451, 3) := dk_182 1 195 (dk_at dksX7_retraces_1 21 rfl rfl)
theorem dX7_retraces_48 : decode cX7_retraces 48 = .ok (.aload_n 0, 1) := dk_42 (dk_at dksX7_retraces_2 0 rfl rfl)
theorem dX7_retraces_49 : decode cX7_retraces 49 = .ok (.invokevirtual 337, 3) := dk_182 1 81 (dk_at dksX7_retraces_2 1 rfl rfl)
theorem dX7_retraces_52 : decode cX7_retraces 52 = .ok (.aload_n 0, 1) := dk_42 (dk_at dksX7_retraces_2 4 rfl rfl)
theorem dX7_retraces_53 : decode cX7_retraces 53 = .ok (.iload_n 1, 1) := dk_27 (dk_at dksX7_retraces_2 5 rfl rfl)
theorem dX7_retraces_54 : decode cX7_retraces 54 = .ok (.invokevirtual 398, 3) := dk_182 1 142 (dk_at dksX7_retraces_2 6 rfl rfl)
theorem dX7_retraces_57 : decode cX7_retraces 57 = .ok (.ireturn, 1) := dk_172 (dk_at dksX7_retraces_2 9 rfl rfl)
abbrev cX7_does : ByteArray := prog_12_method_148_code
def yX7_does : MethodName := ⟨RX7, "does", "(IIII)V"⟩
def dkwX7_does_2 : List UInt8 := [21, 4, 79, 42, 180, 0, 34, 16, 6, 92, 46, 4, 96, 79, 177]
abbrev dktX7_does_2 : List UInt8 := dkwX7_does_2 ++ []
def dkwX7_does_1 : List UInt8 := [21, 5, 4, 96, 28, 79, 42, 180, 0, 46, 21, 5, 5, 96, 29, 79, 42, 180, 0, 46, 21, 5, 6, 96]
abbrev dktX7_does_1 : List UInt8 := dkwX7_does_1 ++ dktX7_does_2
def dkwX7_does_0 : List UInt8 := [7, 42, 180, 0, 34, 16, 6, 46, 104, 54, 5, 42, 180, 0, 46, 21, 5, 27, 79, 42, 180, 0, 46]
abbrev dktX7_does_0 : List UInt8 := dkwX7_does_0 ++ dktX7_does_1
theorem dksX7_does_0 : cX7_does.data.toList.drop 0 = dktX7_does_0 := by decide +kernel
theorem dksX7_does_1 : cX7_does.data.toList.drop 23 = dktX7_does_1 := dk_seg dksX7_does_0 23 rfl rfl
theorem dksX7_does_2 : cX7_does.data.toList.drop 47 = dktX7_does_2 := dk_seg dksX7_does_1 24 rfl rfl
theorem dX7_does_0 : decode cX7_does 0 = .ok (.iconst 4, 1) := dk_7 (dk_at dksX7_does_0 0 rfl rfl)
theorem dX7_does_1 : decode cX7_does 1 = .ok (.aload_n 0, 1) := dk_42 (dk_at dksX7_does_0 1 rfl rfl)
theorem dX7_does_2 : decode cX7_does 2 = .ok (.getfield 34, 3) := dk_180 0 34 (dk_at dksX7_does_0 2 rfl rfl)
theorem dX7_does_5 : decode cX7_does 5 = .ok (.bipush 6, 2) := dk_16 6 (dk_at dksX7_does_0 5 rfl rfl)
theorem dX7_does_7 : decode cX7_does 7 = .ok (.iaload, 1) := dk_46 (dk_at dksX7_does_0 7 rfl rfl)
theorem dX7_does_8 : decode cX7_does 8 = .ok (.imul, 1) := dk_104 (dk_at dksX7_does_0 8 rfl rfl)
theorem dX7_does_9 : decode cX7_does 9 = .ok (.istore 5, 2) := dk_54 5 (dk_at dksX7_does_0 9 rfl rfl)
theorem dX7_does_11 : decode cX7_does 11 = .ok (.aload_n 0, 1) := dk_42 (dk_at dksX7_does_0 11 rfl rfl)
theorem dX7_does_12 : decode cX7_does 12 = .ok (.getfield 46, 3) := dk_180 0 46 (dk_at dksX7_does_0 12 rfl rfl)
theorem dX7_does_15 : decode cX7_does 15 = .ok (.iload 5, 2) := dk_21 5 (dk_at dksX7_does_0 15 rfl rfl)
theorem dX7_does_17 : decode cX7_does 17 = .ok (.iload_n 1, 1) := dk_27 (dk_at dksX7_does_0 17 rfl rfl)
theorem dX7_does_18 : decode cX7_does 18 = .ok (.iastore, 1) := dk_79 (dk_at dksX7_does_0 18 rfl rfl)
theorem dX7_does_19 : decode cX7_does 19 = .ok (.aload_n 0, 1) := dk_42 (dk_at dksX7_does_0 19 rfl rfl)
theorem dX7_does_20 : decode cX7_does 20 = .ok (.getfield 46, 3) := dk_180 0 46 (dk_at dksX7_does_0 20 rfl rfl)
theorem dX7_does_23 : decode cX7_does 23 = .ok (.iload 5, 2) := dk_21 5 (dk_at dksX7_does_1 0 rfl rfl)
theorem dX7_does_25 : decode cX7_does 25 = .ok (.iconst 1, 1) := dk_4 (dk_at dksX7_does_1 2 rfl rfl)
theorem dX7_does_26 : decode cX7_does 26 = .ok (.iadd, 1) := dk_96 (dk_at dksX7_does_1 3 rfl rfl)
theorem dX7_does_27 : decode cX7_does 27 = .ok (.iload_n 2, 1) := dk_28 (dk_at dksX7_does_1 4 rfl rfl)
theorem dX7_does_28 : decode cX7_does 28 = .ok (.iastore, 1) := dk_79 (dk_at dksX7_does_1 5 rfl rfl)
theorem dX7_does_29 : decode cX7_does 29 = .ok (.aload_n 0, 1) := dk_42 (dk_at dksX7_does_1 6 rfl rfl)
theorem dX7_does_30 : decode cX7_does 30 = .ok (.getfield 46, 3) := dk_180 0 46 (dk_at dksX7_does_1 7 rfl rfl)
theorem dX7_does_33 : decode cX7_does 33 = .ok (.iload 5, 2) := dk_21 5 (dk_at dksX7_does_1 10 rfl rfl)
theorem dX7_does_35 : decode cX7_does 35 = .ok (.iconst 2, 1) := dk_5 (dk_at dksX7_does_1 12 rfl rfl)
theorem dX7_does_36 : decode cX7_does 36 = .ok (.iadd, 1) := dk_96 (dk_at dksX7_does_1 13 rfl rfl)
theorem dX7_does_37 : decode cX7_does 37 = .ok (.iload_n 3, 1) := dk_29 (dk_at dksX7_does_1 14 rfl rfl)
theorem dX7_does_38 : decode cX7_does 38 = .ok (.iastore, 1) := dk_79 (dk_at dksX7_does_1 15 rfl rfl)
theorem dX7_does_39 : decode cX7_does 39 = .ok (.aload_n 0, 1) := dk_42 (dk_at dksX7_does_1 16 rfl rfl)
theorem dX7_does_40 : decode cX7_does 40 = .ok (.getfield 46, 3) := dk_180 0 46 (dk_at dksX7_does_1 17 rfl rfl)
theorem dX7_does_43 : decode cX7_does 43 = .ok (.iload 5, 2) := dk_21 5 (dk_at dksX7_does_1 20 rfl rfl)
theorem dX7_does_45 : decode cX7_does 45 = .ok (.iconst 3, 1) := dk_6 (dk_at dksX7_does_1 22 rfl rfl)
theorem dX7_does_46 : decode cX7_does 46 = .ok (.iadd, 1) := dk_96 (dk_at dksX7_does_1 23 rfl rfl)
theorem dX7_does_47 : decode cX7_does 47 = .ok (.iload 4, 2) := dk_21 4 (dk_at dksX7_does_2 0 rfl rfl)
theorem dX7_does_49 : decode cX7_does 49 = .ok (.iastore, 1) := dk_79 (dk_at dksX7_does_2 2 rfl rfl)
theorem dX7_does_50 : decode cX7_does 50 = .ok (.aload_n 0, 1) := dk_42 (dk_at dksX7_does_2 3 rfl rfl)
theorem dX7_does_51 : decode cX7_does 51 = .ok (.getfield 34, 3) := dk_180 0 34 (dk_at dksX7_does_2 4 rfl rfl)
theorem dX7_does_54 : decode cX7_does 54 = .ok (.bipush 6, 2) := dk_16 6 (dk_at dksX7_does_2 7 rfl rfl)
theorem dX7_does_56 : decode cX7_does 56 = .ok (.dup2, 1) := dk_92 (dk_at dksX7_does_2 9 rfl rfl)
theorem dX7_does_57 : decode cX7_does 57 = .ok (.iaload, 1) := dk_46 (dk_at dksX7_does_2 10 rfl rfl)
theorem dX7_does_58 : decode cX7_does 58 = .ok (.iconst 1, 1) := dk_4 (dk_at dksX7_does_2 11 rfl rfl)
theorem dX7_does_59 : decode cX7_does 59 = .ok (.iadd, 1) := dk_96 (dk_at dksX7_does_2 12 rfl rfl)
theorem dX7_does_60 : decode cX7_does 60 = .ok (.iastore, 1) := dk_79 (dk_at dksX7_does_2 13 rfl rfl)
theorem dX7_does_61 : decode cX7_does 61 = .ok (.return_, 1) := dk_177 (dk_at dksX7_does_2 14 rfl rfl)
abbrev cX7_bleaches : ByteArray := prog_12_method_150_code
def yX7_bleaches : MethodName := ⟨RX7, "bleaches", "(II)I"⟩
def dkwX7_bleaches_2 : List UInt8 := [182, 1, 142, 172]
abbrev dktX7_bleaches_2 : List UInt8 := dkwX7_bleaches_2 ++ []
def dkwX7_bleaches_1 : List UInt8 := [16, 30, 160, 0, 6, 16, 251, 172, 42, 4, 27, 3, 28, 182, 1, 195, 42, 182, 1, 81, 42, 27]
abbrev dktX7_bleaches_1 : List UInt8 := dkwX7_bleaches_1 ++ dktX7_bleaches_2
def dkwX7_bleaches_0 : List UInt8 := [42, 3, 181, 0, 74, 42, 27, 28, 182, 1, 78, 154, 0, 6, 16, 254, 172, 42, 180, 0, 34, 16, 6, 46]
abbrev dktX7_bleaches_0 : List UInt8 := dkwX7_bleaches_0 ++ dktX7_bleaches_1
theorem dksX7_bleaches_0 : cX7_bleaches.data.toList.drop 0 = dktX7_bleaches_0 := by decide +kernel
theorem dksX7_bleaches_1 : cX7_bleaches.data.toList.drop 24 = dktX7_bleaches_1 := dk_seg dksX7_bleaches_0 24 rfl rfl
theorem dksX7_bleaches_2 : cX7_bleaches.data.toList.drop 46 = dktX7_bleaches_2 := dk_seg dksX7_bleaches_1 22 rfl rfl
theorem dX7_bleaches_0 : decode cX7_bleaches 0 = .ok (.aload_n 0, 1) := dk_42 (dk_at dksX7_bleaches_0 0 rfl rfl)
theorem dX7_bleaches_1 : decode cX7_bleaches 1 = .ok (.iconst 0, 1) := dk_3 (dk_at dksX7_bleaches_0 1 rfl rfl)
theorem dX7_bleaches_2 : decode cX7_bleaches 2 = .ok (.putfield 74, 3) := dk_181 0 74 (dk_at dksX7_bleaches_0 2 rfl rfl)
theorem dX7_bleaches_5 : decode cX7_bleaches 5 = .ok (.aload_n 0, 1) := dk_42 (dk_at dksX7_bleaches_0 5 rfl rfl)
theorem dX7_bleaches_6 : decode cX7_bleaches 6 = .ok (.iload_n 1, 1) := dk_27 (dk_at dksX7_bleaches_0 6 rfl rfl)
theorem dX7_bleaches_7 : decode cX7_bleaches 7 = .ok (.iload_n 2, 1) := dk_28 (dk_at dksX7_bleaches_0 7 rfl rfl)
theorem dX7_bleaches_8 : decode cX7_bleaches 8 = .ok (.invokevirtual 334, 3) := dk_182 1 78 (dk_at dksX7_bleaches_0 8 rfl rfl)
theorem dX7_bleaches_11 : decode cX7_bleaches 11 = .ok (.ifCond .ne 6, 3) := dk_154 0 6 (dk_at dksX7_bleaches_0 11 rfl rfl)
theorem dX7_bleaches_14 : decode cX7_bleaches 14 = .ok (.bipush (-2), 2) := dk_16 254 (dk_at dksX7_bleaches_0 14 rfl rfl)
theorem dX7_bleaches_16 : decode cX7_bleaches 16 = .ok (.ireturn, 1) := dk_172 (dk_at dksX7_bleaches_0 16 rfl rfl)
theorem dX7_bleaches_17 : decode cX7_bleaches 17 = .ok (.aload_n 0, 1) := dk_42 (dk_at dksX7_bleaches_0 17 rfl rfl)
theorem dX7_bleaches_18 : decode cX7_bleaches 18 = .ok (.getfield 34, 3) := dk_180 0 34 (dk_at dksX7_bleaches_0 18 rfl rfl)
theorem dX7_bleaches_21 : decode cX7_bleaches 21 = .ok (.bipush 6, 2) := dk_16 6 (dk_at dksX7_bleaches_0 21 rfl rfl)
theorem dX7_bleaches_23 : decode cX7_bleaches 23 = .ok (.iaload, 1) := dk_46 (dk_at dksX7_bleaches_0 23 rfl rfl)
theorem dX7_bleaches_24 : decode cX7_bleaches 24 = .ok (.bipush 30, 2) := dk_16 30 (dk_at dksX7_bleaches_1 0 rfl rfl)
theorem dX7_bleaches_26 : decode cX7_bleaches 26 = .ok (.if_icmp .ne 6, 3) := dk_160 0 6 (dk_at dksX7_bleaches_1 2 rfl rfl)
theorem dX7_bleaches_29 : decode cX7_bleaches 29 = .ok (.bipush (-5), 2) := dk_16 251 (dk_at dksX7_bleaches_1 5 rfl rfl)
theorem dX7_bleaches_31 : decode cX7_bleaches 31 = .ok (.ireturn, 1) := dk_172 (dk_at dksX7_bleaches_1 7 rfl rfl)
theorem dX7_bleaches_32 : decode cX7_bleaches 32 = .ok (.aload_n 0, 1) := dk_42 (dk_at dksX7_bleaches_1 8 rfl rfl)
theorem dX7_bleaches_33 : decode cX7_bleaches 33 = .ok (.iconst 1, 1) := dk_4 (dk_at dksX7_bleaches_1 9 rfl rfl)
theorem dX7_bleaches_34 : decode cX7_bleaches 34 = .ok (.iload_n 1, 1) := dk_27 (dk_at dksX7_bleaches_1 10 rfl rfl)
theorem dX7_bleaches_35 : decode cX7_bleaches 35 = .ok (.iconst 0, 1) := dk_3 (dk_at dksX7_bleaches_1 11 rfl rfl)
theorem dX7_bleaches_36 : decode cX7_bleaches 36 = .ok (.iload_n 2, 1) := dk_28 (dk_at dksX7_bleaches_1 12 rfl rfl)
theorem dX7_bleaches_37 : decode cX7_bleaches 37 = .ok (.invokevirtual 451, 3) := dk_182 1 195 (dk_at dksX7_bleaches_1 13 rfl rfl)
theorem dX7_bleaches_40 : decode cX7_bleaches 40 = .ok (.aload_n 0, 1) := dk_42 (dk_at dksX7_bleaches_1 16 rfl rfl)
theorem dX7_bleaches_41 : decode cX7_bleaches 41 = .ok (.invokevirtual 337, 3) := dk_182 1 81 (dk_at dksX7_bleaches_1 17 rfl rfl)
theorem dX7_bleaches_44 : decode cX7_bleaches 44 = .ok (.aload_n 0, 1) := dk_42 (dk_at dksX7_bleaches_1 20 rfl rfl)
theorem dX7_bleaches_45 : decode cX7_bleaches 45 = .ok (.iload_n 1, 1) := dk_27 (dk_at dksX7_bleaches_1 21 rfl rfl)
theorem dX7_bleaches_46 : decode cX7_bleaches 46 = .ok (.invokevirtual 398, 3) := dk_182 1 142 (dk_at dksX7_bleaches_2 0 rfl rfl)
theorem dX7_bleaches_49 : decode cX7_bleaches 49 = .ok (.ireturn, 1) := dk_172 (dk_at dksX7_bleaches_2 3 rfl rfl)
abbrev cX7_undo : ByteArray := prog_12_method_151_code
def yX7_undo : MethodName := ⟨RX7, "undo", "()I"⟩
def dkwX7_undo_2 : List UInt8 := [172]
abbrev dktX7_undo_2 : List UInt8 := dkwX7_undo_2 ++ []
def dkwX7_undo_1 : List UInt8 := [154, 0, 6, 16, 251, 172, 42, 180, 0, 34, 16, 6, 92, 46, 4, 100, 79, 42, 180, 0, 34, 16, 6, 46]
abbrev dktX7_undo_1 : List UInt8 := dkwX7_undo_1 ++ dktX7_undo_2
def dkwX7_undo_0 : List UInt8 := [42, 3, 181, 0, 74, 42, 182, 0, 240, 154, 0, 6, 16, 254, 172, 42, 180, 0, 34, 16, 6, 46]
abbrev dktX7_undo_0 : List UInt8 := dkwX7_undo_0 ++ dktX7_undo_1
theorem dksX7_undo_0 : cX7_undo.data.toList.drop 0 = dktX7_undo_0 := by decide +kernel
theorem dksX7_undo_1 : cX7_undo.data.toList.drop 22 = dktX7_undo_1 := dk_seg dksX7_undo_0 22 rfl rfl
theorem dksX7_undo_2 : cX7_undo.data.toList.drop 46 = dktX7_undo_2 := dk_seg dksX7_undo_1 24 rfl rfl
theorem dX7_undo_0 : decode cX7_undo 0 = .ok (.aload_n 0, 1) := dk_42 (dk_at dksX7_undo_0 0 rfl rfl)
theorem dX7_undo_1 : decode cX7_undo 1 = .ok (.iconst 0, 1) := dk_3 (dk_at dksX7_undo_0 1 rfl rfl)
theorem dX7_undo_2 : decode cX7_undo 2 = .ok (.putfield 74, 3) := dk_181 0 74 (dk_at dksX7_undo_0 2 rfl rfl)
theorem dX7_undo_5 : decode cX7_undo 5 = .ok (.aload_n 0, 1) := dk_42 (dk_at dksX7_undo_0 5 rfl rfl)
theorem dX7_undo_6 : decode cX7_undo 6 = .ok (.invokevirtual 240, 3) := dk_182 0 240 (dk_at dksX7_undo_0 6 rfl rfl)
theorem dX7_undo_9 : decode cX7_undo 9 = .ok (.ifCond .ne 6, 3) := dk_154 0 6 (dk_at dksX7_undo_0 9 rfl rfl)
theorem dX7_undo_12 : decode cX7_undo 12 = .ok (.bipush (-2), 2) := dk_16 254 (dk_at dksX7_undo_0 12 rfl rfl)
theorem dX7_undo_14 : decode cX7_undo 14 = .ok (.ireturn, 1) := dk_172 (dk_at dksX7_undo_0 14 rfl rfl)
theorem dX7_undo_15 : decode cX7_undo 15 = .ok (.aload_n 0, 1) := dk_42 (dk_at dksX7_undo_0 15 rfl rfl)
theorem dX7_undo_16 : decode cX7_undo 16 = .ok (.getfield 34, 3) := dk_180 0 34 (dk_at dksX7_undo_0 16 rfl rfl)
theorem dX7_undo_19 : decode cX7_undo 19 = .ok (.bipush 6, 2) := dk_16 6 (dk_at dksX7_undo_0 19 rfl rfl)
theorem dX7_undo_21 : decode cX7_undo 21 = .ok (.iaload, 1) := dk_46 (dk_at dksX7_undo_0 21 rfl rfl)
theorem dX7_undo_22 : decode cX7_undo 22 = .ok (.ifCond .ne 6, 3) := dk_154 0 6 (dk_at dksX7_undo_1 0 rfl rfl)
theorem dX7_undo_25 : decode cX7_undo 25 = .ok (.bipush (-5), 2) := dk_16 251 (dk_at dksX7_undo_1 3 rfl rfl)
theorem dX7_undo_27 : decode cX7_undo 27 = .ok (.ireturn, 1) := dk_172 (dk_at dksX7_undo_1 5 rfl rfl)
theorem dX7_undo_28 : decode cX7_undo 28 = .ok (.aload_n 0, 1) := dk_42 (dk_at dksX7_undo_1 6 rfl rfl)
theorem dX7_undo_29 : decode cX7_undo 29 = .ok (.getfield 34, 3) := dk_180 0 34 (dk_at dksX7_undo_1 7 rfl rfl)
theorem dX7_undo_32 : decode cX7_undo 32 = .ok (.bipush 6, 2) := dk_16 6 (dk_at dksX7_undo_1 10 rfl rfl)
theorem dX7_undo_34 : decode cX7_undo 34 = .ok (.dup2, 1) := dk_92 (dk_at dksX7_undo_1 12 rfl rfl)
theorem dX7_undo_35 : decode cX7_undo 35 = .ok (.iaload, 1) := dk_46 (dk_at dksX7_undo_1 13 rfl rfl)
theorem dX7_undo_36 : decode cX7_undo 36 = .ok (.iconst 1, 1) := dk_4 (dk_at dksX7_undo_1 14 rfl rfl)
theorem dX7_undo_37 : decode cX7_undo 37 = .ok (.isub, 1) := dk_100 (dk_at dksX7_undo_1 15 rfl rfl)
theorem dX7_undo_38 : decode cX7_undo 38 = .ok (.iastore, 1) := dk_79 (dk_at dksX7_undo_1 16 rfl rfl)
theorem dX7_undo_39 : decode cX7_undo 39 = .ok (.aload_n 0, 1) := dk_42 (dk_at dksX7_undo_1 17 rfl rfl)
theorem dX7_undo_40 : decode cX7_undo 40 = .ok (.getfield 34, 3) := dk_180 0 34 (dk_at dksX7_undo_1 18 rfl rfl)
theorem dX7_undo_43 : decode cX7_undo 43 = .ok (.bipush 6, 2) := dk_16 6 (dk_at dksX7_undo_1 21 rfl rfl)
theorem dX7_undo_45 : decode cX7_undo 45 = .ok (.iaload, 1) := dk_46 (dk_at dksX7_undo_1 23 rfl rfl)
theorem dX7_undo_46 : decode cX7_undo 46 = .ok (.ireturn, 1) := dk_172 (dk_at dksX7_undo_2 0 rfl rfl)
abbrev cX7_anew : ByteArray := prog_12_method_152_code
def yX7_anew : MethodName := ⟨RX7, "anew", "()I"⟩
def dkwX7_anew_1 : List UInt8 := [180, 0, 34, 16, 6, 3, 79, 27, 172]
abbrev dktX7_anew_1 : List UInt8 := dkwX7_anew_1 ++ []
def dkwX7_anew_0 : List UInt8 := [42, 3, 181, 0, 74, 42, 182, 0, 240, 154, 0, 6, 16, 254, 172, 42, 180, 0, 34, 16, 6, 46, 60, 42]
abbrev dktX7_anew_0 : List UInt8 := dkwX7_anew_0 ++ dktX7_anew_1
theorem dksX7_anew_0 : cX7_anew.data.toList.drop 0 = dktX7_anew_0 := by decide +kernel
theorem dksX7_anew_1 : cX7_anew.data.toList.drop 24 = dktX7_anew_1 := dk_seg dksX7_anew_0 24 rfl rfl
theorem dX7_anew_0 : decode cX7_anew 0 = .ok (.aload_n 0, 1) := dk_42 (dk_at dksX7_anew_0 0 rfl rfl)
theorem dX7_anew_1 : decode cX7_anew 1 = .ok (.iconst 0, 1) := dk_3 (dk_at dksX7_anew_0 1 rfl rfl)
theorem dX7_anew_2 : decode cX7_anew 2 = .ok (.putfield 74, 3) := dk_181 0 74 (dk_at dksX7_anew_0 2 rfl rfl)
theorem dX7_anew_5 : decode cX7_anew 5 = .ok (.aload_n 0, 1) := dk_42 (dk_at dksX7_anew_0 5 rfl rfl)
theorem dX7_anew_6 : decode cX7_anew 6 = .ok (.invokevirtual 240, 3) := dk_182 0 240 (dk_at dksX7_anew_0 6 rfl rfl)
theorem dX7_anew_9 : decode cX7_anew 9 = .ok (.ifCond .ne 6, 3) := dk_154 0 6 (dk_at dksX7_anew_0 9 rfl rfl)
theorem dX7_anew_12 : decode cX7_anew 12 = .ok (.bipush (-2), 2) := dk_16 254 (dk_at dksX7_anew_0 12 rfl rfl)
theorem dX7_anew_14 : decode cX7_anew 14 = .ok (.ireturn, 1) := dk_172 (dk_at dksX7_anew_0 14 rfl rfl)
theorem dX7_anew_15 : decode cX7_anew 15 = .ok (.aload_n 0, 1) := dk_42 (dk_at dksX7_anew_0 15 rfl rfl)
theorem dX7_anew_16 : decode cX7_anew 16 = .ok (.getfield 34, 3) := dk_180 0 34 (dk_at dksX7_anew_0 16 rfl rfl)
theorem dX7_anew_19 : decode cX7_anew 19 = .ok (.bipush 6, 2) := dk_16 6 (dk_at dksX7_anew_0 19 rfl rfl)
theorem dX7_anew_21 : decode cX7_anew 21 = .ok (.iaload, 1) := dk_46 (dk_at dksX7_anew_0 21 rfl rfl)
theorem dX7_anew_22 : decode cX7_anew 22 = .ok (.istore_n 1, 1) := dk_60 (dk_at dksX7_anew_0 22 rfl rfl)
theorem dX7_anew_23 : decode cX7_anew 23 = .ok (.aload_n 0, 1) := dk_42 (dk_at dksX7_anew_0 23 rfl rfl)
theorem dX7_anew_24 : decode cX7_anew 24 = .ok (.getfield 34, 3) := dk_180 0 34 (dk_at dksX7_anew_1 0 rfl rfl)
theorem dX7_anew_27 : decode cX7_anew 27 = .ok (.bipush 6, 2) := dk_16 6 (dk_at dksX7_anew_1 3 rfl rfl)
theorem dX7_anew_29 : decode cX7_anew 29 = .ok (.iconst 0, 1) := dk_3 (dk_at dksX7_anew_1 5 rfl rfl)
theorem dX7_anew_30 : decode cX7_anew 30 = .ok (.iastore, 1) := dk_79 (dk_at dksX7_anew_1 6 rfl rfl)
theorem dX7_anew_31 : decode cX7_anew 31 = .ok (.iload_n 1, 1) := dk_27 (dk_at dksX7_anew_1 7 rfl rfl)
theorem dX7_anew_32 : decode cX7_anew 32 = .ok (.ireturn, 1) := dk_172 (dk_at dksX7_anew_1 8 rfl rfl)
abbrev cX7_rate : ByteArray := prog_12_method_153_code
def yX7_rate : MethodName := ⟨RX7, "rate", "(II)I"⟩
def dkwX7_rate_2 : List UInt8 := [27, 104, 6, 96, 46, 62, 42, 180, 0, 43, 7, 27, 104, 6, 96, 28, 79, 29, 172]
abbrev dktX7_rate_2 : List UInt8 := dkwX7_rate_2 ++ []
def dkwX7_rate_1 : List UInt8 := [154, 0, 6, 16, 254, 172, 42, 180, 0, 34, 16, 6, 46, 158, 0, 6, 16, 251, 172, 42, 180, 0, 43, 7]
abbrev dktX7_rate_1 : List UInt8 := dkwX7_rate_1 ++ dktX7_rate_2
def dkwX7_rate_0 : List UInt8 := [42, 3, 181, 0, 74, 42, 27, 133, 182, 0, 246, 153, 0, 15, 28, 133, 9, 20, 1, 140, 184, 0, 79]
abbrev dktX7_rate_0 : List UInt8 := dkwX7_rate_0 ++ dktX7_rate_1
theorem dksX7_rate_0 : cX7_rate.data.toList.drop 0 = dktX7_rate_0 := by decide +kernel
theorem dksX7_rate_1 : cX7_rate.data.toList.drop 23 = dktX7_rate_1 := dk_seg dksX7_rate_0 23 rfl rfl
theorem dksX7_rate_2 : cX7_rate.data.toList.drop 47 = dktX7_rate_2 := dk_seg dksX7_rate_1 24 rfl rfl
theorem dX7_rate_0 : decode cX7_rate 0 = .ok (.aload_n 0, 1) := dk_42 (dk_at dksX7_rate_0 0 rfl rfl)
theorem dX7_rate_1 : decode cX7_rate 1 = .ok (.iconst 0, 1) := dk_3 (dk_at dksX7_rate_0 1 rfl rfl)
theorem dX7_rate_2 : decode cX7_rate 2 = .ok (.putfield 74, 3) := dk_181 0 74 (dk_at dksX7_rate_0 2 rfl rfl)
theorem dX7_rate_5 : decode cX7_rate 5 = .ok (.aload_n 0, 1) := dk_42 (dk_at dksX7_rate_0 5 rfl rfl)
theorem dX7_rate_6 : decode cX7_rate 6 = .ok (.iload_n 1, 1) := dk_27 (dk_at dksX7_rate_0 6 rfl rfl)
theorem dX7_rate_7 : decode cX7_rate 7 = .ok (.i2l, 1) := dk_133 (dk_at dksX7_rate_0 7 rfl rfl)
theorem dX7_rate_8 : decode cX7_rate 8 = .ok (.invokevirtual 246, 3) := dk_182 0 246 (dk_at dksX7_rate_0 8 rfl rfl)
theorem dX7_rate_11 : decode cX7_rate 11 = .ok (.ifCond .eq 15, 3) := dk_153 0 15 (dk_at dksX7_rate_0 11 rfl rfl)
theorem dX7_rate_14 : decode cX7_rate 14 = .ok (.iload_n 2, 1) := dk_28 (dk_at dksX7_rate_0 14 rfl rfl)
theorem dX7_rate_15 : decode cX7_rate 15 = .ok (.i2l, 1) := dk_133 (dk_at dksX7_rate_0 15 rfl rfl)
theorem dX7_rate_16 : decode cX7_rate 16 = .ok (.lconst 0, 1) := dk_9 (dk_at dksX7_rate_0 16 rfl rfl)
theorem dX7_rate_17 : decode cX7_rate 17 = .ok (.ldc2_w 396, 3) := dk_20 1 140 (dk_at dksX7_rate_0 17 rfl rfl)
theorem dX7_rate_20 : decode cX7_rate 20 = .ok (.invokestatic 79, 3) := dk_184 0 79 (dk_at dksX7_rate_0 20 rfl rfl)
theorem dX7_rate_23 : decode cX7_rate 23 = .ok (.ifCond .ne 6, 3) := dk_154 0 6 (dk_at dksX7_rate_1 0 rfl rfl)
theorem dX7_rate_26 : decode cX7_rate 26 = .ok (.bipush (-2), 2) := dk_16 254 (dk_at dksX7_rate_1 3 rfl rfl)
theorem dX7_rate_28 : decode cX7_rate 28 = .ok (.ireturn, 1) := dk_172 (dk_at dksX7_rate_1 5 rfl rfl)
theorem dX7_rate_29 : decode cX7_rate 29 = .ok (.aload_n 0, 1) := dk_42 (dk_at dksX7_rate_1 6 rfl rfl)
theorem dX7_rate_30 : decode cX7_rate 30 = .ok (.getfield 34, 3) := dk_180 0 34 (dk_at dksX7_rate_1 7 rfl rfl)
theorem dX7_rate_33 : decode cX7_rate 33 = .ok (.bipush 6, 2) := dk_16 6 (dk_at dksX7_rate_1 10 rfl rfl)
theorem dX7_rate_35 : decode cX7_rate 35 = .ok (.iaload, 1) := dk_46 (dk_at dksX7_rate_1 12 rfl rfl)
theorem dX7_rate_36 : decode cX7_rate 36 = .ok (.ifCond .le 6, 3) := dk_158 0 6 (dk_at dksX7_rate_1 13 rfl rfl)
theorem dX7_rate_39 : decode cX7_rate 39 = .ok (.bipush (-5), 2) := dk_16 251 (dk_at dksX7_rate_1 16 rfl rfl)
theorem dX7_rate_41 : decode cX7_rate 41 = .ok (.ireturn, 1) := dk_172 (dk_at dksX7_rate_1 18 rfl rfl)
theorem dX7_rate_42 : decode cX7_rate 42 = .ok (.aload_n 0, 1) := dk_42 (dk_at dksX7_rate_1 19 rfl rfl)
theorem dX7_rate_43 : decode cX7_rate 43 = .ok (.getfield 43, 3) := dk_180 0 43 (dk_at dksX7_rate_1 20 rfl rfl)
theorem dX7_rate_46 : decode cX7_rate 46 = .ok (.iconst 4, 1) := dk_7 (dk_at dksX7_rate_1 23 rfl rfl)
theorem dX7_rate_47 : decode cX7_rate 47 = .ok (.iload_n 1, 1) := dk_27 (dk_at dksX7_rate_2 0 rfl rfl)
theorem dX7_rate_48 : decode cX7_rate 48 = .ok (.imul, 1) := dk_104 (dk_at dksX7_rate_2 1 rfl rfl)
theorem dX7_rate_49 : decode cX7_rate 49 = .ok (.iconst 3, 1) := dk_6 (dk_at dksX7_rate_2 2 rfl rfl)
theorem dX7_rate_50 : decode cX7_rate 50 = .ok (.iadd, 1) := dk_96 (dk_at dksX7_rate_2 3 rfl rfl)
theorem dX7_rate_51 : decode cX7_rate 51 = .ok (.iaload, 1) := dk_46 (dk_at dksX7_rate_2 4 rfl rfl)
theorem dX7_rate_52 : decode cX7_rate 52 = .ok (.istore_n 3, 1) := dk_62 (dk_at dksX7_rate_2 5 rfl rfl)
theorem dX7_rate_53 : decode cX7_rate 53 = .ok (.aload_n 0, 1) := dk_42 (dk_at dksX7_rate_2 6 rfl rfl)
theorem dX7_rate_54 : decode cX7_rate 54 = .ok (.getfield 43, 3) := dk_180 0 43 (dk_at dksX7_rate_2 7 rfl rfl)
theorem dX7_rate_57 : decode cX7_rate 57 = .ok (.iconst 4, 1) := dk_7 (dk_at dksX7_rate_2 10 rfl rfl)
theorem dX7_rate_58 : decode cX7_rate 58 = .ok (.iload_n 1, 1) := dk_27 (dk_at dksX7_rate_2 11 rfl rfl)
theorem dX7_rate_59 : decode cX7_rate 59 = .ok (.imul, 1) := dk_104 (dk_at dksX7_rate_2 12 rfl rfl)
theorem dX7_rate_60 : decode cX7_rate 60 = .ok (.iconst 3, 1) := dk_6 (dk_at dksX7_rate_2 13 rfl rfl)
theorem dX7_rate_61 : decode cX7_rate 61 = .ok (.iadd, 1) := dk_96 (dk_at dksX7_rate_2 14 rfl rfl)
theorem dX7_rate_62 : decode cX7_rate 62 = .ok (.iload_n 2, 1) := dk_28 (dk_at dksX7_rate_2 15 rfl rfl)
theorem dX7_rate_63 : decode cX7_rate 63 = .ok (.iastore, 1) := dk_79 (dk_at dksX7_rate_2 16 rfl rfl)
theorem dX7_rate_64 : decode cX7_rate 64 = .ok (.iload_n 3, 1) := dk_29 (dk_at dksX7_rate_2 17 rfl rfl)
theorem dX7_rate_65 : decode cX7_rate 65 = .ok (.ireturn, 1) := dk_172 (dk_at dksX7_rate_2 18 rfl rfl)
abbrev cX7_count : ByteArray := prog_12_method_154_code
def yX7_count : MethodName := ⟨RX7, "count", "(I)I"⟩
def dkwX7_count_4 : List UInt8 := [29, 46, 2, 160, 0, 7, 3, 167, 0, 4, 4, 96, 61, 132, 3, 1, 167, 255, 230, 28, 172, 2, 172]
abbrev dktX7_count_4 : List UInt8 := dkwX7_count_4 ++ []
def dkwX7_count_3 : List UInt8 := [42, 180, 0, 31, 3, 46, 172, 42, 180, 0, 91, 172, 3, 62, 29, 7, 162, 0, 27, 28, 42, 180, 0, 7]
abbrev dktX7_count_3 : List UInt8 := dkwX7_count_3 ++ dktX7_count_4
def dkwX7_count_2 : List UInt8 := [170, 0, 0, 0, 70, 0, 0, 0, 7, 0, 0, 0, 9, 0, 0, 0, 25, 0, 0, 0, 32, 0, 0, 0, 37]
abbrev dktX7_count_2 : List UInt8 := dkwX7_count_2 ++ dktX7_count_3
def dkwX7_count_1 : List UInt8 := [3, 61, 27]
abbrev dktX7_count_1 : List UInt8 := dkwX7_count_1 ++ dktX7_count_2
def dkwX7_count_0 : List UInt8 := [42, 3, 181, 0, 74, 27, 133, 9, 20, 1, 199, 184, 0, 79, 153, 0, 10, 42, 180, 0, 34, 27, 46, 172]
abbrev dktX7_count_0 : List UInt8 := dkwX7_count_0 ++ dktX7_count_1
theorem dksX7_count_0 : cX7_count.data.toList.drop 0 = dktX7_count_0 := by decide +kernel
theorem dksX7_count_1 : cX7_count.data.toList.drop 24 = dktX7_count_1 := dk_seg dksX7_count_0 24 rfl rfl
theorem dksX7_count_2 : cX7_count.data.toList.drop 27 = dktX7_count_2 := dk_seg dksX7_count_1 3 rfl rfl
theorem dksX7_count_3 : cX7_count.data.toList.drop 52 = dktX7_count_3 := dk_seg dksX7_count_2 25 rfl rfl
theorem dksX7_count_4 : cX7_count.data.toList.drop 76 = dktX7_count_4 := dk_seg dksX7_count_3 24 rfl rfl
theorem dX7_count_0 : decode cX7_count 0 = .ok (.aload_n 0, 1) := dk_42 (dk_at dksX7_count_0 0 rfl rfl)
theorem dX7_count_1 : decode cX7_count 1 = .ok (.iconst 0, 1) := dk_3 (dk_at dksX7_count_0 1 rfl rfl)
theorem dX7_count_2 : decode cX7_count 2 = .ok (.putfield 74, 3) := dk_181 0 74 (dk_at dksX7_count_0 2 rfl rfl)
theorem dX7_count_5 : decode cX7_count 5 = .ok (.iload_n 1, 1) := dk_27 (dk_at dksX7_count_0 5 rfl rfl)
theorem dX7_count_6 : decode cX7_count 6 = .ok (.i2l, 1) := dk_133 (dk_at dksX7_count_0 6 rfl rfl)
theorem dX7_count_7 : decode cX7_count 7 = .ok (.lconst 0, 1) := dk_9 (dk_at dksX7_count_0 7 rfl rfl)
theorem dX7_count_8 : decode cX7_count 8 = .ok (.ldc2_w 455, 3) := dk_20 1 199 (dk_at dksX7_count_0 8 rfl rfl)
theorem dX7_count_11 : decode cX7_count 11 = .ok (.invokestatic 79, 3) := dk_184 0 79 (dk_at dksX7_count_0 11 rfl rfl)
theorem dX7_count_14 : decode cX7_count 14 = .ok (.ifCond .eq 10, 3) := dk_153 0 10 (dk_at dksX7_count_0 14 rfl rfl)
theorem dX7_count_17 : decode cX7_count 17 = .ok (.aload_n 0, 1) := dk_42 (dk_at dksX7_count_0 17 rfl rfl)
theorem dX7_count_18 : decode cX7_count 18 = .ok (.getfield 34, 3) := dk_180 0 34 (dk_at dksX7_count_0 18 rfl rfl)
theorem dX7_count_21 : decode cX7_count 21 = .ok (.iload_n 1, 1) := dk_27 (dk_at dksX7_count_0 21 rfl rfl)
theorem dX7_count_22 : decode cX7_count 22 = .ok (.iaload, 1) := dk_46 (dk_at dksX7_count_0 22 rfl rfl)
theorem dX7_count_23 : decode cX7_count 23 = .ok (.ireturn, 1) := dk_172 (dk_at dksX7_count_0 23 rfl rfl)
theorem dX7_count_24 : decode cX7_count 24 = .ok (.iconst 0, 1) := dk_3 (dk_at dksX7_count_1 0 rfl rfl)
theorem dX7_count_25 : decode cX7_count 25 = .ok (.istore_n 2, 1) := dk_61 (dk_at dksX7_count_1 1 rfl rfl)
theorem dX7_count_26 : decode cX7_count 26 = .ok (.iload_n 1, 1) := dk_27 (dk_at dksX7_count_1 2 rfl rfl)
theorem dX7_count_27 : decode cX7_count 27 = .ok (.tableswitch 70 7 9 #[25, 32, 37], 25) := by decide +kernel
theorem dX7_count_52 : decode cX7_count 52 = .ok (.aload_n 0, 1) := dk_42 (dk_at dksX7_count_3 0 rfl rfl)
theorem dX7_count_53 : decode cX7_count 53 = .ok (.getfield 31, 3) := dk_180 0 31 (dk_at dksX7_count_3 1 rfl rfl)
theorem dX7_count_56 : decode cX7_count 56 = .ok (.iconst 0, 1) := dk_3 (dk_at dksX7_count_3 4 rfl rfl)
theorem dX7_count_57 : decode cX7_count 57 = .ok (.iaload, 1) := dk_46 (dk_at dksX7_count_3 5 rfl rfl)
theorem dX7_count_58 : decode cX7_count 58 = .ok (.ireturn, 1) := dk_172 (dk_at dksX7_count_3 6 rfl rfl)
theorem dX7_count_59 : decode cX7_count 59 = .ok (.aload_n 0, 1) := dk_42 (dk_at dksX7_count_3 7 rfl rfl)
theorem dX7_count_60 : decode cX7_count 60 = .ok (.getfield 91, 3) := dk_180 0 91 (dk_at dksX7_count_3 8 rfl rfl)
theorem dX7_count_63 : decode cX7_count 63 = .ok (.ireturn, 1) := dk_172 (dk_at dksX7_count_3 11 rfl rfl)
theorem dX7_count_64 : decode cX7_count 64 = .ok (.iconst 0, 1) := dk_3 (dk_at dksX7_count_3 12 rfl rfl)
theorem dX7_count_65 : decode cX7_count 65 = .ok (.istore_n 3, 1) := dk_62 (dk_at dksX7_count_3 13 rfl rfl)
theorem dX7_count_66 : decode cX7_count 66 = .ok (.iload_n 3, 1) := dk_29 (dk_at dksX7_count_3 14 rfl rfl)
theorem dX7_count_67 : decode cX7_count 67 = .ok (.iconst 4, 1) := dk_7 (dk_at dksX7_count_3 15 rfl rfl)
theorem dX7_count_68 : decode cX7_count 68 = .ok (.if_icmp .ge 27, 3) := dk_162 0 27 (dk_at dksX7_count_3 16 rfl rfl)
theorem dX7_count_71 : decode cX7_count 71 = .ok (.iload_n 2, 1) := dk_28 (dk_at dksX7_count_3 19 rfl rfl)
theorem dX7_count_72 : decode cX7_count 72 = .ok (.aload_n 0, 1) := dk_42 (dk_at dksX7_count_3 20 rfl rfl)
theorem dX7_count_73 : decode cX7_count 73 = .ok (.getfield 7, 3) := dk_180 0 7 (dk_at dksX7_count_3 21 rfl rfl)
theorem dX7_count_76 : decode cX7_count 76 = .ok (.iload_n 3, 1) := dk_29 (dk_at dksX7_count_4 0 rfl rfl)
theorem dX7_count_77 : decode cX7_count 77 = .ok (.iaload, 1) := dk_46 (dk_at dksX7_count_4 1 rfl rfl)
theorem dX7_count_78 : decode cX7_count 78 = .ok (.iconst (-1), 1) := dk_2 (dk_at dksX7_count_4 2 rfl rfl)
theorem dX7_count_79 : decode cX7_count 79 = .ok (.if_icmp .ne 7, 3) := dk_160 0 7 (dk_at dksX7_count_4 3 rfl rfl)
theorem dX7_count_82 : decode cX7_count 82 = .ok (.iconst 0, 1) := dk_3 (dk_at dksX7_count_4 6 rfl rfl)
theorem dX7_count_83 : decode cX7_count 83 = .ok (.goto 4, 3) := dk_167 0 4 (dk_at dksX7_count_4 7 rfl rfl)
theorem dX7_count_86 : decode cX7_count 86 = .ok (.iconst 1, 1) := dk_4 (dk_at dksX7_count_4 10 rfl rfl)
theorem dX7_count_87 : decode cX7_count 87 = .ok (.iadd, 1) := dk_96 (dk_at dksX7_count_4 11 rfl rfl)
theorem dX7_count_88 : decode cX7_count 88 = .ok (.istore_n 2, 1) := dk_61 (dk_at dksX7_count_4 12 rfl rfl)
theorem dX7_count_89 : decode cX7_count 89 = .ok (.iinc 3 1, 3) := dk_132 3 1 (dk_at dksX7_count_4 13 rfl rfl)
theorem dX7_count_92 : decode cX7_count 92 = .ok (.goto (-26), 3) := dk_167 255 230 (dk_at dksX7_count_4 16 rfl rfl)
theorem dX7_count_95 : decode cX7_count 95 = .ok (.iload_n 2, 1) := dk_28 (dk_at dksX7_count_4 19 rfl rfl)
theorem dX7_count_96 : decode cX7_count 96 = .ok (.ireturn, 1) := dk_172 (dk_at dksX7_count_4 20 rfl rfl)
theorem dX7_count_97 : decode cX7_count 97 = .ok (.iconst (-1), 1) := dk_2 (dk_at dksX7_count_4 21 rfl rfl)
theorem dX7_count_98 : decode cX7_count 98 = .ok (.ireturn, 1) := dk_172 (dk_at dksX7_count_4 22 rfl rfl)
abbrev cX7_image : ByteArray := prog_12_method_155_code
def yX7_image : MethodName := ⟨RX7, "image", "(I)I"⟩
def dkwX7_image_1 : List UInt8 := [96, 182, 0, 229, 42, 180, 0, 49, 27, 4, 84, 3, 172]
abbrev dktX7_image_1 : List UInt8 := dkwX7_image_1 ++ []
def dkwX7_image_0 : List UInt8 := [42, 3, 181, 0, 74, 27, 133, 9, 20, 1, 68, 184, 0, 79, 154, 0, 6, 16, 254, 172, 42, 3, 4, 27]
abbrev dktX7_image_0 : List UInt8 := dkwX7_image_0 ++ dktX7_image_1
theorem dksX7_image_0 : cX7_image.data.toList.drop 0 = dktX7_image_0 := by decide +kernel
theorem dksX7_image_1 : cX7_image.data.toList.drop 24 = dktX7_image_1 := dk_seg dksX7_image_0 24 rfl rfl
theorem dX7_image_0 : decode cX7_image 0 = .ok (.aload_n 0, 1) := dk_42 (dk_at dksX7_image_0 0 rfl rfl)
theorem dX7_image_1 : decode cX7_image 1 = .ok (.iconst 0, 1) := dk_3 (dk_at dksX7_image_0 1 rfl rfl)
theorem dX7_image_2 : decode cX7_image 2 = .ok (.putfield 74, 3) := dk_181 0 74 (dk_at dksX7_image_0 2 rfl rfl)
theorem dX7_image_5 : decode cX7_image 5 = .ok (.iload_n 1, 1) := dk_27 (dk_at dksX7_image_0 5 rfl rfl)
theorem dX7_image_6 : decode cX7_image 6 = .ok (.i2l, 1) := dk_133 (dk_at dksX7_image_0 6 rfl rfl)
theorem dX7_image_7 : decode cX7_image 7 = .ok (.lconst 0, 1) := dk_9 (dk_at dksX7_image_0 7 rfl rfl)
theorem dX7_image_8 : decode cX7_image 8 = .ok (.ldc2_w 324, 3) := dk_20 1 68 (dk_at dksX7_image_0 8 rfl rfl)
theorem dX7_image_11 : decode cX7_image 11 = .ok (.invokestatic 79, 3) := dk_184 0 79 (dk_at dksX7_image_0 11 rfl rfl)
theorem dX7_image_14 : decode cX7_image 14 = .ok (.ifCond .ne 6, 3) := dk_154 0 6 (dk_at dksX7_image_0 14 rfl rfl)
theorem dX7_image_17 : decode cX7_image 17 = .ok (.bipush (-2), 2) := dk_16 254 (dk_at dksX7_image_0 17 rfl rfl)
theorem dX7_image_19 : decode cX7_image 19 = .ok (.ireturn, 1) := dk_172 (dk_at dksX7_image_0 19 rfl rfl)
theorem dX7_image_20 : decode cX7_image 20 = .ok (.aload_n 0, 1) := dk_42 (dk_at dksX7_image_0 20 rfl rfl)
theorem dX7_image_21 : decode cX7_image 21 = .ok (.iconst 0, 1) := dk_3 (dk_at dksX7_image_0 21 rfl rfl)
theorem dX7_image_22 : decode cX7_image 22 = .ok (.iconst 1, 1) := dk_4 (dk_at dksX7_image_0 22 rfl rfl)
theorem dX7_image_23 : decode cX7_image 23 = .ok (.iload_n 1, 1) := dk_27 (dk_at dksX7_image_0 23 rfl rfl)
theorem dX7_image_24 : decode cX7_image 24 = .ok (.iadd, 1) := dk_96 (dk_at dksX7_image_1 0 rfl rfl)
theorem dX7_image_25 : decode cX7_image 25 = .ok (.invokevirtual 229, 3) := dk_182 0 229 (dk_at dksX7_image_1 1 rfl rfl)
theorem dX7_image_28 : decode cX7_image 28 = .ok (.aload_n 0, 1) := dk_42 (dk_at dksX7_image_1 4 rfl rfl)
theorem dX7_image_29 : decode cX7_image 29 = .ok (.getfield 49, 3) := dk_180 0 49 (dk_at dksX7_image_1 5 rfl rfl)
theorem dX7_image_32 : decode cX7_image 32 = .ok (.iload_n 1, 1) := dk_27 (dk_at dksX7_image_1 8 rfl rfl)
theorem dX7_image_33 : decode cX7_image 33 = .ok (.iconst 1, 1) := dk_4 (dk_at dksX7_image_1 9 rfl rfl)
theorem dX7_image_34 : decode cX7_image 34 = .ok (.bastore, 1) := dk_84 (dk_at dksX7_image_1 10 rfl rfl)
theorem dX7_image_35 : decode cX7_image 35 = .ok (.iconst 0, 1) := dk_3 (dk_at dksX7_image_1 11 rfl rfl)
theorem dX7_image_36 : decode cX7_image 36 = .ok (.ireturn, 1) := dk_172 (dk_at dksX7_image_1 12 rfl rfl)
abbrev cX7_back : ByteArray := prog_12_method_156_code
def yX7_back : MethodName := ⟨RX7, "back", "(I)I"⟩
def dkwX7_back_1 : List UInt8 := [27, 51, 154, 0, 6, 16, 250, 172, 42, 4, 27, 96, 3, 182, 0, 229, 3, 172]
abbrev dktX7_back_1 : List UInt8 := dkwX7_back_1 ++ []
def dkwX7_back_0 : List UInt8 := [42, 3, 181, 0, 74, 27, 133, 9, 20, 1, 68, 184, 0, 79, 154, 0, 6, 16, 254, 172, 42, 180, 0, 49]
abbrev dktX7_back_0 : List UInt8 := dkwX7_back_0 ++ dktX7_back_1
theorem dksX7_back_0 : cX7_back.data.toList.drop 0 = dktX7_back_0 := by decide +kernel
theorem dksX7_back_1 : cX7_back.data.toList.drop 24 = dktX7_back_1 := dk_seg dksX7_back_0 24 rfl rfl
theorem dX7_back_0 : decode cX7_back 0 = .ok (.aload_n 0, 1) := dk_42 (dk_at dksX7_back_0 0 rfl rfl)
theorem dX7_back_1 : decode cX7_back 1 = .ok (.iconst 0, 1) := dk_3 (dk_at dksX7_back_0 1 rfl rfl)
theorem dX7_back_2 : decode cX7_back 2 = .ok (.putfield 74, 3) := dk_181 0 74 (dk_at dksX7_back_0 2 rfl rfl)
theorem dX7_back_5 : decode cX7_back 5 = .ok (.iload_n 1, 1) := dk_27 (dk_at dksX7_back_0 5 rfl rfl)
theorem dX7_back_6 : decode cX7_back 6 = .ok (.i2l, 1) := dk_133 (dk_at dksX7_back_0 6 rfl rfl)
theorem dX7_back_7 : decode cX7_back 7 = .ok (.lconst 0, 1) := dk_9 (dk_at dksX7_back_0 7 rfl rfl)
theorem dX7_back_8 : decode cX7_back 8 = .ok (.ldc2_w 324, 3) := dk_20 1 68 (dk_at dksX7_back_0 8 rfl rfl)
theorem dX7_back_11 : decode cX7_back 11 = .ok (.invokestatic 79, 3) := dk_184 0 79 (dk_at dksX7_back_0 11 rfl rfl)
theorem dX7_back_14 : decode cX7_back 14 = .ok (.ifCond .ne 6, 3) := dk_154 0 6 (dk_at dksX7_back_0 14 rfl rfl)
theorem dX7_back_17 : decode cX7_back 17 = .ok (.bipush (-2), 2) := dk_16 254 (dk_at dksX7_back_0 17 rfl rfl)
theorem dX7_back_19 : decode cX7_back 19 = .ok (.ireturn, 1) := dk_172 (dk_at dksX7_back_0 19 rfl rfl)
theorem dX7_back_20 : decode cX7_back 20 = .ok (.aload_n 0, 1) := dk_42 (dk_at dksX7_back_0 20 rfl rfl)
theorem dX7_back_21 : decode cX7_back 21 = .ok (.getfield 49, 3) := dk_180 0 49 (dk_at dksX7_back_0 21 rfl rfl)
theorem dX7_back_24 : decode cX7_back 24 = .ok (.iload_n 1, 1) := dk_27 (dk_at dksX7_back_1 0 rfl rfl)
theorem dX7_back_25 : decode cX7_back 25 = .ok (.baload, 1) := dk_51 (dk_at dksX7_back_1 1 rfl rfl)
theorem dX7_back_26 : decode cX7_back 26 = .ok (.ifCond .ne 6, 3) := dk_154 0 6 (dk_at dksX7_back_1 2 rfl rfl)
theorem dX7_back_29 : decode cX7_back 29 = .ok (.bipush (-6), 2) := dk_16 250 (dk_at dksX7_back_1 5 rfl rfl)
theorem dX7_back_31 : decode cX7_back 31 = .ok (.ireturn, 1) := dk_172 (dk_at dksX7_back_1 7 rfl rfl)
theorem dX7_back_32 : decode cX7_back 32 = .ok (.aload_n 0, 1) := dk_42 (dk_at dksX7_back_1 8 rfl rfl)
theorem dX7_back_33 : decode cX7_back 33 = .ok (.iconst 1, 1) := dk_4 (dk_at dksX7_back_1 9 rfl rfl)
theorem dX7_back_34 : decode cX7_back 34 = .ok (.iload_n 1, 1) := dk_27 (dk_at dksX7_back_1 10 rfl rfl)
theorem dX7_back_35 : decode cX7_back 35 = .ok (.iadd, 1) := dk_96 (dk_at dksX7_back_1 11 rfl rfl)
theorem dX7_back_36 : decode cX7_back 36 = .ok (.iconst 0, 1) := dk_3 (dk_at dksX7_back_1 12 rfl rfl)
theorem dX7_back_37 : decode cX7_back 37 = .ok (.invokevirtual 229, 3) := dk_182 0 229 (dk_at dksX7_back_1 13 rfl rfl)
theorem dX7_back_40 : decode cX7_back 40 = .ok (.iconst 0, 1) := dk_3 (dk_at dksX7_back_1 16 rfl rfl)
theorem dX7_back_41 : decode cX7_back 41 = .ok (.ireturn, 1) := dk_172 (dk_at dksX7_back_1 17 rfl rfl)
theorem q136 : (Jvm.Cond.initialized "GallRegisterModel") ∈ lw_all := lw_g (lw_at lw_m1 11 rfl) rfl
theorem q1346 : (Jvm.Cond.selects "GallRegisterModel" ({ cls := "java/lang/Object", name := "getClass", desc := "()Ljava/lang/Class;" } : Jvm.MethodName) ({ cls := "java/lang/Object", name := "getClass", desc := "()Ljava/lang/Class;" } : Jvm.MethodName)) ∈ lw_all := lw_g (lw_at lw_m6 21 rfl) rfl
theorem q1478 : (Jvm.Cond.instantiable "GallRegisterModel" (41 : Nat)) ∈ lw_all := lw_g (lw_at lw_m6 153 rfl) rfl
theorem q1480 : (Jvm.Cond.instanceMethod ({ cls := "GallRegisterModel", name := "<init>", desc := "()V" } : Jvm.MethodName)) ∈ lw_all := lw_g (lw_at lw_m6 155 rfl) rfl
theorem q1481 : (Jvm.Cond.code ({ cls := "GallRegisterModel", name := "<init>", desc := "()V" } : Jvm.MethodName) prog_12_method_1_code (2 : Nat) (Option.none : Option Jvm.ClassFile.FieldType)) ∈ lw_all := lw_g (lw_at lw_m6 156 rfl) rfl
theorem q1482 : (Jvm.Cond.methodLink "GallRegisterModel" (1 : Nat) ({ cls := "java/lang/Object", name := "<init>", desc := "()V" } : Jvm.MethodName)) ∈ lw_all := lw_g (lw_at lw_m6 157 rfl) rfl
theorem q1483 : (Jvm.Cond.fieldLink "GallRegisterModel" (74 : Nat) "GallRegisterModel" "thrown" "I") ∈ lw_all := lw_g (lw_at lw_m6 158 rfl) rfl
theorem q1484 : (Jvm.Cond.fieldLink "GallRegisterModel" (7 : Nat) "GallRegisterModel" "width" "[I") ∈ lw_all := lw_g (lw_at lw_m6 159 rfl) rfl
theorem q1485 : (Jvm.Cond.fieldLink "GallRegisterModel" (13 : Nat) "GallRegisterModel" "many" "[I") ∈ lw_all := lw_g (lw_at lw_m6 160 rfl) rfl
theorem q1486 : (Jvm.Cond.fieldLink "GallRegisterModel" (16 : Nat) "GallRegisterModel" "cells" "[J") ∈ lw_all := lw_g (lw_at lw_m6 161 rfl) rfl
theorem q1487 : (Jvm.Cond.fieldLink "GallRegisterModel" (20 : Nat) "GallRegisterModel" "moved" "[J") ∈ lw_all := lw_g (lw_at lw_m6 162 rfl) rfl
theorem q1488 : (Jvm.Cond.fieldLink "GallRegisterModel" (23 : Nat) "GallRegisterModel" "tape" "[B") ∈ lw_all := lw_g (lw_at lw_m6 163 rfl) rfl
theorem q1489 : (Jvm.Cond.fieldLink "GallRegisterModel" (91 : Nat) "GallRegisterModel" "taped" "I") ∈ lw_all := lw_g (lw_at lw_m6 164 rfl) rfl
theorem q1490 : (Jvm.Cond.fieldLink "GallRegisterModel" (98 : Nat) "GallRegisterModel" "spot" "I") ∈ lw_all := lw_g (lw_at lw_m6 165 rfl) rfl
theorem q1491 : (Jvm.Cond.fieldLink "GallRegisterModel" (115 : Nat) "GallRegisterModel" "token" "I") ∈ lw_all := lw_g (lw_at lw_m6 166 rfl) rfl
theorem q1492 : (Jvm.Cond.fieldLink "GallRegisterModel" (105 : Nat) "GallRegisterModel" "place" "I") ∈ lw_all := lw_g (lw_at lw_m6 167 rfl) rfl
theorem q1493 : (Jvm.Cond.fieldLink "GallRegisterModel" (108 : Nat) "GallRegisterModel" "value" "I") ∈ lw_all := lw_g (lw_at lw_m6 168 rfl) rfl
theorem q1494 : (Jvm.Cond.fieldLink "GallRegisterModel" (111 : Nat) "GallRegisterModel" "word" "J") ∈ lw_all := lw_g (lw_at lw_m6 169 rfl) rfl
theorem q1495 : (Jvm.Cond.fieldLink "GallRegisterModel" (126 : Nat) "GallRegisterModel" "bad" "I") ∈ lw_all := lw_g (lw_at lw_m6 170 rfl) rfl
theorem q1496 : (Jvm.Cond.fieldLink "GallRegisterModel" (129 : Nat) "GallRegisterModel" "badPlace" "I") ∈ lw_all := lw_g (lw_at lw_m6 171 rfl) rfl
theorem q1497 : (Jvm.Cond.fieldLink "GallRegisterModel" (153 : Nat) "GallRegisterModel" "fault" "I") ∈ lw_all := lw_g (lw_at lw_m6 172 rfl) rfl
theorem q1498 : (Jvm.Cond.fieldLink "GallRegisterModel" (27 : Nat) "GallRegisterModel" "faultPlace" "I") ∈ lw_all := lw_g (lw_at lw_m6 173 rfl) rfl
theorem q1499 : (Jvm.Cond.fieldLink "GallRegisterModel" (31 : Nat) "GallRegisterModel" "lines" "[I") ∈ lw_all := lw_g (lw_at lw_m6 174 rfl) rfl
theorem q1500 : (Jvm.Cond.fieldLink "GallRegisterModel" (34 : Nat) "GallRegisterModel" "has" "[I") ∈ lw_all := lw_g (lw_at lw_m6 175 rfl) rfl
theorem q1501 : (Jvm.Cond.fieldLink "GallRegisterModel" (37 : Nat) "GallRegisterModel" "inkOf" "[I") ∈ lw_all := lw_g (lw_at lw_m6 176 rfl) rfl
theorem q1502 : (Jvm.Cond.fieldLink "GallRegisterModel" (40 : Nat) "GallRegisterModel" "dampOf" "[I") ∈ lw_all := lw_g (lw_at lw_m6 177 rfl) rfl
theorem q1503 : (Jvm.Cond.fieldLink "GallRegisterModel" (43 : Nat) "GallRegisterModel" "told" "[I") ∈ lw_all := lw_g (lw_at lw_m6 178 rfl) rfl
theorem q1504 : (Jvm.Cond.fieldLink "GallRegisterModel" (46 : Nat) "GallRegisterModel" "act" "[I") ∈ lw_all := lw_g (lw_at lw_m6 179 rfl) rfl
theorem q1505 : (Jvm.Cond.fieldLink "GallRegisterModel" (49 : Nat) "GallRegisterModel" "isKept" "[Z") ∈ lw_all := lw_g (lw_at lw_m6 180 rfl) rfl
theorem q1506 : (Jvm.Cond.fieldLink "GallRegisterModel" (252 : Nat) "GallRegisterModel" "law" "I") ∈ lw_all := lw_g (lw_at lw_m6 181 rfl) rfl
theorem q1507 : (Jvm.Cond.fieldLink "GallRegisterModel" (255 : Nat) "GallRegisterModel" "wet" "I") ∈ lw_all := lw_g (lw_at lw_m6 182 rfl) rfl
theorem q1508 : (Jvm.Cond.fieldLink "GallRegisterModel" (258 : Nat) "GallRegisterModel" "never" "I") ∈ lw_all := lw_g (lw_at lw_m6 183 rfl) rfl
theorem q1509 : (Jvm.Cond.fieldLink "GallRegisterModel" (261 : Nat) "GallRegisterModel" "bleached" "I") ∈ lw_all := lw_g (lw_at lw_m6 184 rfl) rfl
theorem q1510 : (Jvm.Cond.fieldLink "GallRegisterModel" (303 : Nat) "GallRegisterModel" "bleachYear" "I") ∈ lw_all := lw_g (lw_at lw_m6 185 rfl) rfl
theorem q1511 : (Jvm.Cond.fieldLink "GallRegisterModel" (264 : Nat) "GallRegisterModel" "bleachMany" "I") ∈ lw_all := lw_g (lw_at lw_m6 186 rfl) rfl
theorem q1512 : (Jvm.Cond.fieldLink "GallRegisterModel" (267 : Nat) "GallRegisterModel" "retraced" "I") ∈ lw_all := lw_g (lw_at lw_m6 187 rfl) rfl
theorem q1513 : (Jvm.Cond.fieldLink "GallRegisterModel" (306 : Nat) "GallRegisterModel" "retraceYear" "I") ∈ lw_all := lw_g (lw_at lw_m6 188 rfl) rfl
theorem q1514 : (Jvm.Cond.fieldLink "GallRegisterModel" (53 : Nat) "GallRegisterModel" "wrote" "[I") ∈ lw_all := lw_g (lw_at lw_m6 189 rfl) rfl
theorem q1515 : (Jvm.Cond.fieldLink "GallRegisterModel" (56 : Nat) "GallRegisterModel" "inkTold" "[I") ∈ lw_all := lw_g (lw_at lw_m6 190 rfl) rfl
theorem q1516 : (Jvm.Cond.fieldLink "GallRegisterModel" (59 : Nat) "GallRegisterModel" "damp" "[I") ∈ lw_all := lw_g (lw_at lw_m6 191 rfl) rfl
theorem q1517 : (Jvm.Cond.fieldLink "GallRegisterModel" (62 : Nat) "GallRegisterModel" "shadeAt" "[I") ∈ lw_all := lw_g (lw_at lw_m6 192 rfl) rfl
theorem q1518 : (Jvm.Cond.fieldLink "GallRegisterModel" (65 : Nat) "GallRegisterModel" "risingAt" "[Z") ∈ lw_all := lw_g (lw_at lw_m6 193 rfl) rfl
theorem q1519 : (Jvm.Cond.fieldLink "GallRegisterModel" (68 : Nat) "GallRegisterModel" "inkNow" "[I") ∈ lw_all := lw_g (lw_at lw_m6 194 rfl) rfl
theorem q1520 : (Jvm.Cond.fieldLink "GallRegisterModel" (368 : Nat) "GallRegisterModel" "dateBits" "I") ∈ lw_all := lw_g (lw_at lw_m6 195 rfl) rfl
theorem q1521 : (Jvm.Cond.fieldLink "GallRegisterModel" (374 : Nat) "GallRegisterModel" "askBest" "I") ∈ lw_all := lw_g (lw_at lw_m6 196 rfl) rfl
theorem q1522 : (Jvm.Cond.fieldLink "GallRegisterModel" (380 : Nat) "GallRegisterModel" "askLeaves" "I") ∈ lw_all := lw_g (lw_at lw_m6 197 rfl) rfl
theorem q1523 : (Jvm.Cond.fieldLink "GallRegisterModel" (71 : Nat) "GallRegisterModel" "often" "[I") ∈ lw_all := lw_g (lw_at lw_m6 198 rfl) rfl
theorem q1524 : (Jvm.Cond.lays "GallRegisterModel" "GallRegisterModel" "thrown" "I") ∈ lw_all := lw_g (lw_at lw_m6 199 rfl) rfl
theorem q1525 : (Jvm.Cond.soleField "GallRegisterModel" "thrown") ∈ lw_all := lw_g (lw_at lw_m6 200 rfl) rfl
theorem q1526 : (Jvm.Cond.laysFinal "GallRegisterModel" "GallRegisterModel" "width" "[I") ∈ lw_all := lw_g (lw_at lw_m6 201 rfl) rfl
theorem q1527 : (Jvm.Cond.soleField "GallRegisterModel" "width") ∈ lw_all := lw_g (lw_at lw_m6 202 rfl) rfl
theorem q1528 : (Jvm.Cond.laysFinal "GallRegisterModel" "GallRegisterModel" "many" "[I") ∈ lw_all := lw_g (lw_at lw_m6 203 rfl) rfl
theorem q1529 : (Jvm.Cond.soleField "GallRegisterModel" "many") ∈ lw_all := lw_g (lw_at lw_m6 204 rfl) rfl
theorem q1530 : (Jvm.Cond.laysFinal "GallRegisterModel" "GallRegisterModel" "cells" "[J") ∈ lw_all := lw_g (lw_at lw_m6 205 rfl) rfl
theorem q1531 : (Jvm.Cond.soleField "GallRegisterModel" "cells") ∈ lw_all := lw_g (lw_at lw_m6 206 rfl) rfl
theorem q1532 : (Jvm.Cond.laysFinal "GallRegisterModel" "GallRegisterModel" "moved" "[J") ∈ lw_all := lw_g (lw_at lw_m6 207 rfl) rfl
theorem q1533 : (Jvm.Cond.soleField "GallRegisterModel" "moved") ∈ lw_all := lw_g (lw_at lw_m6 208 rfl) rfl
theorem q1534 : (Jvm.Cond.laysFinal "GallRegisterModel" "GallRegisterModel" "tape" "[B") ∈ lw_all := lw_g (lw_at lw_m6 209 rfl) rfl
theorem q1535 : (Jvm.Cond.soleField "GallRegisterModel" "tape") ∈ lw_all := lw_g (lw_at lw_m6 210 rfl) rfl
theorem q1536 : (Jvm.Cond.lays "GallRegisterModel" "GallRegisterModel" "taped" "I") ∈ lw_all := lw_g (lw_at lw_m6 211 rfl) rfl
theorem q1537 : (Jvm.Cond.soleField "GallRegisterModel" "taped") ∈ lw_all := lw_g (lw_at lw_m6 212 rfl) rfl
theorem q1538 : (Jvm.Cond.lays "GallRegisterModel" "GallRegisterModel" "spot" "I") ∈ lw_all := lw_g (lw_at lw_m6 213 rfl) rfl
theorem q1539 : (Jvm.Cond.soleField "GallRegisterModel" "spot") ∈ lw_all := lw_g (lw_at lw_m6 214 rfl) rfl
theorem q1540 : (Jvm.Cond.lays "GallRegisterModel" "GallRegisterModel" "token" "I") ∈ lw_all := lw_g (lw_at lw_m6 215 rfl) rfl
theorem q1541 : (Jvm.Cond.soleField "GallRegisterModel" "token") ∈ lw_all := lw_g (lw_at lw_m6 216 rfl) rfl
theorem q1542 : (Jvm.Cond.lays "GallRegisterModel" "GallRegisterModel" "place" "I") ∈ lw_all := lw_g (lw_at lw_m6 217 rfl) rfl
theorem q1543 : (Jvm.Cond.soleField "GallRegisterModel" "place") ∈ lw_all := lw_g (lw_at lw_m6 218 rfl) rfl
theorem q1544 : (Jvm.Cond.lays "GallRegisterModel" "GallRegisterModel" "value" "I") ∈ lw_all := lw_g (lw_at lw_m6 219 rfl) rfl
theorem q1545 : (Jvm.Cond.soleField "GallRegisterModel" "value") ∈ lw_all := lw_g (lw_at lw_m6 220 rfl) rfl
theorem q1546 : (Jvm.Cond.lays "GallRegisterModel" "GallRegisterModel" "word" "J") ∈ lw_all := lw_g (lw_at lw_m6 221 rfl) rfl
theorem q1547 : (Jvm.Cond.soleField "GallRegisterModel" "word") ∈ lw_all := lw_g (lw_at lw_m6 222 rfl) rfl
theorem q1548 : (Jvm.Cond.lays "GallRegisterModel" "GallRegisterModel" "bad" "I") ∈ lw_all := lw_g (lw_at lw_m6 223 rfl) rfl
theorem q1549 : (Jvm.Cond.soleField "GallRegisterModel" "bad") ∈ lw_all := lw_g (lw_at lw_m6 224 rfl) rfl
theorem q1550 : (Jvm.Cond.lays "GallRegisterModel" "GallRegisterModel" "badPlace" "I") ∈ lw_all := lw_g (lw_at lw_m6 225 rfl) rfl
theorem q1551 : (Jvm.Cond.soleField "GallRegisterModel" "badPlace") ∈ lw_all := lw_g (lw_at lw_m6 226 rfl) rfl
theorem q1552 : (Jvm.Cond.lays "GallRegisterModel" "GallRegisterModel" "fault" "I") ∈ lw_all := lw_g (lw_at lw_m6 227 rfl) rfl
theorem q1553 : (Jvm.Cond.soleField "GallRegisterModel" "fault") ∈ lw_all := lw_g (lw_at lw_m6 228 rfl) rfl
theorem q1554 : (Jvm.Cond.lays "GallRegisterModel" "GallRegisterModel" "faultPlace" "I") ∈ lw_all := lw_g (lw_at lw_m6 229 rfl) rfl
theorem q1555 : (Jvm.Cond.soleField "GallRegisterModel" "faultPlace") ∈ lw_all := lw_g (lw_at lw_m6 230 rfl) rfl
theorem q1556 : (Jvm.Cond.laysFinal "GallRegisterModel" "GallRegisterModel" "lines" "[I") ∈ lw_all := lw_g (lw_at lw_m6 231 rfl) rfl
theorem q1557 : (Jvm.Cond.soleField "GallRegisterModel" "lines") ∈ lw_all := lw_g (lw_at lw_m6 232 rfl) rfl
theorem q1558 : (Jvm.Cond.laysFinal "GallRegisterModel" "GallRegisterModel" "has" "[I") ∈ lw_all := lw_g (lw_at lw_m6 233 rfl) rfl
theorem q1559 : (Jvm.Cond.soleField "GallRegisterModel" "has") ∈ lw_all := lw_g (lw_at lw_m6 234 rfl) rfl
theorem q1560 : (Jvm.Cond.laysFinal "GallRegisterModel" "GallRegisterModel" "inkOf" "[I") ∈ lw_all := lw_g (lw_at lw_m6 235 rfl) rfl
theorem q1561 : (Jvm.Cond.soleField "GallRegisterModel" "inkOf") ∈ lw_all := lw_g (lw_at lw_m6 236 rfl) rfl
theorem q1562 : (Jvm.Cond.laysFinal "GallRegisterModel" "GallRegisterModel" "dampOf" "[I") ∈ lw_all := lw_g (lw_at lw_m6 237 rfl) rfl
theorem q1563 : (Jvm.Cond.soleField "GallRegisterModel" "dampOf") ∈ lw_all := lw_g (lw_at lw_m6 238 rfl) rfl
theorem q1564 : (Jvm.Cond.laysFinal "GallRegisterModel" "GallRegisterModel" "told" "[I") ∈ lw_all := lw_g (lw_at lw_m6 239 rfl) rfl
theorem q1565 : (Jvm.Cond.soleField "GallRegisterModel" "told") ∈ lw_all := lw_g (lw_at lw_m7 0 rfl) rfl
theorem q1566 : (Jvm.Cond.laysFinal "GallRegisterModel" "GallRegisterModel" "act" "[I") ∈ lw_all := lw_g (lw_at lw_m7 1 rfl) rfl
theorem q1567 : (Jvm.Cond.soleField "GallRegisterModel" "act") ∈ lw_all := lw_g (lw_at lw_m7 2 rfl) rfl
theorem q1568 : (Jvm.Cond.laysFinal "GallRegisterModel" "GallRegisterModel" "isKept" "[Z") ∈ lw_all := lw_g (lw_at lw_m7 3 rfl) rfl
theorem q1569 : (Jvm.Cond.soleField "GallRegisterModel" "isKept") ∈ lw_all := lw_g (lw_at lw_m7 4 rfl) rfl
theorem q1570 : (Jvm.Cond.lays "GallRegisterModel" "GallRegisterModel" "law" "I") ∈ lw_all := lw_g (lw_at lw_m7 5 rfl) rfl
theorem q1571 : (Jvm.Cond.soleField "GallRegisterModel" "law") ∈ lw_all := lw_g (lw_at lw_m7 6 rfl) rfl
theorem q1572 : (Jvm.Cond.lays "GallRegisterModel" "GallRegisterModel" "wet" "I") ∈ lw_all := lw_g (lw_at lw_m7 7 rfl) rfl
theorem q1573 : (Jvm.Cond.soleField "GallRegisterModel" "wet") ∈ lw_all := lw_g (lw_at lw_m7 8 rfl) rfl
theorem q1574 : (Jvm.Cond.lays "GallRegisterModel" "GallRegisterModel" "never" "I") ∈ lw_all := lw_g (lw_at lw_m7 9 rfl) rfl
theorem q1575 : (Jvm.Cond.soleField "GallRegisterModel" "never") ∈ lw_all := lw_g (lw_at lw_m7 10 rfl) rfl
theorem q1576 : (Jvm.Cond.lays "GallRegisterModel" "GallRegisterModel" "bleached" "I") ∈ lw_all := lw_g (lw_at lw_m7 11 rfl) rfl
theorem q1577 : (Jvm.Cond.soleField "GallRegisterModel" "bleached") ∈ lw_all := lw_g (lw_at lw_m7 12 rfl) rfl
theorem q1578 : (Jvm.Cond.lays "GallRegisterModel" "GallRegisterModel" "bleachYear" "I") ∈ lw_all := lw_g (lw_at lw_m7 13 rfl) rfl
theorem q1579 : (Jvm.Cond.soleField "GallRegisterModel" "bleachYear") ∈ lw_all := lw_g (lw_at lw_m7 14 rfl) rfl
theorem q1580 : (Jvm.Cond.lays "GallRegisterModel" "GallRegisterModel" "bleachMany" "I") ∈ lw_all := lw_g (lw_at lw_m7 15 rfl) rfl
theorem q1581 : (Jvm.Cond.soleField "GallRegisterModel" "bleachMany") ∈ lw_all := lw_g (lw_at lw_m7 16 rfl) rfl
theorem q1582 : (Jvm.Cond.lays "GallRegisterModel" "GallRegisterModel" "retraced" "I") ∈ lw_all := lw_g (lw_at lw_m7 17 rfl) rfl
theorem q1583 : (Jvm.Cond.soleField "GallRegisterModel" "retraced") ∈ lw_all := lw_g (lw_at lw_m7 18 rfl) rfl
theorem q1584 : (Jvm.Cond.lays "GallRegisterModel" "GallRegisterModel" "retraceYear" "I") ∈ lw_all := lw_g (lw_at lw_m7 19 rfl) rfl
theorem q1585 : (Jvm.Cond.soleField "GallRegisterModel" "retraceYear") ∈ lw_all := lw_g (lw_at lw_m7 20 rfl) rfl
theorem q1586 : (Jvm.Cond.laysFinal "GallRegisterModel" "GallRegisterModel" "wrote" "[I") ∈ lw_all := lw_g (lw_at lw_m7 21 rfl) rfl
theorem q1587 : (Jvm.Cond.soleField "GallRegisterModel" "wrote") ∈ lw_all := lw_g (lw_at lw_m7 22 rfl) rfl
theorem q1588 : (Jvm.Cond.laysFinal "GallRegisterModel" "GallRegisterModel" "inkTold" "[I") ∈ lw_all := lw_g (lw_at lw_m7 23 rfl) rfl
theorem q1589 : (Jvm.Cond.soleField "GallRegisterModel" "inkTold") ∈ lw_all := lw_g (lw_at lw_m7 24 rfl) rfl
theorem q1590 : (Jvm.Cond.laysFinal "GallRegisterModel" "GallRegisterModel" "damp" "[I") ∈ lw_all := lw_g (lw_at lw_m7 25 rfl) rfl
theorem q1591 : (Jvm.Cond.soleField "GallRegisterModel" "damp") ∈ lw_all := lw_g (lw_at lw_m7 26 rfl) rfl
theorem q1592 : (Jvm.Cond.laysFinal "GallRegisterModel" "GallRegisterModel" "shadeAt" "[I") ∈ lw_all := lw_g (lw_at lw_m7 27 rfl) rfl
theorem q1593 : (Jvm.Cond.soleField "GallRegisterModel" "shadeAt") ∈ lw_all := lw_g (lw_at lw_m7 28 rfl) rfl
theorem q1594 : (Jvm.Cond.laysFinal "GallRegisterModel" "GallRegisterModel" "risingAt" "[Z") ∈ lw_all := lw_g (lw_at lw_m7 29 rfl) rfl
theorem q1595 : (Jvm.Cond.soleField "GallRegisterModel" "risingAt") ∈ lw_all := lw_g (lw_at lw_m7 30 rfl) rfl
theorem q1596 : (Jvm.Cond.laysFinal "GallRegisterModel" "GallRegisterModel" "inkNow" "[I") ∈ lw_all := lw_g (lw_at lw_m7 31 rfl) rfl
theorem q1597 : (Jvm.Cond.soleField "GallRegisterModel" "inkNow") ∈ lw_all := lw_g (lw_at lw_m7 32 rfl) rfl
theorem q1598 : (Jvm.Cond.lays "GallRegisterModel" "GallRegisterModel" "dateBits" "I") ∈ lw_all := lw_g (lw_at lw_m7 33 rfl) rfl
theorem q1599 : (Jvm.Cond.soleField "GallRegisterModel" "dateBits") ∈ lw_all := lw_g (lw_at lw_m7 34 rfl) rfl
theorem q1600 : (Jvm.Cond.lays "GallRegisterModel" "GallRegisterModel" "askBest" "I") ∈ lw_all := lw_g (lw_at lw_m7 35 rfl) rfl
theorem q1601 : (Jvm.Cond.soleField "GallRegisterModel" "askBest") ∈ lw_all := lw_g (lw_at lw_m7 36 rfl) rfl
theorem q1602 : (Jvm.Cond.lays "GallRegisterModel" "GallRegisterModel" "askLeaves" "I") ∈ lw_all := lw_g (lw_at lw_m7 37 rfl) rfl
theorem q1603 : (Jvm.Cond.soleField "GallRegisterModel" "askLeaves") ∈ lw_all := lw_g (lw_at lw_m7 38 rfl) rfl
theorem q1604 : (Jvm.Cond.laysFinal "GallRegisterModel" "GallRegisterModel" "often" "[I") ∈ lw_all := lw_g (lw_at lw_m7 39 rfl) rfl
theorem q1605 : (Jvm.Cond.soleField "GallRegisterModel" "often") ∈ lw_all := lw_g (lw_at lw_m7 40 rfl) rfl
theorem q1606 : (Jvm.Cond.superclass "GallRegisterModel" "java/lang/Object") ∈ lw_all := lw_g (lw_at lw_m7 41 rfl) rfl
theorem q1609 : (Jvm.Cond.instanceMethod ({ cls := "GallRegisterModel", name := "row", desc := "(III)I" } : Jvm.MethodName)) ∈ lw_all := lw_g (lw_at lw_m7 44 rfl) rfl
theorem q1610 : (Jvm.Cond.selects "GallRegisterModel" ({ cls := "GallRegisterModel", name := "row", desc := "(III)I" } : Jvm.MethodName) ({ cls := "GallRegisterModel", name := "row", desc := "(III)I" } : Jvm.MethodName)) ∈ lw_all := lw_g (lw_at lw_m7 45 rfl) rfl
theorem q1611 : (Jvm.Cond.code ({ cls := "GallRegisterModel", name := "row", desc := "(III)I" } : Jvm.MethodName) prog_12_method_5_code (5 : Nat) (Option.some Jvm.ClassFile.FieldType.int)) ∈ lw_all := lw_g (lw_at lw_m7 46 rfl) rfl
theorem q1612 : (Jvm.Cond.methodLink "GallRegisterModel" (83 : Nat) ({ cls := "GallRegisterModel", name := "isSlot", desc := "(I)Z" } : Jvm.MethodName)) ∈ lw_all := lw_g (lw_at lw_m7 47 rfl) rfl
theorem q1613 : (Jvm.Cond.static ({ cls := "GallRegisterModel", name := "isSlot", desc := "(I)Z" } : Jvm.MethodName)) ∈ lw_all := lw_g (lw_at lw_m7 48 rfl) rfl
theorem q1614 : (Jvm.Cond.code ({ cls := "GallRegisterModel", name := "isSlot", desc := "(I)Z" } : Jvm.MethodName) prog_12_method_4_code (1 : Nat) (Option.some Jvm.ClassFile.FieldType.boolean)) ∈ lw_all := lw_g (lw_at lw_m7 49 rfl) rfl
theorem q1615 : (Jvm.Cond.constantLong "GallRegisterModel" (77 : Nat) (3 : Int64)) ∈ lw_all := lw_g (lw_at lw_m7 50 rfl) rfl
theorem q1616 : (Jvm.Cond.methodLink "GallRegisterModel" (79 : Nat) ({ cls := "GallRegisterModel", name := "in", desc := "(JJJ)Z" } : Jvm.MethodName)) ∈ lw_all := lw_g (lw_at lw_m7 51 rfl) rfl
theorem q1617 : (Jvm.Cond.static ({ cls := "GallRegisterModel", name := "in", desc := "(JJJ)Z" } : Jvm.MethodName)) ∈ lw_all := lw_g (lw_at lw_m7 52 rfl) rfl
theorem q1618 : (Jvm.Cond.code ({ cls := "GallRegisterModel", name := "in", desc := "(JJJ)Z" } : Jvm.MethodName) prog_12_method_3_code (6 : Nat) (Option.some Jvm.ClassFile.FieldType.boolean)) ∈ lw_all := lw_g (lw_at lw_m7 53 rfl) rfl
theorem q1620 : (Jvm.Cond.instanceMethod ({ cls := "GallRegisterModel", name := "write", desc := "(IIJ)I" } : Jvm.MethodName)) ∈ lw_all := lw_g (lw_at lw_m7 55 rfl) rfl
theorem q1621 : (Jvm.Cond.selects "GallRegisterModel" ({ cls := "GallRegisterModel", name := "write", desc := "(IIJ)I" } : Jvm.MethodName) ({ cls := "GallRegisterModel", name := "write", desc := "(IIJ)I" } : Jvm.MethodName)) ∈ lw_all := lw_g (lw_at lw_m7 56 rfl) rfl
theorem q1622 : (Jvm.Cond.code ({ cls := "GallRegisterModel", name := "write", desc := "(IIJ)I" } : Jvm.MethodName) prog_12_method_7_code (5 : Nat) (Option.some Jvm.ClassFile.FieldType.int)) ∈ lw_all := lw_g (lw_at lw_m7 57 rfl) rfl
theorem q1623 : (Jvm.Cond.methodLink "GallRegisterModel" (87 : Nat) ({ cls := "GallRegisterModel", name := "cut", desc := "(JI)J" } : Jvm.MethodName)) ∈ lw_all := lw_g (lw_at lw_m7 58 rfl) rfl
theorem q1624 : (Jvm.Cond.static ({ cls := "GallRegisterModel", name := "cut", desc := "(JI)J" } : Jvm.MethodName)) ∈ lw_all := lw_g (lw_at lw_m7 59 rfl) rfl
theorem q1625 : (Jvm.Cond.code ({ cls := "GallRegisterModel", name := "cut", desc := "(JI)J" } : Jvm.MethodName) prog_12_method_6_code (3 : Nat) (Option.some Jvm.ClassFile.FieldType.long)) ∈ lw_all := lw_g (lw_at lw_m7 60 rfl) rfl
theorem q1627 : (Jvm.Cond.instanceMethod ({ cls := "GallRegisterModel", name := "paste", desc := "(IIIII)I" } : Jvm.MethodName)) ∈ lw_all := lw_g (lw_at lw_m7 62 rfl) rfl
theorem q1628 : (Jvm.Cond.selects "GallRegisterModel" ({ cls := "GallRegisterModel", name := "paste", desc := "(IIIII)I" } : Jvm.MethodName) ({ cls := "GallRegisterModel", name := "paste", desc := "(IIIII)I" } : Jvm.MethodName)) ∈ lw_all := lw_g (lw_at lw_m7 63 rfl) rfl
theorem q1629 : (Jvm.Cond.code ({ cls := "GallRegisterModel", name := "paste", desc := "(IIIII)I" } : Jvm.MethodName) prog_12_method_8_code (7 : Nat) (Option.some Jvm.ClassFile.FieldType.int)) ∈ lw_all := lw_g (lw_at lw_m7 64 rfl) rfl
theorem q1631 : (Jvm.Cond.instanceMethod ({ cls := "GallRegisterModel", name := "feed", desc := "(IIIII)I" } : Jvm.MethodName)) ∈ lw_all := lw_g (lw_at lw_m7 66 rfl) rfl
theorem q1632 : (Jvm.Cond.selects "GallRegisterModel" ({ cls := "GallRegisterModel", name := "feed", desc := "(IIIII)I" } : Jvm.MethodName) ({ cls := "GallRegisterModel", name := "feed", desc := "(IIIII)I" } : Jvm.MethodName)) ∈ lw_all := lw_g (lw_at lw_m7 67 rfl) rfl
theorem q1633 : (Jvm.Cond.code ({ cls := "GallRegisterModel", name := "feed", desc := "(IIIII)I" } : Jvm.MethodName) prog_12_method_9_code (6 : Nat) (Option.some Jvm.ClassFile.FieldType.int)) ∈ lw_all := lw_g (lw_at lw_m7 68 rfl) rfl
theorem q1634 : (Jvm.Cond.methodLink "GallRegisterModel" (94 : Nat) ({ cls := "GallRegisterModel", name := "four", desc := "(I)V" } : Jvm.MethodName)) ∈ lw_all := lw_g (lw_at lw_m7 69 rfl) rfl
theorem q1635 : (Jvm.Cond.privateMethod ({ cls := "GallRegisterModel", name := "four", desc := "(I)V" } : Jvm.MethodName)) ∈ lw_tbl := lw_at lw_m7 70 rfl
theorem q1636 : (Jvm.Cond.instanceMethod ({ cls := "GallRegisterModel", name := "four", desc := "(I)V" } : Jvm.MethodName)) ∈ lw_all := lw_g (lw_at lw_m7 71 rfl) rfl
theorem q1637 : (Jvm.Cond.code ({ cls := "GallRegisterModel", name := "four", desc := "(I)V" } : Jvm.MethodName) prog_12_method_10_code (3 : Nat) (Option.none : Option Jvm.ClassFile.FieldType)) ∈ lw_all := lw_g (lw_at lw_m7 72 rfl) rfl
theorem q1639 : (Jvm.Cond.instanceMethod ({ cls := "GallRegisterModel", name := "end", desc := "(I)I" } : Jvm.MethodName)) ∈ lw_all := lw_g (lw_at lw_m7 74 rfl) rfl
theorem q1640 : (Jvm.Cond.selects "GallRegisterModel" ({ cls := "GallRegisterModel", name := "end", desc := "(I)I" } : Jvm.MethodName) ({ cls := "GallRegisterModel", name := "end", desc := "(I)I" } : Jvm.MethodName)) ∈ lw_all := lw_g (lw_at lw_m7 75 rfl) rfl
theorem q1641 : (Jvm.Cond.code ({ cls := "GallRegisterModel", name := "end", desc := "(I)I" } : Jvm.MethodName) prog_12_method_11_code (2 : Nat) (Option.some Jvm.ClassFile.FieldType.int)) ∈ lw_all := lw_g (lw_at lw_m7 76 rfl) rfl
theorem q1643 : (Jvm.Cond.instanceMethod ({ cls := "GallRegisterModel", name := "fault", desc := "(I)I" } : Jvm.MethodName)) ∈ lw_all := lw_g (lw_at lw_m7 78 rfl) rfl
theorem q1644 : (Jvm.Cond.selects "GallRegisterModel" ({ cls := "GallRegisterModel", name := "fault", desc := "(I)I" } : Jvm.MethodName) ({ cls := "GallRegisterModel", name := "fault", desc := "(I)I" } : Jvm.MethodName)) ∈ lw_all := lw_g (lw_at lw_m7 79 rfl) rfl
theorem q1645 : (Jvm.Cond.code ({ cls := "GallRegisterModel", name := "fault", desc := "(I)I" } : Jvm.MethodName) prog_12_method_24_code (2 : Nat) (Option.some Jvm.ClassFile.FieldType.int)) ∈ lw_all := lw_g (lw_at lw_m7 80 rfl) rfl
theorem q1647 : (Jvm.Cond.instanceMethod ({ cls := "GallRegisterModel", name := "book", desc := "()I" } : Jvm.MethodName)) ∈ lw_all := lw_g (lw_at lw_m7 82 rfl) rfl
theorem q1648 : (Jvm.Cond.selects "GallRegisterModel" ({ cls := "GallRegisterModel", name := "book", desc := "()I" } : Jvm.MethodName) ({ cls := "GallRegisterModel", name := "book", desc := "()I" } : Jvm.MethodName)) ∈ lw_all := lw_g (lw_at lw_m7 83 rfl) rfl
theorem q1649 : (Jvm.Cond.code ({ cls := "GallRegisterModel", name := "book", desc := "()I" } : Jvm.MethodName) prog_12_method_33_code (1 : Nat) (Option.some Jvm.ClassFile.FieldType.int)) ∈ lw_all := lw_g (lw_at lw_m7 84 rfl) rfl
theorem q1650 : (Jvm.Cond.methodLink "GallRegisterModel" (202 : Nat) ({ cls := "GallRegisterModel", name := "clears", desc := "()V" } : Jvm.MethodName)) ∈ lw_all := lw_g (lw_at lw_m7 85 rfl) rfl
theorem q1651 : (Jvm.Cond.privateMethod ({ cls := "GallRegisterModel", name := "clears", desc := "()V" } : Jvm.MethodName)) ∈ lw_tbl := lw_at lw_m7 86 rfl
theorem q1652 : (Jvm.Cond.instanceMethod ({ cls := "GallRegisterModel", name := "clears", desc := "()V" } : Jvm.MethodName)) ∈ lw_all := lw_g (lw_at lw_m7 87 rfl) rfl
theorem q1653 : (Jvm.Cond.code ({ cls := "GallRegisterModel", name := "clears", desc := "()V" } : Jvm.MethodName) prog_12_method_32_code (2 : Nat) (Option.none : Option Jvm.ClassFile.FieldType)) ∈ lw_all := lw_g (lw_at lw_m7 88 rfl) rfl
theorem q1654 : (Jvm.Cond.methodLink "GallRegisterModel" (169 : Nat) ({ cls := "GallRegisterModel", name := "tells", desc := "(II)V" } : Jvm.MethodName)) ∈ lw_all := lw_g (lw_at lw_m7 89 rfl) rfl
theorem q1655 : (Jvm.Cond.privateMethod ({ cls := "GallRegisterModel", name := "tells", desc := "(II)V" } : Jvm.MethodName)) ∈ lw_tbl := lw_at lw_m7 90 rfl
theorem q1656 : (Jvm.Cond.instanceMethod ({ cls := "GallRegisterModel", name := "tells", desc := "(II)V" } : Jvm.MethodName)) ∈ lw_all := lw_g (lw_at lw_m7 91 rfl) rfl
theorem q1657 : (Jvm.Cond.code ({ cls := "GallRegisterModel", name := "tells", desc := "(II)V" } : Jvm.MethodName) prog_12_method_26_code (3 : Nat) (Option.none : Option Jvm.ClassFile.FieldType)) ∈ lw_all := lw_g (lw_at lw_m7 92 rfl) rfl
theorem q1658 : (Jvm.Cond.methodLink "GallRegisterModel" (205 : Nat) ({ cls := "GallRegisterModel", name := "begins", desc := "()V" } : Jvm.MethodName)) ∈ lw_all := lw_g (lw_at lw_m7 93 rfl) rfl
theorem q1659 : (Jvm.Cond.privateMethod ({ cls := "GallRegisterModel", name := "begins", desc := "()V" } : Jvm.MethodName)) ∈ lw_tbl := lw_at lw_m7 94 rfl
theorem q1660 : (Jvm.Cond.instanceMethod ({ cls := "GallRegisterModel", name := "begins", desc := "()V" } : Jvm.MethodName)) ∈ lw_all := lw_g (lw_at lw_m7 95 rfl) rfl
theorem q1661 : (Jvm.Cond.code ({ cls := "GallRegisterModel", name := "begins", desc := "()V" } : Jvm.MethodName) prog_12_method_22_code (1 : Nat) (Option.none : Option Jvm.ClassFile.FieldType)) ∈ lw_all := lw_g (lw_at lw_m7 96 rfl) rfl
theorem q1662 : (Jvm.Cond.methodLink "GallRegisterModel" (136 : Nat) ({ cls := "GallRegisterModel", name := "next", desc := "()V" } : Jvm.MethodName)) ∈ lw_all := lw_g (lw_at lw_m7 97 rfl) rfl
theorem q1663 : (Jvm.Cond.privateMethod ({ cls := "GallRegisterModel", name := "next", desc := "()V" } : Jvm.MethodName)) ∈ lw_tbl := lw_at lw_m7 98 rfl
theorem q1664 : (Jvm.Cond.instanceMethod ({ cls := "GallRegisterModel", name := "next", desc := "()V" } : Jvm.MethodName)) ∈ lw_all := lw_g (lw_at lw_m7 99 rfl) rfl
theorem q1665 : (Jvm.Cond.code ({ cls := "GallRegisterModel", name := "next", desc := "()V" } : Jvm.MethodName) prog_12_method_13_code (2 : Nat) (Option.none : Option Jvm.ClassFile.FieldType)) ∈ lw_all := lw_g (lw_at lw_m7 100 rfl) rfl
theorem q1666 : (Jvm.Cond.methodLink "GallRegisterModel" (101 : Nat) ({ cls := "GallRegisterModel", name := "isByte", desc := "(III)Z" } : Jvm.MethodName)) ∈ lw_all := lw_g (lw_at lw_m7 101 rfl) rfl
theorem q1667 : (Jvm.Cond.privateMethod ({ cls := "GallRegisterModel", name := "isByte", desc := "(III)Z" } : Jvm.MethodName)) ∈ lw_tbl := lw_at lw_m7 102 rfl
theorem q1668 : (Jvm.Cond.instanceMethod ({ cls := "GallRegisterModel", name := "isByte", desc := "(III)Z" } : Jvm.MethodName)) ∈ lw_all := lw_g (lw_at lw_m7 103 rfl) rfl
theorem q1669 : (Jvm.Cond.code ({ cls := "GallRegisterModel", name := "isByte", desc := "(III)Z" } : Jvm.MethodName) prog_12_method_12_code (4 : Nat) (Option.some Jvm.ClassFile.FieldType.boolean)) ∈ lw_all := lw_g (lw_at lw_m7 104 rfl) rfl
theorem q1670 : (Jvm.Cond.constantLong "GallRegisterModel" (118 : Nat) (-1 : Int64)) ∈ lw_all := lw_g (lw_at lw_m7 105 rfl) rfl
theorem q1671 : (Jvm.Cond.constantLong "GallRegisterModel" (120 : Nat) (27 : Int64)) ∈ lw_all := lw_g (lw_at lw_m7 106 rfl) rfl
theorem q1672 : (Jvm.Cond.constantLong "GallRegisterModel" (122 : Nat) (96 : Int64)) ∈ lw_all := lw_g (lw_at lw_m7 107 rfl) rfl
theorem q1673 : (Jvm.Cond.constant "GallRegisterModel" (124 : Nat) (100000 : Int32)) ∈ lw_all := lw_g (lw_at lw_m7 108 rfl) rfl
theorem q1674 : (Jvm.Cond.constant "GallRegisterModel" (125 : Nat) (1000000 : Int32)) ∈ lw_all := lw_g (lw_at lw_m7 109 rfl) rfl
theorem q1675 : (Jvm.Cond.methodLink "GallRegisterModel" (208 : Nat) ({ cls := "GallRegisterModel", name := "isGood", desc := "()Z" } : Jvm.MethodName)) ∈ lw_all := lw_g (lw_at lw_m7 110 rfl) rfl
theorem q1676 : (Jvm.Cond.privateMethod ({ cls := "GallRegisterModel", name := "isGood", desc := "()Z" } : Jvm.MethodName)) ∈ lw_tbl := lw_at lw_m7 111 rfl
theorem q1677 : (Jvm.Cond.instanceMethod ({ cls := "GallRegisterModel", name := "isGood", desc := "()Z" } : Jvm.MethodName)) ∈ lw_all := lw_g (lw_at lw_m7 112 rfl) rfl
theorem q1678 : (Jvm.Cond.code ({ cls := "GallRegisterModel", name := "isGood", desc := "()Z" } : Jvm.MethodName) prog_12_method_14_code (1 : Nat) (Option.some Jvm.ClassFile.FieldType.boolean)) ∈ lw_all := lw_g (lw_at lw_m7 113 rfl) rfl
theorem q1679 : (Jvm.Cond.constantLong "GallRegisterModel" (212 : Nat) (50717 : Int64)) ∈ lw_all := lw_g (lw_at lw_m7 114 rfl) rfl
theorem q1680 : (Jvm.Cond.methodLink "GallRegisterModel" (145 : Nat) ({ cls := "GallRegisterModel", name := "asks", desc := "(J)V" } : Jvm.MethodName)) ∈ lw_all := lw_g (lw_at lw_m7 115 rfl) rfl
theorem q1681 : (Jvm.Cond.privateMethod ({ cls := "GallRegisterModel", name := "asks", desc := "(J)V" } : Jvm.MethodName)) ∈ lw_tbl := lw_at lw_m7 116 rfl
theorem q1682 : (Jvm.Cond.instanceMethod ({ cls := "GallRegisterModel", name := "asks", desc := "(J)V" } : Jvm.MethodName)) ∈ lw_all := lw_g (lw_at lw_m7 117 rfl) rfl
theorem q1683 : (Jvm.Cond.code ({ cls := "GallRegisterModel", name := "asks", desc := "(J)V" } : Jvm.MethodName) prog_12_method_18_code (3 : Nat) (Option.none : Option Jvm.ClassFile.FieldType)) ∈ lw_all := lw_g (lw_at lw_m7 118 rfl) rfl
theorem q1684 : (Jvm.Cond.methodLink "GallRegisterModel" (139 : Nat) ({ cls := "GallRegisterModel", name := "takesWord", desc := "(J)Z" } : Jvm.MethodName)) ∈ lw_all := lw_g (lw_at lw_m7 119 rfl) rfl
theorem q1685 : (Jvm.Cond.privateMethod ({ cls := "GallRegisterModel", name := "takesWord", desc := "(J)Z" } : Jvm.MethodName)) ∈ lw_tbl := lw_at lw_m7 120 rfl
theorem q1686 : (Jvm.Cond.instanceMethod ({ cls := "GallRegisterModel", name := "takesWord", desc := "(J)Z" } : Jvm.MethodName)) ∈ lw_all := lw_g (lw_at lw_m7 121 rfl) rfl
theorem q1687 : (Jvm.Cond.code ({ cls := "GallRegisterModel", name := "takesWord", desc := "(J)Z" } : Jvm.MethodName) prog_12_method_17_code (3 : Nat) (Option.some Jvm.ClassFile.FieldType.boolean)) ∈ lw_all := lw_g (lw_at lw_m7 122 rfl) rfl
theorem q1688 : (Jvm.Cond.methodLink "GallRegisterModel" (132 : Nat) ({ cls := "GallRegisterModel", name := "is", desc := "(J)Z" } : Jvm.MethodName)) ∈ lw_all := lw_g (lw_at lw_m7 123 rfl) rfl
theorem q1689 : (Jvm.Cond.privateMethod ({ cls := "GallRegisterModel", name := "is", desc := "(J)Z" } : Jvm.MethodName)) ∈ lw_tbl := lw_at lw_m7 124 rfl
theorem q1690 : (Jvm.Cond.instanceMethod ({ cls := "GallRegisterModel", name := "is", desc := "(J)Z" } : Jvm.MethodName)) ∈ lw_all := lw_g (lw_at lw_m7 125 rfl) rfl
theorem q1691 : (Jvm.Cond.code ({ cls := "GallRegisterModel", name := "is", desc := "(J)Z" } : Jvm.MethodName) prog_12_method_16_code (3 : Nat) (Option.some Jvm.ClassFile.FieldType.boolean)) ∈ lw_all := lw_g (lw_at lw_m7 126 rfl) rfl
theorem q1692 : (Jvm.Cond.methodLink "GallRegisterModel" (142 : Nat) ({ cls := "GallRegisterModel", name := "fails", desc := "(I)V" } : Jvm.MethodName)) ∈ lw_all := lw_g (lw_at lw_m7 127 rfl) rfl
theorem q1693 : (Jvm.Cond.privateMethod ({ cls := "GallRegisterModel", name := "fails", desc := "(I)V" } : Jvm.MethodName)) ∈ lw_tbl := lw_at lw_m7 128 rfl
theorem q1694 : (Jvm.Cond.instanceMethod ({ cls := "GallRegisterModel", name := "fails", desc := "(I)V" } : Jvm.MethodName)) ∈ lw_all := lw_g (lw_at lw_m7 129 rfl) rfl
theorem q1695 : (Jvm.Cond.code ({ cls := "GallRegisterModel", name := "fails", desc := "(I)V" } : Jvm.MethodName) prog_12_method_15_code (2 : Nat) (Option.none : Option Jvm.ClassFile.FieldType)) ∈ lw_all := lw_g (lw_at lw_m7 130 rfl) rfl
theorem q1696 : (Jvm.Cond.constantLong "GallRegisterModel" (214 : Nat) (13385674 : Int64)) ∈ lw_all := lw_g (lw_at lw_m7 131 rfl) rfl
theorem q1697 : (Jvm.Cond.methodLink "GallRegisterModel" (162 : Nat) ({ cls := "GallRegisterModel", name := "number", desc := "(JII)I" } : Jvm.MethodName)) ∈ lw_all := lw_g (lw_at lw_m7 132 rfl) rfl
theorem q1698 : (Jvm.Cond.privateMethod ({ cls := "GallRegisterModel", name := "number", desc := "(JII)I" } : Jvm.MethodName)) ∈ lw_tbl := lw_at lw_m7 133 rfl
theorem q1699 : (Jvm.Cond.instanceMethod ({ cls := "GallRegisterModel", name := "number", desc := "(JII)I" } : Jvm.MethodName)) ∈ lw_all := lw_g (lw_at lw_m7 134 rfl) rfl
theorem q1700 : (Jvm.Cond.code ({ cls := "GallRegisterModel", name := "number", desc := "(JII)I" } : Jvm.MethodName) prog_12_method_20_code (5 : Nat) (Option.some Jvm.ClassFile.FieldType.int)) ∈ lw_all := lw_g (lw_at lw_m7 135 rfl) rfl
theorem q1701 : (Jvm.Cond.methodLink "GallRegisterModel" (149 : Nat) ({ cls := "GallRegisterModel", name := "number", desc := "(II)I" } : Jvm.MethodName)) ∈ lw_all := lw_g (lw_at lw_m7 136 rfl) rfl
theorem q1702 : (Jvm.Cond.privateMethod ({ cls := "GallRegisterModel", name := "number", desc := "(II)I" } : Jvm.MethodName)) ∈ lw_tbl := lw_at lw_m7 137 rfl
theorem q1703 : (Jvm.Cond.instanceMethod ({ cls := "GallRegisterModel", name := "number", desc := "(II)I" } : Jvm.MethodName)) ∈ lw_all := lw_g (lw_at lw_m7 138 rfl) rfl
theorem q1704 : (Jvm.Cond.code ({ cls := "GallRegisterModel", name := "number", desc := "(II)I" } : Jvm.MethodName) prog_12_method_19_code (4 : Nat) (Option.some Jvm.ClassFile.FieldType.int)) ∈ lw_all := lw_g (lw_at lw_m7 139 rfl) rfl
theorem q1705 : (Jvm.Cond.constantLong "GallRegisterModel" (216 : Nat) (8798 : Int64)) ∈ lw_all := lw_g (lw_at lw_m7 140 rfl) rfl
theorem q1706 : (Jvm.Cond.constantLong "GallRegisterModel" (218 : Nat) (298288 : Int64)) ∈ lw_all := lw_g (lw_at lw_m7 141 rfl) rfl
theorem q1707 : (Jvm.Cond.methodLink "GallRegisterModel" (220 : Nat) ({ cls := "GallRegisterModel", name := "lineHere", desc := "()V" } : Jvm.MethodName)) ∈ lw_all := lw_g (lw_at lw_m7 142 rfl) rfl
theorem q1708 : (Jvm.Cond.privateMethod ({ cls := "GallRegisterModel", name := "lineHere", desc := "()V" } : Jvm.MethodName)) ∈ lw_tbl := lw_at lw_m7 143 rfl
theorem q1709 : (Jvm.Cond.instanceMethod ({ cls := "GallRegisterModel", name := "lineHere", desc := "()V" } : Jvm.MethodName)) ∈ lw_all := lw_g (lw_at lw_m7 144 rfl) rfl
theorem q1710 : (Jvm.Cond.code ({ cls := "GallRegisterModel", name := "lineHere", desc := "()V" } : Jvm.MethodName) prog_12_method_31_code (1 : Nat) (Option.none : Option Jvm.ClassFile.FieldType)) ∈ lw_all := lw_g (lw_at lw_m7 145 rfl) rfl
theorem q1711 : (Jvm.Cond.constantLong "GallRegisterModel" (183 : Nat) (6950 : Int64)) ∈ lw_all := lw_g (lw_at lw_m7 146 rfl) rfl
theorem q1712 : (Jvm.Cond.methodLink "GallRegisterModel" (185 : Nat) ({ cls := "GallRegisterModel", name := "isRoom", desc := "(ZII)Z" } : Jvm.MethodName)) ∈ lw_all := lw_g (lw_at lw_m7 147 rfl) rfl
theorem q1713 : (Jvm.Cond.privateMethod ({ cls := "GallRegisterModel", name := "isRoom", desc := "(ZII)Z" } : Jvm.MethodName)) ∈ lw_tbl := lw_at lw_m7 148 rfl
theorem q1714 : (Jvm.Cond.instanceMethod ({ cls := "GallRegisterModel", name := "isRoom", desc := "(ZII)Z" } : Jvm.MethodName)) ∈ lw_all := lw_g (lw_at lw_m7 149 rfl) rfl
theorem q1715 : (Jvm.Cond.code ({ cls := "GallRegisterModel", name := "isRoom", desc := "(ZII)Z" } : Jvm.MethodName) prog_12_method_30_code (4 : Nat) (Option.some Jvm.ClassFile.FieldType.boolean)) ∈ lw_all := lw_g (lw_at lw_m7 150 rfl) rfl
theorem q1716 : (Jvm.Cond.methodLink "GallRegisterModel" (156 : Nat) ({ cls := "GallRegisterModel", name := "hasRead", desc := "(I)I" } : Jvm.MethodName)) ∈ lw_all := lw_g (lw_at lw_m7 151 rfl) rfl
theorem q1717 : (Jvm.Cond.privateMethod ({ cls := "GallRegisterModel", name := "hasRead", desc := "(I)I" } : Jvm.MethodName)) ∈ lw_tbl := lw_at lw_m7 152 rfl
theorem q1718 : (Jvm.Cond.instanceMethod ({ cls := "GallRegisterModel", name := "hasRead", desc := "(I)I" } : Jvm.MethodName)) ∈ lw_all := lw_g (lw_at lw_m7 153 rfl) rfl
theorem q1719 : (Jvm.Cond.code ({ cls := "GallRegisterModel", name := "hasRead", desc := "(I)I" } : Jvm.MethodName) prog_12_method_25_code (2 : Nat) (Option.some Jvm.ClassFile.FieldType.int)) ∈ lw_all := lw_g (lw_at lw_m7 154 rfl) rfl
theorem q1720 : (Jvm.Cond.methodLink "GallRegisterModel" (189 : Nat) ({ cls := "GallRegisterModel", name := "inkLine", desc := "()V" } : Jvm.MethodName)) ∈ lw_all := lw_g (lw_at lw_m7 155 rfl) rfl
theorem q1721 : (Jvm.Cond.privateMethod ({ cls := "GallRegisterModel", name := "inkLine", desc := "()V" } : Jvm.MethodName)) ∈ lw_tbl := lw_at lw_m7 156 rfl
theorem q1722 : (Jvm.Cond.instanceMethod ({ cls := "GallRegisterModel", name := "inkLine", desc := "()V" } : Jvm.MethodName)) ∈ lw_all := lw_g (lw_at lw_m7 157 rfl) rfl
theorem q1723 : (Jvm.Cond.code ({ cls := "GallRegisterModel", name := "inkLine", desc := "()V" } : Jvm.MethodName) prog_12_method_27_code (2 : Nat) (Option.none : Option Jvm.ClassFile.FieldType)) ∈ lw_all := lw_g (lw_at lw_m7 158 rfl) rfl
theorem q1724 : (Jvm.Cond.constantLong "GallRegisterModel" (160 : Nat) (361373 : Int64)) ∈ lw_all := lw_g (lw_at lw_m7 159 rfl) rfl
theorem q1725 : (Jvm.Cond.constantLong "GallRegisterModel" (165 : Nat) (15001 : Int64)) ∈ lw_all := lw_g (lw_at lw_m7 160 rfl) rfl
theorem q1726 : (Jvm.Cond.constantLong "GallRegisterModel" (167 : Nat) (118940 : Int64)) ∈ lw_all := lw_g (lw_at lw_m7 161 rfl) rfl
theorem q1727 : (Jvm.Cond.constantLong "GallRegisterModel" (192 : Nat) (315851 : Int64)) ∈ lw_all := lw_g (lw_at lw_m7 162 rfl) rfl
theorem q1728 : (Jvm.Cond.methodLink "GallRegisterModel" (194 : Nat) ({ cls := "GallRegisterModel", name := "pageLine", desc := "()V" } : Jvm.MethodName)) ∈ lw_all := lw_g (lw_at lw_m7 163 rfl) rfl
theorem q1729 : (Jvm.Cond.privateMethod ({ cls := "GallRegisterModel", name := "pageLine", desc := "()V" } : Jvm.MethodName)) ∈ lw_tbl := lw_at lw_m7 164 rfl
theorem q1730 : (Jvm.Cond.instanceMethod ({ cls := "GallRegisterModel", name := "pageLine", desc := "()V" } : Jvm.MethodName)) ∈ lw_all := lw_g (lw_at lw_m7 165 rfl) rfl
theorem q1731 : (Jvm.Cond.code ({ cls := "GallRegisterModel", name := "pageLine", desc := "()V" } : Jvm.MethodName) prog_12_method_28_code (2 : Nat) (Option.none : Option Jvm.ClassFile.FieldType)) ∈ lw_all := lw_g (lw_at lw_m7 166 rfl) rfl
theorem q1732 : (Jvm.Cond.constantLong "GallRegisterModel" (173 : Nat) (79828 : Int64)) ∈ lw_all := lw_g (lw_at lw_m7 167 rfl) rfl
theorem q1733 : (Jvm.Cond.constantLong "GallRegisterModel" (197 : Nat) (2947858 : Int64)) ∈ lw_all := lw_g (lw_at lw_m7 168 rfl) rfl
theorem q1734 : (Jvm.Cond.methodLink "GallRegisterModel" (199 : Nat) ({ cls := "GallRegisterModel", name := "entryLine", desc := "()V" } : Jvm.MethodName)) ∈ lw_all := lw_g (lw_at lw_m7 169 rfl) rfl
theorem q1735 : (Jvm.Cond.privateMethod ({ cls := "GallRegisterModel", name := "entryLine", desc := "()V" } : Jvm.MethodName)) ∈ lw_tbl := lw_at lw_m7 170 rfl
theorem q1736 : (Jvm.Cond.instanceMethod ({ cls := "GallRegisterModel", name := "entryLine", desc := "()V" } : Jvm.MethodName)) ∈ lw_all := lw_g (lw_at lw_m7 171 rfl) rfl
theorem q1737 : (Jvm.Cond.code ({ cls := "GallRegisterModel", name := "entryLine", desc := "()V" } : Jvm.MethodName) prog_12_method_29_code (2 : Nat) (Option.none : Option Jvm.ClassFile.FieldType)) ∈ lw_all := lw_g (lw_at lw_m7 172 rfl) rfl
theorem q1738 : (Jvm.Cond.constantLong "GallRegisterModel" (175 : Nat) (419 : Int64)) ∈ lw_all := lw_g (lw_at lw_m7 173 rfl) rfl
theorem q1739 : (Jvm.Cond.constantLong "GallRegisterModel" (177 : Nat) (257 : Int64)) ∈ lw_all := lw_g (lw_at lw_m7 174 rfl) rfl
theorem q1740 : (Jvm.Cond.constantLong "GallRegisterModel" (179 : Nat) (12588917 : Int64)) ∈ lw_all := lw_g (lw_at lw_m7 175 rfl) rfl
theorem q1741 : (Jvm.Cond.constantLong "GallRegisterModel" (181 : Nat) (375400 : Int64)) ∈ lw_all := lw_g (lw_at lw_m7 176 rfl) rfl
theorem q1742 : (Jvm.Cond.methodLink "GallRegisterModel" (223 : Nat) ({ cls := "GallRegisterModel", name := "ends", desc := "()V" } : Jvm.MethodName)) ∈ lw_all := lw_g (lw_at lw_m7 177 rfl) rfl
theorem q1743 : (Jvm.Cond.privateMethod ({ cls := "GallRegisterModel", name := "ends", desc := "()V" } : Jvm.MethodName)) ∈ lw_tbl := lw_at lw_m7 178 rfl
theorem q1744 : (Jvm.Cond.instanceMethod ({ cls := "GallRegisterModel", name := "ends", desc := "()V" } : Jvm.MethodName)) ∈ lw_all := lw_g (lw_at lw_m7 179 rfl) rfl
theorem q1745 : (Jvm.Cond.code ({ cls := "GallRegisterModel", name := "ends", desc := "()V" } : Jvm.MethodName) prog_12_method_21_code (1 : Nat) (Option.none : Option Jvm.ClassFile.FieldType)) ∈ lw_all := lw_g (lw_at lw_m7 180 rfl) rfl
theorem q1746 : (Jvm.Cond.methodLink "GallRegisterModel" (226 : Nat) ({ cls := "GallRegisterModel", name := "isOver", desc := "()V" } : Jvm.MethodName)) ∈ lw_all := lw_g (lw_at lw_m7 181 rfl) rfl
theorem q1747 : (Jvm.Cond.privateMethod ({ cls := "GallRegisterModel", name := "isOver", desc := "()V" } : Jvm.MethodName)) ∈ lw_tbl := lw_at lw_m7 182 rfl
theorem q1748 : (Jvm.Cond.instanceMethod ({ cls := "GallRegisterModel", name := "isOver", desc := "()V" } : Jvm.MethodName)) ∈ lw_all := lw_g (lw_at lw_m7 183 rfl) rfl
theorem q1749 : (Jvm.Cond.code ({ cls := "GallRegisterModel", name := "isOver", desc := "()V" } : Jvm.MethodName) prog_12_method_23_code (1 : Nat) (Option.none : Option Jvm.ClassFile.FieldType)) ∈ lw_all := lw_g (lw_at lw_m7 184 rfl) rfl
theorem q1750 : (Jvm.Cond.methodLink "GallRegisterModel" (229 : Nat) ({ cls := "GallRegisterModel", name := "copyBook", desc := "(II)V" } : Jvm.MethodName)) ∈ lw_all := lw_g (lw_at lw_m7 185 rfl) rfl
theorem q1751 : (Jvm.Cond.privateMethod ({ cls := "GallRegisterModel", name := "copyBook", desc := "(II)V" } : Jvm.MethodName)) ∈ lw_tbl := lw_at lw_m7 186 rfl
theorem q1752 : (Jvm.Cond.instanceMethod ({ cls := "GallRegisterModel", name := "copyBook", desc := "(II)V" } : Jvm.MethodName)) ∈ lw_all := lw_g (lw_at lw_m7 187 rfl) rfl
theorem q1753 : (Jvm.Cond.code ({ cls := "GallRegisterModel", name := "copyBook", desc := "(II)V" } : Jvm.MethodName) prog_12_method_35_code (3 : Nat) (Option.none : Option Jvm.ClassFile.FieldType)) ∈ lw_all := lw_g (lw_at lw_m7 188 rfl) rfl
theorem q1754 : (Jvm.Cond.methodLink "GallRegisterModel" (232 : Nat) ({ cls := "GallRegisterModel", name := "copyRow", desc := "([IIII)V" } : Jvm.MethodName)) ∈ lw_all := lw_g (lw_at lw_m7 189 rfl) rfl
theorem q1755 : (Jvm.Cond.static ({ cls := "GallRegisterModel", name := "copyRow", desc := "([IIII)V" } : Jvm.MethodName)) ∈ lw_all := lw_g (lw_at lw_m7 190 rfl) rfl
theorem q1756 : (Jvm.Cond.code ({ cls := "GallRegisterModel", name := "copyRow", desc := "([IIII)V" } : Jvm.MethodName) prog_12_method_34_code (5 : Nat) (Option.none : Option Jvm.ClassFile.FieldType)) ∈ lw_all := lw_g (lw_at lw_m7 191 rfl) rfl
theorem q1758 : (Jvm.Cond.instanceMethod ({ cls := "GallRegisterModel", name := "ink", desc := "(II)I" } : Jvm.MethodName)) ∈ lw_all := lw_g (lw_at lw_m7 193 rfl) rfl
theorem q1759 : (Jvm.Cond.selects "GallRegisterModel" ({ cls := "GallRegisterModel", name := "ink", desc := "(II)I" } : Jvm.MethodName) ({ cls := "GallRegisterModel", name := "ink", desc := "(II)I" } : Jvm.MethodName)) ∈ lw_all := lw_g (lw_at lw_m7 194 rfl) rfl
theorem q1760 : (Jvm.Cond.code ({ cls := "GallRegisterModel", name := "ink", desc := "(II)I" } : Jvm.MethodName) prog_12_method_64_code (3 : Nat) (Option.some Jvm.ClassFile.FieldType.int)) ∈ lw_all := lw_g (lw_at lw_m7 195 rfl) rfl
theorem q1761 : (Jvm.Cond.methodLink "GallRegisterModel" (321 : Nat) ({ cls := "GallRegisterModel", name := "isInk", desc := "(I)Z" } : Jvm.MethodName)) ∈ lw_all := lw_g (lw_at lw_m7 196 rfl) rfl
theorem q1762 : (Jvm.Cond.privateMethod ({ cls := "GallRegisterModel", name := "isInk", desc := "(I)Z" } : Jvm.MethodName)) ∈ lw_tbl := lw_at lw_m7 197 rfl
theorem q1763 : (Jvm.Cond.instanceMethod ({ cls := "GallRegisterModel", name := "isInk", desc := "(I)Z" } : Jvm.MethodName)) ∈ lw_all := lw_g (lw_at lw_m7 198 rfl) rfl
theorem q1764 : (Jvm.Cond.code ({ cls := "GallRegisterModel", name := "isInk", desc := "(I)Z" } : Jvm.MethodName) prog_12_method_39_code (2 : Nat) (Option.some Jvm.ClassFile.FieldType.boolean)) ∈ lw_all := lw_g (lw_at lw_m7 199 rfl) rfl
theorem q1765 : (Jvm.Cond.constantLong "GallRegisterModel" (324 : Nat) (2 : Int64)) ∈ lw_all := lw_g (lw_at lw_m7 200 rfl) rfl
theorem q1767 : (Jvm.Cond.instanceMethod ({ cls := "GallRegisterModel", name := "page", desc := "(I)I" } : Jvm.MethodName)) ∈ lw_all := lw_g (lw_at lw_m7 202 rfl) rfl
theorem q1768 : (Jvm.Cond.selects "GallRegisterModel" ({ cls := "GallRegisterModel", name := "page", desc := "(I)I" } : Jvm.MethodName) ({ cls := "GallRegisterModel", name := "page", desc := "(I)I" } : Jvm.MethodName)) ∈ lw_all := lw_g (lw_at lw_m7 203 rfl) rfl
theorem q1769 : (Jvm.Cond.code ({ cls := "GallRegisterModel", name := "page", desc := "(I)I" } : Jvm.MethodName) prog_12_method_65_code (2 : Nat) (Option.some Jvm.ClassFile.FieldType.int)) ∈ lw_all := lw_g (lw_at lw_m7 204 rfl) rfl
theorem q1770 : (Jvm.Cond.methodLink "GallRegisterModel" (326 : Nat) ({ cls := "GallRegisterModel", name := "isPage", desc := "(I)Z" } : Jvm.MethodName)) ∈ lw_all := lw_g (lw_at lw_m7 205 rfl) rfl
theorem q1771 : (Jvm.Cond.privateMethod ({ cls := "GallRegisterModel", name := "isPage", desc := "(I)Z" } : Jvm.MethodName)) ∈ lw_tbl := lw_at lw_m7 206 rfl
theorem q1772 : (Jvm.Cond.instanceMethod ({ cls := "GallRegisterModel", name := "isPage", desc := "(I)Z" } : Jvm.MethodName)) ∈ lw_all := lw_g (lw_at lw_m7 207 rfl) rfl
theorem q1773 : (Jvm.Cond.code ({ cls := "GallRegisterModel", name := "isPage", desc := "(I)Z" } : Jvm.MethodName) prog_12_method_40_code (2 : Nat) (Option.some Jvm.ClassFile.FieldType.boolean)) ∈ lw_all := lw_g (lw_at lw_m7 208 rfl) rfl
theorem q1775 : (Jvm.Cond.instanceMethod ({ cls := "GallRegisterModel", name := "entry", desc := "(II)I" } : Jvm.MethodName)) ∈ lw_all := lw_g (lw_at lw_m7 210 rfl) rfl
theorem q1776 : (Jvm.Cond.selects "GallRegisterModel" ({ cls := "GallRegisterModel", name := "entry", desc := "(II)I" } : Jvm.MethodName) ({ cls := "GallRegisterModel", name := "entry", desc := "(II)I" } : Jvm.MethodName)) ∈ lw_all := lw_g (lw_at lw_m7 211 rfl) rfl
theorem q1777 : (Jvm.Cond.code ({ cls := "GallRegisterModel", name := "entry", desc := "(II)I" } : Jvm.MethodName) prog_12_method_66_code (3 : Nat) (Option.some Jvm.ClassFile.FieldType.int)) ∈ lw_all := lw_g (lw_at lw_m7 212 rfl) rfl
theorem q1778 : (Jvm.Cond.methodLink "GallRegisterModel" (246 : Nat) ({ cls := "GallRegisterModel", name := "isEntry", desc := "(J)Z" } : Jvm.MethodName)) ∈ lw_all := lw_g (lw_at lw_m7 213 rfl) rfl
theorem q1779 : (Jvm.Cond.privateMethod ({ cls := "GallRegisterModel", name := "isEntry", desc := "(J)Z" } : Jvm.MethodName)) ∈ lw_tbl := lw_at lw_m7 214 rfl
theorem q1780 : (Jvm.Cond.instanceMethod ({ cls := "GallRegisterModel", name := "isEntry", desc := "(J)Z" } : Jvm.MethodName)) ∈ lw_all := lw_g (lw_at lw_m7 215 rfl) rfl
theorem q1781 : (Jvm.Cond.code ({ cls := "GallRegisterModel", name := "isEntry", desc := "(J)Z" } : Jvm.MethodName) prog_12_method_41_code (3 : Nat) (Option.some Jvm.ClassFile.FieldType.boolean)) ∈ lw_all := lw_g (lw_at lw_m7 216 rfl) rfl
theorem q1782 : (Jvm.Cond.methodLink "GallRegisterModel" (236 : Nat) ({ cls := "GallRegisterModel", name := "entries", desc := "()I" } : Jvm.MethodName)) ∈ lw_all := lw_g (lw_at lw_m7 217 rfl) rfl
theorem q1783 : (Jvm.Cond.privateMethod ({ cls := "GallRegisterModel", name := "entries", desc := "()I" } : Jvm.MethodName)) ∈ lw_tbl := lw_at lw_m7 218 rfl
theorem q1784 : (Jvm.Cond.instanceMethod ({ cls := "GallRegisterModel", name := "entries", desc := "()I" } : Jvm.MethodName)) ∈ lw_all := lw_g (lw_at lw_m7 219 rfl) rfl
theorem q1785 : (Jvm.Cond.code ({ cls := "GallRegisterModel", name := "entries", desc := "()I" } : Jvm.MethodName) prog_12_method_37_code (1 : Nat) (Option.some Jvm.ClassFile.FieldType.int)) ∈ lw_all := lw_g (lw_at lw_m7 220 rfl) rfl
theorem q1786 : (Jvm.Cond.constantLong "GallRegisterModel" (329 : Nat) (4 : Int64)) ∈ lw_all := lw_g (lw_at lw_m7 221 rfl) rfl
theorem q1787 : (Jvm.Cond.methodLink "GallRegisterModel" (270 : Nat) ({ cls := "GallRegisterModel", name := "placeOf", desc := "(I)I" } : Jvm.MethodName)) ∈ lw_all := lw_g (lw_at lw_m7 222 rfl) rfl
theorem q1788 : (Jvm.Cond.privateMethod ({ cls := "GallRegisterModel", name := "placeOf", desc := "(I)I" } : Jvm.MethodName)) ∈ lw_tbl := lw_at lw_m7 223 rfl
theorem q1789 : (Jvm.Cond.instanceMethod ({ cls := "GallRegisterModel", name := "placeOf", desc := "(I)I" } : Jvm.MethodName)) ∈ lw_all := lw_g (lw_at lw_m7 224 rfl) rfl
theorem q1790 : (Jvm.Cond.code ({ cls := "GallRegisterModel", name := "placeOf", desc := "(I)I" } : Jvm.MethodName) prog_12_method_50_code (4 : Nat) (Option.some Jvm.ClassFile.FieldType.int)) ∈ lw_all := lw_g (lw_at lw_m7 225 rfl) rfl
theorem q1792 : (Jvm.Cond.instanceMethod ({ cls := "GallRegisterModel", name := "on", desc := "(I)I" } : Jvm.MethodName)) ∈ lw_all := lw_g (lw_at lw_m7 227 rfl) rfl
theorem q1793 : (Jvm.Cond.selects "GallRegisterModel" ({ cls := "GallRegisterModel", name := "on", desc := "(I)I" } : Jvm.MethodName) ({ cls := "GallRegisterModel", name := "on", desc := "(I)I" } : Jvm.MethodName)) ∈ lw_all := lw_g (lw_at lw_m7 228 rfl) rfl
theorem q1794 : (Jvm.Cond.code ({ cls := "GallRegisterModel", name := "on", desc := "(I)I" } : Jvm.MethodName) prog_12_method_67_code (4 : Nat) (Option.some Jvm.ClassFile.FieldType.int)) ∈ lw_all := lw_g (lw_at lw_m7 229 rfl) rfl
theorem q1796 : (Jvm.Cond.instanceMethod ({ cls := "GallRegisterModel", name := "faces", desc := "(I)I" } : Jvm.MethodName)) ∈ lw_all := lw_g (lw_at lw_m7 231 rfl) rfl
theorem q1797 : (Jvm.Cond.selects "GallRegisterModel" ({ cls := "GallRegisterModel", name := "faces", desc := "(I)I" } : Jvm.MethodName) ({ cls := "GallRegisterModel", name := "faces", desc := "(I)I" } : Jvm.MethodName)) ∈ lw_all := lw_g (lw_at lw_m7 232 rfl) rfl
theorem q1798 : (Jvm.Cond.code ({ cls := "GallRegisterModel", name := "faces", desc := "(I)I" } : Jvm.MethodName) prog_12_method_68_code (2 : Nat) (Option.some Jvm.ClassFile.FieldType.int)) ∈ lw_all := lw_g (lw_at lw_m7 233 rfl) rfl
theorem q1799 : (Jvm.Cond.methodLink "GallRegisterModel" (290 : Nat) ({ cls := "GallRegisterModel", name := "facing", desc := "(I)I" } : Jvm.MethodName)) ∈ lw_all := lw_g (lw_at lw_m7 234 rfl) rfl
theorem q1800 : (Jvm.Cond.privateMethod ({ cls := "GallRegisterModel", name := "facing", desc := "(I)I" } : Jvm.MethodName)) ∈ lw_tbl := lw_at lw_m7 235 rfl
theorem q1801 : (Jvm.Cond.instanceMethod ({ cls := "GallRegisterModel", name := "facing", desc := "(I)I" } : Jvm.MethodName)) ∈ lw_all := lw_g (lw_at lw_m7 236 rfl) rfl
theorem q1802 : (Jvm.Cond.code ({ cls := "GallRegisterModel", name := "facing", desc := "(I)I" } : Jvm.MethodName) prog_12_method_51_code (4 : Nat) (Option.some Jvm.ClassFile.FieldType.int)) ∈ lw_all := lw_g (lw_at lw_m7 237 rfl) rfl
theorem q1804 : (Jvm.Cond.instanceMethod ({ cls := "GallRegisterModel", name := "there", desc := "(I)I" } : Jvm.MethodName)) ∈ lw_all := lw_g (lw_at lw_m7 239 rfl) rfl
theorem q1805 : (Jvm.Cond.selects "GallRegisterModel" ({ cls := "GallRegisterModel", name := "there", desc := "(I)I" } : Jvm.MethodName) ({ cls := "GallRegisterModel", name := "there", desc := "(I)I" } : Jvm.MethodName)) ∈ lw_all := lw_g (lw_at lw_m8 0 rfl) rfl
theorem q1806 : (Jvm.Cond.code ({ cls := "GallRegisterModel", name := "there", desc := "(I)I" } : Jvm.MethodName) prog_12_method_70_code (2 : Nat) (Option.some Jvm.ClassFile.FieldType.int)) ∈ lw_all := lw_g (lw_at lw_m8 1 rfl) rfl
theorem q1807 : (Jvm.Cond.methodLink "GallRegisterModel" (249 : Nat) ({ cls := "GallRegisterModel", name := "isYear", desc := "(J)Z" } : Jvm.MethodName)) ∈ lw_all := lw_g (lw_at lw_m8 2 rfl) rfl
theorem q1808 : (Jvm.Cond.privateMethod ({ cls := "GallRegisterModel", name := "isYear", desc := "(J)Z" } : Jvm.MethodName)) ∈ lw_tbl := lw_at lw_m8 3 rfl
theorem q1809 : (Jvm.Cond.instanceMethod ({ cls := "GallRegisterModel", name := "isYear", desc := "(J)Z" } : Jvm.MethodName)) ∈ lw_all := lw_g (lw_at lw_m8 4 rfl) rfl
theorem q1810 : (Jvm.Cond.code ({ cls := "GallRegisterModel", name := "isYear", desc := "(J)Z" } : Jvm.MethodName) prog_12_method_42_code (3 : Nat) (Option.some Jvm.ClassFile.FieldType.boolean)) ∈ lw_all := lw_g (lw_at lw_m8 5 rfl) rfl
theorem q1811 : (Jvm.Cond.methodLink "GallRegisterModel" (240 : Nat) ({ cls := "GallRegisterModel", name := "isBook", desc := "()Z" } : Jvm.MethodName)) ∈ lw_all := lw_g (lw_at lw_m8 6 rfl) rfl
theorem q1812 : (Jvm.Cond.privateMethod ({ cls := "GallRegisterModel", name := "isBook", desc := "()Z" } : Jvm.MethodName)) ∈ lw_tbl := lw_at lw_m8 7 rfl
theorem q1813 : (Jvm.Cond.instanceMethod ({ cls := "GallRegisterModel", name := "isBook", desc := "()Z" } : Jvm.MethodName)) ∈ lw_all := lw_g (lw_at lw_m8 8 rfl) rfl
theorem q1814 : (Jvm.Cond.code ({ cls := "GallRegisterModel", name := "isBook", desc := "()Z" } : Jvm.MethodName) prog_12_method_36_code (1 : Nat) (Option.some Jvm.ClassFile.FieldType.boolean)) ∈ lw_all := lw_g (lw_at lw_m8 9 rfl) rfl
theorem q1815 : (Jvm.Cond.methodLink "GallRegisterModel" (243 : Nat) ({ cls := "GallRegisterModel", name := "years", desc := "()I" } : Jvm.MethodName)) ∈ lw_all := lw_g (lw_at lw_m8 10 rfl) rfl
theorem q1816 : (Jvm.Cond.privateMethod ({ cls := "GallRegisterModel", name := "years", desc := "()I" } : Jvm.MethodName)) ∈ lw_tbl := lw_at lw_m8 11 rfl
theorem q1817 : (Jvm.Cond.instanceMethod ({ cls := "GallRegisterModel", name := "years", desc := "()I" } : Jvm.MethodName)) ∈ lw_all := lw_g (lw_at lw_m8 12 rfl) rfl
theorem q1818 : (Jvm.Cond.code ({ cls := "GallRegisterModel", name := "years", desc := "()I" } : Jvm.MethodName) prog_12_method_38_code (1 : Nat) (Option.some Jvm.ClassFile.FieldType.int)) ∈ lw_all := lw_g (lw_at lw_m8 13 rfl) rfl
theorem q1819 : (Jvm.Cond.methodLink "GallRegisterModel" (315 : Nat) ({ cls := "GallRegisterModel", name := "lays", desc := "()V" } : Jvm.MethodName)) ∈ lw_all := lw_g (lw_at lw_m8 14 rfl) rfl
theorem q1820 : (Jvm.Cond.privateMethod ({ cls := "GallRegisterModel", name := "lays", desc := "()V" } : Jvm.MethodName)) ∈ lw_tbl := lw_at lw_m8 15 rfl
theorem q1821 : (Jvm.Cond.instanceMethod ({ cls := "GallRegisterModel", name := "lays", desc := "()V" } : Jvm.MethodName)) ∈ lw_all := lw_g (lw_at lw_m8 16 rfl) rfl
theorem q1822 : (Jvm.Cond.code ({ cls := "GallRegisterModel", name := "lays", desc := "()V" } : Jvm.MethodName) prog_12_method_49_code (2 : Nat) (Option.none : Option Jvm.ClassFile.FieldType)) ∈ lw_all := lw_g (lw_at lw_m8 17 rfl) rfl
theorem q1823 : (Jvm.Cond.methodLink "GallRegisterModel" (331 : Nat) ({ cls := "GallRegisterModel", name := "thereAt", desc := "(I)I" } : Jvm.MethodName)) ∈ lw_all := lw_g (lw_at lw_m8 18 rfl) rfl
theorem q1824 : (Jvm.Cond.privateMethod ({ cls := "GallRegisterModel", name := "thereAt", desc := "(I)I" } : Jvm.MethodName)) ∈ lw_tbl := lw_at lw_m8 19 rfl
theorem q1825 : (Jvm.Cond.instanceMethod ({ cls := "GallRegisterModel", name := "thereAt", desc := "(I)I" } : Jvm.MethodName)) ∈ lw_all := lw_g (lw_at lw_m8 20 rfl) rfl
theorem q1826 : (Jvm.Cond.code ({ cls := "GallRegisterModel", name := "thereAt", desc := "(I)I" } : Jvm.MethodName) prog_12_method_69_code (4 : Nat) (Option.some Jvm.ClassFile.FieldType.int)) ∈ lw_all := lw_g (lw_at lw_m8 21 rfl) rfl
theorem q1827 : (Jvm.Cond.methodLink "GallRegisterModel" (293 : Nat) ({ cls := "GallRegisterModel", name := "isThere", desc := "(II)Z" } : Jvm.MethodName)) ∈ lw_all := lw_g (lw_at lw_m8 22 rfl) rfl
theorem q1828 : (Jvm.Cond.privateMethod ({ cls := "GallRegisterModel", name := "isThere", desc := "(II)Z" } : Jvm.MethodName)) ∈ lw_tbl := lw_at lw_m8 23 rfl
theorem q1829 : (Jvm.Cond.instanceMethod ({ cls := "GallRegisterModel", name := "isThere", desc := "(II)Z" } : Jvm.MethodName)) ∈ lw_all := lw_g (lw_at lw_m8 24 rfl) rfl
theorem q1830 : (Jvm.Cond.code ({ cls := "GallRegisterModel", name := "isThere", desc := "(II)Z" } : Jvm.MethodName) prog_12_method_52_code (3 : Nat) (Option.some Jvm.ClassFile.FieldType.boolean)) ∈ lw_all := lw_g (lw_at lw_m8 25 rfl) rfl
theorem q1831 : (Jvm.Cond.methodLink "GallRegisterModel" (273 : Nat) ({ cls := "GallRegisterModel", name := "isBit", desc := "(II)Z" } : Jvm.MethodName)) ∈ lw_all := lw_g (lw_at lw_m8 26 rfl) rfl
theorem q1832 : (Jvm.Cond.static ({ cls := "GallRegisterModel", name := "isBit", desc := "(II)Z" } : Jvm.MethodName)) ∈ lw_all := lw_g (lw_at lw_m8 27 rfl) rfl
theorem q1833 : (Jvm.Cond.code ({ cls := "GallRegisterModel", name := "isBit", desc := "(II)Z" } : Jvm.MethodName) prog_12_method_45_code (2 : Nat) (Option.some Jvm.ClassFile.FieldType.boolean)) ∈ lw_all := lw_g (lw_at lw_m8 28 rfl) rfl
theorem q1835 : (Jvm.Cond.instanceMethod ({ cls := "GallRegisterModel", name := "shade", desc := "(II)I" } : Jvm.MethodName)) ∈ lw_all := lw_g (lw_at lw_m8 30 rfl) rfl
theorem q1836 : (Jvm.Cond.selects "GallRegisterModel" ({ cls := "GallRegisterModel", name := "shade", desc := "(II)I" } : Jvm.MethodName) ({ cls := "GallRegisterModel", name := "shade", desc := "(II)I" } : Jvm.MethodName)) ∈ lw_all := lw_g (lw_at lw_m8 31 rfl) rfl
theorem q1837 : (Jvm.Cond.code ({ cls := "GallRegisterModel", name := "shade", desc := "(II)I" } : Jvm.MethodName) prog_12_method_71_code (3 : Nat) (Option.some Jvm.ClassFile.FieldType.int)) ∈ lw_all := lw_g (lw_at lw_m8 32 rfl) rfl
theorem q1838 : (Jvm.Cond.methodLink "GallRegisterModel" (334 : Nat) ({ cls := "GallRegisterModel", name := "isThen", desc := "(II)Z" } : Jvm.MethodName)) ∈ lw_all := lw_g (lw_at lw_m8 33 rfl) rfl
theorem q1839 : (Jvm.Cond.privateMethod ({ cls := "GallRegisterModel", name := "isThen", desc := "(II)Z" } : Jvm.MethodName)) ∈ lw_tbl := lw_at lw_m8 34 rfl
theorem q1840 : (Jvm.Cond.instanceMethod ({ cls := "GallRegisterModel", name := "isThen", desc := "(II)Z" } : Jvm.MethodName)) ∈ lw_all := lw_g (lw_at lw_m8 35 rfl) rfl
theorem q1841 : (Jvm.Cond.code ({ cls := "GallRegisterModel", name := "isThen", desc := "(II)Z" } : Jvm.MethodName) prog_12_method_43_code (3 : Nat) (Option.some Jvm.ClassFile.FieldType.boolean)) ∈ lw_all := lw_g (lw_at lw_m8 36 rfl) rfl
theorem q1842 : (Jvm.Cond.methodLink "GallRegisterModel" (337 : Nat) ({ cls := "GallRegisterModel", name := "laysNow", desc := "()V" } : Jvm.MethodName)) ∈ lw_all := lw_g (lw_at lw_m8 37 rfl) rfl
theorem q1843 : (Jvm.Cond.privateMethod ({ cls := "GallRegisterModel", name := "laysNow", desc := "()V" } : Jvm.MethodName)) ∈ lw_tbl := lw_at lw_m8 38 rfl
theorem q1844 : (Jvm.Cond.instanceMethod ({ cls := "GallRegisterModel", name := "laysNow", desc := "()V" } : Jvm.MethodName)) ∈ lw_all := lw_g (lw_at lw_m8 39 rfl) rfl
theorem q1845 : (Jvm.Cond.code ({ cls := "GallRegisterModel", name := "laysNow", desc := "()V" } : Jvm.MethodName) prog_12_method_60_code (1 : Nat) (Option.none : Option Jvm.ClassFile.FieldType)) ∈ lw_all := lw_g (lw_at lw_m8 40 rfl) rfl
theorem q1846 : (Jvm.Cond.methodLink "GallRegisterModel" (318 : Nat) ({ cls := "GallRegisterModel", name := "runs", desc := "()V" } : Jvm.MethodName)) ∈ lw_all := lw_g (lw_at lw_m8 41 rfl) rfl
theorem q1847 : (Jvm.Cond.privateMethod ({ cls := "GallRegisterModel", name := "runs", desc := "()V" } : Jvm.MethodName)) ∈ lw_tbl := lw_at lw_m8 42 rfl
theorem q1848 : (Jvm.Cond.instanceMethod ({ cls := "GallRegisterModel", name := "runs", desc := "()V" } : Jvm.MethodName)) ∈ lw_all := lw_g (lw_at lw_m8 43 rfl) rfl
theorem q1849 : (Jvm.Cond.code ({ cls := "GallRegisterModel", name := "runs", desc := "()V" } : Jvm.MethodName) prog_12_method_59_code (3 : Nat) (Option.none : Option Jvm.ClassFile.FieldType)) ∈ lw_all := lw_g (lw_at lw_m8 44 rfl) rfl
theorem q1850 : (Jvm.Cond.methodLink "GallRegisterModel" (296 : Nat) ({ cls := "GallRegisterModel", name := "begin0", desc := "(III)V" } : Jvm.MethodName)) ∈ lw_all := lw_g (lw_at lw_m8 45 rfl) rfl
theorem q1851 : (Jvm.Cond.privateMethod ({ cls := "GallRegisterModel", name := "begin0", desc := "(III)V" } : Jvm.MethodName)) ∈ lw_tbl := lw_at lw_m8 46 rfl
theorem q1852 : (Jvm.Cond.instanceMethod ({ cls := "GallRegisterModel", name := "begin0", desc := "(III)V" } : Jvm.MethodName)) ∈ lw_all := lw_g (lw_at lw_m8 47 rfl) rfl
theorem q1853 : (Jvm.Cond.code ({ cls := "GallRegisterModel", name := "begin0", desc := "(III)V" } : Jvm.MethodName) prog_12_method_54_code (4 : Nat) (Option.none : Option Jvm.ClassFile.FieldType)) ∈ lw_all := lw_g (lw_at lw_m8 48 rfl) rfl
theorem q1854 : (Jvm.Cond.methodLink "GallRegisterModel" (277 : Nat) ({ cls := "GallRegisterModel", name := "lessOf", desc := "(II)I" } : Jvm.MethodName)) ∈ lw_all := lw_g (lw_at lw_m8 49 rfl) rfl
theorem q1855 : (Jvm.Cond.static ({ cls := "GallRegisterModel", name := "lessOf", desc := "(II)I" } : Jvm.MethodName)) ∈ lw_all := lw_g (lw_at lw_m8 50 rfl) rfl
theorem q1856 : (Jvm.Cond.code ({ cls := "GallRegisterModel", name := "lessOf", desc := "(II)I" } : Jvm.MethodName) prog_12_method_47_code (2 : Nat) (Option.some Jvm.ClassFile.FieldType.int)) ∈ lw_all := lw_g (lw_at lw_m8 51 rfl) rfl
theorem q1857 : (Jvm.Cond.methodLink "GallRegisterModel" (309 : Nat) ({ cls := "GallRegisterModel", name := "steps", desc := "(II)V" } : Jvm.MethodName)) ∈ lw_all := lw_g (lw_at lw_m8 52 rfl) rfl
theorem q1858 : (Jvm.Cond.privateMethod ({ cls := "GallRegisterModel", name := "steps", desc := "(II)V" } : Jvm.MethodName)) ∈ lw_tbl := lw_at lw_m8 53 rfl
theorem q1859 : (Jvm.Cond.instanceMethod ({ cls := "GallRegisterModel", name := "steps", desc := "(II)V" } : Jvm.MethodName)) ∈ lw_all := lw_g (lw_at lw_m8 54 rfl) rfl
theorem q1860 : (Jvm.Cond.code ({ cls := "GallRegisterModel", name := "steps", desc := "(II)V" } : Jvm.MethodName) prog_12_method_57_code (6 : Nat) (Option.none : Option Jvm.ClassFile.FieldType)) ∈ lw_all := lw_g (lw_at lw_m8 55 rfl) rfl
theorem q1861 : (Jvm.Cond.methodLink "GallRegisterModel" (283 : Nat) ({ cls := "GallRegisterModel", name := "shadeOf", desc := "(II)I" } : Jvm.MethodName)) ∈ lw_all := lw_g (lw_at lw_m8 56 rfl) rfl
theorem q1862 : (Jvm.Cond.privateMethod ({ cls := "GallRegisterModel", name := "shadeOf", desc := "(II)I" } : Jvm.MethodName)) ∈ lw_tbl := lw_at lw_m8 57 rfl
theorem q1863 : (Jvm.Cond.instanceMethod ({ cls := "GallRegisterModel", name := "shadeOf", desc := "(II)I" } : Jvm.MethodName)) ∈ lw_all := lw_g (lw_at lw_m8 58 rfl) rfl
theorem q1864 : (Jvm.Cond.code ({ cls := "GallRegisterModel", name := "shadeOf", desc := "(II)I" } : Jvm.MethodName) prog_12_method_53_code (3 : Nat) (Option.some Jvm.ClassFile.FieldType.int)) ∈ lw_all := lw_g (lw_at lw_m8 59 rfl) rfl
theorem q1865 : (Jvm.Cond.methodLink "GallRegisterModel" (286 : Nat) ({ cls := "GallRegisterModel", name := "fadeBy", desc := "(IIIII)I" } : Jvm.MethodName)) ∈ lw_all := lw_g (lw_at lw_m8 60 rfl) rfl
theorem q1866 : (Jvm.Cond.static ({ cls := "GallRegisterModel", name := "fadeBy", desc := "(IIIII)I" } : Jvm.MethodName)) ∈ lw_all := lw_g (lw_at lw_m8 61 rfl) rfl
theorem q1867 : (Jvm.Cond.code ({ cls := "GallRegisterModel", name := "fadeBy", desc := "(IIIII)I" } : Jvm.MethodName) prog_12_method_56_code (5 : Nat) (Option.some Jvm.ClassFile.FieldType.int)) ∈ lw_all := lw_g (lw_at lw_m8 62 rfl) rfl
theorem q1868 : (Jvm.Cond.methodLink "GallRegisterModel" (280 : Nat) ({ cls := "GallRegisterModel", name := "moreOf", desc := "(II)I" } : Jvm.MethodName)) ∈ lw_all := lw_g (lw_at lw_m8 63 rfl) rfl
theorem q1869 : (Jvm.Cond.static ({ cls := "GallRegisterModel", name := "moreOf", desc := "(II)I" } : Jvm.MethodName)) ∈ lw_all := lw_g (lw_at lw_m8 64 rfl) rfl
theorem q1870 : (Jvm.Cond.code ({ cls := "GallRegisterModel", name := "moreOf", desc := "(II)I" } : Jvm.MethodName) prog_12_method_48_code (2 : Nat) (Option.some Jvm.ClassFile.FieldType.int)) ∈ lw_all := lw_g (lw_at lw_m8 65 rfl) rfl
theorem q1871 : (Jvm.Cond.methodLink "GallRegisterModel" (312 : Nat) ({ cls := "GallRegisterModel", name := "actsOf", desc := "(I)V" } : Jvm.MethodName)) ∈ lw_all := lw_g (lw_at lw_m8 66 rfl) rfl
theorem q1872 : (Jvm.Cond.privateMethod ({ cls := "GallRegisterModel", name := "actsOf", desc := "(I)V" } : Jvm.MethodName)) ∈ lw_tbl := lw_at lw_m8 67 rfl
theorem q1873 : (Jvm.Cond.instanceMethod ({ cls := "GallRegisterModel", name := "actsOf", desc := "(I)V" } : Jvm.MethodName)) ∈ lw_all := lw_g (lw_at lw_m8 68 rfl) rfl
theorem q1874 : (Jvm.Cond.code ({ cls := "GallRegisterModel", name := "actsOf", desc := "(I)V" } : Jvm.MethodName) prog_12_method_58_code (4 : Nat) (Option.none : Option Jvm.ClassFile.FieldType)) ∈ lw_all := lw_g (lw_at lw_m8 69 rfl) rfl
theorem q1875 : (Jvm.Cond.methodLink "GallRegisterModel" (300 : Nat) ({ cls := "GallRegisterModel", name := "bleach0", desc := "(II)V" } : Jvm.MethodName)) ∈ lw_all := lw_g (lw_at lw_m8 70 rfl) rfl
theorem q1876 : (Jvm.Cond.privateMethod ({ cls := "GallRegisterModel", name := "bleach0", desc := "(II)V" } : Jvm.MethodName)) ∈ lw_tbl := lw_at lw_m8 71 rfl
theorem q1877 : (Jvm.Cond.instanceMethod ({ cls := "GallRegisterModel", name := "bleach0", desc := "(II)V" } : Jvm.MethodName)) ∈ lw_all := lw_g (lw_at lw_m8 72 rfl) rfl
theorem q1878 : (Jvm.Cond.code ({ cls := "GallRegisterModel", name := "bleach0", desc := "(II)V" } : Jvm.MethodName) prog_12_method_55_code (3 : Nat) (Option.none : Option Jvm.ClassFile.FieldType)) ∈ lw_all := lw_g (lw_at lw_m8 73 rfl) rfl
theorem q1880 : (Jvm.Cond.instanceMethod ({ cls := "GallRegisterModel", name := "peak", desc := "(I)I" } : Jvm.MethodName)) ∈ lw_all := lw_g (lw_at lw_m8 75 rfl) rfl
theorem q1881 : (Jvm.Cond.selects "GallRegisterModel" ({ cls := "GallRegisterModel", name := "peak", desc := "(I)I" } : Jvm.MethodName) ({ cls := "GallRegisterModel", name := "peak", desc := "(I)I" } : Jvm.MethodName)) ∈ lw_all := lw_g (lw_at lw_m8 76 rfl) rfl
theorem q1882 : (Jvm.Cond.code ({ cls := "GallRegisterModel", name := "peak", desc := "(I)I" } : Jvm.MethodName) prog_12_method_73_code (2 : Nat) (Option.some Jvm.ClassFile.FieldType.int)) ∈ lw_all := lw_g (lw_at lw_m8 77 rfl) rfl
theorem q1883 : (Jvm.Cond.methodLink "GallRegisterModel" (340 : Nat) ({ cls := "GallRegisterModel", name := "ripeOf", desc := "(I)I" } : Jvm.MethodName)) ∈ lw_all := lw_g (lw_at lw_m8 78 rfl) rfl
theorem q1884 : (Jvm.Cond.privateMethod ({ cls := "GallRegisterModel", name := "ripeOf", desc := "(I)I" } : Jvm.MethodName)) ∈ lw_tbl := lw_at lw_m8 79 rfl
theorem q1885 : (Jvm.Cond.instanceMethod ({ cls := "GallRegisterModel", name := "ripeOf", desc := "(I)I" } : Jvm.MethodName)) ∈ lw_all := lw_g (lw_at lw_m8 80 rfl) rfl
theorem q1886 : (Jvm.Cond.code ({ cls := "GallRegisterModel", name := "ripeOf", desc := "(I)I" } : Jvm.MethodName) prog_12_method_72_code (4 : Nat) (Option.some Jvm.ClassFile.FieldType.int)) ∈ lw_all := lw_g (lw_at lw_m8 81 rfl) rfl
theorem q1888 : (Jvm.Cond.instanceMethod ({ cls := "GallRegisterModel", name := "ripe", desc := "(I)I" } : Jvm.MethodName)) ∈ lw_all := lw_g (lw_at lw_m8 83 rfl) rfl
theorem q1889 : (Jvm.Cond.selects "GallRegisterModel" ({ cls := "GallRegisterModel", name := "ripe", desc := "(I)I" } : Jvm.MethodName) ({ cls := "GallRegisterModel", name := "ripe", desc := "(I)I" } : Jvm.MethodName)) ∈ lw_all := lw_g (lw_at lw_m8 84 rfl) rfl
theorem q1890 : (Jvm.Cond.code ({ cls := "GallRegisterModel", name := "ripe", desc := "(I)I" } : Jvm.MethodName) prog_12_method_74_code (2 : Nat) (Option.some Jvm.ClassFile.FieldType.int)) ∈ lw_all := lw_g (lw_at lw_m8 85 rfl) rfl
theorem q1892 : (Jvm.Cond.instanceMethod ({ cls := "GallRegisterModel", name := "blank", desc := "(I)I" } : Jvm.MethodName)) ∈ lw_all := lw_g (lw_at lw_m8 87 rfl) rfl
theorem q1893 : (Jvm.Cond.selects "GallRegisterModel" ({ cls := "GallRegisterModel", name := "blank", desc := "(I)I" } : Jvm.MethodName) ({ cls := "GallRegisterModel", name := "blank", desc := "(I)I" } : Jvm.MethodName)) ∈ lw_all := lw_g (lw_at lw_m8 88 rfl) rfl
theorem q1894 : (Jvm.Cond.code ({ cls := "GallRegisterModel", name := "blank", desc := "(I)I" } : Jvm.MethodName) prog_12_method_75_code (3 : Nat) (Option.some Jvm.ClassFile.FieldType.int)) ∈ lw_all := lw_g (lw_at lw_m8 89 rfl) rfl
theorem q1896 : (Jvm.Cond.instanceMethod ({ cls := "GallRegisterModel", name := "clear", desc := "(I)I" } : Jvm.MethodName)) ∈ lw_all := lw_g (lw_at lw_m8 91 rfl) rfl
theorem q1897 : (Jvm.Cond.selects "GallRegisterModel" ({ cls := "GallRegisterModel", name := "clear", desc := "(I)I" } : Jvm.MethodName) ({ cls := "GallRegisterModel", name := "clear", desc := "(I)I" } : Jvm.MethodName)) ∈ lw_all := lw_g (lw_at lw_m8 92 rfl) rfl
theorem q1898 : (Jvm.Cond.code ({ cls := "GallRegisterModel", name := "clear", desc := "(I)I" } : Jvm.MethodName) prog_12_method_76_code (2 : Nat) (Option.some Jvm.ClassFile.FieldType.int)) ∈ lw_all := lw_g (lw_at lw_m8 93 rfl) rfl
theorem q1899 : (Jvm.Cond.methodLink "GallRegisterModel" (343 : Nat) ({ cls := "GallRegisterModel", name := "clearAt", desc := "(I)I" } : Jvm.MethodName)) ∈ lw_all := lw_g (lw_at lw_m8 94 rfl) rfl
theorem q1900 : (Jvm.Cond.privateMethod ({ cls := "GallRegisterModel", name := "clearAt", desc := "(I)I" } : Jvm.MethodName)) ∈ lw_tbl := lw_at lw_m8 95 rfl
theorem q1901 : (Jvm.Cond.instanceMethod ({ cls := "GallRegisterModel", name := "clearAt", desc := "(I)I" } : Jvm.MethodName)) ∈ lw_all := lw_g (lw_at lw_m8 96 rfl) rfl
theorem q1902 : (Jvm.Cond.code ({ cls := "GallRegisterModel", name := "clearAt", desc := "(I)I" } : Jvm.MethodName) prog_12_method_63_code (4 : Nat) (Option.some Jvm.ClassFile.FieldType.int)) ∈ lw_all := lw_g (lw_at lw_m8 97 rfl) rfl
theorem q1904 : (Jvm.Cond.instanceMethod ({ cls := "GallRegisterModel", name := "all", desc := "(I)I" } : Jvm.MethodName)) ∈ lw_all := lw_g (lw_at lw_m8 99 rfl) rfl
theorem q1905 : (Jvm.Cond.selects "GallRegisterModel" ({ cls := "GallRegisterModel", name := "all", desc := "(I)I" } : Jvm.MethodName) ({ cls := "GallRegisterModel", name := "all", desc := "(I)I" } : Jvm.MethodName)) ∈ lw_all := lw_g (lw_at lw_m8 100 rfl) rfl
theorem q1906 : (Jvm.Cond.code ({ cls := "GallRegisterModel", name := "all", desc := "(I)I" } : Jvm.MethodName) prog_12_method_77_code (2 : Nat) (Option.some Jvm.ClassFile.FieldType.int)) ∈ lw_all := lw_g (lw_at lw_m8 101 rfl) rfl
theorem q1907 : (Jvm.Cond.methodLink "GallRegisterModel" (346 : Nat) ({ cls := "GallRegisterModel", name := "allAt", desc := "(I)I" } : Jvm.MethodName)) ∈ lw_all := lw_g (lw_at lw_m8 102 rfl) rfl
theorem q1908 : (Jvm.Cond.privateMethod ({ cls := "GallRegisterModel", name := "allAt", desc := "(I)I" } : Jvm.MethodName)) ∈ lw_tbl := lw_at lw_m8 103 rfl
theorem q1909 : (Jvm.Cond.instanceMethod ({ cls := "GallRegisterModel", name := "allAt", desc := "(I)I" } : Jvm.MethodName)) ∈ lw_all := lw_g (lw_at lw_m8 104 rfl) rfl
theorem q1910 : (Jvm.Cond.code ({ cls := "GallRegisterModel", name := "allAt", desc := "(I)I" } : Jvm.MethodName) prog_12_method_62_code (4 : Nat) (Option.some Jvm.ClassFile.FieldType.int)) ∈ lw_all := lw_g (lw_at lw_m8 105 rfl) rfl
theorem q1912 : (Jvm.Cond.instanceMethod ({ cls := "GallRegisterModel", name := "darkest", desc := "(I)I" } : Jvm.MethodName)) ∈ lw_all := lw_g (lw_at lw_m8 107 rfl) rfl
theorem q1913 : (Jvm.Cond.selects "GallRegisterModel" ({ cls := "GallRegisterModel", name := "darkest", desc := "(I)I" } : Jvm.MethodName) ({ cls := "GallRegisterModel", name := "darkest", desc := "(I)I" } : Jvm.MethodName)) ∈ lw_all := lw_g (lw_at lw_m8 108 rfl) rfl
theorem q1914 : (Jvm.Cond.code ({ cls := "GallRegisterModel", name := "darkest", desc := "(I)I" } : Jvm.MethodName) prog_12_method_79_code (2 : Nat) (Option.some Jvm.ClassFile.FieldType.int)) ∈ lw_all := lw_g (lw_at lw_m8 109 rfl) rfl
theorem q1915 : (Jvm.Cond.methodLink "GallRegisterModel" (349 : Nat) ({ cls := "GallRegisterModel", name := "oneBy", desc := "(II)I" } : Jvm.MethodName)) ∈ lw_all := lw_g (lw_at lw_m8 110 rfl) rfl
theorem q1916 : (Jvm.Cond.privateMethod ({ cls := "GallRegisterModel", name := "oneBy", desc := "(II)I" } : Jvm.MethodName)) ∈ lw_tbl := lw_at lw_m8 111 rfl
theorem q1917 : (Jvm.Cond.instanceMethod ({ cls := "GallRegisterModel", name := "oneBy", desc := "(II)I" } : Jvm.MethodName)) ∈ lw_all := lw_g (lw_at lw_m8 112 rfl) rfl
theorem q1918 : (Jvm.Cond.code ({ cls := "GallRegisterModel", name := "oneBy", desc := "(II)I" } : Jvm.MethodName) prog_12_method_78_code (5 : Nat) (Option.some Jvm.ClassFile.FieldType.int)) ∈ lw_all := lw_g (lw_at lw_m8 113 rfl) rfl
theorem q1920 : (Jvm.Cond.instanceMethod ({ cls := "GallRegisterModel", name := "palest", desc := "(I)I" } : Jvm.MethodName)) ∈ lw_all := lw_g (lw_at lw_m8 115 rfl) rfl
theorem q1921 : (Jvm.Cond.selects "GallRegisterModel" ({ cls := "GallRegisterModel", name := "palest", desc := "(I)I" } : Jvm.MethodName) ({ cls := "GallRegisterModel", name := "palest", desc := "(I)I" } : Jvm.MethodName)) ∈ lw_all := lw_g (lw_at lw_m8 116 rfl) rfl
theorem q1922 : (Jvm.Cond.code ({ cls := "GallRegisterModel", name := "palest", desc := "(I)I" } : Jvm.MethodName) prog_12_method_80_code (2 : Nat) (Option.some Jvm.ClassFile.FieldType.int)) ∈ lw_all := lw_g (lw_at lw_m8 117 rfl) rfl
theorem q1924 : (Jvm.Cond.instanceMethod ({ cls := "GallRegisterModel", name := "sorts", desc := "(I)I" } : Jvm.MethodName)) ∈ lw_all := lw_g (lw_at lw_m8 119 rfl) rfl
theorem q1925 : (Jvm.Cond.selects "GallRegisterModel" ({ cls := "GallRegisterModel", name := "sorts", desc := "(I)I" } : Jvm.MethodName) ({ cls := "GallRegisterModel", name := "sorts", desc := "(I)I" } : Jvm.MethodName)) ∈ lw_all := lw_g (lw_at lw_m8 120 rfl) rfl
theorem q1926 : (Jvm.Cond.code ({ cls := "GallRegisterModel", name := "sorts", desc := "(I)I" } : Jvm.MethodName) prog_12_method_82_code (2 : Nat) (Option.some Jvm.ClassFile.FieldType.int)) ∈ lw_all := lw_g (lw_at lw_m8 121 rfl) rfl
theorem q1927 : (Jvm.Cond.methodLink "GallRegisterModel" (352 : Nat) ({ cls := "GallRegisterModel", name := "sortsOf", desc := "(II)I" } : Jvm.MethodName)) ∈ lw_all := lw_g (lw_at lw_m8 122 rfl) rfl
theorem q1928 : (Jvm.Cond.privateMethod ({ cls := "GallRegisterModel", name := "sortsOf", desc := "(II)I" } : Jvm.MethodName)) ∈ lw_tbl := lw_at lw_m8 123 rfl
theorem q1929 : (Jvm.Cond.instanceMethod ({ cls := "GallRegisterModel", name := "sortsOf", desc := "(II)I" } : Jvm.MethodName)) ∈ lw_all := lw_g (lw_at lw_m8 124 rfl) rfl
theorem q1930 : (Jvm.Cond.code ({ cls := "GallRegisterModel", name := "sortsOf", desc := "(II)I" } : Jvm.MethodName) prog_12_method_81_code (7 : Nat) (Option.some Jvm.ClassFile.FieldType.int)) ∈ lw_all := lw_g (lw_at lw_m8 125 rfl) rfl
theorem q1932 : (Jvm.Cond.instanceMethod ({ cls := "GallRegisterModel", name := "alike", desc := "(I)I" } : Jvm.MethodName)) ∈ lw_all := lw_g (lw_at lw_m8 127 rfl) rfl
theorem q1933 : (Jvm.Cond.selects "GallRegisterModel" ({ cls := "GallRegisterModel", name := "alike", desc := "(I)I" } : Jvm.MethodName) ({ cls := "GallRegisterModel", name := "alike", desc := "(I)I" } : Jvm.MethodName)) ∈ lw_all := lw_g (lw_at lw_m8 128 rfl) rfl
theorem q1934 : (Jvm.Cond.code ({ cls := "GallRegisterModel", name := "alike", desc := "(I)I" } : Jvm.MethodName) prog_12_method_83_code (5 : Nat) (Option.some Jvm.ClassFile.FieldType.int)) ∈ lw_all := lw_g (lw_at lw_m8 129 rfl) rfl
theorem q1936 : (Jvm.Cond.instanceMethod ({ cls := "GallRegisterModel", name := "rising", desc := "(I)I" } : Jvm.MethodName)) ∈ lw_all := lw_g (lw_at lw_m8 131 rfl) rfl
theorem q1937 : (Jvm.Cond.selects "GallRegisterModel" ({ cls := "GallRegisterModel", name := "rising", desc := "(I)I" } : Jvm.MethodName) ({ cls := "GallRegisterModel", name := "rising", desc := "(I)I" } : Jvm.MethodName)) ∈ lw_all := lw_g (lw_at lw_m8 132 rfl) rfl
theorem q1938 : (Jvm.Cond.code ({ cls := "GallRegisterModel", name := "rising", desc := "(I)I" } : Jvm.MethodName) prog_12_method_84_code (4 : Nat) (Option.some Jvm.ClassFile.FieldType.int)) ∈ lw_all := lw_g (lw_at lw_m8 133 rfl) rfl
theorem q1940 : (Jvm.Cond.instanceMethod ({ cls := "GallRegisterModel", name := "paling", desc := "(I)I" } : Jvm.MethodName)) ∈ lw_all := lw_g (lw_at lw_m8 135 rfl) rfl
theorem q1941 : (Jvm.Cond.selects "GallRegisterModel" ({ cls := "GallRegisterModel", name := "paling", desc := "(I)I" } : Jvm.MethodName) ({ cls := "GallRegisterModel", name := "paling", desc := "(I)I" } : Jvm.MethodName)) ∈ lw_all := lw_g (lw_at lw_m8 136 rfl) rfl
theorem q1942 : (Jvm.Cond.code ({ cls := "GallRegisterModel", name := "paling", desc := "(I)I" } : Jvm.MethodName) prog_12_method_85_code (4 : Nat) (Option.some Jvm.ClassFile.FieldType.int)) ∈ lw_all := lw_g (lw_at lw_m8 137 rfl) rfl
theorem q1944 : (Jvm.Cond.instanceMethod ({ cls := "GallRegisterModel", name := "cross", desc := "(II)I" } : Jvm.MethodName)) ∈ lw_all := lw_g (lw_at lw_m8 139 rfl) rfl
theorem q1945 : (Jvm.Cond.selects "GallRegisterModel" ({ cls := "GallRegisterModel", name := "cross", desc := "(II)I" } : Jvm.MethodName) ({ cls := "GallRegisterModel", name := "cross", desc := "(II)I" } : Jvm.MethodName)) ∈ lw_all := lw_g (lw_at lw_m8 140 rfl) rfl
theorem q1946 : (Jvm.Cond.code ({ cls := "GallRegisterModel", name := "cross", desc := "(II)I" } : Jvm.MethodName) prog_12_method_86_code (4 : Nat) (Option.some Jvm.ClassFile.FieldType.int)) ∈ lw_all := lw_g (lw_at lw_m8 141 rfl) rfl
theorem q1948 : (Jvm.Cond.instanceMethod ({ cls := "GallRegisterModel", name := "swaps", desc := "(II)I" } : Jvm.MethodName)) ∈ lw_all := lw_g (lw_at lw_m8 143 rfl) rfl
theorem q1949 : (Jvm.Cond.selects "GallRegisterModel" ({ cls := "GallRegisterModel", name := "swaps", desc := "(II)I" } : Jvm.MethodName) ({ cls := "GallRegisterModel", name := "swaps", desc := "(II)I" } : Jvm.MethodName)) ∈ lw_all := lw_g (lw_at lw_m8 144 rfl) rfl
theorem q1950 : (Jvm.Cond.code ({ cls := "GallRegisterModel", name := "swaps", desc := "(II)I" } : Jvm.MethodName) prog_12_method_88_code (5 : Nat) (Option.some Jvm.ClassFile.FieldType.int)) ∈ lw_all := lw_g (lw_at lw_m8 145 rfl) rfl
theorem q1951 : (Jvm.Cond.methodLink "GallRegisterModel" (355 : Nat) ({ cls := "GallRegisterModel", name := "orderOf", desc := "(III)I" } : Jvm.MethodName)) ∈ lw_all := lw_g (lw_at lw_m8 146 rfl) rfl
theorem q1952 : (Jvm.Cond.privateMethod ({ cls := "GallRegisterModel", name := "orderOf", desc := "(III)I" } : Jvm.MethodName)) ∈ lw_tbl := lw_at lw_m8 147 rfl
theorem q1953 : (Jvm.Cond.instanceMethod ({ cls := "GallRegisterModel", name := "orderOf", desc := "(III)I" } : Jvm.MethodName)) ∈ lw_all := lw_g (lw_at lw_m8 148 rfl) rfl
theorem q1954 : (Jvm.Cond.code ({ cls := "GallRegisterModel", name := "orderOf", desc := "(III)I" } : Jvm.MethodName) prog_12_method_87_code (4 : Nat) (Option.some Jvm.ClassFile.FieldType.int)) ∈ lw_all := lw_g (lw_at lw_m8 149 rfl) rfl
theorem q1956 : (Jvm.Cond.instanceMethod ({ cls := "GallRegisterModel", name := "put", desc := "()I" } : Jvm.MethodName)) ∈ lw_all := lw_g (lw_at lw_m8 151 rfl) rfl
theorem q1957 : (Jvm.Cond.selects "GallRegisterModel" ({ cls := "GallRegisterModel", name := "put", desc := "()I" } : Jvm.MethodName) ({ cls := "GallRegisterModel", name := "put", desc := "()I" } : Jvm.MethodName)) ∈ lw_all := lw_g (lw_at lw_m8 152 rfl) rfl
theorem q1958 : (Jvm.Cond.code ({ cls := "GallRegisterModel", name := "put", desc := "()I" } : Jvm.MethodName) prog_12_method_89_code (4 : Nat) (Option.some Jvm.ClassFile.FieldType.int)) ∈ lw_all := lw_g (lw_at lw_m8 153 rfl) rfl
theorem q1960 : (Jvm.Cond.instanceMethod ({ cls := "GallRegisterModel", name := "lies", desc := "()I" } : Jvm.MethodName)) ∈ lw_all := lw_g (lw_at lw_m8 155 rfl) rfl
theorem q1961 : (Jvm.Cond.selects "GallRegisterModel" ({ cls := "GallRegisterModel", name := "lies", desc := "()I" } : Jvm.MethodName) ({ cls := "GallRegisterModel", name := "lies", desc := "()I" } : Jvm.MethodName)) ∈ lw_all := lw_g (lw_at lw_m8 156 rfl) rfl
theorem q1962 : (Jvm.Cond.code ({ cls := "GallRegisterModel", name := "lies", desc := "()I" } : Jvm.MethodName) prog_12_method_90_code (3 : Nat) (Option.some Jvm.ClassFile.FieldType.int)) ∈ lw_all := lw_g (lw_at lw_m8 157 rfl) rfl
theorem q1964 : (Jvm.Cond.instanceMethod ({ cls := "GallRegisterModel", name := "passes", desc := "(II)I" } : Jvm.MethodName)) ∈ lw_all := lw_g (lw_at lw_m8 159 rfl) rfl
theorem q1965 : (Jvm.Cond.selects "GallRegisterModel" ({ cls := "GallRegisterModel", name := "passes", desc := "(II)I" } : Jvm.MethodName) ({ cls := "GallRegisterModel", name := "passes", desc := "(II)I" } : Jvm.MethodName)) ∈ lw_all := lw_g (lw_at lw_m8 160 rfl) rfl
theorem q1966 : (Jvm.Cond.code ({ cls := "GallRegisterModel", name := "passes", desc := "(II)I" } : Jvm.MethodName) prog_12_method_93_code (3 : Nat) (Option.some Jvm.ClassFile.FieldType.int)) ∈ lw_all := lw_g (lw_at lw_m8 161 rfl) rfl
theorem q1967 : (Jvm.Cond.methodLink "GallRegisterModel" (363 : Nat) ({ cls := "GallRegisterModel", name := "passesOf", desc := "(II)I" } : Jvm.MethodName)) ∈ lw_all := lw_g (lw_at lw_m8 162 rfl) rfl
theorem q1968 : (Jvm.Cond.privateMethod ({ cls := "GallRegisterModel", name := "passesOf", desc := "(II)I" } : Jvm.MethodName)) ∈ lw_tbl := lw_at lw_m8 163 rfl
theorem q1969 : (Jvm.Cond.instanceMethod ({ cls := "GallRegisterModel", name := "passesOf", desc := "(II)I" } : Jvm.MethodName)) ∈ lw_all := lw_g (lw_at lw_m8 164 rfl) rfl
theorem q1970 : (Jvm.Cond.code ({ cls := "GallRegisterModel", name := "passesOf", desc := "(II)I" } : Jvm.MethodName) prog_12_method_92_code (5 : Nat) (Option.some Jvm.ClassFile.FieldType.int)) ∈ lw_all := lw_g (lw_at lw_m8 165 rfl) rfl
theorem q1971 : (Jvm.Cond.methodLink "GallRegisterModel" (359 : Nat) ({ cls := "GallRegisterModel", name := "alone", desc := "(IIII)I" } : Jvm.MethodName)) ∈ lw_all := lw_g (lw_at lw_m8 166 rfl) rfl
theorem q1972 : (Jvm.Cond.privateMethod ({ cls := "GallRegisterModel", name := "alone", desc := "(IIII)I" } : Jvm.MethodName)) ∈ lw_tbl := lw_at lw_m8 167 rfl
theorem q1973 : (Jvm.Cond.instanceMethod ({ cls := "GallRegisterModel", name := "alone", desc := "(IIII)I" } : Jvm.MethodName)) ∈ lw_all := lw_g (lw_at lw_m8 168 rfl) rfl
theorem q1974 : (Jvm.Cond.code ({ cls := "GallRegisterModel", name := "alone", desc := "(IIII)I" } : Jvm.MethodName) prog_12_method_91_code (8 : Nat) (Option.some Jvm.ClassFile.FieldType.int)) ∈ lw_all := lw_g (lw_at lw_m8 169 rfl) rfl
theorem q1976 : (Jvm.Cond.instanceMethod ({ cls := "GallRegisterModel", name := "suspects", desc := "(I)I" } : Jvm.MethodName)) ∈ lw_all := lw_g (lw_at lw_m8 171 rfl) rfl
theorem q1977 : (Jvm.Cond.selects "GallRegisterModel" ({ cls := "GallRegisterModel", name := "suspects", desc := "(I)I" } : Jvm.MethodName) ({ cls := "GallRegisterModel", name := "suspects", desc := "(I)I" } : Jvm.MethodName)) ∈ lw_all := lw_g (lw_at lw_m8 172 rfl) rfl
theorem q1978 : (Jvm.Cond.code ({ cls := "GallRegisterModel", name := "suspects", desc := "(I)I" } : Jvm.MethodName) prog_12_method_94_code (4 : Nat) (Option.some Jvm.ClassFile.FieldType.int)) ∈ lw_all := lw_g (lw_at lw_m8 173 rfl) rfl
theorem q1980 : (Jvm.Cond.instanceMethod ({ cls := "GallRegisterModel", name := "betrayed", desc := "(I)I" } : Jvm.MethodName)) ∈ lw_all := lw_g (lw_at lw_m8 175 rfl) rfl
theorem q1981 : (Jvm.Cond.selects "GallRegisterModel" ({ cls := "GallRegisterModel", name := "betrayed", desc := "(I)I" } : Jvm.MethodName) ({ cls := "GallRegisterModel", name := "betrayed", desc := "(I)I" } : Jvm.MethodName)) ∈ lw_all := lw_g (lw_at lw_m8 176 rfl) rfl
theorem q1982 : (Jvm.Cond.code ({ cls := "GallRegisterModel", name := "betrayed", desc := "(I)I" } : Jvm.MethodName) prog_12_method_95_code (3 : Nat) (Option.some Jvm.ClassFile.FieldType.int)) ∈ lw_all := lw_g (lw_at lw_m8 177 rfl) rfl
theorem q1984 : (Jvm.Cond.instanceMethod ({ cls := "GallRegisterModel", name := "ages", desc := "(IIII)I" } : Jvm.MethodName)) ∈ lw_all := lw_g (lw_at lw_m8 179 rfl) rfl
theorem q1985 : (Jvm.Cond.selects "GallRegisterModel" ({ cls := "GallRegisterModel", name := "ages", desc := "(IIII)I" } : Jvm.MethodName) ({ cls := "GallRegisterModel", name := "ages", desc := "(IIII)I" } : Jvm.MethodName)) ∈ lw_all := lw_g (lw_at lw_m8 180 rfl) rfl
theorem q1986 : (Jvm.Cond.code ({ cls := "GallRegisterModel", name := "ages", desc := "(IIII)I" } : Jvm.MethodName) prog_12_method_96_code (7 : Nat) (Option.some Jvm.ClassFile.FieldType.int)) ∈ lw_all := lw_g (lw_at lw_m8 181 rfl) rfl
theorem q1987 : (Jvm.Cond.constantLong "GallRegisterModel" (366 : Nat) (60 : Int64)) ∈ lw_all := lw_g (lw_at lw_m8 182 rfl) rfl
theorem q1989 : (Jvm.Cond.instanceMethod ({ cls := "GallRegisterModel", name := "dates", desc := "(II)I" } : Jvm.MethodName)) ∈ lw_all := lw_g (lw_at lw_m8 184 rfl) rfl
theorem q1990 : (Jvm.Cond.selects "GallRegisterModel" ({ cls := "GallRegisterModel", name := "dates", desc := "(II)I" } : Jvm.MethodName) ({ cls := "GallRegisterModel", name := "dates", desc := "(II)I" } : Jvm.MethodName)) ∈ lw_all := lw_g (lw_at lw_m8 185 rfl) rfl
theorem q1991 : (Jvm.Cond.code ({ cls := "GallRegisterModel", name := "dates", desc := "(II)I" } : Jvm.MethodName) prog_12_method_100_code (4 : Nat) (Option.some Jvm.ClassFile.FieldType.int)) ∈ lw_all := lw_g (lw_at lw_m8 186 rfl) rfl
theorem q1992 : (Jvm.Cond.methodLink "GallRegisterModel" (383 : Nat) ({ cls := "GallRegisterModel", name := "whyNot", desc := "(IZ)I" } : Jvm.MethodName)) ∈ lw_all := lw_g (lw_at lw_m8 187 rfl) rfl
theorem q1993 : (Jvm.Cond.privateMethod ({ cls := "GallRegisterModel", name := "whyNot", desc := "(IZ)I" } : Jvm.MethodName)) ∈ lw_tbl := lw_at lw_m8 188 rfl
theorem q1994 : (Jvm.Cond.instanceMethod ({ cls := "GallRegisterModel", name := "whyNot", desc := "(IZ)I" } : Jvm.MethodName)) ∈ lw_all := lw_g (lw_at lw_m8 189 rfl) rfl
theorem q1995 : (Jvm.Cond.code ({ cls := "GallRegisterModel", name := "whyNot", desc := "(IZ)I" } : Jvm.MethodName) prog_12_method_97_code (5 : Nat) (Option.some Jvm.ClassFile.FieldType.int)) ∈ lw_all := lw_g (lw_at lw_m8 190 rfl) rfl
theorem q1996 : (Jvm.Cond.methodLink "GallRegisterModel" (387 : Nat) ({ cls := "GallRegisterModel", name := "laysDates", desc := "(II)V" } : Jvm.MethodName)) ∈ lw_all := lw_g (lw_at lw_m8 191 rfl) rfl
theorem q1997 : (Jvm.Cond.privateMethod ({ cls := "GallRegisterModel", name := "laysDates", desc := "(II)V" } : Jvm.MethodName)) ∈ lw_tbl := lw_at lw_m8 192 rfl
theorem q1998 : (Jvm.Cond.instanceMethod ({ cls := "GallRegisterModel", name := "laysDates", desc := "(II)V" } : Jvm.MethodName)) ∈ lw_all := lw_g (lw_at lw_m8 193 rfl) rfl
theorem q1999 : (Jvm.Cond.code ({ cls := "GallRegisterModel", name := "laysDates", desc := "(II)V" } : Jvm.MethodName) prog_12_method_99_code (6 : Nat) (Option.none : Option Jvm.ClassFile.FieldType)) ∈ lw_all := lw_g (lw_at lw_m8 194 rfl) rfl
theorem q2000 : (Jvm.Cond.methodLink "GallRegisterModel" (371 : Nat) ({ cls := "GallRegisterModel", name := "isSo", desc := "(I)Z" } : Jvm.MethodName)) ∈ lw_all := lw_g (lw_at lw_m8 195 rfl) rfl
theorem q2001 : (Jvm.Cond.privateMethod ({ cls := "GallRegisterModel", name := "isSo", desc := "(I)Z" } : Jvm.MethodName)) ∈ lw_tbl := lw_at lw_m8 196 rfl
theorem q2002 : (Jvm.Cond.instanceMethod ({ cls := "GallRegisterModel", name := "isSo", desc := "(I)Z" } : Jvm.MethodName)) ∈ lw_all := lw_g (lw_at lw_m8 197 rfl) rfl
theorem q2003 : (Jvm.Cond.code ({ cls := "GallRegisterModel", name := "isSo", desc := "(I)Z" } : Jvm.MethodName) prog_12_method_98_code (4 : Nat) (Option.some Jvm.ClassFile.FieldType.boolean)) ∈ lw_all := lw_g (lw_at lw_m8 198 rfl) rfl
theorem q2004 : (Jvm.Cond.methodLink "GallRegisterModel" (377 : Nat) ({ cls := "GallRegisterModel", name := "sizeOf", desc := "(I)I" } : Jvm.MethodName)) ∈ lw_all := lw_g (lw_at lw_m8 199 rfl) rfl
theorem q2005 : (Jvm.Cond.static ({ cls := "GallRegisterModel", name := "sizeOf", desc := "(I)I" } : Jvm.MethodName)) ∈ lw_all := lw_g (lw_at lw_m8 200 rfl) rfl
theorem q2006 : (Jvm.Cond.code ({ cls := "GallRegisterModel", name := "sizeOf", desc := "(I)I" } : Jvm.MethodName) prog_12_method_46_code (3 : Nat) (Option.some Jvm.ClassFile.FieldType.int)) ∈ lw_all := lw_g (lw_at lw_m8 201 rfl) rfl
theorem q2008 : (Jvm.Cond.instanceMethod ({ cls := "GallRegisterModel", name := "first", desc := "(II)I" } : Jvm.MethodName)) ∈ lw_all := lw_g (lw_at lw_m8 203 rfl) rfl
theorem q2009 : (Jvm.Cond.selects "GallRegisterModel" ({ cls := "GallRegisterModel", name := "first", desc := "(II)I" } : Jvm.MethodName) ({ cls := "GallRegisterModel", name := "first", desc := "(II)I" } : Jvm.MethodName)) ∈ lw_all := lw_g (lw_at lw_m8 204 rfl) rfl
theorem q2010 : (Jvm.Cond.code ({ cls := "GallRegisterModel", name := "first", desc := "(II)I" } : Jvm.MethodName) prog_12_method_101_code (5 : Nat) (Option.some Jvm.ClassFile.FieldType.int)) ∈ lw_all := lw_g (lw_at lw_m8 205 rfl) rfl
theorem q2012 : (Jvm.Cond.instanceMethod ({ cls := "GallRegisterModel", name := "last", desc := "(II)I" } : Jvm.MethodName)) ∈ lw_all := lw_g (lw_at lw_m8 207 rfl) rfl
theorem q2013 : (Jvm.Cond.selects "GallRegisterModel" ({ cls := "GallRegisterModel", name := "last", desc := "(II)I" } : Jvm.MethodName) ({ cls := "GallRegisterModel", name := "last", desc := "(II)I" } : Jvm.MethodName)) ∈ lw_all := lw_g (lw_at lw_m8 208 rfl) rfl
theorem q2014 : (Jvm.Cond.code ({ cls := "GallRegisterModel", name := "last", desc := "(II)I" } : Jvm.MethodName) prog_12_method_102_code (5 : Nat) (Option.some Jvm.ClassFile.FieldType.int)) ∈ lw_all := lw_g (lw_at lw_m8 209 rfl) rfl
theorem q2016 : (Jvm.Cond.instanceMethod ({ cls := "GallRegisterModel", name := "ask", desc := "(II)I" } : Jvm.MethodName)) ∈ lw_all := lw_g (lw_at lw_m8 211 rfl) rfl
theorem q2017 : (Jvm.Cond.selects "GallRegisterModel" ({ cls := "GallRegisterModel", name := "ask", desc := "(II)I" } : Jvm.MethodName) ({ cls := "GallRegisterModel", name := "ask", desc := "(II)I" } : Jvm.MethodName)) ∈ lw_all := lw_g (lw_at lw_m8 212 rfl) rfl
theorem q2018 : (Jvm.Cond.code ({ cls := "GallRegisterModel", name := "ask", desc := "(II)I" } : Jvm.MethodName) prog_12_method_103_code (4 : Nat) (Option.some Jvm.ClassFile.FieldType.int)) ∈ lw_all := lw_g (lw_at lw_m8 213 rfl) rfl
theorem q2020 : (Jvm.Cond.instanceMethod ({ cls := "GallRegisterModel", name := "leaves", desc := "(II)I" } : Jvm.MethodName)) ∈ lw_all := lw_g (lw_at lw_m8 215 rfl) rfl
theorem q2021 : (Jvm.Cond.selects "GallRegisterModel" ({ cls := "GallRegisterModel", name := "leaves", desc := "(II)I" } : Jvm.MethodName) ({ cls := "GallRegisterModel", name := "leaves", desc := "(II)I" } : Jvm.MethodName)) ∈ lw_all := lw_g (lw_at lw_m8 216 rfl) rfl
theorem q2022 : (Jvm.Cond.code ({ cls := "GallRegisterModel", name := "leaves", desc := "(II)I" } : Jvm.MethodName) prog_12_method_104_code (4 : Nat) (Option.some Jvm.ClassFile.FieldType.int)) ∈ lw_all := lw_g (lw_at lw_m8 217 rfl) rfl
theorem q2024 : (Jvm.Cond.instanceMethod ({ cls := "GallRegisterModel", name := "kinds", desc := "(II)I" } : Jvm.MethodName)) ∈ lw_all := lw_g (lw_at lw_m8 219 rfl) rfl
theorem q2025 : (Jvm.Cond.selects "GallRegisterModel" ({ cls := "GallRegisterModel", name := "kinds", desc := "(II)I" } : Jvm.MethodName) ({ cls := "GallRegisterModel", name := "kinds", desc := "(II)I" } : Jvm.MethodName)) ∈ lw_all := lw_g (lw_at lw_m8 220 rfl) rfl
theorem q2026 : (Jvm.Cond.code ({ cls := "GallRegisterModel", name := "kinds", desc := "(II)I" } : Jvm.MethodName) prog_12_method_105_code (6 : Nat) (Option.some Jvm.ClassFile.FieldType.int)) ∈ lw_all := lw_g (lw_at lw_m8 221 rfl) rfl
theorem q2028 : (Jvm.Cond.instanceMethod ({ cls := "GallRegisterModel", name := "laws", desc := "(I)I" } : Jvm.MethodName)) ∈ lw_all := lw_g (lw_at lw_m8 223 rfl) rfl
theorem q2029 : (Jvm.Cond.selects "GallRegisterModel" ({ cls := "GallRegisterModel", name := "laws", desc := "(I)I" } : Jvm.MethodName) ({ cls := "GallRegisterModel", name := "laws", desc := "(I)I" } : Jvm.MethodName)) ∈ lw_all := lw_g (lw_at lw_m8 224 rfl) rfl
theorem q2030 : (Jvm.Cond.code ({ cls := "GallRegisterModel", name := "laws", desc := "(I)I" } : Jvm.MethodName) prog_12_method_107_code (5 : Nat) (Option.some Jvm.ClassFile.FieldType.int)) ∈ lw_all := lw_g (lw_at lw_m8 225 rfl) rfl
theorem q2031 : (Jvm.Cond.methodLink "GallRegisterModel" (390 : Nat) ({ cls := "GallRegisterModel", name := "allBy", desc := "(I)I" } : Jvm.MethodName)) ∈ lw_all := lw_g (lw_at lw_m8 226 rfl) rfl
theorem q2032 : (Jvm.Cond.privateMethod ({ cls := "GallRegisterModel", name := "allBy", desc := "(I)I" } : Jvm.MethodName)) ∈ lw_tbl := lw_at lw_m8 227 rfl
theorem q2033 : (Jvm.Cond.instanceMethod ({ cls := "GallRegisterModel", name := "allBy", desc := "(I)I" } : Jvm.MethodName)) ∈ lw_all := lw_g (lw_at lw_m8 228 rfl) rfl
theorem q2034 : (Jvm.Cond.code ({ cls := "GallRegisterModel", name := "allBy", desc := "(I)I" } : Jvm.MethodName) prog_12_method_106_code (2 : Nat) (Option.some Jvm.ClassFile.FieldType.int)) ∈ lw_all := lw_g (lw_at lw_m8 229 rfl) rfl
theorem q2036 : (Jvm.Cond.instanceMethod ({ cls := "GallRegisterModel", name := "by", desc := "(I)I" } : Jvm.MethodName)) ∈ lw_all := lw_g (lw_at lw_m8 231 rfl) rfl
theorem q2037 : (Jvm.Cond.selects "GallRegisterModel" ({ cls := "GallRegisterModel", name := "by", desc := "(I)I" } : Jvm.MethodName) ({ cls := "GallRegisterModel", name := "by", desc := "(I)I" } : Jvm.MethodName)) ∈ lw_all := lw_g (lw_at lw_m8 232 rfl) rfl
theorem q2038 : (Jvm.Cond.code ({ cls := "GallRegisterModel", name := "by", desc := "(I)I" } : Jvm.MethodName) prog_12_method_108_code (2 : Nat) (Option.some Jvm.ClassFile.FieldType.int)) ∈ lw_all := lw_g (lw_at lw_m8 233 rfl) rfl
theorem q2040 : (Jvm.Cond.instanceMethod ({ cls := "GallRegisterModel", name := "law", desc := "()I" } : Jvm.MethodName)) ∈ lw_all := lw_g (lw_at lw_m8 235 rfl) rfl
theorem q2041 : (Jvm.Cond.selects "GallRegisterModel" ({ cls := "GallRegisterModel", name := "law", desc := "()I" } : Jvm.MethodName) ({ cls := "GallRegisterModel", name := "law", desc := "()I" } : Jvm.MethodName)) ∈ lw_all := lw_g (lw_at lw_m8 236 rfl) rfl
theorem q2042 : (Jvm.Cond.code ({ cls := "GallRegisterModel", name := "law", desc := "()I" } : Jvm.MethodName) prog_12_method_109_code (3 : Nat) (Option.some Jvm.ClassFile.FieldType.int)) ∈ lw_all := lw_g (lw_at lw_m8 237 rfl) rfl
theorem q2044 : (Jvm.Cond.instanceMethod ({ cls := "GallRegisterModel", name := "bold", desc := "(II)I" } : Jvm.MethodName)) ∈ lw_all := lw_g (lw_at lw_m8 239 rfl) rfl
theorem q2045 : (Jvm.Cond.selects "GallRegisterModel" ({ cls := "GallRegisterModel", name := "bold", desc := "(II)I" } : Jvm.MethodName) ({ cls := "GallRegisterModel", name := "bold", desc := "(II)I" } : Jvm.MethodName)) ∈ lw_all := lw_g (lw_at lw_m9 0 rfl) rfl
theorem q2046 : (Jvm.Cond.code ({ cls := "GallRegisterModel", name := "bold", desc := "(II)I" } : Jvm.MethodName) prog_12_method_110_code (5 : Nat) (Option.some Jvm.ClassFile.FieldType.int)) ∈ lw_all := lw_g (lw_at lw_m9 1 rfl) rfl
theorem q2048 : (Jvm.Cond.instanceMethod ({ cls := "GallRegisterModel", name := "sum", desc := "(II)I" } : Jvm.MethodName)) ∈ lw_all := lw_g (lw_at lw_m9 3 rfl) rfl
theorem q2049 : (Jvm.Cond.selects "GallRegisterModel" ({ cls := "GallRegisterModel", name := "sum", desc := "(II)I" } : Jvm.MethodName) ({ cls := "GallRegisterModel", name := "sum", desc := "(II)I" } : Jvm.MethodName)) ∈ lw_all := lw_g (lw_at lw_m9 4 rfl) rfl
theorem q2050 : (Jvm.Cond.code ({ cls := "GallRegisterModel", name := "sum", desc := "(II)I" } : Jvm.MethodName) prog_12_method_111_code (5 : Nat) (Option.some Jvm.ClassFile.FieldType.int)) ∈ lw_all := lw_g (lw_at lw_m9 5 rfl) rfl
theorem q2052 : (Jvm.Cond.instanceMethod ({ cls := "GallRegisterModel", name := "spread", desc := "(I)I" } : Jvm.MethodName)) ∈ lw_all := lw_g (lw_at lw_m9 7 rfl) rfl
theorem q2053 : (Jvm.Cond.selects "GallRegisterModel" ({ cls := "GallRegisterModel", name := "spread", desc := "(I)I" } : Jvm.MethodName) ({ cls := "GallRegisterModel", name := "spread", desc := "(I)I" } : Jvm.MethodName)) ∈ lw_all := lw_g (lw_at lw_m9 8 rfl) rfl
theorem q2054 : (Jvm.Cond.code ({ cls := "GallRegisterModel", name := "spread", desc := "(I)I" } : Jvm.MethodName) prog_12_method_112_code (2 : Nat) (Option.some Jvm.ClassFile.FieldType.int)) ∈ lw_all := lw_g (lw_at lw_m9 9 rfl) rfl
theorem q2056 : (Jvm.Cond.instanceMethod ({ cls := "GallRegisterModel", name := "uses", desc := "(I)I" } : Jvm.MethodName)) ∈ lw_all := lw_g (lw_at lw_m9 11 rfl) rfl
theorem q2057 : (Jvm.Cond.selects "GallRegisterModel" ({ cls := "GallRegisterModel", name := "uses", desc := "(I)I" } : Jvm.MethodName) ({ cls := "GallRegisterModel", name := "uses", desc := "(I)I" } : Jvm.MethodName)) ∈ lw_all := lw_g (lw_at lw_m9 12 rfl) rfl
theorem q2058 : (Jvm.Cond.code ({ cls := "GallRegisterModel", name := "uses", desc := "(I)I" } : Jvm.MethodName) prog_12_method_113_code (4 : Nat) (Option.some Jvm.ClassFile.FieldType.int)) ∈ lw_all := lw_g (lw_at lw_m9 13 rfl) rfl
theorem q2060 : (Jvm.Cond.instanceMethod ({ cls := "GallRegisterModel", name := "newest", desc := "(I)I" } : Jvm.MethodName)) ∈ lw_all := lw_g (lw_at lw_m9 15 rfl) rfl
theorem q2061 : (Jvm.Cond.selects "GallRegisterModel" ({ cls := "GallRegisterModel", name := "newest", desc := "(I)I" } : Jvm.MethodName) ({ cls := "GallRegisterModel", name := "newest", desc := "(I)I" } : Jvm.MethodName)) ∈ lw_all := lw_g (lw_at lw_m9 16 rfl) rfl
theorem q2062 : (Jvm.Cond.code ({ cls := "GallRegisterModel", name := "newest", desc := "(I)I" } : Jvm.MethodName) prog_12_method_115_code (2 : Nat) (Option.some Jvm.ClassFile.FieldType.int)) ∈ lw_all := lw_g (lw_at lw_m9 17 rfl) rfl
theorem q2063 : (Jvm.Cond.methodLink "GallRegisterModel" (393 : Nat) ({ cls := "GallRegisterModel", name := "writtenBy", desc := "(II)I" } : Jvm.MethodName)) ∈ lw_all := lw_g (lw_at lw_m9 18 rfl) rfl
theorem q2064 : (Jvm.Cond.privateMethod ({ cls := "GallRegisterModel", name := "writtenBy", desc := "(II)I" } : Jvm.MethodName)) ∈ lw_tbl := lw_at lw_m9 19 rfl
theorem q2065 : (Jvm.Cond.instanceMethod ({ cls := "GallRegisterModel", name := "writtenBy", desc := "(II)I" } : Jvm.MethodName)) ∈ lw_all := lw_g (lw_at lw_m9 20 rfl) rfl
theorem q2066 : (Jvm.Cond.code ({ cls := "GallRegisterModel", name := "writtenBy", desc := "(II)I" } : Jvm.MethodName) prog_12_method_114_code (5 : Nat) (Option.some Jvm.ClassFile.FieldType.int)) ∈ lw_all := lw_g (lw_at lw_m9 21 rfl) rfl
theorem q2068 : (Jvm.Cond.instanceMethod ({ cls := "GallRegisterModel", name := "oldest", desc := "(I)I" } : Jvm.MethodName)) ∈ lw_all := lw_g (lw_at lw_m9 23 rfl) rfl
theorem q2069 : (Jvm.Cond.selects "GallRegisterModel" ({ cls := "GallRegisterModel", name := "oldest", desc := "(I)I" } : Jvm.MethodName) ({ cls := "GallRegisterModel", name := "oldest", desc := "(I)I" } : Jvm.MethodName)) ∈ lw_all := lw_g (lw_at lw_m9 24 rfl) rfl
theorem q2070 : (Jvm.Cond.code ({ cls := "GallRegisterModel", name := "oldest", desc := "(I)I" } : Jvm.MethodName) prog_12_method_116_code (2 : Nat) (Option.some Jvm.ClassFile.FieldType.int)) ∈ lw_all := lw_g (lw_at lw_m9 25 rfl) rfl
theorem q2072 : (Jvm.Cond.instanceMethod ({ cls := "GallRegisterModel", name := "steady", desc := "(I)I" } : Jvm.MethodName)) ∈ lw_all := lw_g (lw_at lw_m9 27 rfl) rfl
theorem q2073 : (Jvm.Cond.selects "GallRegisterModel" ({ cls := "GallRegisterModel", name := "steady", desc := "(I)I" } : Jvm.MethodName) ({ cls := "GallRegisterModel", name := "steady", desc := "(I)I" } : Jvm.MethodName)) ∈ lw_all := lw_g (lw_at lw_m9 28 rfl) rfl
theorem q2074 : (Jvm.Cond.code ({ cls := "GallRegisterModel", name := "steady", desc := "(I)I" } : Jvm.MethodName) prog_12_method_117_code (5 : Nat) (Option.some Jvm.ClassFile.FieldType.int)) ∈ lw_all := lw_g (lw_at lw_m9 29 rfl) rfl
theorem q2076 : (Jvm.Cond.instanceMethod ({ cls := "GallRegisterModel", name := "falls", desc := "(I)I" } : Jvm.MethodName)) ∈ lw_all := lw_g (lw_at lw_m9 31 rfl) rfl
theorem q2077 : (Jvm.Cond.selects "GallRegisterModel" ({ cls := "GallRegisterModel", name := "falls", desc := "(I)I" } : Jvm.MethodName) ({ cls := "GallRegisterModel", name := "falls", desc := "(I)I" } : Jvm.MethodName)) ∈ lw_all := lw_g (lw_at lw_m9 32 rfl) rfl
theorem q2078 : (Jvm.Cond.code ({ cls := "GallRegisterModel", name := "falls", desc := "(I)I" } : Jvm.MethodName) prog_12_method_118_code (4 : Nat) (Option.some Jvm.ClassFile.FieldType.int)) ∈ lw_all := lw_g (lw_at lw_m9 33 rfl) rfl
theorem q2080 : (Jvm.Cond.instanceMethod ({ cls := "GallRegisterModel", name := "age", desc := "(II)I" } : Jvm.MethodName)) ∈ lw_all := lw_g (lw_at lw_m9 35 rfl) rfl
theorem q2081 : (Jvm.Cond.selects "GallRegisterModel" ({ cls := "GallRegisterModel", name := "age", desc := "(II)I" } : Jvm.MethodName) ({ cls := "GallRegisterModel", name := "age", desc := "(II)I" } : Jvm.MethodName)) ∈ lw_all := lw_g (lw_at lw_m9 36 rfl) rfl
theorem q2082 : (Jvm.Cond.code ({ cls := "GallRegisterModel", name := "age", desc := "(II)I" } : Jvm.MethodName) prog_12_method_119_code (3 : Nat) (Option.some Jvm.ClassFile.FieldType.int)) ∈ lw_all := lw_g (lw_at lw_m9 37 rfl) rfl
theorem q2084 : (Jvm.Cond.instanceMethod ({ cls := "GallRegisterModel", name := "honest", desc := "(I)I" } : Jvm.MethodName)) ∈ lw_all := lw_g (lw_at lw_m9 39 rfl) rfl
theorem q2085 : (Jvm.Cond.selects "GallRegisterModel" ({ cls := "GallRegisterModel", name := "honest", desc := "(I)I" } : Jvm.MethodName) ({ cls := "GallRegisterModel", name := "honest", desc := "(I)I" } : Jvm.MethodName)) ∈ lw_all := lw_g (lw_at lw_m9 40 rfl) rfl
theorem q2086 : (Jvm.Cond.code ({ cls := "GallRegisterModel", name := "honest", desc := "(I)I" } : Jvm.MethodName) prog_12_method_120_code (4 : Nat) (Option.some Jvm.ClassFile.FieldType.int)) ∈ lw_all := lw_g (lw_at lw_m9 41 rfl) rfl
theorem q2088 : (Jvm.Cond.instanceMethod ({ cls := "GallRegisterModel", name := "peaks", desc := "()I" } : Jvm.MethodName)) ∈ lw_all := lw_g (lw_at lw_m9 43 rfl) rfl
theorem q2089 : (Jvm.Cond.selects "GallRegisterModel" ({ cls := "GallRegisterModel", name := "peaks", desc := "()I" } : Jvm.MethodName) ({ cls := "GallRegisterModel", name := "peaks", desc := "()I" } : Jvm.MethodName)) ∈ lw_all := lw_g (lw_at lw_m9 44 rfl) rfl
theorem q2090 : (Jvm.Cond.code ({ cls := "GallRegisterModel", name := "peaks", desc := "()I" } : Jvm.MethodName) prog_12_method_121_code (3 : Nat) (Option.some Jvm.ClassFile.FieldType.int)) ∈ lw_all := lw_g (lw_at lw_m9 45 rfl) rfl
theorem q2092 : (Jvm.Cond.instanceMethod ({ cls := "GallRegisterModel", name := "lasts", desc := "(I)I" } : Jvm.MethodName)) ∈ lw_all := lw_g (lw_at lw_m9 47 rfl) rfl
theorem q2093 : (Jvm.Cond.selects "GallRegisterModel" ({ cls := "GallRegisterModel", name := "lasts", desc := "(I)I" } : Jvm.MethodName) ({ cls := "GallRegisterModel", name := "lasts", desc := "(I)I" } : Jvm.MethodName)) ∈ lw_all := lw_g (lw_at lw_m9 48 rfl) rfl
theorem q2094 : (Jvm.Cond.code ({ cls := "GallRegisterModel", name := "lasts", desc := "(I)I" } : Jvm.MethodName) prog_12_method_122_code (4 : Nat) (Option.some Jvm.ClassFile.FieldType.int)) ∈ lw_all := lw_g (lw_at lw_m9 49 rfl) rfl
theorem q2096 : (Jvm.Cond.instanceMethod ({ cls := "GallRegisterModel", name := "order", desc := "(I)I" } : Jvm.MethodName)) ∈ lw_all := lw_g (lw_at lw_m9 51 rfl) rfl
theorem q2097 : (Jvm.Cond.selects "GallRegisterModel" ({ cls := "GallRegisterModel", name := "order", desc := "(I)I" } : Jvm.MethodName) ({ cls := "GallRegisterModel", name := "order", desc := "(I)I" } : Jvm.MethodName)) ∈ lw_all := lw_g (lw_at lw_m9 52 rfl) rfl
theorem q2098 : (Jvm.Cond.code ({ cls := "GallRegisterModel", name := "order", desc := "(I)I" } : Jvm.MethodName) prog_12_method_123_code (4 : Nat) (Option.some Jvm.ClassFile.FieldType.int)) ∈ lw_all := lw_g (lw_at lw_m9 53 rfl) rfl
theorem q2100 : (Jvm.Cond.instanceMethod ({ cls := "GallRegisterModel", name := "match", desc := "(II)I" } : Jvm.MethodName)) ∈ lw_all := lw_g (lw_at lw_m9 55 rfl) rfl
theorem q2101 : (Jvm.Cond.selects "GallRegisterModel" ({ cls := "GallRegisterModel", name := "match", desc := "(II)I" } : Jvm.MethodName) ({ cls := "GallRegisterModel", name := "match", desc := "(II)I" } : Jvm.MethodName)) ∈ lw_all := lw_g (lw_at lw_m9 56 rfl) rfl
theorem q2102 : (Jvm.Cond.code ({ cls := "GallRegisterModel", name := "match", desc := "(II)I" } : Jvm.MethodName) prog_12_method_124_code (5 : Nat) (Option.some Jvm.ClassFile.FieldType.int)) ∈ lw_all := lw_g (lw_at lw_m9 57 rfl) rfl
theorem q2104 : (Jvm.Cond.instanceMethod ({ cls := "GallRegisterModel", name := "later", desc := "(II)I" } : Jvm.MethodName)) ∈ lw_all := lw_g (lw_at lw_m9 59 rfl) rfl
theorem q2105 : (Jvm.Cond.selects "GallRegisterModel" ({ cls := "GallRegisterModel", name := "later", desc := "(II)I" } : Jvm.MethodName) ({ cls := "GallRegisterModel", name := "later", desc := "(II)I" } : Jvm.MethodName)) ∈ lw_all := lw_g (lw_at lw_m9 60 rfl) rfl
theorem q2106 : (Jvm.Cond.code ({ cls := "GallRegisterModel", name := "later", desc := "(II)I" } : Jvm.MethodName) prog_12_method_125_code (3 : Nat) (Option.some Jvm.ClassFile.FieldType.int)) ∈ lw_all := lw_g (lw_at lw_m9 61 rfl) rfl
theorem q2107 : (Jvm.Cond.constantLong "GallRegisterModel" (396 : Nat) (20 : Int64)) ∈ lw_all := lw_g (lw_at lw_m9 62 rfl) rfl
theorem q2108 : (Jvm.Cond.methodLink "GallRegisterModel" (398 : Nat) ({ cls := "GallRegisterModel", name := "lastOf", desc := "(I)I" } : Jvm.MethodName)) ∈ lw_all := lw_g (lw_at lw_m9 63 rfl) rfl
theorem q2109 : (Jvm.Cond.privateMethod ({ cls := "GallRegisterModel", name := "lastOf", desc := "(I)I" } : Jvm.MethodName)) ∈ lw_tbl := lw_at lw_m9 64 rfl
theorem q2110 : (Jvm.Cond.instanceMethod ({ cls := "GallRegisterModel", name := "lastOf", desc := "(I)I" } : Jvm.MethodName)) ∈ lw_all := lw_g (lw_at lw_m9 65 rfl) rfl
theorem q2111 : (Jvm.Cond.code ({ cls := "GallRegisterModel", name := "lastOf", desc := "(I)I" } : Jvm.MethodName) prog_12_method_61_code (2 : Nat) (Option.some Jvm.ClassFile.FieldType.int)) ∈ lw_all := lw_g (lw_at lw_m9 66 rfl) rfl
theorem q2113 : (Jvm.Cond.instanceMethod ({ cls := "GallRegisterModel", name := "other", desc := "(II)I" } : Jvm.MethodName)) ∈ lw_all := lw_g (lw_at lw_m9 68 rfl) rfl
theorem q2114 : (Jvm.Cond.selects "GallRegisterModel" ({ cls := "GallRegisterModel", name := "other", desc := "(II)I" } : Jvm.MethodName) ({ cls := "GallRegisterModel", name := "other", desc := "(II)I" } : Jvm.MethodName)) ∈ lw_all := lw_g (lw_at lw_m9 69 rfl) rfl
theorem q2115 : (Jvm.Cond.code ({ cls := "GallRegisterModel", name := "other", desc := "(II)I" } : Jvm.MethodName) prog_12_method_126_code (3 : Nat) (Option.some Jvm.ClassFile.FieldType.int)) ∈ lw_all := lw_g (lw_at lw_m9 70 rfl) rfl
theorem q2117 : (Jvm.Cond.instanceMethod ({ cls := "GallRegisterModel", name := "hide", desc := "(II)I" } : Jvm.MethodName)) ∈ lw_all := lw_g (lw_at lw_m9 72 rfl) rfl
theorem q2118 : (Jvm.Cond.selects "GallRegisterModel" ({ cls := "GallRegisterModel", name := "hide", desc := "(II)I" } : Jvm.MethodName) ({ cls := "GallRegisterModel", name := "hide", desc := "(II)I" } : Jvm.MethodName)) ∈ lw_all := lw_g (lw_at lw_m9 73 rfl) rfl
theorem q2119 : (Jvm.Cond.code ({ cls := "GallRegisterModel", name := "hide", desc := "(II)I" } : Jvm.MethodName) prog_12_method_127_code (4 : Nat) (Option.some Jvm.ClassFile.FieldType.int)) ∈ lw_all := lw_g (lw_at lw_m9 74 rfl) rfl
theorem q2121 : (Jvm.Cond.instanceMethod ({ cls := "GallRegisterModel", name := "save", desc := "(I)I" } : Jvm.MethodName)) ∈ lw_all := lw_g (lw_at lw_m9 76 rfl) rfl
theorem q2122 : (Jvm.Cond.selects "GallRegisterModel" ({ cls := "GallRegisterModel", name := "save", desc := "(I)I" } : Jvm.MethodName) ({ cls := "GallRegisterModel", name := "save", desc := "(I)I" } : Jvm.MethodName)) ∈ lw_all := lw_g (lw_at lw_m9 77 rfl) rfl
theorem q2123 : (Jvm.Cond.code ({ cls := "GallRegisterModel", name := "save", desc := "(I)I" } : Jvm.MethodName) prog_12_method_128_code (3 : Nat) (Option.some Jvm.ClassFile.FieldType.int)) ∈ lw_all := lw_g (lw_at lw_m9 78 rfl) rfl
theorem q2125 : (Jvm.Cond.instanceMethod ({ cls := "GallRegisterModel", name := "heavy", desc := "()I" } : Jvm.MethodName)) ∈ lw_all := lw_g (lw_at lw_m9 80 rfl) rfl
theorem q2126 : (Jvm.Cond.selects "GallRegisterModel" ({ cls := "GallRegisterModel", name := "heavy", desc := "()I" } : Jvm.MethodName) ({ cls := "GallRegisterModel", name := "heavy", desc := "()I" } : Jvm.MethodName)) ∈ lw_all := lw_g (lw_at lw_m9 81 rfl) rfl
theorem q2127 : (Jvm.Cond.code ({ cls := "GallRegisterModel", name := "heavy", desc := "()I" } : Jvm.MethodName) prog_12_method_129_code (4 : Nat) (Option.some Jvm.ClassFile.FieldType.int)) ∈ lw_all := lw_g (lw_at lw_m9 82 rfl) rfl
theorem q2129 : (Jvm.Cond.instanceMethod ({ cls := "GallRegisterModel", name := "worth", desc := "(I)I" } : Jvm.MethodName)) ∈ lw_all := lw_g (lw_at lw_m9 84 rfl) rfl
theorem q2130 : (Jvm.Cond.selects "GallRegisterModel" ({ cls := "GallRegisterModel", name := "worth", desc := "(I)I" } : Jvm.MethodName) ({ cls := "GallRegisterModel", name := "worth", desc := "(I)I" } : Jvm.MethodName)) ∈ lw_all := lw_g (lw_at lw_m9 85 rfl) rfl
theorem q2131 : (Jvm.Cond.code ({ cls := "GallRegisterModel", name := "worth", desc := "(I)I" } : Jvm.MethodName) prog_12_method_130_code (2 : Nat) (Option.some Jvm.ClassFile.FieldType.int)) ∈ lw_all := lw_g (lw_at lw_m9 86 rfl) rfl
theorem q2133 : (Jvm.Cond.instanceMethod ({ cls := "GallRegisterModel", name := "share", desc := "(II)I" } : Jvm.MethodName)) ∈ lw_all := lw_g (lw_at lw_m9 88 rfl) rfl
theorem q2134 : (Jvm.Cond.selects "GallRegisterModel" ({ cls := "GallRegisterModel", name := "share", desc := "(II)I" } : Jvm.MethodName) ({ cls := "GallRegisterModel", name := "share", desc := "(II)I" } : Jvm.MethodName)) ∈ lw_all := lw_g (lw_at lw_m9 89 rfl) rfl
theorem q2135 : (Jvm.Cond.code ({ cls := "GallRegisterModel", name := "share", desc := "(II)I" } : Jvm.MethodName) prog_12_method_134_code (6 : Nat) (Option.some Jvm.ClassFile.FieldType.int)) ∈ lw_all := lw_g (lw_at lw_m9 90 rfl) rfl
theorem q2136 : (Jvm.Cond.methodLink "GallRegisterModel" (408 : Nat) ({ cls := "GallRegisterModel", name := "isHalf", desc := "(I)Z" } : Jvm.MethodName)) ∈ lw_all := lw_g (lw_at lw_m9 91 rfl) rfl
theorem q2137 : (Jvm.Cond.static ({ cls := "GallRegisterModel", name := "isHalf", desc := "(I)Z" } : Jvm.MethodName)) ∈ lw_all := lw_g (lw_at lw_m9 92 rfl) rfl
theorem q2138 : (Jvm.Cond.code ({ cls := "GallRegisterModel", name := "isHalf", desc := "(I)Z" } : Jvm.MethodName) prog_12_method_44_code (1 : Nat) (Option.some Jvm.ClassFile.FieldType.boolean)) ∈ lw_all := lw_g (lw_at lw_m9 93 rfl) rfl
theorem q2139 : (Jvm.Cond.methodLink "GallRegisterModel" (401 : Nat) ({ cls := "GallRegisterModel", name := "times", desc := "(I)I" } : Jvm.MethodName)) ∈ lw_all := lw_g (lw_at lw_m9 94 rfl) rfl
theorem q2140 : (Jvm.Cond.static ({ cls := "GallRegisterModel", name := "times", desc := "(I)I" } : Jvm.MethodName)) ∈ lw_all := lw_g (lw_at lw_m9 95 rfl) rfl
theorem q2141 : (Jvm.Cond.code ({ cls := "GallRegisterModel", name := "times", desc := "(I)I" } : Jvm.MethodName) prog_12_method_131_code (1 : Nat) (Option.some Jvm.ClassFile.FieldType.int)) ∈ lw_all := lw_g (lw_at lw_m9 96 rfl) rfl
theorem q2142 : (Jvm.Cond.methodLink "GallRegisterModel" (411 : Nat) ({ cls := "GallRegisterModel", name := "part", desc := "(JJI)J" } : Jvm.MethodName)) ∈ lw_all := lw_g (lw_at lw_m9 97 rfl) rfl
theorem q2143 : (Jvm.Cond.static ({ cls := "GallRegisterModel", name := "part", desc := "(JJI)J" } : Jvm.MethodName)) ∈ lw_all := lw_g (lw_at lw_m9 98 rfl) rfl
theorem q2144 : (Jvm.Cond.code ({ cls := "GallRegisterModel", name := "part", desc := "(JJI)J" } : Jvm.MethodName) prog_12_method_133_code (5 : Nat) (Option.some Jvm.ClassFile.FieldType.long)) ∈ lw_all := lw_g (lw_at lw_m9 99 rfl) rfl
theorem q2145 : (Jvm.Cond.methodLink "GallRegisterModel" (404 : Nat) ({ cls := "GallRegisterModel", name := "common", desc := "(JJ)J" } : Jvm.MethodName)) ∈ lw_all := lw_g (lw_at lw_m9 100 rfl) rfl
theorem q2146 : (Jvm.Cond.static ({ cls := "GallRegisterModel", name := "common", desc := "(JJ)J" } : Jvm.MethodName)) ∈ lw_all := lw_g (lw_at lw_m9 101 rfl) rfl
theorem q2147 : (Jvm.Cond.code ({ cls := "GallRegisterModel", name := "common", desc := "(JJ)J" } : Jvm.MethodName) prog_12_method_132_code (4 : Nat) (Option.some Jvm.ClassFile.FieldType.long)) ∈ lw_all := lw_g (lw_at lw_m9 102 rfl) rfl
theorem q2149 : (Jvm.Cond.instanceMethod ({ cls := "GallRegisterModel", name := "rests", desc := "(II)I" } : Jvm.MethodName)) ∈ lw_all := lw_g (lw_at lw_m9 104 rfl) rfl
theorem q2150 : (Jvm.Cond.selects "GallRegisterModel" ({ cls := "GallRegisterModel", name := "rests", desc := "(II)I" } : Jvm.MethodName) ({ cls := "GallRegisterModel", name := "rests", desc := "(II)I" } : Jvm.MethodName)) ∈ lw_all := lw_g (lw_at lw_m9 105 rfl) rfl
theorem q2151 : (Jvm.Cond.code ({ cls := "GallRegisterModel", name := "rests", desc := "(II)I" } : Jvm.MethodName) prog_12_method_137_code (8 : Nat) (Option.some Jvm.ClassFile.FieldType.int)) ∈ lw_all := lw_g (lw_at lw_m9 106 rfl) rfl
theorem q2152 : (Jvm.Cond.methodLink "GallRegisterModel" (415 : Nat) ({ cls := "GallRegisterModel", name := "areTwo", desc := "(II)Z" } : Jvm.MethodName)) ∈ lw_all := lw_g (lw_at lw_m9 107 rfl) rfl
theorem q2153 : (Jvm.Cond.privateMethod ({ cls := "GallRegisterModel", name := "areTwo", desc := "(II)Z" } : Jvm.MethodName)) ∈ lw_tbl := lw_at lw_m9 108 rfl
theorem q2154 : (Jvm.Cond.instanceMethod ({ cls := "GallRegisterModel", name := "areTwo", desc := "(II)Z" } : Jvm.MethodName)) ∈ lw_all := lw_g (lw_at lw_m9 109 rfl) rfl
theorem q2155 : (Jvm.Cond.code ({ cls := "GallRegisterModel", name := "areTwo", desc := "(II)Z" } : Jvm.MethodName) prog_12_method_136_code (3 : Nat) (Option.some Jvm.ClassFile.FieldType.boolean)) ∈ lw_all := lw_g (lw_at lw_m9 110 rfl) rfl
theorem q2156 : (Jvm.Cond.methodLink "GallRegisterModel" (418 : Nat) ({ cls := "GallRegisterModel", name := "getsBy", desc := "(IIIII)I" } : Jvm.MethodName)) ∈ lw_all := lw_g (lw_at lw_m9 111 rfl) rfl
theorem q2157 : (Jvm.Cond.privateMethod ({ cls := "GallRegisterModel", name := "getsBy", desc := "(IIIII)I" } : Jvm.MethodName)) ∈ lw_tbl := lw_at lw_m9 112 rfl
theorem q2158 : (Jvm.Cond.instanceMethod ({ cls := "GallRegisterModel", name := "getsBy", desc := "(IIIII)I" } : Jvm.MethodName)) ∈ lw_all := lw_g (lw_at lw_m9 113 rfl) rfl
theorem q2159 : (Jvm.Cond.code ({ cls := "GallRegisterModel", name := "getsBy", desc := "(IIIII)I" } : Jvm.MethodName) prog_12_method_135_code (8 : Nat) (Option.some Jvm.ClassFile.FieldType.int)) ∈ lw_all := lw_g (lw_at lw_m9 114 rfl) rfl
theorem q2161 : (Jvm.Cond.instanceMethod ({ cls := "GallRegisterModel", name := "gets", desc := "(IIII)I" } : Jvm.MethodName)) ∈ lw_all := lw_g (lw_at lw_m9 116 rfl) rfl
theorem q2162 : (Jvm.Cond.selects "GallRegisterModel" ({ cls := "GallRegisterModel", name := "gets", desc := "(IIII)I" } : Jvm.MethodName) ({ cls := "GallRegisterModel", name := "gets", desc := "(IIII)I" } : Jvm.MethodName)) ∈ lw_all := lw_g (lw_at lw_m9 117 rfl) rfl
theorem q2163 : (Jvm.Cond.code ({ cls := "GallRegisterModel", name := "gets", desc := "(IIII)I" } : Jvm.MethodName) prog_12_method_138_code (5 : Nat) (Option.some Jvm.ClassFile.FieldType.int)) ∈ lw_all := lw_g (lw_at lw_m9 118 rfl) rfl
theorem q2165 : (Jvm.Cond.instanceMethod ({ cls := "GallRegisterModel", name := "chance", desc := "(IIII)I" } : Jvm.MethodName)) ∈ lw_all := lw_g (lw_at lw_m9 120 rfl) rfl
theorem q2166 : (Jvm.Cond.selects "GallRegisterModel" ({ cls := "GallRegisterModel", name := "chance", desc := "(IIII)I" } : Jvm.MethodName) ({ cls := "GallRegisterModel", name := "chance", desc := "(IIII)I" } : Jvm.MethodName)) ∈ lw_all := lw_g (lw_at lw_m9 121 rfl) rfl
theorem q2167 : (Jvm.Cond.code ({ cls := "GallRegisterModel", name := "chance", desc := "(IIII)I" } : Jvm.MethodName) prog_12_method_142_code (5 : Nat) (Option.some Jvm.ClassFile.FieldType.int)) ∈ lw_all := lw_g (lw_at lw_m9 122 rfl) rfl
theorem q2168 : (Jvm.Cond.methodLink "GallRegisterModel" (426 : Nat) ({ cls := "GallRegisterModel", name := "isSoon", desc := "(I)Z" } : Jvm.MethodName)) ∈ lw_all := lw_g (lw_at lw_m9 123 rfl) rfl
theorem q2169 : (Jvm.Cond.privateMethod ({ cls := "GallRegisterModel", name := "isSoon", desc := "(I)Z" } : Jvm.MethodName)) ∈ lw_tbl := lw_at lw_m9 124 rfl
theorem q2170 : (Jvm.Cond.instanceMethod ({ cls := "GallRegisterModel", name := "isSoon", desc := "(I)Z" } : Jvm.MethodName)) ∈ lw_all := lw_g (lw_at lw_m9 125 rfl) rfl
theorem q2171 : (Jvm.Cond.code ({ cls := "GallRegisterModel", name := "isSoon", desc := "(I)Z" } : Jvm.MethodName) prog_12_method_141_code (2 : Nat) (Option.some Jvm.ClassFile.FieldType.boolean)) ∈ lw_all := lw_g (lw_at lw_m9 126 rfl) rfl
theorem q2172 : (Jvm.Cond.methodLink "GallRegisterModel" (429 : Nat) ({ cls := "GallRegisterModel", name := "weightOf", desc := "(III)J" } : Jvm.MethodName)) ∈ lw_all := lw_g (lw_at lw_m9 127 rfl) rfl
theorem q2173 : (Jvm.Cond.privateMethod ({ cls := "GallRegisterModel", name := "weightOf", desc := "(III)J" } : Jvm.MethodName)) ∈ lw_tbl := lw_at lw_m9 128 rfl
theorem q2174 : (Jvm.Cond.instanceMethod ({ cls := "GallRegisterModel", name := "weightOf", desc := "(III)J" } : Jvm.MethodName)) ∈ lw_all := lw_g (lw_at lw_m9 129 rfl) rfl
theorem q2175 : (Jvm.Cond.code ({ cls := "GallRegisterModel", name := "weightOf", desc := "(III)J" } : Jvm.MethodName) prog_12_method_140_code (9 : Nat) (Option.some Jvm.ClassFile.FieldType.long)) ∈ lw_all := lw_g (lw_at lw_m9 130 rfl) rfl
theorem q2176 : (Jvm.Cond.methodLink "GallRegisterModel" (421 : Nat) ({ cls := "GallRegisterModel", name := "power", desc := "(JI)J" } : Jvm.MethodName)) ∈ lw_all := lw_g (lw_at lw_m9 131 rfl) rfl
theorem q2177 : (Jvm.Cond.static ({ cls := "GallRegisterModel", name := "power", desc := "(JI)J" } : Jvm.MethodName)) ∈ lw_all := lw_g (lw_at lw_m9 132 rfl) rfl
theorem q2178 : (Jvm.Cond.code ({ cls := "GallRegisterModel", name := "power", desc := "(JI)J" } : Jvm.MethodName) prog_12_method_139_code (3 : Nat) (Option.some Jvm.ClassFile.FieldType.long)) ∈ lw_all := lw_g (lw_at lw_m9 133 rfl) rfl
theorem q2179 : (Jvm.Cond.constantLong "GallRegisterModel" (424 : Nat) (10 : Int64)) ∈ lw_all := lw_g (lw_at lw_m9 134 rfl) rfl
theorem q2181 : (Jvm.Cond.instanceMethod ({ cls := "GallRegisterModel", name := "mean", desc := "(II)J" } : Jvm.MethodName)) ∈ lw_all := lw_g (lw_at lw_m9 136 rfl) rfl
theorem q2182 : (Jvm.Cond.selects "GallRegisterModel" ({ cls := "GallRegisterModel", name := "mean", desc := "(II)J" } : Jvm.MethodName) ({ cls := "GallRegisterModel", name := "mean", desc := "(II)J" } : Jvm.MethodName)) ∈ lw_all := lw_g (lw_at lw_m9 137 rfl) rfl
theorem q2183 : (Jvm.Cond.code ({ cls := "GallRegisterModel", name := "mean", desc := "(II)J" } : Jvm.MethodName) prog_12_method_143_code (3 : Nat) (Option.some Jvm.ClassFile.FieldType.long)) ∈ lw_all := lw_g (lw_at lw_m9 138 rfl) rfl
theorem q2184 : (Jvm.Cond.constantLong "GallRegisterModel" (433 : Nat) (-2 : Int64)) ∈ lw_all := lw_g (lw_at lw_m9 139 rfl) rfl
theorem q2186 : (Jvm.Cond.instanceMethod ({ cls := "GallRegisterModel", name := "drawn", desc := "(II)I" } : Jvm.MethodName)) ∈ lw_all := lw_g (lw_at lw_m9 141 rfl) rfl
theorem q2187 : (Jvm.Cond.selects "GallRegisterModel" ({ cls := "GallRegisterModel", name := "drawn", desc := "(II)I" } : Jvm.MethodName) ({ cls := "GallRegisterModel", name := "drawn", desc := "(II)I" } : Jvm.MethodName)) ∈ lw_all := lw_g (lw_at lw_m9 142 rfl) rfl
theorem q2188 : (Jvm.Cond.code ({ cls := "GallRegisterModel", name := "drawn", desc := "(II)I" } : Jvm.MethodName) prog_12_method_146_code (3 : Nat) (Option.some Jvm.ClassFile.FieldType.int)) ∈ lw_all := lw_g (lw_at lw_m9 143 rfl) rfl
theorem q2189 : (Jvm.Cond.methodLink "GallRegisterModel" (445 : Nat) ({ cls := "GallRegisterModel", name := "isSeed", desc := "(I)Z" } : Jvm.MethodName)) ∈ lw_all := lw_g (lw_at lw_m9 144 rfl) rfl
theorem q2190 : (Jvm.Cond.static ({ cls := "GallRegisterModel", name := "isSeed", desc := "(I)Z" } : Jvm.MethodName)) ∈ lw_all := lw_g (lw_at lw_m9 145 rfl) rfl
theorem q2191 : (Jvm.Cond.code ({ cls := "GallRegisterModel", name := "isSeed", desc := "(I)Z" } : Jvm.MethodName) prog_12_method_145_code (1 : Nat) (Option.some Jvm.ClassFile.FieldType.boolean)) ∈ lw_all := lw_g (lw_at lw_m9 146 rfl) rfl
theorem q2192 : (Jvm.Cond.constantLong "GallRegisterModel" (443 : Nat) (2000000000 : Int64)) ∈ lw_all := lw_g (lw_at lw_m9 147 rfl) rfl
theorem q2193 : (Jvm.Cond.methodLink "GallRegisterModel" (448 : Nat) ({ cls := "GallRegisterModel", name := "draws", desc := "(J)V" } : Jvm.MethodName)) ∈ lw_all := lw_g (lw_at lw_m9 148 rfl) rfl
theorem q2194 : (Jvm.Cond.privateMethod ({ cls := "GallRegisterModel", name := "draws", desc := "(J)V" } : Jvm.MethodName)) ∈ lw_tbl := lw_at lw_m9 149 rfl
theorem q2195 : (Jvm.Cond.instanceMethod ({ cls := "GallRegisterModel", name := "draws", desc := "(J)V" } : Jvm.MethodName)) ∈ lw_all := lw_g (lw_at lw_m9 150 rfl) rfl
theorem q2196 : (Jvm.Cond.code ({ cls := "GallRegisterModel", name := "draws", desc := "(J)V" } : Jvm.MethodName) prog_12_method_144_code (6 : Nat) (Option.none : Option Jvm.ClassFile.FieldType)) ∈ lw_all := lw_g (lw_at lw_m9 151 rfl) rfl
theorem q2197 : (Jvm.Cond.constantLong "GallRegisterModel" (435 : Nat) (1103515245 : Int64)) ∈ lw_all := lw_g (lw_at lw_m9 152 rfl) rfl
theorem q2198 : (Jvm.Cond.constantLong "GallRegisterModel" (437 : Nat) (12345 : Int64)) ∈ lw_all := lw_g (lw_at lw_m9 153 rfl) rfl
theorem q2199 : (Jvm.Cond.constantLong "GallRegisterModel" (439 : Nat) (2147483648 : Int64)) ∈ lw_all := lw_g (lw_at lw_m9 154 rfl) rfl
theorem q2200 : (Jvm.Cond.constantLong "GallRegisterModel" (441 : Nat) (65536 : Int64)) ∈ lw_all := lw_g (lw_at lw_m9 155 rfl) rfl
theorem q2202 : (Jvm.Cond.instanceMethod ({ cls := "GallRegisterModel", name := "luck", desc := "(III)I" } : Jvm.MethodName)) ∈ lw_all := lw_g (lw_at lw_m9 157 rfl) rfl
theorem q2203 : (Jvm.Cond.selects "GallRegisterModel" ({ cls := "GallRegisterModel", name := "luck", desc := "(III)I" } : Jvm.MethodName) ({ cls := "GallRegisterModel", name := "luck", desc := "(III)I" } : Jvm.MethodName)) ∈ lw_all := lw_g (lw_at lw_m9 158 rfl) rfl
theorem q2204 : (Jvm.Cond.code ({ cls := "GallRegisterModel", name := "luck", desc := "(III)I" } : Jvm.MethodName) prog_12_method_147_code (6 : Nat) (Option.some Jvm.ClassFile.FieldType.int)) ∈ lw_all := lw_g (lw_at lw_m9 159 rfl) rfl
theorem q2206 : (Jvm.Cond.instanceMethod ({ cls := "GallRegisterModel", name := "retraces", desc := "(III)I" } : Jvm.MethodName)) ∈ lw_all := lw_g (lw_at lw_m9 161 rfl) rfl
theorem q2207 : (Jvm.Cond.selects "GallRegisterModel" ({ cls := "GallRegisterModel", name := "retraces", desc := "(III)I" } : Jvm.MethodName) ({ cls := "GallRegisterModel", name := "retraces", desc := "(III)I" } : Jvm.MethodName)) ∈ lw_all := lw_g (lw_at lw_m9 162 rfl) rfl
theorem q2208 : (Jvm.Cond.code ({ cls := "GallRegisterModel", name := "retraces", desc := "(III)I" } : Jvm.MethodName) prog_12_method_149_code (4 : Nat) (Option.some Jvm.ClassFile.FieldType.int)) ∈ lw_all := lw_g (lw_at lw_m9 163 rfl) rfl
theorem q2209 : (Jvm.Cond.methodLink "GallRegisterModel" (451 : Nat) ({ cls := "GallRegisterModel", name := "does", desc := "(IIII)V" } : Jvm.MethodName)) ∈ lw_all := lw_g (lw_at lw_m9 164 rfl) rfl
theorem q2210 : (Jvm.Cond.privateMethod ({ cls := "GallRegisterModel", name := "does", desc := "(IIII)V" } : Jvm.MethodName)) ∈ lw_tbl := lw_at lw_m9 165 rfl
theorem q2211 : (Jvm.Cond.instanceMethod ({ cls := "GallRegisterModel", name := "does", desc := "(IIII)V" } : Jvm.MethodName)) ∈ lw_all := lw_g (lw_at lw_m9 166 rfl) rfl
theorem q2212 : (Jvm.Cond.code ({ cls := "GallRegisterModel", name := "does", desc := "(IIII)V" } : Jvm.MethodName) prog_12_method_148_code (6 : Nat) (Option.none : Option Jvm.ClassFile.FieldType)) ∈ lw_all := lw_g (lw_at lw_m9 167 rfl) rfl
theorem q2214 : (Jvm.Cond.instanceMethod ({ cls := "GallRegisterModel", name := "bleaches", desc := "(II)I" } : Jvm.MethodName)) ∈ lw_all := lw_g (lw_at lw_m9 169 rfl) rfl
theorem q2215 : (Jvm.Cond.selects "GallRegisterModel" ({ cls := "GallRegisterModel", name := "bleaches", desc := "(II)I" } : Jvm.MethodName) ({ cls := "GallRegisterModel", name := "bleaches", desc := "(II)I" } : Jvm.MethodName)) ∈ lw_all := lw_g (lw_at lw_m9 170 rfl) rfl
theorem q2216 : (Jvm.Cond.code ({ cls := "GallRegisterModel", name := "bleaches", desc := "(II)I" } : Jvm.MethodName) prog_12_method_150_code (3 : Nat) (Option.some Jvm.ClassFile.FieldType.int)) ∈ lw_all := lw_g (lw_at lw_m9 171 rfl) rfl
theorem q2218 : (Jvm.Cond.instanceMethod ({ cls := "GallRegisterModel", name := "undo", desc := "()I" } : Jvm.MethodName)) ∈ lw_all := lw_g (lw_at lw_m9 173 rfl) rfl
theorem q2219 : (Jvm.Cond.selects "GallRegisterModel" ({ cls := "GallRegisterModel", name := "undo", desc := "()I" } : Jvm.MethodName) ({ cls := "GallRegisterModel", name := "undo", desc := "()I" } : Jvm.MethodName)) ∈ lw_all := lw_g (lw_at lw_m9 174 rfl) rfl
theorem q2220 : (Jvm.Cond.code ({ cls := "GallRegisterModel", name := "undo", desc := "()I" } : Jvm.MethodName) prog_12_method_151_code (1 : Nat) (Option.some Jvm.ClassFile.FieldType.int)) ∈ lw_all := lw_g (lw_at lw_m9 175 rfl) rfl
theorem q2222 : (Jvm.Cond.instanceMethod ({ cls := "GallRegisterModel", name := "anew", desc := "()I" } : Jvm.MethodName)) ∈ lw_all := lw_g (lw_at lw_m9 177 rfl) rfl
theorem q2223 : (Jvm.Cond.selects "GallRegisterModel" ({ cls := "GallRegisterModel", name := "anew", desc := "()I" } : Jvm.MethodName) ({ cls := "GallRegisterModel", name := "anew", desc := "()I" } : Jvm.MethodName)) ∈ lw_all := lw_g (lw_at lw_m9 178 rfl) rfl
theorem q2224 : (Jvm.Cond.code ({ cls := "GallRegisterModel", name := "anew", desc := "()I" } : Jvm.MethodName) prog_12_method_152_code (2 : Nat) (Option.some Jvm.ClassFile.FieldType.int)) ∈ lw_all := lw_g (lw_at lw_m9 179 rfl) rfl
theorem q2226 : (Jvm.Cond.instanceMethod ({ cls := "GallRegisterModel", name := "rate", desc := "(II)I" } : Jvm.MethodName)) ∈ lw_all := lw_g (lw_at lw_m9 181 rfl) rfl
theorem q2227 : (Jvm.Cond.selects "GallRegisterModel" ({ cls := "GallRegisterModel", name := "rate", desc := "(II)I" } : Jvm.MethodName) ({ cls := "GallRegisterModel", name := "rate", desc := "(II)I" } : Jvm.MethodName)) ∈ lw_all := lw_g (lw_at lw_m9 182 rfl) rfl
theorem q2228 : (Jvm.Cond.code ({ cls := "GallRegisterModel", name := "rate", desc := "(II)I" } : Jvm.MethodName) prog_12_method_153_code (4 : Nat) (Option.some Jvm.ClassFile.FieldType.int)) ∈ lw_all := lw_g (lw_at lw_m9 183 rfl) rfl
theorem q2230 : (Jvm.Cond.instanceMethod ({ cls := "GallRegisterModel", name := "count", desc := "(I)I" } : Jvm.MethodName)) ∈ lw_all := lw_g (lw_at lw_m9 185 rfl) rfl
theorem q2231 : (Jvm.Cond.selects "GallRegisterModel" ({ cls := "GallRegisterModel", name := "count", desc := "(I)I" } : Jvm.MethodName) ({ cls := "GallRegisterModel", name := "count", desc := "(I)I" } : Jvm.MethodName)) ∈ lw_all := lw_g (lw_at lw_m9 186 rfl) rfl
theorem q2232 : (Jvm.Cond.code ({ cls := "GallRegisterModel", name := "count", desc := "(I)I" } : Jvm.MethodName) prog_12_method_154_code (4 : Nat) (Option.some Jvm.ClassFile.FieldType.int)) ∈ lw_all := lw_g (lw_at lw_m9 187 rfl) rfl
theorem q2233 : (Jvm.Cond.constantLong "GallRegisterModel" (455 : Nat) (6 : Int64)) ∈ lw_all := lw_g (lw_at lw_m9 188 rfl) rfl
theorem q2235 : (Jvm.Cond.instanceMethod ({ cls := "GallRegisterModel", name := "image", desc := "(I)I" } : Jvm.MethodName)) ∈ lw_all := lw_g (lw_at lw_m9 190 rfl) rfl
theorem q2236 : (Jvm.Cond.selects "GallRegisterModel" ({ cls := "GallRegisterModel", name := "image", desc := "(I)I" } : Jvm.MethodName) ({ cls := "GallRegisterModel", name := "image", desc := "(I)I" } : Jvm.MethodName)) ∈ lw_all := lw_g (lw_at lw_m9 191 rfl) rfl
theorem q2237 : (Jvm.Cond.code ({ cls := "GallRegisterModel", name := "image", desc := "(I)I" } : Jvm.MethodName) prog_12_method_155_code (2 : Nat) (Option.some Jvm.ClassFile.FieldType.int)) ∈ lw_all := lw_g (lw_at lw_m9 192 rfl) rfl
theorem q2239 : (Jvm.Cond.instanceMethod ({ cls := "GallRegisterModel", name := "back", desc := "(I)I" } : Jvm.MethodName)) ∈ lw_all := lw_g (lw_at lw_m9 194 rfl) rfl
theorem q2240 : (Jvm.Cond.selects "GallRegisterModel" ({ cls := "GallRegisterModel", name := "back", desc := "(I)I" } : Jvm.MethodName) ({ cls := "GallRegisterModel", name := "back", desc := "(I)I" } : Jvm.MethodName)) ∈ lw_all := lw_g (lw_at lw_m9 195 rfl) rfl
theorem q2241 : (Jvm.Cond.code ({ cls := "GallRegisterModel", name := "back", desc := "(I)I" } : Jvm.MethodName) prog_12_method_156_code (2 : Nat) (Option.some Jvm.ClassFile.FieldType.int)) ∈ lw_all := lw_g (lw_at lw_m9 196 rfl) rfl
theorem q2254 : (Jvm.Cond.castable "GallRegisterModel" "java/lang/Object") ∈ lw_tbl := lw_at lw_m9 209 rfl
theorem in_X7 : ∀ w ∈ wsX70, w ∈ lw_all := lw_in wsX70 [1524, 1526, 1528, 1530, 1532, 1534, 1536, 1538, 1540, 1542, 1544, 1546, 1548, 1550, 1552, 1554, 1556, 1558, 1560, 1562, 1564, 1566, 1568, 1570, 1572, 1574, 1576, 1578, 1580, 1582, 1584, 1586, 1588, 1590, 1592, 1594, 1596, 1598, 1600, 1602, 1604] (by decide +kernel) (by decide +kernel)
