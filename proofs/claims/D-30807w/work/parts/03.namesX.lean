/-! DECODE ROWS BY BYTES: one lemma an opcode; a method's code is cut into short pieces once, and a row reads its own piece alone. -/
set_option maxRecDepth 100000
/-- the code has just these bytes from pc on -/
def DkAt (code : ByteArray) (pc : Nat) (bs : List UInt8) : Prop := ∀ (j : Nat) (b : UInt8), bs[j]? = some b → code.data.toList[pc + j]? = some b
/-- the piece W has the bytes bs from its place j on -/
def dkIn (W : List UInt8) (j : Nat) (bs : List UInt8) : Bool := decide ((W.drop j).take bs.length = bs)
theorem dk_seg {l W T : List UInt8} {o o2 : Nat} (h : l.drop o = W ++ T) (n : Nat) (hn : W.length = n) (ho : o + n = o2) : l.drop o2 = T := by
  subst ho
  rw [← List.drop_drop, h, List.drop_left' hn]
theorem dk_at {code : ByteArray} {W T bs : List UInt8} {o pc : Nat} (h : code.data.toList.drop o = W ++ T) (j : Nat) (hp : o + j = pc) (hw : dkIn W j bs = true) : DkAt code pc bs := by
  subst hp
  intro i b e
  have h1 := of_decide_eq_true hw
  have h2 : i < bs.length := (List.getElem?_eq_some_iff.mp e).1
  have h3 : W[j + i]? = some b := by
    rw [← h1, List.getElem?_take, if_pos h2, List.getElem?_drop] at e
    exact e
  have h4 : j + i < W.length := (List.getElem?_eq_some_iff.mp h3).1
  have h5 : (code.data.toList.drop o)[j + i]? = some b := by
    rw [h, List.getElem?_append_left h4]
    exact h3
  rw [List.getElem?_drop, ← Nat.add_assoc] at h5
  exact h5
theorem dk_u1 {A : ByteArray} {p : Nat} {b : UInt8} (h : A.data.toList[p]? = some b) : (Reader.u1 : Reader DecodeError Nat) A p = .ok (b.toNat, p + 1) := by
  obtain ⟨h1, h2⟩ := List.getElem?_eq_some_iff.mp h
  have h3 : p < A.size := by simpa using h1
  have h4 : A[p]'h3 = b := h2
  have e : (Reader.u1 : Reader DecodeError Nat) A p = (if h : p < A.size then .ok (A[p].toNat, p + 1) else .error (HasTruncated.truncated p)) := by
    show (do if h : p < A.size then do set (p + 1); Pure.pure A[p].toNat else MonadExcept.throw (HasTruncated.truncated p) : Reader DecodeError Nat) A p = _
    by_cases hi : p < A.size
    · rw [dif_pos hi, dif_pos hi]; rfl
    · rw [dif_neg hi, dif_neg hi]; rfl
  rw [e, dif_pos h3, h4]
theorem dk_bind {α β : Type} {r : Reader DecodeError α} {f : α → Reader DecodeError β} {A : ByteArray} {p s : Nat} {a : α} (h : r A p = .ok (a, s)) : (r >>= f) A p = f a A s := by
  show (do let (a, s) ← r A p; f a A s : Except DecodeError (β × Nat)) = _
  rw [h]
  rfl
theorem dk_map {α β : Type} {r : Reader DecodeError α} {g : α → β} {A : ByteArray} {p s : Nat} {a : α} (h : r A p = .ok (a, s)) : (g <$> r) A p = .ok (g a, s) := by
  show (do let (a, s) ← r A p; .ok (g a, s) : Except DecodeError (β × Nat)) = _
  rw [h]
  rfl
theorem dk_u2 {A : ByteArray} {p : Nat} {a b : UInt8} (h : A.data.toList[p]? = some a) (h2 : A.data.toList[p + 1]? = some b) : (Reader.u2 : Reader DecodeError Nat) A p = .ok (a.toNat * 256 + b.toNat, p + 2) := by
  show (Reader.u1 >>= fun hi => Reader.u1 >>= fun lo => Pure.pure (hi * 256 + lo) : Reader DecodeError Nat) A p = _
  rw [dk_bind (dk_u1 h), dk_bind (dk_u1 h2)]
  rfl
theorem dk_of {code : ByteArray} {pc n : Nat} {i : Instr} (h : Decoder.instr pc code pc = .ok (i, pc + n)) : decode code pc = .ok (i, n) := by
  have e : decode code pc = (match Decoder.instr pc code pc with | .error x => .error x | .ok (j, s) => .ok (j, s - pc)) := by
    show (do let (j, s) ← Decoder.instr pc code pc; Pure.pure (j, s - pc) : Except DecodeError (Instr × Nat)) = _
    cases Decoder.instr pc code pc <;> rfl
  rw [e, h]
  show Except.ok (i, pc + n - pc) = _
  rw [Nat.add_sub_cancel_left]
theorem dk_1 {code : ByteArray} {pc : Nat} (h : DkAt code pc [1]) : decode code pc = .ok (.aconst_null, 1) := dk_of ((dk_bind (dk_u1 (h 0 _ rfl))).trans rfl)
theorem dk_2 {code : ByteArray} {pc : Nat} (h : DkAt code pc [2]) : decode code pc = .ok (.iconst (-1), 1) := dk_of ((dk_bind (dk_u1 (h 0 _ rfl))).trans rfl)
theorem dk_3 {code : ByteArray} {pc : Nat} (h : DkAt code pc [3]) : decode code pc = .ok (.iconst 0, 1) := dk_of ((dk_bind (dk_u1 (h 0 _ rfl))).trans rfl)
theorem dk_4 {code : ByteArray} {pc : Nat} (h : DkAt code pc [4]) : decode code pc = .ok (.iconst 1, 1) := dk_of ((dk_bind (dk_u1 (h 0 _ rfl))).trans rfl)
theorem dk_5 {code : ByteArray} {pc : Nat} (h : DkAt code pc [5]) : decode code pc = .ok (.iconst 2, 1) := dk_of ((dk_bind (dk_u1 (h 0 _ rfl))).trans rfl)
theorem dk_6 {code : ByteArray} {pc : Nat} (h : DkAt code pc [6]) : decode code pc = .ok (.iconst 3, 1) := dk_of ((dk_bind (dk_u1 (h 0 _ rfl))).trans rfl)
theorem dk_7 {code : ByteArray} {pc : Nat} (h : DkAt code pc [7]) : decode code pc = .ok (.iconst 4, 1) := dk_of ((dk_bind (dk_u1 (h 0 _ rfl))).trans rfl)
theorem dk_9 {code : ByteArray} {pc : Nat} (h : DkAt code pc [9]) : decode code pc = .ok (.lconst 0, 1) := dk_of ((dk_bind (dk_u1 (h 0 _ rfl))).trans rfl)
theorem dk_10 {code : ByteArray} {pc : Nat} (h : DkAt code pc [10]) : decode code pc = .ok (.lconst 1, 1) := dk_of ((dk_bind (dk_u1 (h 0 _ rfl))).trans rfl)
theorem dk_11 {code : ByteArray} {pc : Nat} (h : DkAt code pc [11]) : decode code pc = .ok (.fconst 0, 1) := dk_of ((dk_bind (dk_u1 (h 0 _ rfl))).trans rfl)
theorem dk_14 {code : ByteArray} {pc : Nat} (h : DkAt code pc [14]) : decode code pc = .ok (.dconst 0, 1) := dk_of ((dk_bind (dk_u1 (h 0 _ rfl))).trans rfl)
theorem dk_16 {code : ByteArray} {pc : Nat} (a : UInt8) (h : DkAt code pc [16, a]) : decode code pc = .ok (.bipush (Reader.signed 8 a.toNat), 2) := dk_of ((dk_bind (dk_u1 (h 0 _ rfl))).trans ((dk_bind (dk_map (dk_u1 (h 1 _ rfl)))).trans rfl))
theorem dk_17 {code : ByteArray} {pc : Nat} (a b : UInt8) (h : DkAt code pc [17, a, b]) : decode code pc = .ok (.sipush (Reader.signed 16 (a.toNat * 256 + b.toNat)), 3) := dk_of ((dk_bind (dk_u1 (h 0 _ rfl))).trans ((dk_bind (dk_map (dk_u2 (h 1 _ rfl) (h 2 _ rfl)))).trans rfl))
theorem dk_18 {code : ByteArray} {pc : Nat} (a : UInt8) (h : DkAt code pc [18, a]) : decode code pc = .ok (.ldc a.toNat, 2) := dk_of ((dk_bind (dk_u1 (h 0 _ rfl))).trans ((dk_bind (dk_u1 (h 1 _ rfl))).trans rfl))
theorem dk_19 {code : ByteArray} {pc : Nat} (a b : UInt8) (h : DkAt code pc [19, a, b]) : decode code pc = .ok (.ldc_w (a.toNat * 256 + b.toNat), 3) := dk_of ((dk_bind (dk_u1 (h 0 _ rfl))).trans ((dk_bind (dk_u2 (h 1 _ rfl) (h 2 _ rfl))).trans rfl))
theorem dk_20 {code : ByteArray} {pc : Nat} (a b : UInt8) (h : DkAt code pc [20, a, b]) : decode code pc = .ok (.ldc2_w (a.toNat * 256 + b.toNat), 3) := dk_of ((dk_bind (dk_u1 (h 0 _ rfl))).trans ((dk_bind (dk_u2 (h 1 _ rfl) (h 2 _ rfl))).trans rfl))
theorem dk_21 {code : ByteArray} {pc : Nat} (a : UInt8) (h : DkAt code pc [21, a]) : decode code pc = .ok (.iload a.toNat, 2) := dk_of ((dk_bind (dk_u1 (h 0 _ rfl))).trans ((dk_bind (dk_u1 (h 1 _ rfl))).trans rfl))
theorem dk_22 {code : ByteArray} {pc : Nat} (a : UInt8) (h : DkAt code pc [22, a]) : decode code pc = .ok (.lload a.toNat, 2) := dk_of ((dk_bind (dk_u1 (h 0 _ rfl))).trans ((dk_bind (dk_u1 (h 1 _ rfl))).trans rfl))
theorem dk_24 {code : ByteArray} {pc : Nat} (a : UInt8) (h : DkAt code pc [24, a]) : decode code pc = .ok (.dload a.toNat, 2) := dk_of ((dk_bind (dk_u1 (h 0 _ rfl))).trans ((dk_bind (dk_u1 (h 1 _ rfl))).trans rfl))
theorem dk_25 {code : ByteArray} {pc : Nat} (a : UInt8) (h : DkAt code pc [25, a]) : decode code pc = .ok (.aload a.toNat, 2) := dk_of ((dk_bind (dk_u1 (h 0 _ rfl))).trans ((dk_bind (dk_u1 (h 1 _ rfl))).trans rfl))
theorem dk_26 {code : ByteArray} {pc : Nat} (h : DkAt code pc [26]) : decode code pc = .ok (.iload_n 0, 1) := dk_of ((dk_bind (dk_u1 (h 0 _ rfl))).trans rfl)
theorem dk_27 {code : ByteArray} {pc : Nat} (h : DkAt code pc [27]) : decode code pc = .ok (.iload_n 1, 1) := dk_of ((dk_bind (dk_u1 (h 0 _ rfl))).trans rfl)
theorem dk_28 {code : ByteArray} {pc : Nat} (h : DkAt code pc [28]) : decode code pc = .ok (.iload_n 2, 1) := dk_of ((dk_bind (dk_u1 (h 0 _ rfl))).trans rfl)
theorem dk_29 {code : ByteArray} {pc : Nat} (h : DkAt code pc [29]) : decode code pc = .ok (.iload_n 3, 1) := dk_of ((dk_bind (dk_u1 (h 0 _ rfl))).trans rfl)
theorem dk_30 {code : ByteArray} {pc : Nat} (h : DkAt code pc [30]) : decode code pc = .ok (.lload_n 0, 1) := dk_of ((dk_bind (dk_u1 (h 0 _ rfl))).trans rfl)
theorem dk_31 {code : ByteArray} {pc : Nat} (h : DkAt code pc [31]) : decode code pc = .ok (.lload_n 1, 1) := dk_of ((dk_bind (dk_u1 (h 0 _ rfl))).trans rfl)
theorem dk_32 {code : ByteArray} {pc : Nat} (h : DkAt code pc [32]) : decode code pc = .ok (.lload_n 2, 1) := dk_of ((dk_bind (dk_u1 (h 0 _ rfl))).trans rfl)
theorem dk_42 {code : ByteArray} {pc : Nat} (h : DkAt code pc [42]) : decode code pc = .ok (.aload_n 0, 1) := dk_of ((dk_bind (dk_u1 (h 0 _ rfl))).trans rfl)
theorem dk_43 {code : ByteArray} {pc : Nat} (h : DkAt code pc [43]) : decode code pc = .ok (.aload_n 1, 1) := dk_of ((dk_bind (dk_u1 (h 0 _ rfl))).trans rfl)
theorem dk_44 {code : ByteArray} {pc : Nat} (h : DkAt code pc [44]) : decode code pc = .ok (.aload_n 2, 1) := dk_of ((dk_bind (dk_u1 (h 0 _ rfl))).trans rfl)
theorem dk_45 {code : ByteArray} {pc : Nat} (h : DkAt code pc [45]) : decode code pc = .ok (.aload_n 3, 1) := dk_of ((dk_bind (dk_u1 (h 0 _ rfl))).trans rfl)
theorem dk_46 {code : ByteArray} {pc : Nat} (h : DkAt code pc [46]) : decode code pc = .ok (.iaload, 1) := dk_of ((dk_bind (dk_u1 (h 0 _ rfl))).trans rfl)
theorem dk_47 {code : ByteArray} {pc : Nat} (h : DkAt code pc [47]) : decode code pc = .ok (.laload, 1) := dk_of ((dk_bind (dk_u1 (h 0 _ rfl))).trans rfl)
theorem dk_50 {code : ByteArray} {pc : Nat} (h : DkAt code pc [50]) : decode code pc = .ok (.aaload, 1) := dk_of ((dk_bind (dk_u1 (h 0 _ rfl))).trans rfl)
theorem dk_51 {code : ByteArray} {pc : Nat} (h : DkAt code pc [51]) : decode code pc = .ok (.baload, 1) := dk_of ((dk_bind (dk_u1 (h 0 _ rfl))).trans rfl)
theorem dk_54 {code : ByteArray} {pc : Nat} (a : UInt8) (h : DkAt code pc [54, a]) : decode code pc = .ok (.istore a.toNat, 2) := dk_of ((dk_bind (dk_u1 (h 0 _ rfl))).trans ((dk_bind (dk_u1 (h 1 _ rfl))).trans rfl))
theorem dk_55 {code : ByteArray} {pc : Nat} (a : UInt8) (h : DkAt code pc [55, a]) : decode code pc = .ok (.lstore a.toNat, 2) := dk_of ((dk_bind (dk_u1 (h 0 _ rfl))).trans ((dk_bind (dk_u1 (h 1 _ rfl))).trans rfl))
theorem dk_57 {code : ByteArray} {pc : Nat} (a : UInt8) (h : DkAt code pc [57, a]) : decode code pc = .ok (.dstore a.toNat, 2) := dk_of ((dk_bind (dk_u1 (h 0 _ rfl))).trans ((dk_bind (dk_u1 (h 1 _ rfl))).trans rfl))
theorem dk_58 {code : ByteArray} {pc : Nat} (a : UInt8) (h : DkAt code pc [58, a]) : decode code pc = .ok (.astore a.toNat, 2) := dk_of ((dk_bind (dk_u1 (h 0 _ rfl))).trans ((dk_bind (dk_u1 (h 1 _ rfl))).trans rfl))
theorem dk_59 {code : ByteArray} {pc : Nat} (h : DkAt code pc [59]) : decode code pc = .ok (.istore_n 0, 1) := dk_of ((dk_bind (dk_u1 (h 0 _ rfl))).trans rfl)
theorem dk_60 {code : ByteArray} {pc : Nat} (h : DkAt code pc [60]) : decode code pc = .ok (.istore_n 1, 1) := dk_of ((dk_bind (dk_u1 (h 0 _ rfl))).trans rfl)
theorem dk_61 {code : ByteArray} {pc : Nat} (h : DkAt code pc [61]) : decode code pc = .ok (.istore_n 2, 1) := dk_of ((dk_bind (dk_u1 (h 0 _ rfl))).trans rfl)
theorem dk_62 {code : ByteArray} {pc : Nat} (h : DkAt code pc [62]) : decode code pc = .ok (.istore_n 3, 1) := dk_of ((dk_bind (dk_u1 (h 0 _ rfl))).trans rfl)
theorem dk_64 {code : ByteArray} {pc : Nat} (h : DkAt code pc [64]) : decode code pc = .ok (.lstore_n 1, 1) := dk_of ((dk_bind (dk_u1 (h 0 _ rfl))).trans rfl)
theorem dk_75 {code : ByteArray} {pc : Nat} (h : DkAt code pc [75]) : decode code pc = .ok (.astore_n 0, 1) := dk_of ((dk_bind (dk_u1 (h 0 _ rfl))).trans rfl)
theorem dk_76 {code : ByteArray} {pc : Nat} (h : DkAt code pc [76]) : decode code pc = .ok (.astore_n 1, 1) := dk_of ((dk_bind (dk_u1 (h 0 _ rfl))).trans rfl)
theorem dk_77 {code : ByteArray} {pc : Nat} (h : DkAt code pc [77]) : decode code pc = .ok (.astore_n 2, 1) := dk_of ((dk_bind (dk_u1 (h 0 _ rfl))).trans rfl)
theorem dk_78 {code : ByteArray} {pc : Nat} (h : DkAt code pc [78]) : decode code pc = .ok (.astore_n 3, 1) := dk_of ((dk_bind (dk_u1 (h 0 _ rfl))).trans rfl)
theorem dk_79 {code : ByteArray} {pc : Nat} (h : DkAt code pc [79]) : decode code pc = .ok (.iastore, 1) := dk_of ((dk_bind (dk_u1 (h 0 _ rfl))).trans rfl)
theorem dk_80 {code : ByteArray} {pc : Nat} (h : DkAt code pc [80]) : decode code pc = .ok (.lastore, 1) := dk_of ((dk_bind (dk_u1 (h 0 _ rfl))).trans rfl)
theorem dk_83 {code : ByteArray} {pc : Nat} (h : DkAt code pc [83]) : decode code pc = .ok (.aastore, 1) := dk_of ((dk_bind (dk_u1 (h 0 _ rfl))).trans rfl)
theorem dk_84 {code : ByteArray} {pc : Nat} (h : DkAt code pc [84]) : decode code pc = .ok (.bastore, 1) := dk_of ((dk_bind (dk_u1 (h 0 _ rfl))).trans rfl)
theorem dk_87 {code : ByteArray} {pc : Nat} (h : DkAt code pc [87]) : decode code pc = .ok (.pop, 1) := dk_of ((dk_bind (dk_u1 (h 0 _ rfl))).trans rfl)
theorem dk_89 {code : ByteArray} {pc : Nat} (h : DkAt code pc [89]) : decode code pc = .ok (.dup, 1) := dk_of ((dk_bind (dk_u1 (h 0 _ rfl))).trans rfl)
theorem dk_90 {code : ByteArray} {pc : Nat} (h : DkAt code pc [90]) : decode code pc = .ok (.dup_x1, 1) := dk_of ((dk_bind (dk_u1 (h 0 _ rfl))).trans rfl)
theorem dk_92 {code : ByteArray} {pc : Nat} (h : DkAt code pc [92]) : decode code pc = .ok (.dup2, 1) := dk_of ((dk_bind (dk_u1 (h 0 _ rfl))).trans rfl)
theorem dk_96 {code : ByteArray} {pc : Nat} (h : DkAt code pc [96]) : decode code pc = .ok (.iadd, 1) := dk_of ((dk_bind (dk_u1 (h 0 _ rfl))).trans rfl)
theorem dk_97 {code : ByteArray} {pc : Nat} (h : DkAt code pc [97]) : decode code pc = .ok (.ladd, 1) := dk_of ((dk_bind (dk_u1 (h 0 _ rfl))).trans rfl)
theorem dk_100 {code : ByteArray} {pc : Nat} (h : DkAt code pc [100]) : decode code pc = .ok (.isub, 1) := dk_of ((dk_bind (dk_u1 (h 0 _ rfl))).trans rfl)
theorem dk_104 {code : ByteArray} {pc : Nat} (h : DkAt code pc [104]) : decode code pc = .ok (.imul, 1) := dk_of ((dk_bind (dk_u1 (h 0 _ rfl))).trans rfl)
theorem dk_105 {code : ByteArray} {pc : Nat} (h : DkAt code pc [105]) : decode code pc = .ok (.lmul, 1) := dk_of ((dk_bind (dk_u1 (h 0 _ rfl))).trans rfl)
theorem dk_108 {code : ByteArray} {pc : Nat} (h : DkAt code pc [108]) : decode code pc = .ok (.idiv, 1) := dk_of ((dk_bind (dk_u1 (h 0 _ rfl))).trans rfl)
theorem dk_110 {code : ByteArray} {pc : Nat} (h : DkAt code pc [110]) : decode code pc = .ok (.fdiv, 1) := dk_of ((dk_bind (dk_u1 (h 0 _ rfl))).trans rfl)
theorem dk_111 {code : ByteArray} {pc : Nat} (h : DkAt code pc [111]) : decode code pc = .ok (.ddiv, 1) := dk_of ((dk_bind (dk_u1 (h 0 _ rfl))).trans rfl)
theorem dk_116 {code : ByteArray} {pc : Nat} (h : DkAt code pc [116]) : decode code pc = .ok (.ineg, 1) := dk_of ((dk_bind (dk_u1 (h 0 _ rfl))).trans rfl)
theorem dk_120 {code : ByteArray} {pc : Nat} (h : DkAt code pc [120]) : decode code pc = .ok (.ishl, 1) := dk_of ((dk_bind (dk_u1 (h 0 _ rfl))).trans rfl)
theorem dk_121 {code : ByteArray} {pc : Nat} (h : DkAt code pc [121]) : decode code pc = .ok (.lshl, 1) := dk_of ((dk_bind (dk_u1 (h 0 _ rfl))).trans rfl)
theorem dk_122 {code : ByteArray} {pc : Nat} (h : DkAt code pc [122]) : decode code pc = .ok (.ishr, 1) := dk_of ((dk_bind (dk_u1 (h 0 _ rfl))).trans rfl)
theorem dk_124 {code : ByteArray} {pc : Nat} (h : DkAt code pc [124]) : decode code pc = .ok (.iushr, 1) := dk_of ((dk_bind (dk_u1 (h 0 _ rfl))).trans rfl)
theorem dk_125 {code : ByteArray} {pc : Nat} (h : DkAt code pc [125]) : decode code pc = .ok (.lushr, 1) := dk_of ((dk_bind (dk_u1 (h 0 _ rfl))).trans rfl)
theorem dk_126 {code : ByteArray} {pc : Nat} (h : DkAt code pc [126]) : decode code pc = .ok (.iand, 1) := dk_of ((dk_bind (dk_u1 (h 0 _ rfl))).trans rfl)
theorem dk_127 {code : ByteArray} {pc : Nat} (h : DkAt code pc [127]) : decode code pc = .ok (.land, 1) := dk_of ((dk_bind (dk_u1 (h 0 _ rfl))).trans rfl)
theorem dk_128 {code : ByteArray} {pc : Nat} (h : DkAt code pc [128]) : decode code pc = .ok (.ior, 1) := dk_of ((dk_bind (dk_u1 (h 0 _ rfl))).trans rfl)
theorem dk_129 {code : ByteArray} {pc : Nat} (h : DkAt code pc [129]) : decode code pc = .ok (.lor, 1) := dk_of ((dk_bind (dk_u1 (h 0 _ rfl))).trans rfl)
theorem dk_130 {code : ByteArray} {pc : Nat} (h : DkAt code pc [130]) : decode code pc = .ok (.ixor, 1) := dk_of ((dk_bind (dk_u1 (h 0 _ rfl))).trans rfl)
theorem dk_131 {code : ByteArray} {pc : Nat} (h : DkAt code pc [131]) : decode code pc = .ok (.lxor, 1) := dk_of ((dk_bind (dk_u1 (h 0 _ rfl))).trans rfl)
theorem dk_132 {code : ByteArray} {pc : Nat} (a b : UInt8) (h : DkAt code pc [132, a, b]) : decode code pc = .ok (.iinc a.toNat (Reader.signed 8 b.toNat), 3) := dk_of ((dk_bind (dk_u1 (h 0 _ rfl))).trans ((dk_bind (dk_u1 (h 1 _ rfl))).trans ((dk_bind (dk_map (dk_u1 (h 2 _ rfl)))).trans rfl)))
theorem dk_133 {code : ByteArray} {pc : Nat} (h : DkAt code pc [133]) : decode code pc = .ok (.i2l, 1) := dk_of ((dk_bind (dk_u1 (h 0 _ rfl))).trans rfl)
theorem dk_134 {code : ByteArray} {pc : Nat} (h : DkAt code pc [134]) : decode code pc = .ok (.i2f, 1) := dk_of ((dk_bind (dk_u1 (h 0 _ rfl))).trans rfl)
theorem dk_135 {code : ByteArray} {pc : Nat} (h : DkAt code pc [135]) : decode code pc = .ok (.i2d, 1) := dk_of ((dk_bind (dk_u1 (h 0 _ rfl))).trans rfl)
theorem dk_136 {code : ByteArray} {pc : Nat} (h : DkAt code pc [136]) : decode code pc = .ok (.l2i, 1) := dk_of ((dk_bind (dk_u1 (h 0 _ rfl))).trans rfl)
theorem dk_141 {code : ByteArray} {pc : Nat} (h : DkAt code pc [141]) : decode code pc = .ok (.f2d, 1) := dk_of ((dk_bind (dk_u1 (h 0 _ rfl))).trans rfl)
theorem dk_145 {code : ByteArray} {pc : Nat} (h : DkAt code pc [145]) : decode code pc = .ok (.i2b, 1) := dk_of ((dk_bind (dk_u1 (h 0 _ rfl))).trans rfl)
theorem dk_146 {code : ByteArray} {pc : Nat} (h : DkAt code pc [146]) : decode code pc = .ok (.i2c, 1) := dk_of ((dk_bind (dk_u1 (h 0 _ rfl))).trans rfl)
theorem dk_148 {code : ByteArray} {pc : Nat} (h : DkAt code pc [148]) : decode code pc = .ok (.lcmp, 1) := dk_of ((dk_bind (dk_u1 (h 0 _ rfl))).trans rfl)
theorem dk_151 {code : ByteArray} {pc : Nat} (h : DkAt code pc [151]) : decode code pc = .ok (.dcmp .l, 1) := dk_of ((dk_bind (dk_u1 (h 0 _ rfl))).trans rfl)
theorem dk_153 {code : ByteArray} {pc : Nat} (a b : UInt8) (h : DkAt code pc [153, a, b]) : decode code pc = .ok (.ifCond .eq (Reader.signed 16 (a.toNat * 256 + b.toNat)), 3) := dk_of ((dk_bind (dk_u1 (h 0 _ rfl))).trans ((dk_bind (dk_map (dk_u2 (h 1 _ rfl) (h 2 _ rfl)))).trans rfl))
theorem dk_154 {code : ByteArray} {pc : Nat} (a b : UInt8) (h : DkAt code pc [154, a, b]) : decode code pc = .ok (.ifCond .ne (Reader.signed 16 (a.toNat * 256 + b.toNat)), 3) := dk_of ((dk_bind (dk_u1 (h 0 _ rfl))).trans ((dk_bind (dk_map (dk_u2 (h 1 _ rfl) (h 2 _ rfl)))).trans rfl))
theorem dk_155 {code : ByteArray} {pc : Nat} (a b : UInt8) (h : DkAt code pc [155, a, b]) : decode code pc = .ok (.ifCond .lt (Reader.signed 16 (a.toNat * 256 + b.toNat)), 3) := dk_of ((dk_bind (dk_u1 (h 0 _ rfl))).trans ((dk_bind (dk_map (dk_u2 (h 1 _ rfl) (h 2 _ rfl)))).trans rfl))
theorem dk_156 {code : ByteArray} {pc : Nat} (a b : UInt8) (h : DkAt code pc [156, a, b]) : decode code pc = .ok (.ifCond .ge (Reader.signed 16 (a.toNat * 256 + b.toNat)), 3) := dk_of ((dk_bind (dk_u1 (h 0 _ rfl))).trans ((dk_bind (dk_map (dk_u2 (h 1 _ rfl) (h 2 _ rfl)))).trans rfl))
theorem dk_157 {code : ByteArray} {pc : Nat} (a b : UInt8) (h : DkAt code pc [157, a, b]) : decode code pc = .ok (.ifCond .gt (Reader.signed 16 (a.toNat * 256 + b.toNat)), 3) := dk_of ((dk_bind (dk_u1 (h 0 _ rfl))).trans ((dk_bind (dk_map (dk_u2 (h 1 _ rfl) (h 2 _ rfl)))).trans rfl))
theorem dk_158 {code : ByteArray} {pc : Nat} (a b : UInt8) (h : DkAt code pc [158, a, b]) : decode code pc = .ok (.ifCond .le (Reader.signed 16 (a.toNat * 256 + b.toNat)), 3) := dk_of ((dk_bind (dk_u1 (h 0 _ rfl))).trans ((dk_bind (dk_map (dk_u2 (h 1 _ rfl) (h 2 _ rfl)))).trans rfl))
theorem dk_159 {code : ByteArray} {pc : Nat} (a b : UInt8) (h : DkAt code pc [159, a, b]) : decode code pc = .ok (.if_icmp .eq (Reader.signed 16 (a.toNat * 256 + b.toNat)), 3) := dk_of ((dk_bind (dk_u1 (h 0 _ rfl))).trans ((dk_bind (dk_map (dk_u2 (h 1 _ rfl) (h 2 _ rfl)))).trans rfl))
theorem dk_160 {code : ByteArray} {pc : Nat} (a b : UInt8) (h : DkAt code pc [160, a, b]) : decode code pc = .ok (.if_icmp .ne (Reader.signed 16 (a.toNat * 256 + b.toNat)), 3) := dk_of ((dk_bind (dk_u1 (h 0 _ rfl))).trans ((dk_bind (dk_map (dk_u2 (h 1 _ rfl) (h 2 _ rfl)))).trans rfl))
theorem dk_161 {code : ByteArray} {pc : Nat} (a b : UInt8) (h : DkAt code pc [161, a, b]) : decode code pc = .ok (.if_icmp .lt (Reader.signed 16 (a.toNat * 256 + b.toNat)), 3) := dk_of ((dk_bind (dk_u1 (h 0 _ rfl))).trans ((dk_bind (dk_map (dk_u2 (h 1 _ rfl) (h 2 _ rfl)))).trans rfl))
theorem dk_162 {code : ByteArray} {pc : Nat} (a b : UInt8) (h : DkAt code pc [162, a, b]) : decode code pc = .ok (.if_icmp .ge (Reader.signed 16 (a.toNat * 256 + b.toNat)), 3) := dk_of ((dk_bind (dk_u1 (h 0 _ rfl))).trans ((dk_bind (dk_map (dk_u2 (h 1 _ rfl) (h 2 _ rfl)))).trans rfl))
theorem dk_163 {code : ByteArray} {pc : Nat} (a b : UInt8) (h : DkAt code pc [163, a, b]) : decode code pc = .ok (.if_icmp .gt (Reader.signed 16 (a.toNat * 256 + b.toNat)), 3) := dk_of ((dk_bind (dk_u1 (h 0 _ rfl))).trans ((dk_bind (dk_map (dk_u2 (h 1 _ rfl) (h 2 _ rfl)))).trans rfl))
theorem dk_164 {code : ByteArray} {pc : Nat} (a b : UInt8) (h : DkAt code pc [164, a, b]) : decode code pc = .ok (.if_icmp .le (Reader.signed 16 (a.toNat * 256 + b.toNat)), 3) := dk_of ((dk_bind (dk_u1 (h 0 _ rfl))).trans ((dk_bind (dk_map (dk_u2 (h 1 _ rfl) (h 2 _ rfl)))).trans rfl))
theorem dk_165 {code : ByteArray} {pc : Nat} (a b : UInt8) (h : DkAt code pc [165, a, b]) : decode code pc = .ok (.if_acmp .eq (Reader.signed 16 (a.toNat * 256 + b.toNat)), 3) := dk_of ((dk_bind (dk_u1 (h 0 _ rfl))).trans ((dk_bind (dk_map (dk_u2 (h 1 _ rfl) (h 2 _ rfl)))).trans rfl))
theorem dk_166 {code : ByteArray} {pc : Nat} (a b : UInt8) (h : DkAt code pc [166, a, b]) : decode code pc = .ok (.if_acmp .ne (Reader.signed 16 (a.toNat * 256 + b.toNat)), 3) := dk_of ((dk_bind (dk_u1 (h 0 _ rfl))).trans ((dk_bind (dk_map (dk_u2 (h 1 _ rfl) (h 2 _ rfl)))).trans rfl))
theorem dk_167 {code : ByteArray} {pc : Nat} (a b : UInt8) (h : DkAt code pc [167, a, b]) : decode code pc = .ok (.goto (Reader.signed 16 (a.toNat * 256 + b.toNat)), 3) := dk_of ((dk_bind (dk_u1 (h 0 _ rfl))).trans ((dk_bind (dk_map (dk_u2 (h 1 _ rfl) (h 2 _ rfl)))).trans rfl))
theorem dk_172 {code : ByteArray} {pc : Nat} (h : DkAt code pc [172]) : decode code pc = .ok (.ireturn, 1) := dk_of ((dk_bind (dk_u1 (h 0 _ rfl))).trans rfl)
theorem dk_173 {code : ByteArray} {pc : Nat} (h : DkAt code pc [173]) : decode code pc = .ok (.lreturn, 1) := dk_of ((dk_bind (dk_u1 (h 0 _ rfl))).trans rfl)
theorem dk_174 {code : ByteArray} {pc : Nat} (h : DkAt code pc [174]) : decode code pc = .ok (.freturn, 1) := dk_of ((dk_bind (dk_u1 (h 0 _ rfl))).trans rfl)
theorem dk_175 {code : ByteArray} {pc : Nat} (h : DkAt code pc [175]) : decode code pc = .ok (.dreturn, 1) := dk_of ((dk_bind (dk_u1 (h 0 _ rfl))).trans rfl)
theorem dk_176 {code : ByteArray} {pc : Nat} (h : DkAt code pc [176]) : decode code pc = .ok (.areturn, 1) := dk_of ((dk_bind (dk_u1 (h 0 _ rfl))).trans rfl)
theorem dk_177 {code : ByteArray} {pc : Nat} (h : DkAt code pc [177]) : decode code pc = .ok (.return_, 1) := dk_of ((dk_bind (dk_u1 (h 0 _ rfl))).trans rfl)
theorem dk_178 {code : ByteArray} {pc : Nat} (a b : UInt8) (h : DkAt code pc [178, a, b]) : decode code pc = .ok (.getstatic (a.toNat * 256 + b.toNat), 3) := dk_of ((dk_bind (dk_u1 (h 0 _ rfl))).trans ((dk_bind (dk_u2 (h 1 _ rfl) (h 2 _ rfl))).trans rfl))
theorem dk_180 {code : ByteArray} {pc : Nat} (a b : UInt8) (h : DkAt code pc [180, a, b]) : decode code pc = .ok (.getfield (a.toNat * 256 + b.toNat), 3) := dk_of ((dk_bind (dk_u1 (h 0 _ rfl))).trans ((dk_bind (dk_u2 (h 1 _ rfl) (h 2 _ rfl))).trans rfl))
theorem dk_181 {code : ByteArray} {pc : Nat} (a b : UInt8) (h : DkAt code pc [181, a, b]) : decode code pc = .ok (.putfield (a.toNat * 256 + b.toNat), 3) := dk_of ((dk_bind (dk_u1 (h 0 _ rfl))).trans ((dk_bind (dk_u2 (h 1 _ rfl) (h 2 _ rfl))).trans rfl))
theorem dk_182 {code : ByteArray} {pc : Nat} (a b : UInt8) (h : DkAt code pc [182, a, b]) : decode code pc = .ok (.invokevirtual (a.toNat * 256 + b.toNat), 3) := dk_of ((dk_bind (dk_u1 (h 0 _ rfl))).trans ((dk_bind (dk_u2 (h 1 _ rfl) (h 2 _ rfl))).trans rfl))
theorem dk_183 {code : ByteArray} {pc : Nat} (a b : UInt8) (h : DkAt code pc [183, a, b]) : decode code pc = .ok (.invokespecial (a.toNat * 256 + b.toNat), 3) := dk_of ((dk_bind (dk_u1 (h 0 _ rfl))).trans ((dk_bind (dk_u2 (h 1 _ rfl) (h 2 _ rfl))).trans rfl))
theorem dk_184 {code : ByteArray} {pc : Nat} (a b : UInt8) (h : DkAt code pc [184, a, b]) : decode code pc = .ok (.invokestatic (a.toNat * 256 + b.toNat), 3) := dk_of ((dk_bind (dk_u1 (h 0 _ rfl))).trans ((dk_bind (dk_u2 (h 1 _ rfl) (h 2 _ rfl))).trans rfl))
theorem dk_187 {code : ByteArray} {pc : Nat} (a b : UInt8) (h : DkAt code pc [187, a, b]) : decode code pc = .ok (.new (a.toNat * 256 + b.toNat), 3) := dk_of ((dk_bind (dk_u1 (h 0 _ rfl))).trans ((dk_bind (dk_u2 (h 1 _ rfl) (h 2 _ rfl))).trans rfl))
theorem dk_188_4 {code : ByteArray} {pc : Nat} (h : DkAt code pc [188, 4]) : decode code pc = .ok (.newarray .boolean, 2) := dk_of ((dk_bind (dk_u1 (h 0 _ rfl))).trans ((dk_bind (dk_u1 (h 1 _ rfl))).trans rfl))
theorem dk_188_8 {code : ByteArray} {pc : Nat} (h : DkAt code pc [188, 8]) : decode code pc = .ok (.newarray .byte, 2) := dk_of ((dk_bind (dk_u1 (h 0 _ rfl))).trans ((dk_bind (dk_u1 (h 1 _ rfl))).trans rfl))
theorem dk_188_10 {code : ByteArray} {pc : Nat} (h : DkAt code pc [188, 10]) : decode code pc = .ok (.newarray .int, 2) := dk_of ((dk_bind (dk_u1 (h 0 _ rfl))).trans ((dk_bind (dk_u1 (h 1 _ rfl))).trans rfl))
theorem dk_188_11 {code : ByteArray} {pc : Nat} (h : DkAt code pc [188, 11]) : decode code pc = .ok (.newarray .long, 2) := dk_of ((dk_bind (dk_u1 (h 0 _ rfl))).trans ((dk_bind (dk_u1 (h 1 _ rfl))).trans rfl))
theorem dk_189 {code : ByteArray} {pc : Nat} (a b : UInt8) (h : DkAt code pc [189, a, b]) : decode code pc = .ok (.anewarray (a.toNat * 256 + b.toNat), 3) := dk_of ((dk_bind (dk_u1 (h 0 _ rfl))).trans ((dk_bind (dk_u2 (h 1 _ rfl) (h 2 _ rfl))).trans rfl))
theorem dk_190 {code : ByteArray} {pc : Nat} (h : DkAt code pc [190]) : decode code pc = .ok (.arraylength, 1) := dk_of ((dk_bind (dk_u1 (h 0 _ rfl))).trans rfl)
theorem dk_191 {code : ByteArray} {pc : Nat} (h : DkAt code pc [191]) : decode code pc = .ok (.athrow, 1) := dk_of ((dk_bind (dk_u1 (h 0 _ rfl))).trans rfl)
theorem dk_192 {code : ByteArray} {pc : Nat} (a b : UInt8) (h : DkAt code pc [192, a, b]) : decode code pc = .ok (.checkcast (a.toNat * 256 + b.toNat), 3) := dk_of ((dk_bind (dk_u1 (h 0 _ rfl))).trans ((dk_bind (dk_u2 (h 1 _ rfl) (h 2 _ rfl))).trans rfl))
theorem dk_193 {code : ByteArray} {pc : Nat} (a b : UInt8) (h : DkAt code pc [193, a, b]) : decode code pc = .ok (.instanceof (a.toNat * 256 + b.toNat), 3) := dk_of ((dk_bind (dk_u1 (h 0 _ rfl))).trans ((dk_bind (dk_u2 (h 1 _ rfl) (h 2 _ rfl))).trans rfl))
theorem dk_198 {code : ByteArray} {pc : Nat} (a b : UInt8) (h : DkAt code pc [198, a, b]) : decode code pc = .ok (.ifnull (Reader.signed 16 (a.toNat * 256 + b.toNat)), 3) := dk_of ((dk_bind (dk_u1 (h 0 _ rfl))).trans ((dk_bind (dk_map (dk_u2 (h 1 _ rfl) (h 2 _ rfl)))).trans rfl))
theorem dk_199 {code : ByteArray} {pc : Nat} (a b : UInt8) (h : DkAt code pc [199, a, b]) : decode code pc = .ok (.ifnonnull (Reader.signed 16 (a.toNat * 256 + b.toNat)), 3) := dk_of ((dk_bind (dk_u1 (h 0 _ rfl))).trans ((dk_bind (dk_map (dk_u2 (h 1 _ rfl) (h 2 _ rfl)))).trans rfl))
/-! SelahGeneratorLaw -/
set_option maxRecDepth 100000
def RX0 : String := "SelahGeneratorLaw"
abbrev cX0_addRule : ByteArray := method_3_code
def yX0_addRule : MethodName := ⟨RX0, "addRule", "(LSelahGenerator;I[J)I"⟩
def dkwX0_addRule_0 : List UInt8 := [44, 3, 42, 27, 182, 0, 7, 133, 80, 167, 0, 9, 78, 4, 172, 78, 5, 172, 3, 172]
abbrev dktX0_addRule_0 : List UInt8 := dkwX0_addRule_0 ++ []
theorem dksX0_addRule_0 : cX0_addRule.data.toList.drop 0 = dktX0_addRule_0 := by decide +kernel
theorem dX0_addRule_0 : decode cX0_addRule 0 = .ok (.aload_n 2, 1) := dk_44 (dk_at dksX0_addRule_0 0 rfl rfl)
theorem dX0_addRule_1 : decode cX0_addRule 1 = .ok (.iconst 0, 1) := dk_3 (dk_at dksX0_addRule_0 1 rfl rfl)
theorem dX0_addRule_2 : decode cX0_addRule 2 = .ok (.aload_n 0, 1) := dk_42 (dk_at dksX0_addRule_0 2 rfl rfl)
theorem dX0_addRule_3 : decode cX0_addRule 3 = .ok (.iload_n 1, 1) := dk_27 (dk_at dksX0_addRule_0 3 rfl rfl)
theorem dX0_addRule_4 : decode cX0_addRule 4 = .ok (.invokevirtual 7, 3) := dk_182 0 7 (dk_at dksX0_addRule_0 4 rfl rfl)
theorem dX0_addRule_7 : decode cX0_addRule 7 = .ok (.i2l, 1) := dk_133 (dk_at dksX0_addRule_0 7 rfl rfl)
theorem dX0_addRule_8 : decode cX0_addRule 8 = .ok (.lastore, 1) := dk_80 (dk_at dksX0_addRule_0 8 rfl rfl)
theorem dX0_addRule_9 : decode cX0_addRule 9 = .ok (.goto 9, 3) := dk_167 0 9 (dk_at dksX0_addRule_0 9 rfl rfl)
theorem dX0_addRule_12 : decode cX0_addRule 12 = .ok (.astore_n 3, 1) := dk_78 (dk_at dksX0_addRule_0 12 rfl rfl)
theorem dX0_addRule_13 : decode cX0_addRule 13 = .ok (.iconst 1, 1) := dk_4 (dk_at dksX0_addRule_0 13 rfl rfl)
theorem dX0_addRule_14 : decode cX0_addRule 14 = .ok (.ireturn, 1) := dk_172 (dk_at dksX0_addRule_0 14 rfl rfl)
theorem dX0_addRule_15 : decode cX0_addRule 15 = .ok (.astore_n 3, 1) := dk_78 (dk_at dksX0_addRule_0 15 rfl rfl)
theorem dX0_addRule_16 : decode cX0_addRule 16 = .ok (.iconst 2, 1) := dk_5 (dk_at dksX0_addRule_0 16 rfl rfl)
theorem dX0_addRule_17 : decode cX0_addRule 17 = .ok (.ireturn, 1) := dk_172 (dk_at dksX0_addRule_0 17 rfl rfl)
theorem dX0_addRule_18 : decode cX0_addRule 18 = .ok (.iconst 0, 1) := dk_3 (dk_at dksX0_addRule_0 18 rfl rfl)
theorem dX0_addRule_19 : decode cX0_addRule 19 = .ok (.ireturn, 1) := dk_172 (dk_at dksX0_addRule_0 19 rfl rfl)
abbrev cX0_append : ByteArray := method_4_code
def yX0_append : MethodName := ⟨RX0, "append", "(LSelahGenerator;II[J)I"⟩
def dkwX0_append_1 : List UInt8 := [172, 3, 172]
abbrev dktX0_append_1 : List UInt8 := dkwX0_append_1 ++ []
def dkwX0_append_0 : List UInt8 := [45, 3, 42, 27, 28, 182, 0, 17, 133, 80, 167, 0, 15, 58, 4, 4, 172, 58, 4, 5, 172, 58, 4, 6]
abbrev dktX0_append_0 : List UInt8 := dkwX0_append_0 ++ dktX0_append_1
theorem dksX0_append_0 : cX0_append.data.toList.drop 0 = dktX0_append_0 := by decide +kernel
theorem dksX0_append_1 : cX0_append.data.toList.drop 24 = dktX0_append_1 := dk_seg dksX0_append_0 24 rfl rfl
theorem dX0_append_0 : decode cX0_append 0 = .ok (.aload_n 3, 1) := dk_45 (dk_at dksX0_append_0 0 rfl rfl)
theorem dX0_append_1 : decode cX0_append 1 = .ok (.iconst 0, 1) := dk_3 (dk_at dksX0_append_0 1 rfl rfl)
theorem dX0_append_2 : decode cX0_append 2 = .ok (.aload_n 0, 1) := dk_42 (dk_at dksX0_append_0 2 rfl rfl)
theorem dX0_append_3 : decode cX0_append 3 = .ok (.iload_n 1, 1) := dk_27 (dk_at dksX0_append_0 3 rfl rfl)
theorem dX0_append_4 : decode cX0_append 4 = .ok (.iload_n 2, 1) := dk_28 (dk_at dksX0_append_0 4 rfl rfl)
theorem dX0_append_5 : decode cX0_append 5 = .ok (.invokevirtual 17, 3) := dk_182 0 17 (dk_at dksX0_append_0 5 rfl rfl)
theorem dX0_append_8 : decode cX0_append 8 = .ok (.i2l, 1) := dk_133 (dk_at dksX0_append_0 8 rfl rfl)
theorem dX0_append_9 : decode cX0_append 9 = .ok (.lastore, 1) := dk_80 (dk_at dksX0_append_0 9 rfl rfl)
theorem dX0_append_10 : decode cX0_append 10 = .ok (.goto 15, 3) := dk_167 0 15 (dk_at dksX0_append_0 10 rfl rfl)
theorem dX0_append_13 : decode cX0_append 13 = .ok (.astore 4, 2) := dk_58 4 (dk_at dksX0_append_0 13 rfl rfl)
theorem dX0_append_15 : decode cX0_append 15 = .ok (.iconst 1, 1) := dk_4 (dk_at dksX0_append_0 15 rfl rfl)
theorem dX0_append_16 : decode cX0_append 16 = .ok (.ireturn, 1) := dk_172 (dk_at dksX0_append_0 16 rfl rfl)
theorem dX0_append_17 : decode cX0_append 17 = .ok (.astore 4, 2) := dk_58 4 (dk_at dksX0_append_0 17 rfl rfl)
theorem dX0_append_19 : decode cX0_append 19 = .ok (.iconst 2, 1) := dk_5 (dk_at dksX0_append_0 19 rfl rfl)
theorem dX0_append_20 : decode cX0_append 20 = .ok (.ireturn, 1) := dk_172 (dk_at dksX0_append_0 20 rfl rfl)
theorem dX0_append_21 : decode cX0_append 21 = .ok (.astore 4, 2) := dk_58 4 (dk_at dksX0_append_0 21 rfl rfl)
theorem dX0_append_23 : decode cX0_append 23 = .ok (.iconst 3, 1) := dk_6 (dk_at dksX0_append_0 23 rfl rfl)
theorem dX0_append_24 : decode cX0_append 24 = .ok (.ireturn, 1) := dk_172 (dk_at dksX0_append_1 0 rfl rfl)
theorem dX0_append_25 : decode cX0_append 25 = .ok (.iconst 0, 1) := dk_3 (dk_at dksX0_append_1 1 rfl rfl)
theorem dX0_append_26 : decode cX0_append 26 = .ok (.ireturn, 1) := dk_172 (dk_at dksX0_append_1 2 rfl rfl)
abbrev cX0_removeRule : ByteArray := method_5_code
def yX0_removeRule : MethodName := ⟨RX0, "removeRule", "(LSelahGenerator;I[J)I"⟩
def dkwX0_removeRule_0 : List UInt8 := [44, 3, 42, 27, 182, 0, 23, 133, 80, 167, 0, 6, 78, 4, 172, 3, 172]
abbrev dktX0_removeRule_0 : List UInt8 := dkwX0_removeRule_0 ++ []
theorem dksX0_removeRule_0 : cX0_removeRule.data.toList.drop 0 = dktX0_removeRule_0 := by decide +kernel
theorem dX0_removeRule_0 : decode cX0_removeRule 0 = .ok (.aload_n 2, 1) := dk_44 (dk_at dksX0_removeRule_0 0 rfl rfl)
theorem dX0_removeRule_1 : decode cX0_removeRule 1 = .ok (.iconst 0, 1) := dk_3 (dk_at dksX0_removeRule_0 1 rfl rfl)
theorem dX0_removeRule_2 : decode cX0_removeRule 2 = .ok (.aload_n 0, 1) := dk_42 (dk_at dksX0_removeRule_0 2 rfl rfl)
theorem dX0_removeRule_3 : decode cX0_removeRule 3 = .ok (.iload_n 1, 1) := dk_27 (dk_at dksX0_removeRule_0 3 rfl rfl)
theorem dX0_removeRule_4 : decode cX0_removeRule 4 = .ok (.invokevirtual 23, 3) := dk_182 0 23 (dk_at dksX0_removeRule_0 4 rfl rfl)
theorem dX0_removeRule_7 : decode cX0_removeRule 7 = .ok (.i2l, 1) := dk_133 (dk_at dksX0_removeRule_0 7 rfl rfl)
theorem dX0_removeRule_8 : decode cX0_removeRule 8 = .ok (.lastore, 1) := dk_80 (dk_at dksX0_removeRule_0 8 rfl rfl)
theorem dX0_removeRule_9 : decode cX0_removeRule 9 = .ok (.goto 6, 3) := dk_167 0 6 (dk_at dksX0_removeRule_0 9 rfl rfl)
theorem dX0_removeRule_12 : decode cX0_removeRule 12 = .ok (.astore_n 3, 1) := dk_78 (dk_at dksX0_removeRule_0 12 rfl rfl)
theorem dX0_removeRule_13 : decode cX0_removeRule 13 = .ok (.iconst 1, 1) := dk_4 (dk_at dksX0_removeRule_0 13 rfl rfl)
theorem dX0_removeRule_14 : decode cX0_removeRule 14 = .ok (.ireturn, 1) := dk_172 (dk_at dksX0_removeRule_0 14 rfl rfl)
theorem dX0_removeRule_15 : decode cX0_removeRule 15 = .ok (.iconst 0, 1) := dk_3 (dk_at dksX0_removeRule_0 15 rfl rfl)
theorem dX0_removeRule_16 : decode cX0_removeRule 16 = .ok (.ireturn, 1) := dk_172 (dk_at dksX0_removeRule_0 16 rfl rfl)
abbrev cX0_leftOf : ByteArray := method_6_code
def yX0_leftOf : MethodName := ⟨RX0, "leftOf", "(LSelahGenerator;I[J)I"⟩
def dkwX0_leftOf_0 : List UInt8 := [44, 3, 42, 27, 182, 0, 26, 133, 80, 167, 0, 6, 78, 4, 172, 3, 172]
abbrev dktX0_leftOf_0 : List UInt8 := dkwX0_leftOf_0 ++ []
theorem dksX0_leftOf_0 : cX0_leftOf.data.toList.drop 0 = dktX0_leftOf_0 := by decide +kernel
theorem dX0_leftOf_0 : decode cX0_leftOf 0 = .ok (.aload_n 2, 1) := dk_44 (dk_at dksX0_leftOf_0 0 rfl rfl)
theorem dX0_leftOf_1 : decode cX0_leftOf 1 = .ok (.iconst 0, 1) := dk_3 (dk_at dksX0_leftOf_0 1 rfl rfl)
theorem dX0_leftOf_2 : decode cX0_leftOf 2 = .ok (.aload_n 0, 1) := dk_42 (dk_at dksX0_leftOf_0 2 rfl rfl)
theorem dX0_leftOf_3 : decode cX0_leftOf 3 = .ok (.iload_n 1, 1) := dk_27 (dk_at dksX0_leftOf_0 3 rfl rfl)
theorem dX0_leftOf_4 : decode cX0_leftOf 4 = .ok (.invokevirtual 26, 3) := dk_182 0 26 (dk_at dksX0_leftOf_0 4 rfl rfl)
theorem dX0_leftOf_7 : decode cX0_leftOf 7 = .ok (.i2l, 1) := dk_133 (dk_at dksX0_leftOf_0 7 rfl rfl)
theorem dX0_leftOf_8 : decode cX0_leftOf 8 = .ok (.lastore, 1) := dk_80 (dk_at dksX0_leftOf_0 8 rfl rfl)
theorem dX0_leftOf_9 : decode cX0_leftOf 9 = .ok (.goto 6, 3) := dk_167 0 6 (dk_at dksX0_leftOf_0 9 rfl rfl)
theorem dX0_leftOf_12 : decode cX0_leftOf 12 = .ok (.astore_n 3, 1) := dk_78 (dk_at dksX0_leftOf_0 12 rfl rfl)
theorem dX0_leftOf_13 : decode cX0_leftOf 13 = .ok (.iconst 1, 1) := dk_4 (dk_at dksX0_leftOf_0 13 rfl rfl)
theorem dX0_leftOf_14 : decode cX0_leftOf 14 = .ok (.ireturn, 1) := dk_172 (dk_at dksX0_leftOf_0 14 rfl rfl)
theorem dX0_leftOf_15 : decode cX0_leftOf 15 = .ok (.iconst 0, 1) := dk_3 (dk_at dksX0_leftOf_0 15 rfl rfl)
theorem dX0_leftOf_16 : decode cX0_leftOf 16 = .ok (.ireturn, 1) := dk_172 (dk_at dksX0_leftOf_0 16 rfl rfl)
abbrev cX0_lengthOf : ByteArray := method_7_code
def yX0_lengthOf : MethodName := ⟨RX0, "lengthOf", "(LSelahGenerator;I[J)I"⟩
def dkwX0_lengthOf_0 : List UInt8 := [44, 3, 42, 27, 182, 0, 29, 133, 80, 167, 0, 6, 78, 4, 172, 3, 172]
abbrev dktX0_lengthOf_0 : List UInt8 := dkwX0_lengthOf_0 ++ []
theorem dksX0_lengthOf_0 : cX0_lengthOf.data.toList.drop 0 = dktX0_lengthOf_0 := by decide +kernel
theorem dX0_lengthOf_0 : decode cX0_lengthOf 0 = .ok (.aload_n 2, 1) := dk_44 (dk_at dksX0_lengthOf_0 0 rfl rfl)
theorem dX0_lengthOf_1 : decode cX0_lengthOf 1 = .ok (.iconst 0, 1) := dk_3 (dk_at dksX0_lengthOf_0 1 rfl rfl)
theorem dX0_lengthOf_2 : decode cX0_lengthOf 2 = .ok (.aload_n 0, 1) := dk_42 (dk_at dksX0_lengthOf_0 2 rfl rfl)
theorem dX0_lengthOf_3 : decode cX0_lengthOf 3 = .ok (.iload_n 1, 1) := dk_27 (dk_at dksX0_lengthOf_0 3 rfl rfl)
theorem dX0_lengthOf_4 : decode cX0_lengthOf 4 = .ok (.invokevirtual 29, 3) := dk_182 0 29 (dk_at dksX0_lengthOf_0 4 rfl rfl)
theorem dX0_lengthOf_7 : decode cX0_lengthOf 7 = .ok (.i2l, 1) := dk_133 (dk_at dksX0_lengthOf_0 7 rfl rfl)
theorem dX0_lengthOf_8 : decode cX0_lengthOf 8 = .ok (.lastore, 1) := dk_80 (dk_at dksX0_lengthOf_0 8 rfl rfl)
theorem dX0_lengthOf_9 : decode cX0_lengthOf 9 = .ok (.goto 6, 3) := dk_167 0 6 (dk_at dksX0_lengthOf_0 9 rfl rfl)
theorem dX0_lengthOf_12 : decode cX0_lengthOf 12 = .ok (.astore_n 3, 1) := dk_78 (dk_at dksX0_lengthOf_0 12 rfl rfl)
theorem dX0_lengthOf_13 : decode cX0_lengthOf 13 = .ok (.iconst 1, 1) := dk_4 (dk_at dksX0_lengthOf_0 13 rfl rfl)
theorem dX0_lengthOf_14 : decode cX0_lengthOf 14 = .ok (.ireturn, 1) := dk_172 (dk_at dksX0_lengthOf_0 14 rfl rfl)
theorem dX0_lengthOf_15 : decode cX0_lengthOf 15 = .ok (.iconst 0, 1) := dk_3 (dk_at dksX0_lengthOf_0 15 rfl rfl)
theorem dX0_lengthOf_16 : decode cX0_lengthOf 16 = .ok (.ireturn, 1) := dk_172 (dk_at dksX0_lengthOf_0 16 rfl rfl)
abbrev cX0_symbolAt : ByteArray := method_8_code
def yX0_symbolAt : MethodName := ⟨RX0, "symbolAt", "(LSelahGenerator;II[J)I"⟩
def dkwX0_symbolAt_0 : List UInt8 := [45, 3, 42, 27, 28, 182, 0, 32, 133, 80, 167, 0, 7, 58, 4, 4, 172, 3, 172]
abbrev dktX0_symbolAt_0 : List UInt8 := dkwX0_symbolAt_0 ++ []
theorem dksX0_symbolAt_0 : cX0_symbolAt.data.toList.drop 0 = dktX0_symbolAt_0 := by decide +kernel
theorem dX0_symbolAt_0 : decode cX0_symbolAt 0 = .ok (.aload_n 3, 1) := dk_45 (dk_at dksX0_symbolAt_0 0 rfl rfl)
theorem dX0_symbolAt_1 : decode cX0_symbolAt 1 = .ok (.iconst 0, 1) := dk_3 (dk_at dksX0_symbolAt_0 1 rfl rfl)
theorem dX0_symbolAt_2 : decode cX0_symbolAt 2 = .ok (.aload_n 0, 1) := dk_42 (dk_at dksX0_symbolAt_0 2 rfl rfl)
theorem dX0_symbolAt_3 : decode cX0_symbolAt 3 = .ok (.iload_n 1, 1) := dk_27 (dk_at dksX0_symbolAt_0 3 rfl rfl)
theorem dX0_symbolAt_4 : decode cX0_symbolAt 4 = .ok (.iload_n 2, 1) := dk_28 (dk_at dksX0_symbolAt_0 4 rfl rfl)
theorem dX0_symbolAt_5 : decode cX0_symbolAt 5 = .ok (.invokevirtual 32, 3) := dk_182 0 32 (dk_at dksX0_symbolAt_0 5 rfl rfl)
theorem dX0_symbolAt_8 : decode cX0_symbolAt 8 = .ok (.i2l, 1) := dk_133 (dk_at dksX0_symbolAt_0 8 rfl rfl)
theorem dX0_symbolAt_9 : decode cX0_symbolAt 9 = .ok (.lastore, 1) := dk_80 (dk_at dksX0_symbolAt_0 9 rfl rfl)
theorem dX0_symbolAt_10 : decode cX0_symbolAt 10 = .ok (.goto 7, 3) := dk_167 0 7 (dk_at dksX0_symbolAt_0 10 rfl rfl)
theorem dX0_symbolAt_13 : decode cX0_symbolAt 13 = .ok (.astore 4, 2) := dk_58 4 (dk_at dksX0_symbolAt_0 13 rfl rfl)
theorem dX0_symbolAt_15 : decode cX0_symbolAt 15 = .ok (.iconst 1, 1) := dk_4 (dk_at dksX0_symbolAt_0 15 rfl rfl)
theorem dX0_symbolAt_16 : decode cX0_symbolAt 16 = .ok (.ireturn, 1) := dk_172 (dk_at dksX0_symbolAt_0 16 rfl rfl)
theorem dX0_symbolAt_17 : decode cX0_symbolAt 17 = .ok (.iconst 0, 1) := dk_3 (dk_at dksX0_symbolAt_0 17 rfl rfl)
theorem dX0_symbolAt_18 : decode cX0_symbolAt 18 = .ok (.ireturn, 1) := dk_172 (dk_at dksX0_symbolAt_0 18 rfl rfl)
abbrev cX0_isNullable : ByteArray := method_9_code
def yX0_isNullable : MethodName := ⟨RX0, "isNullable", "(LSelahGenerator;I[J)I"⟩
def dkwX0_isNullable_0 : List UInt8 := [44, 3, 42, 27, 182, 0, 35, 153, 0, 7, 10, 167, 0, 4, 9, 80, 167, 0, 6, 78, 4, 172, 3, 172]
abbrev dktX0_isNullable_0 : List UInt8 := dkwX0_isNullable_0 ++ []
theorem dksX0_isNullable_0 : cX0_isNullable.data.toList.drop 0 = dktX0_isNullable_0 := by decide +kernel
theorem dX0_isNullable_0 : decode cX0_isNullable 0 = .ok (.aload_n 2, 1) := dk_44 (dk_at dksX0_isNullable_0 0 rfl rfl)
theorem dX0_isNullable_1 : decode cX0_isNullable 1 = .ok (.iconst 0, 1) := dk_3 (dk_at dksX0_isNullable_0 1 rfl rfl)
theorem dX0_isNullable_2 : decode cX0_isNullable 2 = .ok (.aload_n 0, 1) := dk_42 (dk_at dksX0_isNullable_0 2 rfl rfl)
theorem dX0_isNullable_3 : decode cX0_isNullable 3 = .ok (.iload_n 1, 1) := dk_27 (dk_at dksX0_isNullable_0 3 rfl rfl)
theorem dX0_isNullable_4 : decode cX0_isNullable 4 = .ok (.invokevirtual 35, 3) := dk_182 0 35 (dk_at dksX0_isNullable_0 4 rfl rfl)
theorem dX0_isNullable_7 : decode cX0_isNullable 7 = .ok (.ifCond .eq 7, 3) := dk_153 0 7 (dk_at dksX0_isNullable_0 7 rfl rfl)
theorem dX0_isNullable_10 : decode cX0_isNullable 10 = .ok (.lconst 1, 1) := dk_10 (dk_at dksX0_isNullable_0 10 rfl rfl)
theorem dX0_isNullable_11 : decode cX0_isNullable 11 = .ok (.goto 4, 3) := dk_167 0 4 (dk_at dksX0_isNullable_0 11 rfl rfl)
theorem dX0_isNullable_14 : decode cX0_isNullable 14 = .ok (.lconst 0, 1) := dk_9 (dk_at dksX0_isNullable_0 14 rfl rfl)
theorem dX0_isNullable_15 : decode cX0_isNullable 15 = .ok (.lastore, 1) := dk_80 (dk_at dksX0_isNullable_0 15 rfl rfl)
theorem dX0_isNullable_16 : decode cX0_isNullable 16 = .ok (.goto 6, 3) := dk_167 0 6 (dk_at dksX0_isNullable_0 16 rfl rfl)
theorem dX0_isNullable_19 : decode cX0_isNullable 19 = .ok (.astore_n 3, 1) := dk_78 (dk_at dksX0_isNullable_0 19 rfl rfl)
theorem dX0_isNullable_20 : decode cX0_isNullable 20 = .ok (.iconst 1, 1) := dk_4 (dk_at dksX0_isNullable_0 20 rfl rfl)
theorem dX0_isNullable_21 : decode cX0_isNullable 21 = .ok (.ireturn, 1) := dk_172 (dk_at dksX0_isNullable_0 21 rfl rfl)
theorem dX0_isNullable_22 : decode cX0_isNullable 22 = .ok (.iconst 0, 1) := dk_3 (dk_at dksX0_isNullable_0 22 rfl rfl)
theorem dX0_isNullable_23 : decode cX0_isNullable 23 = .ok (.ireturn, 1) := dk_172 (dk_at dksX0_isNullable_0 23 rfl rfl)
abbrev cX0_firstOf : ByteArray := method_10_code
def yX0_firstOf : MethodName := ⟨RX0, "firstOf", "(LSelahGenerator;I[J)I"⟩
def dkwX0_firstOf_0 : List UInt8 := [44, 3, 42, 27, 182, 0, 39, 133, 80, 167, 0, 6, 78, 4, 172, 3, 172]
abbrev dktX0_firstOf_0 : List UInt8 := dkwX0_firstOf_0 ++ []
theorem dksX0_firstOf_0 : cX0_firstOf.data.toList.drop 0 = dktX0_firstOf_0 := by decide +kernel
theorem dX0_firstOf_0 : decode cX0_firstOf 0 = .ok (.aload_n 2, 1) := dk_44 (dk_at dksX0_firstOf_0 0 rfl rfl)
theorem dX0_firstOf_1 : decode cX0_firstOf 1 = .ok (.iconst 0, 1) := dk_3 (dk_at dksX0_firstOf_0 1 rfl rfl)
theorem dX0_firstOf_2 : decode cX0_firstOf 2 = .ok (.aload_n 0, 1) := dk_42 (dk_at dksX0_firstOf_0 2 rfl rfl)
theorem dX0_firstOf_3 : decode cX0_firstOf 3 = .ok (.iload_n 1, 1) := dk_27 (dk_at dksX0_firstOf_0 3 rfl rfl)
theorem dX0_firstOf_4 : decode cX0_firstOf 4 = .ok (.invokevirtual 39, 3) := dk_182 0 39 (dk_at dksX0_firstOf_0 4 rfl rfl)
theorem dX0_firstOf_7 : decode cX0_firstOf 7 = .ok (.i2l, 1) := dk_133 (dk_at dksX0_firstOf_0 7 rfl rfl)
theorem dX0_firstOf_8 : decode cX0_firstOf 8 = .ok (.lastore, 1) := dk_80 (dk_at dksX0_firstOf_0 8 rfl rfl)
theorem dX0_firstOf_9 : decode cX0_firstOf 9 = .ok (.goto 6, 3) := dk_167 0 6 (dk_at dksX0_firstOf_0 9 rfl rfl)
theorem dX0_firstOf_12 : decode cX0_firstOf 12 = .ok (.astore_n 3, 1) := dk_78 (dk_at dksX0_firstOf_0 12 rfl rfl)
theorem dX0_firstOf_13 : decode cX0_firstOf 13 = .ok (.iconst 1, 1) := dk_4 (dk_at dksX0_firstOf_0 13 rfl rfl)
theorem dX0_firstOf_14 : decode cX0_firstOf 14 = .ok (.ireturn, 1) := dk_172 (dk_at dksX0_firstOf_0 14 rfl rfl)
theorem dX0_firstOf_15 : decode cX0_firstOf 15 = .ok (.iconst 0, 1) := dk_3 (dk_at dksX0_firstOf_0 15 rfl rfl)
theorem dX0_firstOf_16 : decode cX0_firstOf 16 = .ok (.ireturn, 1) := dk_172 (dk_at dksX0_firstOf_0 16 rfl rfl)
abbrev cX0_followOf : ByteArray := method_11_code
def yX0_followOf : MethodName := ⟨RX0, "followOf", "(LSelahGenerator;I[J)I"⟩
def dkwX0_followOf_0 : List UInt8 := [44, 3, 42, 27, 182, 0, 42, 133, 80, 167, 0, 6, 78, 4, 172, 3, 172]
abbrev dktX0_followOf_0 : List UInt8 := dkwX0_followOf_0 ++ []
theorem dksX0_followOf_0 : cX0_followOf.data.toList.drop 0 = dktX0_followOf_0 := by decide +kernel
theorem dX0_followOf_0 : decode cX0_followOf 0 = .ok (.aload_n 2, 1) := dk_44 (dk_at dksX0_followOf_0 0 rfl rfl)
theorem dX0_followOf_1 : decode cX0_followOf 1 = .ok (.iconst 0, 1) := dk_3 (dk_at dksX0_followOf_0 1 rfl rfl)
theorem dX0_followOf_2 : decode cX0_followOf 2 = .ok (.aload_n 0, 1) := dk_42 (dk_at dksX0_followOf_0 2 rfl rfl)
theorem dX0_followOf_3 : decode cX0_followOf 3 = .ok (.iload_n 1, 1) := dk_27 (dk_at dksX0_followOf_0 3 rfl rfl)
theorem dX0_followOf_4 : decode cX0_followOf 4 = .ok (.invokevirtual 42, 3) := dk_182 0 42 (dk_at dksX0_followOf_0 4 rfl rfl)
theorem dX0_followOf_7 : decode cX0_followOf 7 = .ok (.i2l, 1) := dk_133 (dk_at dksX0_followOf_0 7 rfl rfl)
theorem dX0_followOf_8 : decode cX0_followOf 8 = .ok (.lastore, 1) := dk_80 (dk_at dksX0_followOf_0 8 rfl rfl)
theorem dX0_followOf_9 : decode cX0_followOf 9 = .ok (.goto 6, 3) := dk_167 0 6 (dk_at dksX0_followOf_0 9 rfl rfl)
theorem dX0_followOf_12 : decode cX0_followOf 12 = .ok (.astore_n 3, 1) := dk_78 (dk_at dksX0_followOf_0 12 rfl rfl)
theorem dX0_followOf_13 : decode cX0_followOf 13 = .ok (.iconst 1, 1) := dk_4 (dk_at dksX0_followOf_0 13 rfl rfl)
theorem dX0_followOf_14 : decode cX0_followOf 14 = .ok (.ireturn, 1) := dk_172 (dk_at dksX0_followOf_0 14 rfl rfl)
theorem dX0_followOf_15 : decode cX0_followOf 15 = .ok (.iconst 0, 1) := dk_3 (dk_at dksX0_followOf_0 15 rfl rfl)
theorem dX0_followOf_16 : decode cX0_followOf 16 = .ok (.ireturn, 1) := dk_172 (dk_at dksX0_followOf_0 16 rfl rfl)
abbrev cX0_shortestOf : ByteArray := method_12_code
def yX0_shortestOf : MethodName := ⟨RX0, "shortestOf", "(LSelahGenerator;I[J)I"⟩
def dkwX0_shortestOf_0 : List UInt8 := [44, 3, 42, 27, 182, 0, 45, 133, 80, 167, 0, 6, 78, 4, 172, 3, 172]
abbrev dktX0_shortestOf_0 : List UInt8 := dkwX0_shortestOf_0 ++ []
theorem dksX0_shortestOf_0 : cX0_shortestOf.data.toList.drop 0 = dktX0_shortestOf_0 := by decide +kernel
theorem dX0_shortestOf_0 : decode cX0_shortestOf 0 = .ok (.aload_n 2, 1) := dk_44 (dk_at dksX0_shortestOf_0 0 rfl rfl)
theorem dX0_shortestOf_1 : decode cX0_shortestOf 1 = .ok (.iconst 0, 1) := dk_3 (dk_at dksX0_shortestOf_0 1 rfl rfl)
theorem dX0_shortestOf_2 : decode cX0_shortestOf 2 = .ok (.aload_n 0, 1) := dk_42 (dk_at dksX0_shortestOf_0 2 rfl rfl)
theorem dX0_shortestOf_3 : decode cX0_shortestOf 3 = .ok (.iload_n 1, 1) := dk_27 (dk_at dksX0_shortestOf_0 3 rfl rfl)
theorem dX0_shortestOf_4 : decode cX0_shortestOf 4 = .ok (.invokevirtual 45, 3) := dk_182 0 45 (dk_at dksX0_shortestOf_0 4 rfl rfl)
theorem dX0_shortestOf_7 : decode cX0_shortestOf 7 = .ok (.i2l, 1) := dk_133 (dk_at dksX0_shortestOf_0 7 rfl rfl)
theorem dX0_shortestOf_8 : decode cX0_shortestOf 8 = .ok (.lastore, 1) := dk_80 (dk_at dksX0_shortestOf_0 8 rfl rfl)
theorem dX0_shortestOf_9 : decode cX0_shortestOf 9 = .ok (.goto 6, 3) := dk_167 0 6 (dk_at dksX0_shortestOf_0 9 rfl rfl)
theorem dX0_shortestOf_12 : decode cX0_shortestOf 12 = .ok (.astore_n 3, 1) := dk_78 (dk_at dksX0_shortestOf_0 12 rfl rfl)
theorem dX0_shortestOf_13 : decode cX0_shortestOf 13 = .ok (.iconst 1, 1) := dk_4 (dk_at dksX0_shortestOf_0 13 rfl rfl)
theorem dX0_shortestOf_14 : decode cX0_shortestOf 14 = .ok (.ireturn, 1) := dk_172 (dk_at dksX0_shortestOf_0 14 rfl rfl)
theorem dX0_shortestOf_15 : decode cX0_shortestOf 15 = .ok (.iconst 0, 1) := dk_3 (dk_at dksX0_shortestOf_0 15 rfl rfl)
theorem dX0_shortestOf_16 : decode cX0_shortestOf 16 = .ok (.ireturn, 1) := dk_172 (dk_at dksX0_shortestOf_0 16 rfl rfl)
abbrev cX0_predictionOf : ByteArray := method_13_code
def yX0_predictionOf : MethodName := ⟨RX0, "predictionOf", "(LSelahGenerator;I[J)I"⟩
def dkwX0_predictionOf_0 : List UInt8 := [44, 3, 42, 27, 182, 0, 48, 133, 80, 167, 0, 6, 78, 4, 172, 3, 172]
abbrev dktX0_predictionOf_0 : List UInt8 := dkwX0_predictionOf_0 ++ []
theorem dksX0_predictionOf_0 : cX0_predictionOf.data.toList.drop 0 = dktX0_predictionOf_0 := by decide +kernel
theorem dX0_predictionOf_0 : decode cX0_predictionOf 0 = .ok (.aload_n 2, 1) := dk_44 (dk_at dksX0_predictionOf_0 0 rfl rfl)
theorem dX0_predictionOf_1 : decode cX0_predictionOf 1 = .ok (.iconst 0, 1) := dk_3 (dk_at dksX0_predictionOf_0 1 rfl rfl)
theorem dX0_predictionOf_2 : decode cX0_predictionOf 2 = .ok (.aload_n 0, 1) := dk_42 (dk_at dksX0_predictionOf_0 2 rfl rfl)
theorem dX0_predictionOf_3 : decode cX0_predictionOf 3 = .ok (.iload_n 1, 1) := dk_27 (dk_at dksX0_predictionOf_0 3 rfl rfl)
theorem dX0_predictionOf_4 : decode cX0_predictionOf 4 = .ok (.invokevirtual 48, 3) := dk_182 0 48 (dk_at dksX0_predictionOf_0 4 rfl rfl)
theorem dX0_predictionOf_7 : decode cX0_predictionOf 7 = .ok (.i2l, 1) := dk_133 (dk_at dksX0_predictionOf_0 7 rfl rfl)
theorem dX0_predictionOf_8 : decode cX0_predictionOf 8 = .ok (.lastore, 1) := dk_80 (dk_at dksX0_predictionOf_0 8 rfl rfl)
theorem dX0_predictionOf_9 : decode cX0_predictionOf 9 = .ok (.goto 6, 3) := dk_167 0 6 (dk_at dksX0_predictionOf_0 9 rfl rfl)
theorem dX0_predictionOf_12 : decode cX0_predictionOf 12 = .ok (.astore_n 3, 1) := dk_78 (dk_at dksX0_predictionOf_0 12 rfl rfl)
theorem dX0_predictionOf_13 : decode cX0_predictionOf 13 = .ok (.iconst 1, 1) := dk_4 (dk_at dksX0_predictionOf_0 13 rfl rfl)
theorem dX0_predictionOf_14 : decode cX0_predictionOf 14 = .ok (.ireturn, 1) := dk_172 (dk_at dksX0_predictionOf_0 14 rfl rfl)
theorem dX0_predictionOf_15 : decode cX0_predictionOf 15 = .ok (.iconst 0, 1) := dk_3 (dk_at dksX0_predictionOf_0 15 rfl rfl)
theorem dX0_predictionOf_16 : decode cX0_predictionOf 16 = .ok (.ireturn, 1) := dk_172 (dk_at dksX0_predictionOf_0 16 rfl rfl)
abbrev cX0_predicted : ByteArray := method_14_code
def yX0_predicted : MethodName := ⟨RX0, "predicted", "(LSelahGenerator;II[J)I"⟩
def dkwX0_predicted_0 : List UInt8 := [45, 3, 42, 27, 28, 182, 0, 51, 133, 80, 167, 0, 7, 58, 4, 4, 172, 3, 172]
abbrev dktX0_predicted_0 : List UInt8 := dkwX0_predicted_0 ++ []
theorem dksX0_predicted_0 : cX0_predicted.data.toList.drop 0 = dktX0_predicted_0 := by decide +kernel
theorem dX0_predicted_0 : decode cX0_predicted 0 = .ok (.aload_n 3, 1) := dk_45 (dk_at dksX0_predicted_0 0 rfl rfl)
theorem dX0_predicted_1 : decode cX0_predicted 1 = .ok (.iconst 0, 1) := dk_3 (dk_at dksX0_predicted_0 1 rfl rfl)
theorem dX0_predicted_2 : decode cX0_predicted 2 = .ok (.aload_n 0, 1) := dk_42 (dk_at dksX0_predicted_0 2 rfl rfl)
theorem dX0_predicted_3 : decode cX0_predicted 3 = .ok (.iload_n 1, 1) := dk_27 (dk_at dksX0_predicted_0 3 rfl rfl)
theorem dX0_predicted_4 : decode cX0_predicted 4 = .ok (.iload_n 2, 1) := dk_28 (dk_at dksX0_predicted_0 4 rfl rfl)
theorem dX0_predicted_5 : decode cX0_predicted 5 = .ok (.invokevirtual 51, 3) := dk_182 0 51 (dk_at dksX0_predicted_0 5 rfl rfl)
theorem dX0_predicted_8 : decode cX0_predicted 8 = .ok (.i2l, 1) := dk_133 (dk_at dksX0_predicted_0 8 rfl rfl)
theorem dX0_predicted_9 : decode cX0_predicted 9 = .ok (.lastore, 1) := dk_80 (dk_at dksX0_predicted_0 9 rfl rfl)
theorem dX0_predicted_10 : decode cX0_predicted 10 = .ok (.goto 7, 3) := dk_167 0 7 (dk_at dksX0_predicted_0 10 rfl rfl)
theorem dX0_predicted_13 : decode cX0_predicted 13 = .ok (.astore 4, 2) := dk_58 4 (dk_at dksX0_predicted_0 13 rfl rfl)
theorem dX0_predicted_15 : decode cX0_predicted 15 = .ok (.iconst 1, 1) := dk_4 (dk_at dksX0_predicted_0 15 rfl rfl)
theorem dX0_predicted_16 : decode cX0_predicted 16 = .ok (.ireturn, 1) := dk_172 (dk_at dksX0_predicted_0 16 rfl rfl)
theorem dX0_predicted_17 : decode cX0_predicted 17 = .ok (.iconst 0, 1) := dk_3 (dk_at dksX0_predicted_0 17 rfl rfl)
theorem dX0_predicted_18 : decode cX0_predicted 18 = .ok (.ireturn, 1) := dk_172 (dk_at dksX0_predicted_0 18 rfl rfl)
abbrev cX0_pairCount : ByteArray := method_15_code
def yX0_pairCount : MethodName := ⟨RX0, "pairCount", "(LSelahGenerator;I[J)I"⟩
def dkwX0_pairCount_0 : List UInt8 := [44, 3, 42, 27, 182, 0, 54, 133, 80, 167, 0, 6, 78, 4, 172, 3, 172]
abbrev dktX0_pairCount_0 : List UInt8 := dkwX0_pairCount_0 ++ []
theorem dksX0_pairCount_0 : cX0_pairCount.data.toList.drop 0 = dktX0_pairCount_0 := by decide +kernel
theorem dX0_pairCount_0 : decode cX0_pairCount 0 = .ok (.aload_n 2, 1) := dk_44 (dk_at dksX0_pairCount_0 0 rfl rfl)
theorem dX0_pairCount_1 : decode cX0_pairCount 1 = .ok (.iconst 0, 1) := dk_3 (dk_at dksX0_pairCount_0 1 rfl rfl)
theorem dX0_pairCount_2 : decode cX0_pairCount 2 = .ok (.aload_n 0, 1) := dk_42 (dk_at dksX0_pairCount_0 2 rfl rfl)
theorem dX0_pairCount_3 : decode cX0_pairCount 3 = .ok (.iload_n 1, 1) := dk_27 (dk_at dksX0_pairCount_0 3 rfl rfl)
theorem dX0_pairCount_4 : decode cX0_pairCount 4 = .ok (.invokevirtual 54, 3) := dk_182 0 54 (dk_at dksX0_pairCount_0 4 rfl rfl)
theorem dX0_pairCount_7 : decode cX0_pairCount 7 = .ok (.i2l, 1) := dk_133 (dk_at dksX0_pairCount_0 7 rfl rfl)
theorem dX0_pairCount_8 : decode cX0_pairCount 8 = .ok (.lastore, 1) := dk_80 (dk_at dksX0_pairCount_0 8 rfl rfl)
theorem dX0_pairCount_9 : decode cX0_pairCount 9 = .ok (.goto 6, 3) := dk_167 0 6 (dk_at dksX0_pairCount_0 9 rfl rfl)
theorem dX0_pairCount_12 : decode cX0_pairCount 12 = .ok (.astore_n 3, 1) := dk_78 (dk_at dksX0_pairCount_0 12 rfl rfl)
theorem dX0_pairCount_13 : decode cX0_pairCount 13 = .ok (.iconst 1, 1) := dk_4 (dk_at dksX0_pairCount_0 13 rfl rfl)
theorem dX0_pairCount_14 : decode cX0_pairCount 14 = .ok (.ireturn, 1) := dk_172 (dk_at dksX0_pairCount_0 14 rfl rfl)
theorem dX0_pairCount_15 : decode cX0_pairCount 15 = .ok (.iconst 0, 1) := dk_3 (dk_at dksX0_pairCount_0 15 rfl rfl)
theorem dX0_pairCount_16 : decode cX0_pairCount 16 = .ok (.ireturn, 1) := dk_172 (dk_at dksX0_pairCount_0 16 rfl rfl)
abbrev cX0_predictedByPair : ByteArray := method_16_code
def yX0_predictedByPair : MethodName := ⟨RX0, "predictedByPair", "(LSelahGenerator;III[J)I"⟩
def dkwX0_predictedByPair_0 : List UInt8 := [25, 4, 3, 42, 27, 28, 29, 182, 0, 57, 133, 80, 167, 0, 7, 58, 5, 4, 172, 3, 172]
abbrev dktX0_predictedByPair_0 : List UInt8 := dkwX0_predictedByPair_0 ++ []
theorem dksX0_predictedByPair_0 : cX0_predictedByPair.data.toList.drop 0 = dktX0_predictedByPair_0 := by decide +kernel
theorem dX0_predictedByPair_0 : decode cX0_predictedByPair 0 = .ok (.aload 4, 2) := dk_25 4 (dk_at dksX0_predictedByPair_0 0 rfl rfl)
theorem dX0_predictedByPair_2 : decode cX0_predictedByPair 2 = .ok (.iconst 0, 1) := dk_3 (dk_at dksX0_predictedByPair_0 2 rfl rfl)
theorem dX0_predictedByPair_3 : decode cX0_predictedByPair 3 = .ok (.aload_n 0, 1) := dk_42 (dk_at dksX0_predictedByPair_0 3 rfl rfl)
theorem dX0_predictedByPair_4 : decode cX0_predictedByPair 4 = .ok (.iload_n 1, 1) := dk_27 (dk_at dksX0_predictedByPair_0 4 rfl rfl)
theorem dX0_predictedByPair_5 : decode cX0_predictedByPair 5 = .ok (.iload_n 2, 1) := dk_28 (dk_at dksX0_predictedByPair_0 5 rfl rfl)
theorem dX0_predictedByPair_6 : decode cX0_predictedByPair 6 = .ok (.iload_n 3, 1) := dk_29 (dk_at dksX0_predictedByPair_0 6 rfl rfl)
theorem dX0_predictedByPair_7 : decode cX0_predictedByPair 7 = .ok (.invokevirtual 57, 3) := dk_182 0 57 (dk_at dksX0_predictedByPair_0 7 rfl rfl)
theorem dX0_predictedByPair_10 : decode cX0_predictedByPair 10 = .ok (.i2l, 1) := dk_133 (dk_at dksX0_predictedByPair_0 10 rfl rfl)
theorem dX0_predictedByPair_11 : decode cX0_predictedByPair 11 = .ok (.lastore, 1) := dk_80 (dk_at dksX0_predictedByPair_0 11 rfl rfl)
theorem dX0_predictedByPair_12 : decode cX0_predictedByPair 12 = .ok (.goto 7, 3) := dk_167 0 7 (dk_at dksX0_predictedByPair_0 12 rfl rfl)
theorem dX0_predictedByPair_15 : decode cX0_predictedByPair 15 = .ok (.astore 5, 2) := dk_58 5 (dk_at dksX0_predictedByPair_0 15 rfl rfl)
theorem dX0_predictedByPair_17 : decode cX0_predictedByPair 17 = .ok (.iconst 1, 1) := dk_4 (dk_at dksX0_predictedByPair_0 17 rfl rfl)
theorem dX0_predictedByPair_18 : decode cX0_predictedByPair 18 = .ok (.ireturn, 1) := dk_172 (dk_at dksX0_predictedByPair_0 18 rfl rfl)
theorem dX0_predictedByPair_19 : decode cX0_predictedByPair 19 = .ok (.iconst 0, 1) := dk_3 (dk_at dksX0_predictedByPair_0 19 rfl rfl)
theorem dX0_predictedByPair_20 : decode cX0_predictedByPair 20 = .ok (.ireturn, 1) := dk_172 (dk_at dksX0_predictedByPair_0 20 rfl rfl)
abbrev cX0_isLeftRecursive : ByteArray := method_17_code
def yX0_isLeftRecursive : MethodName := ⟨RX0, "isLeftRecursive", "(LSelahGenerator;I[J)I"⟩
def dkwX0_isLeftRecursive_0 : List UInt8 := [44, 3, 42, 27, 182, 0, 61, 153, 0, 7, 10, 167, 0, 4, 9, 80, 167, 0, 6, 78, 4, 172, 3, 172]
abbrev dktX0_isLeftRecursive_0 : List UInt8 := dkwX0_isLeftRecursive_0 ++ []
theorem dksX0_isLeftRecursive_0 : cX0_isLeftRecursive.data.toList.drop 0 = dktX0_isLeftRecursive_0 := by decide +kernel
theorem dX0_isLeftRecursive_0 : decode cX0_isLeftRecursive 0 = .ok (.aload_n 2, 1) := dk_44 (dk_at dksX0_isLeftRecursive_0 0 rfl rfl)
theorem dX0_isLeftRecursive_1 : decode cX0_isLeftRecursive 1 = .ok (.iconst 0, 1) := dk_3 (dk_at dksX0_isLeftRecursive_0 1 rfl rfl)
theorem dX0_isLeftRecursive_2 : decode cX0_isLeftRecursive 2 = .ok (.aload_n 0, 1) := dk_42 (dk_at dksX0_isLeftRecursive_0 2 rfl rfl)
theorem dX0_isLeftRecursive_3 : decode cX0_isLeftRecursive 3 = .ok (.iload_n 1, 1) := dk_27 (dk_at dksX0_isLeftRecursive_0 3 rfl rfl)
theorem dX0_isLeftRecursive_4 : decode cX0_isLeftRecursive 4 = .ok (.invokevirtual 61, 3) := dk_182 0 61 (dk_at dksX0_isLeftRecursive_0 4 rfl rfl)
theorem dX0_isLeftRecursive_7 : decode cX0_isLeftRecursive 7 = .ok (.ifCond .eq 7, 3) := dk_153 0 7 (dk_at dksX0_isLeftRecursive_0 7 rfl rfl)
theorem dX0_isLeftRecursive_10 : decode cX0_isLeftRecursive 10 = .ok (.lconst 1, 1) := dk_10 (dk_at dksX0_isLeftRecursive_0 10 rfl rfl)
theorem dX0_isLeftRecursive_11 : decode cX0_isLeftRecursive 11 = .ok (.goto 4, 3) := dk_167 0 4 (dk_at dksX0_isLeftRecursive_0 11 rfl rfl)
theorem dX0_isLeftRecursive_14 : decode cX0_isLeftRecursive 14 = .ok (.lconst 0, 1) := dk_9 (dk_at dksX0_isLeftRecursive_0 14 rfl rfl)
theorem dX0_isLeftRecursive_15 : decode cX0_isLeftRecursive 15 = .ok (.lastore, 1) := dk_80 (dk_at dksX0_isLeftRecursive_0 15 rfl rfl)
theorem dX0_isLeftRecursive_16 : decode cX0_isLeftRecursive 16 = .ok (.goto 6, 3) := dk_167 0 6 (dk_at dksX0_isLeftRecursive_0 16 rfl rfl)
theorem dX0_isLeftRecursive_19 : decode cX0_isLeftRecursive 19 = .ok (.astore_n 3, 1) := dk_78 (dk_at dksX0_isLeftRecursive_0 19 rfl rfl)
theorem dX0_isLeftRecursive_20 : decode cX0_isLeftRecursive 20 = .ok (.iconst 1, 1) := dk_4 (dk_at dksX0_isLeftRecursive_0 20 rfl rfl)
theorem dX0_isLeftRecursive_21 : decode cX0_isLeftRecursive 21 = .ok (.ireturn, 1) := dk_172 (dk_at dksX0_isLeftRecursive_0 21 rfl rfl)
theorem dX0_isLeftRecursive_22 : decode cX0_isLeftRecursive 22 = .ok (.iconst 0, 1) := dk_3 (dk_at dksX0_isLeftRecursive_0 22 rfl rfl)
theorem dX0_isLeftRecursive_23 : decode cX0_isLeftRecursive 23 = .ok (.ireturn, 1) := dk_172 (dk_at dksX0_isLeftRecursive_0 23 rfl rfl)
abbrev cX0_removeLeftRecursion : ByteArray := method_18_code
def yX0_removeLeftRecursion : MethodName := ⟨RX0, "removeLeftRecursion", "(LSelahGenerator;[J)I"⟩
def dkwX0_removeLeftRecursion_0 : List UInt8 := [43, 3, 42, 182, 0, 64, 133, 80, 167, 0, 6, 77, 4, 172, 3, 172]
abbrev dktX0_removeLeftRecursion_0 : List UInt8 := dkwX0_removeLeftRecursion_0 ++ []
theorem dksX0_removeLeftRecursion_0 : cX0_removeLeftRecursion.data.toList.drop 0 = dktX0_removeLeftRecursion_0 := by decide +kernel
theorem dX0_removeLeftRecursion_0 : decode cX0_removeLeftRecursion 0 = .ok (.aload_n 1, 1) := dk_43 (dk_at dksX0_removeLeftRecursion_0 0 rfl rfl)
theorem dX0_removeLeftRecursion_1 : decode cX0_removeLeftRecursion 1 = .ok (.iconst 0, 1) := dk_3 (dk_at dksX0_removeLeftRecursion_0 1 rfl rfl)
theorem dX0_removeLeftRecursion_2 : decode cX0_removeLeftRecursion 2 = .ok (.aload_n 0, 1) := dk_42 (dk_at dksX0_removeLeftRecursion_0 2 rfl rfl)
theorem dX0_removeLeftRecursion_3 : decode cX0_removeLeftRecursion 3 = .ok (.invokevirtual 64, 3) := dk_182 0 64 (dk_at dksX0_removeLeftRecursion_0 3 rfl rfl)
theorem dX0_removeLeftRecursion_6 : decode cX0_removeLeftRecursion 6 = .ok (.i2l, 1) := dk_133 (dk_at dksX0_removeLeftRecursion_0 6 rfl rfl)
theorem dX0_removeLeftRecursion_7 : decode cX0_removeLeftRecursion 7 = .ok (.lastore, 1) := dk_80 (dk_at dksX0_removeLeftRecursion_0 7 rfl rfl)
theorem dX0_removeLeftRecursion_8 : decode cX0_removeLeftRecursion 8 = .ok (.goto 6, 3) := dk_167 0 6 (dk_at dksX0_removeLeftRecursion_0 8 rfl rfl)
theorem dX0_removeLeftRecursion_11 : decode cX0_removeLeftRecursion 11 = .ok (.astore_n 2, 1) := dk_77 (dk_at dksX0_removeLeftRecursion_0 11 rfl rfl)
theorem dX0_removeLeftRecursion_12 : decode cX0_removeLeftRecursion 12 = .ok (.iconst 1, 1) := dk_4 (dk_at dksX0_removeLeftRecursion_0 12 rfl rfl)
theorem dX0_removeLeftRecursion_13 : decode cX0_removeLeftRecursion 13 = .ok (.ireturn, 1) := dk_172 (dk_at dksX0_removeLeftRecursion_0 13 rfl rfl)
theorem dX0_removeLeftRecursion_14 : decode cX0_removeLeftRecursion 14 = .ok (.iconst 0, 1) := dk_3 (dk_at dksX0_removeLeftRecursion_0 14 rfl rfl)
theorem dX0_removeLeftRecursion_15 : decode cX0_removeLeftRecursion 15 = .ok (.ireturn, 1) := dk_172 (dk_at dksX0_removeLeftRecursion_0 15 rfl rfl)
abbrev cX0_factorOut : ByteArray := method_19_code
def yX0_factorOut : MethodName := ⟨RX0, "factorOut", "(LSelahGenerator;[J)I"⟩
def dkwX0_factorOut_0 : List UInt8 := [43, 3, 42, 182, 0, 68, 133, 80, 167, 0, 6, 77, 4, 172, 3, 172]
abbrev dktX0_factorOut_0 : List UInt8 := dkwX0_factorOut_0 ++ []
theorem dksX0_factorOut_0 : cX0_factorOut.data.toList.drop 0 = dktX0_factorOut_0 := by decide +kernel
theorem dX0_factorOut_0 : decode cX0_factorOut 0 = .ok (.aload_n 1, 1) := dk_43 (dk_at dksX0_factorOut_0 0 rfl rfl)
theorem dX0_factorOut_1 : decode cX0_factorOut 1 = .ok (.iconst 0, 1) := dk_3 (dk_at dksX0_factorOut_0 1 rfl rfl)
theorem dX0_factorOut_2 : decode cX0_factorOut 2 = .ok (.aload_n 0, 1) := dk_42 (dk_at dksX0_factorOut_0 2 rfl rfl)
theorem dX0_factorOut_3 : decode cX0_factorOut 3 = .ok (.invokevirtual 68, 3) := dk_182 0 68 (dk_at dksX0_factorOut_0 3 rfl rfl)
theorem dX0_factorOut_6 : decode cX0_factorOut 6 = .ok (.i2l, 1) := dk_133 (dk_at dksX0_factorOut_0 6 rfl rfl)
theorem dX0_factorOut_7 : decode cX0_factorOut 7 = .ok (.lastore, 1) := dk_80 (dk_at dksX0_factorOut_0 7 rfl rfl)
theorem dX0_factorOut_8 : decode cX0_factorOut 8 = .ok (.goto 6, 3) := dk_167 0 6 (dk_at dksX0_factorOut_0 8 rfl rfl)
theorem dX0_factorOut_11 : decode cX0_factorOut 11 = .ok (.astore_n 2, 1) := dk_77 (dk_at dksX0_factorOut_0 11 rfl rfl)
theorem dX0_factorOut_12 : decode cX0_factorOut 12 = .ok (.iconst 1, 1) := dk_4 (dk_at dksX0_factorOut_0 12 rfl rfl)
theorem dX0_factorOut_13 : decode cX0_factorOut 13 = .ok (.ireturn, 1) := dk_172 (dk_at dksX0_factorOut_0 13 rfl rfl)
theorem dX0_factorOut_14 : decode cX0_factorOut 14 = .ok (.iconst 0, 1) := dk_3 (dk_at dksX0_factorOut_0 14 rfl rfl)
theorem dX0_factorOut_15 : decode cX0_factorOut 15 = .ok (.ireturn, 1) := dk_172 (dk_at dksX0_factorOut_0 15 rfl rfl)
abbrev cX0_start : ByteArray := method_20_code
def yX0_start : MethodName := ⟨RX0, "start", "(LSelahGenerator;I[J)I"⟩
def dkwX0_start_0 : List UInt8 := [44, 3, 42, 27, 182, 0, 71, 133, 80, 167, 0, 9, 78, 4, 172, 78, 5, 172, 3, 172]
abbrev dktX0_start_0 : List UInt8 := dkwX0_start_0 ++ []
theorem dksX0_start_0 : cX0_start.data.toList.drop 0 = dktX0_start_0 := by decide +kernel
theorem dX0_start_0 : decode cX0_start 0 = .ok (.aload_n 2, 1) := dk_44 (dk_at dksX0_start_0 0 rfl rfl)
theorem dX0_start_1 : decode cX0_start 1 = .ok (.iconst 0, 1) := dk_3 (dk_at dksX0_start_0 1 rfl rfl)
theorem dX0_start_2 : decode cX0_start 2 = .ok (.aload_n 0, 1) := dk_42 (dk_at dksX0_start_0 2 rfl rfl)
theorem dX0_start_3 : decode cX0_start 3 = .ok (.iload_n 1, 1) := dk_27 (dk_at dksX0_start_0 3 rfl rfl)
theorem dX0_start_4 : decode cX0_start 4 = .ok (.invokevirtual 71, 3) := dk_182 0 71 (dk_at dksX0_start_0 4 rfl rfl)
theorem dX0_start_7 : decode cX0_start 7 = .ok (.i2l, 1) := dk_133 (dk_at dksX0_start_0 7 rfl rfl)
theorem dX0_start_8 : decode cX0_start 8 = .ok (.lastore, 1) := dk_80 (dk_at dksX0_start_0 8 rfl rfl)
theorem dX0_start_9 : decode cX0_start 9 = .ok (.goto 9, 3) := dk_167 0 9 (dk_at dksX0_start_0 9 rfl rfl)
theorem dX0_start_12 : decode cX0_start 12 = .ok (.astore_n 3, 1) := dk_78 (dk_at dksX0_start_0 12 rfl rfl)
theorem dX0_start_13 : decode cX0_start 13 = .ok (.iconst 1, 1) := dk_4 (dk_at dksX0_start_0 13 rfl rfl)
theorem dX0_start_14 : decode cX0_start 14 = .ok (.ireturn, 1) := dk_172 (dk_at dksX0_start_0 14 rfl rfl)
theorem dX0_start_15 : decode cX0_start 15 = .ok (.astore_n 3, 1) := dk_78 (dk_at dksX0_start_0 15 rfl rfl)
theorem dX0_start_16 : decode cX0_start 16 = .ok (.iconst 2, 1) := dk_5 (dk_at dksX0_start_0 16 rfl rfl)
theorem dX0_start_17 : decode cX0_start 17 = .ok (.ireturn, 1) := dk_172 (dk_at dksX0_start_0 17 rfl rfl)
theorem dX0_start_18 : decode cX0_start 18 = .ok (.iconst 0, 1) := dk_3 (dk_at dksX0_start_0 18 rfl rfl)
theorem dX0_start_19 : decode cX0_start 19 = .ok (.ireturn, 1) := dk_172 (dk_at dksX0_start_0 19 rfl rfl)
abbrev cX0_give : ByteArray := method_21_code
def yX0_give : MethodName := ⟨RX0, "give", "(LSelahGenerator;I[J)I"⟩
def dkwX0_give_0 : List UInt8 := [44, 3, 42, 27, 182, 0, 74, 133, 80, 167, 0, 9, 78, 4, 172, 78, 5, 172, 3, 172]
abbrev dktX0_give_0 : List UInt8 := dkwX0_give_0 ++ []
theorem dksX0_give_0 : cX0_give.data.toList.drop 0 = dktX0_give_0 := by decide +kernel
theorem dX0_give_0 : decode cX0_give 0 = .ok (.aload_n 2, 1) := dk_44 (dk_at dksX0_give_0 0 rfl rfl)
theorem dX0_give_1 : decode cX0_give 1 = .ok (.iconst 0, 1) := dk_3 (dk_at dksX0_give_0 1 rfl rfl)
theorem dX0_give_2 : decode cX0_give 2 = .ok (.aload_n 0, 1) := dk_42 (dk_at dksX0_give_0 2 rfl rfl)
theorem dX0_give_3 : decode cX0_give 3 = .ok (.iload_n 1, 1) := dk_27 (dk_at dksX0_give_0 3 rfl rfl)
theorem dX0_give_4 : decode cX0_give 4 = .ok (.invokevirtual 74, 3) := dk_182 0 74 (dk_at dksX0_give_0 4 rfl rfl)
theorem dX0_give_7 : decode cX0_give 7 = .ok (.i2l, 1) := dk_133 (dk_at dksX0_give_0 7 rfl rfl)
theorem dX0_give_8 : decode cX0_give 8 = .ok (.lastore, 1) := dk_80 (dk_at dksX0_give_0 8 rfl rfl)
theorem dX0_give_9 : decode cX0_give 9 = .ok (.goto 9, 3) := dk_167 0 9 (dk_at dksX0_give_0 9 rfl rfl)
theorem dX0_give_12 : decode cX0_give 12 = .ok (.astore_n 3, 1) := dk_78 (dk_at dksX0_give_0 12 rfl rfl)
theorem dX0_give_13 : decode cX0_give 13 = .ok (.iconst 1, 1) := dk_4 (dk_at dksX0_give_0 13 rfl rfl)
theorem dX0_give_14 : decode cX0_give 14 = .ok (.ireturn, 1) := dk_172 (dk_at dksX0_give_0 14 rfl rfl)
theorem dX0_give_15 : decode cX0_give 15 = .ok (.astore_n 3, 1) := dk_78 (dk_at dksX0_give_0 15 rfl rfl)
theorem dX0_give_16 : decode cX0_give 16 = .ok (.iconst 2, 1) := dk_5 (dk_at dksX0_give_0 16 rfl rfl)
theorem dX0_give_17 : decode cX0_give 17 = .ok (.ireturn, 1) := dk_172 (dk_at dksX0_give_0 17 rfl rfl)
theorem dX0_give_18 : decode cX0_give 18 = .ok (.iconst 0, 1) := dk_3 (dk_at dksX0_give_0 18 rfl rfl)
theorem dX0_give_19 : decode cX0_give 19 = .ok (.ireturn, 1) := dk_172 (dk_at dksX0_give_0 19 rfl rfl)
abbrev cX0_errorToken : ByteArray := method_22_code
def yX0_errorToken : MethodName := ⟨RX0, "errorToken", "(LSelahGenerator;I[J)I"⟩
def dkwX0_errorToken_0 : List UInt8 := [44, 3, 42, 27, 182, 0, 77, 133, 80, 167, 0, 6, 78, 4, 172, 3, 172]
abbrev dktX0_errorToken_0 : List UInt8 := dkwX0_errorToken_0 ++ []
theorem dksX0_errorToken_0 : cX0_errorToken.data.toList.drop 0 = dktX0_errorToken_0 := by decide +kernel
theorem dX0_errorToken_0 : decode cX0_errorToken 0 = .ok (.aload_n 2, 1) := dk_44 (dk_at dksX0_errorToken_0 0 rfl rfl)
theorem dX0_errorToken_1 : decode cX0_errorToken 1 = .ok (.iconst 0, 1) := dk_3 (dk_at dksX0_errorToken_0 1 rfl rfl)
theorem dX0_errorToken_2 : decode cX0_errorToken 2 = .ok (.aload_n 0, 1) := dk_42 (dk_at dksX0_errorToken_0 2 rfl rfl)
theorem dX0_errorToken_3 : decode cX0_errorToken 3 = .ok (.iload_n 1, 1) := dk_27 (dk_at dksX0_errorToken_0 3 rfl rfl)
theorem dX0_errorToken_4 : decode cX0_errorToken 4 = .ok (.invokevirtual 77, 3) := dk_182 0 77 (dk_at dksX0_errorToken_0 4 rfl rfl)
theorem dX0_errorToken_7 : decode cX0_errorToken 7 = .ok (.i2l, 1) := dk_133 (dk_at dksX0_errorToken_0 7 rfl rfl)
theorem dX0_errorToken_8 : decode cX0_errorToken 8 = .ok (.lastore, 1) := dk_80 (dk_at dksX0_errorToken_0 8 rfl rfl)
theorem dX0_errorToken_9 : decode cX0_errorToken 9 = .ok (.goto 6, 3) := dk_167 0 6 (dk_at dksX0_errorToken_0 9 rfl rfl)
theorem dX0_errorToken_12 : decode cX0_errorToken 12 = .ok (.astore_n 3, 1) := dk_78 (dk_at dksX0_errorToken_0 12 rfl rfl)
theorem dX0_errorToken_13 : decode cX0_errorToken 13 = .ok (.iconst 1, 1) := dk_4 (dk_at dksX0_errorToken_0 13 rfl rfl)
theorem dX0_errorToken_14 : decode cX0_errorToken 14 = .ok (.ireturn, 1) := dk_172 (dk_at dksX0_errorToken_0 14 rfl rfl)
theorem dX0_errorToken_15 : decode cX0_errorToken 15 = .ok (.iconst 0, 1) := dk_3 (dk_at dksX0_errorToken_0 15 rfl rfl)
theorem dX0_errorToken_16 : decode cX0_errorToken 16 = .ok (.ireturn, 1) := dk_172 (dk_at dksX0_errorToken_0 16 rfl rfl)
abbrev cX0_errorSymbol : ByteArray := method_23_code
def yX0_errorSymbol : MethodName := ⟨RX0, "errorSymbol", "(LSelahGenerator;I[J)I"⟩
def dkwX0_errorSymbol_0 : List UInt8 := [44, 3, 42, 27, 182, 0, 80, 133, 80, 167, 0, 6, 78, 4, 172, 3, 172]
abbrev dktX0_errorSymbol_0 : List UInt8 := dkwX0_errorSymbol_0 ++ []
theorem dksX0_errorSymbol_0 : cX0_errorSymbol.data.toList.drop 0 = dktX0_errorSymbol_0 := by decide +kernel
theorem dX0_errorSymbol_0 : decode cX0_errorSymbol 0 = .ok (.aload_n 2, 1) := dk_44 (dk_at dksX0_errorSymbol_0 0 rfl rfl)
theorem dX0_errorSymbol_1 : decode cX0_errorSymbol 1 = .ok (.iconst 0, 1) := dk_3 (dk_at dksX0_errorSymbol_0 1 rfl rfl)
theorem dX0_errorSymbol_2 : decode cX0_errorSymbol 2 = .ok (.aload_n 0, 1) := dk_42 (dk_at dksX0_errorSymbol_0 2 rfl rfl)
theorem dX0_errorSymbol_3 : decode cX0_errorSymbol 3 = .ok (.iload_n 1, 1) := dk_27 (dk_at dksX0_errorSymbol_0 3 rfl rfl)
theorem dX0_errorSymbol_4 : decode cX0_errorSymbol 4 = .ok (.invokevirtual 80, 3) := dk_182 0 80 (dk_at dksX0_errorSymbol_0 4 rfl rfl)
theorem dX0_errorSymbol_7 : decode cX0_errorSymbol 7 = .ok (.i2l, 1) := dk_133 (dk_at dksX0_errorSymbol_0 7 rfl rfl)
theorem dX0_errorSymbol_8 : decode cX0_errorSymbol 8 = .ok (.lastore, 1) := dk_80 (dk_at dksX0_errorSymbol_0 8 rfl rfl)
theorem dX0_errorSymbol_9 : decode cX0_errorSymbol 9 = .ok (.goto 6, 3) := dk_167 0 6 (dk_at dksX0_errorSymbol_0 9 rfl rfl)
theorem dX0_errorSymbol_12 : decode cX0_errorSymbol 12 = .ok (.astore_n 3, 1) := dk_78 (dk_at dksX0_errorSymbol_0 12 rfl rfl)
theorem dX0_errorSymbol_13 : decode cX0_errorSymbol 13 = .ok (.iconst 1, 1) := dk_4 (dk_at dksX0_errorSymbol_0 13 rfl rfl)
theorem dX0_errorSymbol_14 : decode cX0_errorSymbol 14 = .ok (.ireturn, 1) := dk_172 (dk_at dksX0_errorSymbol_0 14 rfl rfl)
theorem dX0_errorSymbol_15 : decode cX0_errorSymbol 15 = .ok (.iconst 0, 1) := dk_3 (dk_at dksX0_errorSymbol_0 15 rfl rfl)
theorem dX0_errorSymbol_16 : decode cX0_errorSymbol 16 = .ok (.ireturn, 1) := dk_172 (dk_at dksX0_errorSymbol_0 16 rfl rfl)
abbrev cX0_wasSkipped : ByteArray := method_24_code
def yX0_wasSkipped : MethodName := ⟨RX0, "wasSkipped", "(LSelahGenerator;I[J)I"⟩
def dkwX0_wasSkipped_0 : List UInt8 := [44, 3, 42, 27, 182, 0, 83, 153, 0, 7, 10, 167, 0, 4, 9, 80, 167, 0, 6, 78, 4, 172, 3, 172]
abbrev dktX0_wasSkipped_0 : List UInt8 := dkwX0_wasSkipped_0 ++ []
theorem dksX0_wasSkipped_0 : cX0_wasSkipped.data.toList.drop 0 = dktX0_wasSkipped_0 := by decide +kernel
theorem dX0_wasSkipped_0 : decode cX0_wasSkipped 0 = .ok (.aload_n 2, 1) := dk_44 (dk_at dksX0_wasSkipped_0 0 rfl rfl)
theorem dX0_wasSkipped_1 : decode cX0_wasSkipped 1 = .ok (.iconst 0, 1) := dk_3 (dk_at dksX0_wasSkipped_0 1 rfl rfl)
theorem dX0_wasSkipped_2 : decode cX0_wasSkipped 2 = .ok (.aload_n 0, 1) := dk_42 (dk_at dksX0_wasSkipped_0 2 rfl rfl)
theorem dX0_wasSkipped_3 : decode cX0_wasSkipped 3 = .ok (.iload_n 1, 1) := dk_27 (dk_at dksX0_wasSkipped_0 3 rfl rfl)
theorem dX0_wasSkipped_4 : decode cX0_wasSkipped 4 = .ok (.invokevirtual 83, 3) := dk_182 0 83 (dk_at dksX0_wasSkipped_0 4 rfl rfl)
theorem dX0_wasSkipped_7 : decode cX0_wasSkipped 7 = .ok (.ifCond .eq 7, 3) := dk_153 0 7 (dk_at dksX0_wasSkipped_0 7 rfl rfl)
theorem dX0_wasSkipped_10 : decode cX0_wasSkipped 10 = .ok (.lconst 1, 1) := dk_10 (dk_at dksX0_wasSkipped_0 10 rfl rfl)
theorem dX0_wasSkipped_11 : decode cX0_wasSkipped 11 = .ok (.goto 4, 3) := dk_167 0 4 (dk_at dksX0_wasSkipped_0 11 rfl rfl)
theorem dX0_wasSkipped_14 : decode cX0_wasSkipped 14 = .ok (.lconst 0, 1) := dk_9 (dk_at dksX0_wasSkipped_0 14 rfl rfl)
theorem dX0_wasSkipped_15 : decode cX0_wasSkipped 15 = .ok (.lastore, 1) := dk_80 (dk_at dksX0_wasSkipped_0 15 rfl rfl)
theorem dX0_wasSkipped_16 : decode cX0_wasSkipped 16 = .ok (.goto 6, 3) := dk_167 0 6 (dk_at dksX0_wasSkipped_0 16 rfl rfl)
theorem dX0_wasSkipped_19 : decode cX0_wasSkipped 19 = .ok (.astore_n 3, 1) := dk_78 (dk_at dksX0_wasSkipped_0 19 rfl rfl)
theorem dX0_wasSkipped_20 : decode cX0_wasSkipped 20 = .ok (.iconst 1, 1) := dk_4 (dk_at dksX0_wasSkipped_0 20 rfl rfl)
theorem dX0_wasSkipped_21 : decode cX0_wasSkipped 21 = .ok (.ireturn, 1) := dk_172 (dk_at dksX0_wasSkipped_0 21 rfl rfl)
theorem dX0_wasSkipped_22 : decode cX0_wasSkipped 22 = .ok (.iconst 0, 1) := dk_3 (dk_at dksX0_wasSkipped_0 22 rfl rfl)
theorem dX0_wasSkipped_23 : decode cX0_wasSkipped 23 = .ok (.ireturn, 1) := dk_172 (dk_at dksX0_wasSkipped_0 23 rfl rfl)
abbrev cX0_derivations : ByteArray := method_25_code
def yX0_derivations : MethodName := ⟨RX0, "derivations", "(LSelahGenerator;[J)I"⟩
def dkwX0_derivations_0 : List UInt8 := [43, 3, 42, 182, 0, 86, 133, 80, 167, 0, 6, 77, 4, 172, 3, 172]
abbrev dktX0_derivations_0 : List UInt8 := dkwX0_derivations_0 ++ []
theorem dksX0_derivations_0 : cX0_derivations.data.toList.drop 0 = dktX0_derivations_0 := by decide +kernel
theorem dX0_derivations_0 : decode cX0_derivations 0 = .ok (.aload_n 1, 1) := dk_43 (dk_at dksX0_derivations_0 0 rfl rfl)
theorem dX0_derivations_1 : decode cX0_derivations 1 = .ok (.iconst 0, 1) := dk_3 (dk_at dksX0_derivations_0 1 rfl rfl)
theorem dX0_derivations_2 : decode cX0_derivations 2 = .ok (.aload_n 0, 1) := dk_42 (dk_at dksX0_derivations_0 2 rfl rfl)
theorem dX0_derivations_3 : decode cX0_derivations 3 = .ok (.invokevirtual 86, 3) := dk_182 0 86 (dk_at dksX0_derivations_0 3 rfl rfl)
theorem dX0_derivations_6 : decode cX0_derivations 6 = .ok (.i2l, 1) := dk_133 (dk_at dksX0_derivations_0 6 rfl rfl)
theorem dX0_derivations_7 : decode cX0_derivations 7 = .ok (.lastore, 1) := dk_80 (dk_at dksX0_derivations_0 7 rfl rfl)
theorem dX0_derivations_8 : decode cX0_derivations 8 = .ok (.goto 6, 3) := dk_167 0 6 (dk_at dksX0_derivations_0 8 rfl rfl)
theorem dX0_derivations_11 : decode cX0_derivations 11 = .ok (.astore_n 2, 1) := dk_77 (dk_at dksX0_derivations_0 11 rfl rfl)
theorem dX0_derivations_12 : decode cX0_derivations 12 = .ok (.iconst 1, 1) := dk_4 (dk_at dksX0_derivations_0 12 rfl rfl)
theorem dX0_derivations_13 : decode cX0_derivations 13 = .ok (.ireturn, 1) := dk_172 (dk_at dksX0_derivations_0 13 rfl rfl)
theorem dX0_derivations_14 : decode cX0_derivations 14 = .ok (.iconst 0, 1) := dk_3 (dk_at dksX0_derivations_0 14 rfl rfl)
theorem dX0_derivations_15 : decode cX0_derivations 15 = .ok (.ireturn, 1) := dk_172 (dk_at dksX0_derivations_0 15 rfl rfl)
abbrev cX0_writeRule : ByteArray := method_26_code
def yX0_writeRule : MethodName := ⟨RX0, "writeRule", "(LSelahGenerator;I[J)I"⟩
def dkwX0_writeRule_0 : List UInt8 := [44, 3, 42, 27, 182, 0, 89, 133, 80, 167, 0, 6, 78, 4, 172, 3, 172]
abbrev dktX0_writeRule_0 : List UInt8 := dkwX0_writeRule_0 ++ []
theorem dksX0_writeRule_0 : cX0_writeRule.data.toList.drop 0 = dktX0_writeRule_0 := by decide +kernel
theorem dX0_writeRule_0 : decode cX0_writeRule 0 = .ok (.aload_n 2, 1) := dk_44 (dk_at dksX0_writeRule_0 0 rfl rfl)
theorem dX0_writeRule_1 : decode cX0_writeRule 1 = .ok (.iconst 0, 1) := dk_3 (dk_at dksX0_writeRule_0 1 rfl rfl)
theorem dX0_writeRule_2 : decode cX0_writeRule 2 = .ok (.aload_n 0, 1) := dk_42 (dk_at dksX0_writeRule_0 2 rfl rfl)
theorem dX0_writeRule_3 : decode cX0_writeRule 3 = .ok (.iload_n 1, 1) := dk_27 (dk_at dksX0_writeRule_0 3 rfl rfl)
theorem dX0_writeRule_4 : decode cX0_writeRule 4 = .ok (.invokevirtual 89, 3) := dk_182 0 89 (dk_at dksX0_writeRule_0 4 rfl rfl)
theorem dX0_writeRule_7 : decode cX0_writeRule 7 = .ok (.i2l, 1) := dk_133 (dk_at dksX0_writeRule_0 7 rfl rfl)
theorem dX0_writeRule_8 : decode cX0_writeRule 8 = .ok (.lastore, 1) := dk_80 (dk_at dksX0_writeRule_0 8 rfl rfl)
theorem dX0_writeRule_9 : decode cX0_writeRule 9 = .ok (.goto 6, 3) := dk_167 0 6 (dk_at dksX0_writeRule_0 9 rfl rfl)
theorem dX0_writeRule_12 : decode cX0_writeRule 12 = .ok (.astore_n 3, 1) := dk_78 (dk_at dksX0_writeRule_0 12 rfl rfl)
theorem dX0_writeRule_13 : decode cX0_writeRule 13 = .ok (.iconst 1, 1) := dk_4 (dk_at dksX0_writeRule_0 13 rfl rfl)
theorem dX0_writeRule_14 : decode cX0_writeRule 14 = .ok (.ireturn, 1) := dk_172 (dk_at dksX0_writeRule_0 14 rfl rfl)
theorem dX0_writeRule_15 : decode cX0_writeRule 15 = .ok (.iconst 0, 1) := dk_3 (dk_at dksX0_writeRule_0 15 rfl rfl)
theorem dX0_writeRule_16 : decode cX0_writeRule 16 = .ok (.ireturn, 1) := dk_172 (dk_at dksX0_writeRule_0 16 rfl rfl)
theorem q122 : (Jvm.Cond.initialized "SelahGeneratorLaw") ∈ lw_all := lw_g (lw_at lw_m1 0 rfl) rfl
theorem q175 : (Jvm.Cond.classLink "SelahGeneratorLaw" (8 : Nat) "SelahGenerator") ∈ lw_all := lw_g (lw_at lw_m1 53 rfl) rfl
theorem q177 : (Jvm.Cond.methodLink "SelahGeneratorLaw" (92 : Nat) ({ cls := "SelahGenerator", name := "<init>", desc := "()V" } : Jvm.MethodName)) ∈ lw_all := lw_g (lw_at lw_m1 55 rfl) rfl
theorem q263 : (Jvm.Cond.methodLink "SelahGeneratorLaw" (112 : Nat) ({ cls := "SelahGenerator", name := "ruleCount", desc := "()I" } : Jvm.MethodName)) ∈ lw_all := lw_g (lw_at lw_m1 141 rfl) rfl
theorem q277 : (Jvm.Cond.methodLink "SelahGeneratorLaw" (125 : Nat) ({ cls := "SelahGenerator", name := "usedNonterminals", desc := "()I" } : Jvm.MethodName)) ∈ lw_all := lw_g (lw_at lw_m1 155 rfl) rfl
theorem q406 : (Jvm.Cond.methodLink "SelahGeneratorLaw" (138 : Nat) ({ cls := "SelahGenerator", name := "firstRounds", desc := "()I" } : Jvm.MethodName)) ∈ lw_all := lw_g (lw_at lw_m2 44 rfl) rfl
theorem q1184 : (Jvm.Cond.methodLink "SelahGeneratorLaw" (151 : Nat) ({ cls := "SelahGenerator", name := "conflicts", desc := "()I" } : Jvm.MethodName)) ∈ lw_all := lw_g (lw_at lw_m5 102 rfl) rfl
theorem q1310 : (Jvm.Cond.methodLink "SelahGeneratorLaw" (155 : Nat) ({ cls := "SelahGenerator", name := "isLL1", desc := "()Z" } : Jvm.MethodName)) ∈ lw_all := lw_g (lw_at lw_m5 228 rfl) rfl
theorem q1314 : (Jvm.Cond.methodLink "SelahGeneratorLaw" (167 : Nat) ({ cls := "SelahGenerator", name := "pairConflicts", desc := "()I" } : Jvm.MethodName)) ∈ lw_all := lw_g (lw_at lw_m5 232 rfl) rfl
theorem q1443 : (Jvm.Cond.methodLink "SelahGeneratorLaw" (171 : Nat) ({ cls := "SelahGenerator", name := "isStrongLL2", desc := "()Z" } : Jvm.MethodName)) ∈ lw_all := lw_g (lw_at lw_m6 121 rfl) rfl
theorem q1447 : (Jvm.Cond.methodLink "SelahGeneratorLaw" (191 : Nat) ({ cls := "SelahGenerator", name := "parseState", desc := "()I" } : Jvm.MethodName)) ∈ lw_all := lw_g (lw_at lw_m6 125 rfl) rfl
theorem q1451 : (Jvm.Cond.methodLink "SelahGeneratorLaw" (195 : Nat) ({ cls := "SelahGenerator", name := "tokenCount", desc := "()I" } : Jvm.MethodName)) ∈ lw_all := lw_g (lw_at lw_m6 129 rfl) rfl
theorem q1455 : (Jvm.Cond.methodLink "SelahGeneratorLaw" (199 : Nat) ({ cls := "SelahGenerator", name := "stackDepth", desc := "()I" } : Jvm.MethodName)) ∈ lw_all := lw_g (lw_at lw_m6 133 rfl) rfl
theorem q1460 : (Jvm.Cond.methodLink "SelahGeneratorLaw" (203 : Nat) ({ cls := "SelahGenerator", name := "stackAt", desc := "(I)I" } : Jvm.MethodName)) ∈ lw_all := lw_g (lw_at lw_m6 138 rfl) rfl
theorem q1470 : (Jvm.Cond.methodLink "SelahGeneratorLaw" (207 : Nat) ({ cls := "SelahGenerator", name := "expected", desc := "()I" } : Jvm.MethodName)) ∈ lw_all := lw_g (lw_at lw_m6 148 rfl) rfl
theorem q1501 : (Jvm.Cond.methodLink "SelahGeneratorLaw" (211 : Nat) ({ cls := "SelahGenerator", name := "appliedCount", desc := "()I" } : Jvm.MethodName)) ∈ lw_all := lw_g (lw_at lw_m6 179 rfl) rfl
theorem q1505 : (Jvm.Cond.methodLink "SelahGeneratorLaw" (215 : Nat) ({ cls := "SelahGenerator", name := "appliedRule", desc := "(I)I" } : Jvm.MethodName)) ∈ lw_all := lw_g (lw_at lw_m6 183 rfl) rfl
theorem q1512 : (Jvm.Cond.methodLink "SelahGeneratorLaw" (219 : Nat) ({ cls := "SelahGenerator", name := "errorCount", desc := "()I" } : Jvm.MethodName)) ∈ lw_all := lw_g (lw_at lw_m6 190 rfl) rfl
theorem q1516 : (Jvm.Cond.methodLink "SelahGeneratorLaw" (235 : Nat) ({ cls := "SelahGenerator", name := "disagreements", desc := "()I" } : Jvm.MethodName)) ∈ lw_all := lw_g (lw_at lw_m6 194 rfl) rfl
theorem q1607 : (Jvm.Cond.methodLink "SelahGeneratorLaw" (239 : Nat) ({ cls := "SelahGenerator", name := "meanLength", desc := "()D" } : Jvm.MethodName)) ∈ lw_all := lw_g (lw_at lw_m7 45 rfl) rfl
theorem q1625 : (Jvm.Cond.methodLink "SelahGeneratorLaw" (244 : Nat) ({ cls := "SelahGenerator", name := "tableShare", desc := "()F" } : Jvm.MethodName)) ∈ lw_all := lw_g (lw_at lw_m7 63 rfl) rfl
theorem q1642 : (Jvm.Cond.methodLink "SelahGeneratorLaw" (252 : Nat) ({ cls := "SelahGenerator", name := "outputByte", desc := "(I)I" } : Jvm.MethodName)) ∈ lw_all := lw_g (lw_at lw_m7 80 rfl) rfl
theorem q1666 : (Jvm.Cond.methodLink "SelahGeneratorLaw" (96 : Nat) ({ cls := "SelahGeneratorLaw", name := "addRule", desc := "(LSelahGenerator;I[J)I" } : Jvm.MethodName)) ∈ lw_all := lw_g (lw_at lw_m7 104 rfl) rfl
theorem q1667 : (Jvm.Cond.static ({ cls := "SelahGeneratorLaw", name := "addRule", desc := "(LSelahGenerator;I[J)I" } : Jvm.MethodName)) ∈ lw_all := lw_g (lw_at lw_m7 105 rfl) rfl
theorem q1668 : (Jvm.Cond.codeWith ({ cls := "SelahGeneratorLaw", name := "addRule", desc := "(LSelahGenerator;I[J)I" } : Jvm.MethodName) method_3_code (4 : Nat) (Option.some Jvm.ClassFile.FieldType.int) [((0 : Nat), (9 : Nat), (12 : Nat), (13 : Nat)), ((0 : Nat), (9 : Nat), (15 : Nat), (15 : Nat))]) ∈ lw_all := lw_g (lw_at lw_m7 106 rfl) rfl
theorem q1669 : (Jvm.Cond.classLink "SelahGeneratorLaw" (13 : Nat) "java/lang/IndexOutOfBoundsException") ∈ lw_all := lw_g (lw_at lw_m7 107 rfl) rfl
theorem q1701 : (Jvm.Cond.classLink "SelahGeneratorLaw" (15 : Nat) "java/lang/IllegalStateException") ∈ lw_all := lw_g (lw_at lw_m7 139 rfl) rfl
theorem q1702 : (Jvm.Cond.methodLink "SelahGeneratorLaw" (7 : Nat) ({ cls := "SelahGenerator", name := "addRule", desc := "(I)I" } : Jvm.MethodName)) ∈ lw_all := lw_g (lw_at lw_m7 140 rfl) rfl
theorem q1780 : (Jvm.Cond.methodLink "SelahGeneratorLaw" (105 : Nat) ({ cls := "SelahGeneratorLaw", name := "append", desc := "(LSelahGenerator;II[J)I" } : Jvm.MethodName)) ∈ lw_all := lw_g (lw_at lw_m7 218 rfl) rfl
theorem q1781 : (Jvm.Cond.static ({ cls := "SelahGeneratorLaw", name := "append", desc := "(LSelahGenerator;II[J)I" } : Jvm.MethodName)) ∈ lw_all := lw_g (lw_at lw_m7 219 rfl) rfl
theorem q1782 : (Jvm.Cond.codeWith ({ cls := "SelahGeneratorLaw", name := "append", desc := "(LSelahGenerator;II[J)I" } : Jvm.MethodName) method_4_code (5 : Nat) (Option.some Jvm.ClassFile.FieldType.int) [((0 : Nat), (10 : Nat), (13 : Nat), (13 : Nat)), ((0 : Nat), (10 : Nat), (17 : Nat), (21 : Nat)), ((0 : Nat), (10 : Nat), (21 : Nat), (15 : Nat))]) ∈ lw_all := lw_g (lw_at lw_m7 220 rfl) rfl
theorem q1783 : (Jvm.Cond.classLink "SelahGeneratorLaw" (21 : Nat) "java/lang/IllegalArgumentException") ∈ lw_all := lw_g (lw_at lw_m7 221 rfl) rfl
theorem q1784 : (Jvm.Cond.methodLink "SelahGeneratorLaw" (17 : Nat) ({ cls := "SelahGenerator", name := "append", desc := "(II)I" } : Jvm.MethodName)) ∈ lw_all := lw_g (lw_at lw_m7 222 rfl) rfl
theorem q1822 : (Jvm.Cond.methodLink "SelahGeneratorLaw" (109 : Nat) ({ cls := "SelahGeneratorLaw", name := "removeRule", desc := "(LSelahGenerator;I[J)I" } : Jvm.MethodName)) ∈ lw_all := lw_g (lw_at lw_m8 20 rfl) rfl
theorem q1823 : (Jvm.Cond.static ({ cls := "SelahGeneratorLaw", name := "removeRule", desc := "(LSelahGenerator;I[J)I" } : Jvm.MethodName)) ∈ lw_all := lw_g (lw_at lw_m8 21 rfl) rfl
theorem q1824 : (Jvm.Cond.codeWith ({ cls := "SelahGeneratorLaw", name := "removeRule", desc := "(LSelahGenerator;I[J)I" } : Jvm.MethodName) method_5_code (4 : Nat) (Option.some Jvm.ClassFile.FieldType.int) [((0 : Nat), (9 : Nat), (12 : Nat), (13 : Nat))]) ∈ lw_all := lw_g (lw_at lw_m8 22 rfl) rfl
theorem q1825 : (Jvm.Cond.methodLink "SelahGeneratorLaw" (23 : Nat) ({ cls := "SelahGenerator", name := "removeRule", desc := "(I)I" } : Jvm.MethodName)) ∈ lw_all := lw_g (lw_at lw_m8 23 rfl) rfl
theorem q1843 : (Jvm.Cond.methodLink "SelahGeneratorLaw" (116 : Nat) ({ cls := "SelahGeneratorLaw", name := "leftOf", desc := "(LSelahGenerator;I[J)I" } : Jvm.MethodName)) ∈ lw_all := lw_g (lw_at lw_m8 41 rfl) rfl
theorem q1844 : (Jvm.Cond.static ({ cls := "SelahGeneratorLaw", name := "leftOf", desc := "(LSelahGenerator;I[J)I" } : Jvm.MethodName)) ∈ lw_all := lw_g (lw_at lw_m8 42 rfl) rfl
theorem q1845 : (Jvm.Cond.codeWith ({ cls := "SelahGeneratorLaw", name := "leftOf", desc := "(LSelahGenerator;I[J)I" } : Jvm.MethodName) method_6_code (4 : Nat) (Option.some Jvm.ClassFile.FieldType.int) [((0 : Nat), (9 : Nat), (12 : Nat), (13 : Nat))]) ∈ lw_all := lw_g (lw_at lw_m8 43 rfl) rfl
theorem q1846 : (Jvm.Cond.methodLink "SelahGeneratorLaw" (26 : Nat) ({ cls := "SelahGenerator", name := "leftOf", desc := "(I)I" } : Jvm.MethodName)) ∈ lw_all := lw_g (lw_at lw_m8 44 rfl) rfl
theorem q1850 : (Jvm.Cond.methodLink "SelahGeneratorLaw" (119 : Nat) ({ cls := "SelahGeneratorLaw", name := "lengthOf", desc := "(LSelahGenerator;I[J)I" } : Jvm.MethodName)) ∈ lw_all := lw_g (lw_at lw_m8 48 rfl) rfl
theorem q1851 : (Jvm.Cond.static ({ cls := "SelahGeneratorLaw", name := "lengthOf", desc := "(LSelahGenerator;I[J)I" } : Jvm.MethodName)) ∈ lw_all := lw_g (lw_at lw_m8 49 rfl) rfl
theorem q1852 : (Jvm.Cond.codeWith ({ cls := "SelahGeneratorLaw", name := "lengthOf", desc := "(LSelahGenerator;I[J)I" } : Jvm.MethodName) method_7_code (4 : Nat) (Option.some Jvm.ClassFile.FieldType.int) [((0 : Nat), (9 : Nat), (12 : Nat), (13 : Nat))]) ∈ lw_all := lw_g (lw_at lw_m8 50 rfl) rfl
theorem q1853 : (Jvm.Cond.methodLink "SelahGeneratorLaw" (29 : Nat) ({ cls := "SelahGenerator", name := "lengthOf", desc := "(I)I" } : Jvm.MethodName)) ∈ lw_all := lw_g (lw_at lw_m8 51 rfl) rfl
theorem q1857 : (Jvm.Cond.methodLink "SelahGeneratorLaw" (122 : Nat) ({ cls := "SelahGeneratorLaw", name := "symbolAt", desc := "(LSelahGenerator;II[J)I" } : Jvm.MethodName)) ∈ lw_all := lw_g (lw_at lw_m8 55 rfl) rfl
theorem q1858 : (Jvm.Cond.static ({ cls := "SelahGeneratorLaw", name := "symbolAt", desc := "(LSelahGenerator;II[J)I" } : Jvm.MethodName)) ∈ lw_all := lw_g (lw_at lw_m8 56 rfl) rfl
theorem q1859 : (Jvm.Cond.codeWith ({ cls := "SelahGeneratorLaw", name := "symbolAt", desc := "(LSelahGenerator;II[J)I" } : Jvm.MethodName) method_8_code (5 : Nat) (Option.some Jvm.ClassFile.FieldType.int) [((0 : Nat), (10 : Nat), (13 : Nat), (13 : Nat))]) ∈ lw_all := lw_g (lw_at lw_m8 57 rfl) rfl
theorem q1860 : (Jvm.Cond.methodLink "SelahGeneratorLaw" (32 : Nat) ({ cls := "SelahGenerator", name := "symbolAt", desc := "(II)I" } : Jvm.MethodName)) ∈ lw_all := lw_g (lw_at lw_m8 58 rfl) rfl
theorem q1864 : (Jvm.Cond.methodLink "SelahGeneratorLaw" (129 : Nat) ({ cls := "SelahGeneratorLaw", name := "isNullable", desc := "(LSelahGenerator;I[J)I" } : Jvm.MethodName)) ∈ lw_all := lw_g (lw_at lw_m8 62 rfl) rfl
theorem q1865 : (Jvm.Cond.static ({ cls := "SelahGeneratorLaw", name := "isNullable", desc := "(LSelahGenerator;I[J)I" } : Jvm.MethodName)) ∈ lw_all := lw_g (lw_at lw_m8 63 rfl) rfl
theorem q1866 : (Jvm.Cond.codeWith ({ cls := "SelahGeneratorLaw", name := "isNullable", desc := "(LSelahGenerator;I[J)I" } : Jvm.MethodName) method_9_code (4 : Nat) (Option.some Jvm.ClassFile.FieldType.int) [((0 : Nat), (16 : Nat), (19 : Nat), (13 : Nat))]) ∈ lw_all := lw_g (lw_at lw_m8 64 rfl) rfl
theorem q1867 : (Jvm.Cond.methodLink "SelahGeneratorLaw" (35 : Nat) ({ cls := "SelahGenerator", name := "isNullable", desc := "(I)Z" } : Jvm.MethodName)) ∈ lw_all := lw_g (lw_at lw_m8 65 rfl) rfl
theorem q1872 : (Jvm.Cond.methodLink "SelahGeneratorLaw" (132 : Nat) ({ cls := "SelahGeneratorLaw", name := "firstOf", desc := "(LSelahGenerator;I[J)I" } : Jvm.MethodName)) ∈ lw_all := lw_g (lw_at lw_m8 70 rfl) rfl
theorem q1873 : (Jvm.Cond.static ({ cls := "SelahGeneratorLaw", name := "firstOf", desc := "(LSelahGenerator;I[J)I" } : Jvm.MethodName)) ∈ lw_all := lw_g (lw_at lw_m8 71 rfl) rfl
theorem q1874 : (Jvm.Cond.codeWith ({ cls := "SelahGeneratorLaw", name := "firstOf", desc := "(LSelahGenerator;I[J)I" } : Jvm.MethodName) method_10_code (4 : Nat) (Option.some Jvm.ClassFile.FieldType.int) [((0 : Nat), (9 : Nat), (12 : Nat), (13 : Nat))]) ∈ lw_all := lw_g (lw_at lw_m8 72 rfl) rfl
theorem q1875 : (Jvm.Cond.methodLink "SelahGeneratorLaw" (39 : Nat) ({ cls := "SelahGenerator", name := "firstOf", desc := "(I)I" } : Jvm.MethodName)) ∈ lw_all := lw_g (lw_at lw_m8 73 rfl) rfl
theorem q1879 : (Jvm.Cond.methodLink "SelahGeneratorLaw" (135 : Nat) ({ cls := "SelahGeneratorLaw", name := "followOf", desc := "(LSelahGenerator;I[J)I" } : Jvm.MethodName)) ∈ lw_all := lw_g (lw_at lw_m8 77 rfl) rfl
theorem q1880 : (Jvm.Cond.static ({ cls := "SelahGeneratorLaw", name := "followOf", desc := "(LSelahGenerator;I[J)I" } : Jvm.MethodName)) ∈ lw_all := lw_g (lw_at lw_m8 78 rfl) rfl
theorem q1881 : (Jvm.Cond.codeWith ({ cls := "SelahGeneratorLaw", name := "followOf", desc := "(LSelahGenerator;I[J)I" } : Jvm.MethodName) method_11_code (4 : Nat) (Option.some Jvm.ClassFile.FieldType.int) [((0 : Nat), (9 : Nat), (12 : Nat), (13 : Nat))]) ∈ lw_all := lw_g (lw_at lw_m8 79 rfl) rfl
theorem q1882 : (Jvm.Cond.methodLink "SelahGeneratorLaw" (42 : Nat) ({ cls := "SelahGenerator", name := "followOf", desc := "(I)I" } : Jvm.MethodName)) ∈ lw_all := lw_g (lw_at lw_m8 80 rfl) rfl
theorem q1886 : (Jvm.Cond.methodLink "SelahGeneratorLaw" (142 : Nat) ({ cls := "SelahGeneratorLaw", name := "shortestOf", desc := "(LSelahGenerator;I[J)I" } : Jvm.MethodName)) ∈ lw_all := lw_g (lw_at lw_m8 84 rfl) rfl
theorem q1887 : (Jvm.Cond.static ({ cls := "SelahGeneratorLaw", name := "shortestOf", desc := "(LSelahGenerator;I[J)I" } : Jvm.MethodName)) ∈ lw_all := lw_g (lw_at lw_m8 85 rfl) rfl
theorem q1888 : (Jvm.Cond.codeWith ({ cls := "SelahGeneratorLaw", name := "shortestOf", desc := "(LSelahGenerator;I[J)I" } : Jvm.MethodName) method_12_code (4 : Nat) (Option.some Jvm.ClassFile.FieldType.int) [((0 : Nat), (9 : Nat), (12 : Nat), (13 : Nat))]) ∈ lw_all := lw_g (lw_at lw_m8 86 rfl) rfl
theorem q1889 : (Jvm.Cond.methodLink "SelahGeneratorLaw" (45 : Nat) ({ cls := "SelahGenerator", name := "shortestOf", desc := "(I)I" } : Jvm.MethodName)) ∈ lw_all := lw_g (lw_at lw_m8 87 rfl) rfl
theorem q1893 : (Jvm.Cond.methodLink "SelahGeneratorLaw" (145 : Nat) ({ cls := "SelahGeneratorLaw", name := "predictionOf", desc := "(LSelahGenerator;I[J)I" } : Jvm.MethodName)) ∈ lw_all := lw_g (lw_at lw_m8 91 rfl) rfl
theorem q1894 : (Jvm.Cond.static ({ cls := "SelahGeneratorLaw", name := "predictionOf", desc := "(LSelahGenerator;I[J)I" } : Jvm.MethodName)) ∈ lw_all := lw_g (lw_at lw_m8 92 rfl) rfl
theorem q1895 : (Jvm.Cond.codeWith ({ cls := "SelahGeneratorLaw", name := "predictionOf", desc := "(LSelahGenerator;I[J)I" } : Jvm.MethodName) method_13_code (4 : Nat) (Option.some Jvm.ClassFile.FieldType.int) [((0 : Nat), (9 : Nat), (12 : Nat), (13 : Nat))]) ∈ lw_all := lw_g (lw_at lw_m8 93 rfl) rfl
theorem q1896 : (Jvm.Cond.methodLink "SelahGeneratorLaw" (48 : Nat) ({ cls := "SelahGenerator", name := "predictionOf", desc := "(I)I" } : Jvm.MethodName)) ∈ lw_all := lw_g (lw_at lw_m8 94 rfl) rfl
theorem q1900 : (Jvm.Cond.methodLink "SelahGeneratorLaw" (148 : Nat) ({ cls := "SelahGeneratorLaw", name := "predicted", desc := "(LSelahGenerator;II[J)I" } : Jvm.MethodName)) ∈ lw_all := lw_g (lw_at lw_m8 98 rfl) rfl
theorem q1901 : (Jvm.Cond.static ({ cls := "SelahGeneratorLaw", name := "predicted", desc := "(LSelahGenerator;II[J)I" } : Jvm.MethodName)) ∈ lw_all := lw_g (lw_at lw_m8 99 rfl) rfl
theorem q1902 : (Jvm.Cond.codeWith ({ cls := "SelahGeneratorLaw", name := "predicted", desc := "(LSelahGenerator;II[J)I" } : Jvm.MethodName) method_14_code (5 : Nat) (Option.some Jvm.ClassFile.FieldType.int) [((0 : Nat), (10 : Nat), (13 : Nat), (13 : Nat))]) ∈ lw_all := lw_g (lw_at lw_m8 100 rfl) rfl
theorem q1903 : (Jvm.Cond.methodLink "SelahGeneratorLaw" (51 : Nat) ({ cls := "SelahGenerator", name := "predicted", desc := "(II)I" } : Jvm.MethodName)) ∈ lw_all := lw_g (lw_at lw_m8 101 rfl) rfl
theorem q1931 : (Jvm.Cond.methodLink "SelahGeneratorLaw" (160 : Nat) ({ cls := "SelahGeneratorLaw", name := "pairCount", desc := "(LSelahGenerator;I[J)I" } : Jvm.MethodName)) ∈ lw_all := lw_g (lw_at lw_m8 129 rfl) rfl
theorem q1932 : (Jvm.Cond.static ({ cls := "SelahGeneratorLaw", name := "pairCount", desc := "(LSelahGenerator;I[J)I" } : Jvm.MethodName)) ∈ lw_all := lw_g (lw_at lw_m8 130 rfl) rfl
theorem q1933 : (Jvm.Cond.codeWith ({ cls := "SelahGeneratorLaw", name := "pairCount", desc := "(LSelahGenerator;I[J)I" } : Jvm.MethodName) method_15_code (4 : Nat) (Option.some Jvm.ClassFile.FieldType.int) [((0 : Nat), (9 : Nat), (12 : Nat), (13 : Nat))]) ∈ lw_all := lw_g (lw_at lw_m8 131 rfl) rfl
theorem q1934 : (Jvm.Cond.methodLink "SelahGeneratorLaw" (54 : Nat) ({ cls := "SelahGenerator", name := "pairCount", desc := "(I)I" } : Jvm.MethodName)) ∈ lw_all := lw_g (lw_at lw_m8 132 rfl) rfl
theorem q1942 : (Jvm.Cond.methodLink "SelahGeneratorLaw" (163 : Nat) ({ cls := "SelahGeneratorLaw", name := "predictedByPair", desc := "(LSelahGenerator;III[J)I" } : Jvm.MethodName)) ∈ lw_all := lw_g (lw_at lw_m8 140 rfl) rfl
theorem q1943 : (Jvm.Cond.static ({ cls := "SelahGeneratorLaw", name := "predictedByPair", desc := "(LSelahGenerator;III[J)I" } : Jvm.MethodName)) ∈ lw_all := lw_g (lw_at lw_m8 141 rfl) rfl
theorem q1944 : (Jvm.Cond.codeWith ({ cls := "SelahGeneratorLaw", name := "predictedByPair", desc := "(LSelahGenerator;III[J)I" } : Jvm.MethodName) method_16_code (6 : Nat) (Option.some Jvm.ClassFile.FieldType.int) [((0 : Nat), (12 : Nat), (15 : Nat), (13 : Nat))]) ∈ lw_all := lw_g (lw_at lw_m8 142 rfl) rfl
theorem q1945 : (Jvm.Cond.methodLink "SelahGeneratorLaw" (57 : Nat) ({ cls := "SelahGenerator", name := "predictedByPair", desc := "(III)I" } : Jvm.MethodName)) ∈ lw_all := lw_g (lw_at lw_m8 143 rfl) rfl
theorem q1954 : (Jvm.Cond.methodLink "SelahGeneratorLaw" (175 : Nat) ({ cls := "SelahGeneratorLaw", name := "isLeftRecursive", desc := "(LSelahGenerator;I[J)I" } : Jvm.MethodName)) ∈ lw_all := lw_g (lw_at lw_m8 152 rfl) rfl
theorem q1955 : (Jvm.Cond.static ({ cls := "SelahGeneratorLaw", name := "isLeftRecursive", desc := "(LSelahGenerator;I[J)I" } : Jvm.MethodName)) ∈ lw_all := lw_g (lw_at lw_m8 153 rfl) rfl
theorem q1956 : (Jvm.Cond.codeWith ({ cls := "SelahGeneratorLaw", name := "isLeftRecursive", desc := "(LSelahGenerator;I[J)I" } : Jvm.MethodName) method_17_code (4 : Nat) (Option.some Jvm.ClassFile.FieldType.int) [((0 : Nat), (16 : Nat), (19 : Nat), (13 : Nat))]) ∈ lw_all := lw_g (lw_at lw_m8 154 rfl) rfl
theorem q1957 : (Jvm.Cond.methodLink "SelahGeneratorLaw" (61 : Nat) ({ cls := "SelahGenerator", name := "isLeftRecursive", desc := "(I)Z" } : Jvm.MethodName)) ∈ lw_all := lw_g (lw_at lw_m8 155 rfl) rfl
theorem q1961 : (Jvm.Cond.methodLink "SelahGeneratorLaw" (178 : Nat) ({ cls := "SelahGeneratorLaw", name := "removeLeftRecursion", desc := "(LSelahGenerator;[J)I" } : Jvm.MethodName)) ∈ lw_all := lw_g (lw_at lw_m8 159 rfl) rfl
theorem q1962 : (Jvm.Cond.static ({ cls := "SelahGeneratorLaw", name := "removeLeftRecursion", desc := "(LSelahGenerator;[J)I" } : Jvm.MethodName)) ∈ lw_all := lw_g (lw_at lw_m8 160 rfl) rfl
theorem q1963 : (Jvm.Cond.codeWith ({ cls := "SelahGeneratorLaw", name := "removeLeftRecursion", desc := "(LSelahGenerator;[J)I" } : Jvm.MethodName) method_18_code (3 : Nat) (Option.some Jvm.ClassFile.FieldType.int) [((0 : Nat), (8 : Nat), (11 : Nat), (15 : Nat))]) ∈ lw_all := lw_g (lw_at lw_m8 161 rfl) rfl
theorem q1964 : (Jvm.Cond.methodLink "SelahGeneratorLaw" (64 : Nat) ({ cls := "SelahGenerator", name := "removeLeftRecursion", desc := "()I" } : Jvm.MethodName)) ∈ lw_all := lw_g (lw_at lw_m8 162 rfl) rfl
theorem q2320 : (Jvm.Cond.methodLink "SelahGeneratorLaw" (182 : Nat) ({ cls := "SelahGeneratorLaw", name := "factorOut", desc := "(LSelahGenerator;[J)I" } : Jvm.MethodName)) ∈ lw_all := lw_g (lw_at lw_m10 38 rfl) rfl
theorem q2321 : (Jvm.Cond.static ({ cls := "SelahGeneratorLaw", name := "factorOut", desc := "(LSelahGenerator;[J)I" } : Jvm.MethodName)) ∈ lw_all := lw_g (lw_at lw_m10 39 rfl) rfl
theorem q2322 : (Jvm.Cond.codeWith ({ cls := "SelahGeneratorLaw", name := "factorOut", desc := "(LSelahGenerator;[J)I" } : Jvm.MethodName) method_19_code (3 : Nat) (Option.some Jvm.ClassFile.FieldType.int) [((0 : Nat), (8 : Nat), (11 : Nat), (15 : Nat))]) ∈ lw_all := lw_g (lw_at lw_m10 40 rfl) rfl
theorem q2323 : (Jvm.Cond.methodLink "SelahGeneratorLaw" (68 : Nat) ({ cls := "SelahGenerator", name := "factorOut", desc := "()I" } : Jvm.MethodName)) ∈ lw_all := lw_g (lw_at lw_m10 41 rfl) rfl
theorem q2401 : (Jvm.Cond.methodLink "SelahGeneratorLaw" (185 : Nat) ({ cls := "SelahGeneratorLaw", name := "start", desc := "(LSelahGenerator;I[J)I" } : Jvm.MethodName)) ∈ lw_all := lw_g (lw_at lw_m10 119 rfl) rfl
theorem q2402 : (Jvm.Cond.static ({ cls := "SelahGeneratorLaw", name := "start", desc := "(LSelahGenerator;I[J)I" } : Jvm.MethodName)) ∈ lw_all := lw_g (lw_at lw_m10 120 rfl) rfl
theorem q2403 : (Jvm.Cond.codeWith ({ cls := "SelahGeneratorLaw", name := "start", desc := "(LSelahGenerator;I[J)I" } : Jvm.MethodName) method_20_code (4 : Nat) (Option.some Jvm.ClassFile.FieldType.int) [((0 : Nat), (9 : Nat), (12 : Nat), (21 : Nat)), ((0 : Nat), (9 : Nat), (15 : Nat), (15 : Nat))]) ∈ lw_all := lw_g (lw_at lw_m10 121 rfl) rfl
theorem q2404 : (Jvm.Cond.methodLink "SelahGeneratorLaw" (71 : Nat) ({ cls := "SelahGenerator", name := "start", desc := "(I)I" } : Jvm.MethodName)) ∈ lw_all := lw_g (lw_at lw_m10 122 rfl) rfl
theorem q2495 : (Jvm.Cond.methodLink "SelahGeneratorLaw" (188 : Nat) ({ cls := "SelahGeneratorLaw", name := "give", desc := "(LSelahGenerator;I[J)I" } : Jvm.MethodName)) ∈ lw_all := lw_g (lw_at lw_m10 213 rfl) rfl
theorem q2496 : (Jvm.Cond.static ({ cls := "SelahGeneratorLaw", name := "give", desc := "(LSelahGenerator;I[J)I" } : Jvm.MethodName)) ∈ lw_all := lw_g (lw_at lw_m10 214 rfl) rfl
theorem q2497 : (Jvm.Cond.codeWith ({ cls := "SelahGeneratorLaw", name := "give", desc := "(LSelahGenerator;I[J)I" } : Jvm.MethodName) method_21_code (4 : Nat) (Option.some Jvm.ClassFile.FieldType.int) [((0 : Nat), (9 : Nat), (12 : Nat), (13 : Nat)), ((0 : Nat), (9 : Nat), (15 : Nat), (15 : Nat))]) ∈ lw_all := lw_g (lw_at lw_m10 215 rfl) rfl
theorem q2498 : (Jvm.Cond.methodLink "SelahGeneratorLaw" (74 : Nat) ({ cls := "SelahGenerator", name := "give", desc := "(I)I" } : Jvm.MethodName)) ∈ lw_all := lw_g (lw_at lw_m10 216 rfl) rfl
theorem q2557 : (Jvm.Cond.methodLink "SelahGeneratorLaw" (223 : Nat) ({ cls := "SelahGeneratorLaw", name := "errorToken", desc := "(LSelahGenerator;I[J)I" } : Jvm.MethodName)) ∈ lw_all := lw_g (lw_at lw_m11 35 rfl) rfl
theorem q2558 : (Jvm.Cond.static ({ cls := "SelahGeneratorLaw", name := "errorToken", desc := "(LSelahGenerator;I[J)I" } : Jvm.MethodName)) ∈ lw_all := lw_g (lw_at lw_m11 36 rfl) rfl
theorem q2559 : (Jvm.Cond.codeWith ({ cls := "SelahGeneratorLaw", name := "errorToken", desc := "(LSelahGenerator;I[J)I" } : Jvm.MethodName) method_22_code (4 : Nat) (Option.some Jvm.ClassFile.FieldType.int) [((0 : Nat), (9 : Nat), (12 : Nat), (13 : Nat))]) ∈ lw_all := lw_g (lw_at lw_m11 37 rfl) rfl
theorem q2560 : (Jvm.Cond.methodLink "SelahGeneratorLaw" (77 : Nat) ({ cls := "SelahGenerator", name := "errorToken", desc := "(I)I" } : Jvm.MethodName)) ∈ lw_all := lw_g (lw_at lw_m11 38 rfl) rfl
theorem q2569 : (Jvm.Cond.methodLink "SelahGeneratorLaw" (226 : Nat) ({ cls := "SelahGeneratorLaw", name := "errorSymbol", desc := "(LSelahGenerator;I[J)I" } : Jvm.MethodName)) ∈ lw_all := lw_g (lw_at lw_m11 47 rfl) rfl
theorem q2570 : (Jvm.Cond.static ({ cls := "SelahGeneratorLaw", name := "errorSymbol", desc := "(LSelahGenerator;I[J)I" } : Jvm.MethodName)) ∈ lw_all := lw_g (lw_at lw_m11 48 rfl) rfl
theorem q2571 : (Jvm.Cond.codeWith ({ cls := "SelahGeneratorLaw", name := "errorSymbol", desc := "(LSelahGenerator;I[J)I" } : Jvm.MethodName) method_23_code (4 : Nat) (Option.some Jvm.ClassFile.FieldType.int) [((0 : Nat), (9 : Nat), (12 : Nat), (13 : Nat))]) ∈ lw_all := lw_g (lw_at lw_m11 49 rfl) rfl
theorem q2572 : (Jvm.Cond.methodLink "SelahGeneratorLaw" (80 : Nat) ({ cls := "SelahGenerator", name := "errorSymbol", desc := "(I)I" } : Jvm.MethodName)) ∈ lw_all := lw_g (lw_at lw_m11 50 rfl) rfl
theorem q2576 : (Jvm.Cond.methodLink "SelahGeneratorLaw" (229 : Nat) ({ cls := "SelahGeneratorLaw", name := "wasSkipped", desc := "(LSelahGenerator;I[J)I" } : Jvm.MethodName)) ∈ lw_all := lw_g (lw_at lw_m11 54 rfl) rfl
theorem q2577 : (Jvm.Cond.static ({ cls := "SelahGeneratorLaw", name := "wasSkipped", desc := "(LSelahGenerator;I[J)I" } : Jvm.MethodName)) ∈ lw_all := lw_g (lw_at lw_m11 55 rfl) rfl
theorem q2578 : (Jvm.Cond.codeWith ({ cls := "SelahGeneratorLaw", name := "wasSkipped", desc := "(LSelahGenerator;I[J)I" } : Jvm.MethodName) method_24_code (4 : Nat) (Option.some Jvm.ClassFile.FieldType.int) [((0 : Nat), (16 : Nat), (19 : Nat), (13 : Nat))]) ∈ lw_all := lw_g (lw_at lw_m11 56 rfl) rfl
theorem q2579 : (Jvm.Cond.methodLink "SelahGeneratorLaw" (83 : Nat) ({ cls := "SelahGenerator", name := "wasSkipped", desc := "(I)Z" } : Jvm.MethodName)) ∈ lw_all := lw_g (lw_at lw_m11 57 rfl) rfl
theorem q2583 : (Jvm.Cond.methodLink "SelahGeneratorLaw" (232 : Nat) ({ cls := "SelahGeneratorLaw", name := "derivations", desc := "(LSelahGenerator;[J)I" } : Jvm.MethodName)) ∈ lw_all := lw_g (lw_at lw_m11 61 rfl) rfl
theorem q2584 : (Jvm.Cond.static ({ cls := "SelahGeneratorLaw", name := "derivations", desc := "(LSelahGenerator;[J)I" } : Jvm.MethodName)) ∈ lw_all := lw_g (lw_at lw_m11 62 rfl) rfl
theorem q2585 : (Jvm.Cond.codeWith ({ cls := "SelahGeneratorLaw", name := "derivations", desc := "(LSelahGenerator;[J)I" } : Jvm.MethodName) method_25_code (3 : Nat) (Option.some Jvm.ClassFile.FieldType.int) [((0 : Nat), (8 : Nat), (11 : Nat), (15 : Nat))]) ∈ lw_all := lw_g (lw_at lw_m11 63 rfl) rfl
theorem q2586 : (Jvm.Cond.methodLink "SelahGeneratorLaw" (86 : Nat) ({ cls := "SelahGenerator", name := "derivations", desc := "()I" } : Jvm.MethodName)) ∈ lw_all := lw_g (lw_at lw_m11 64 rfl) rfl
theorem q2587 : (Jvm.Cond.methodLink "SelahGeneratorLaw" (249 : Nat) ({ cls := "SelahGeneratorLaw", name := "writeRule", desc := "(LSelahGenerator;I[J)I" } : Jvm.MethodName)) ∈ lw_all := lw_g (lw_at lw_m11 65 rfl) rfl
theorem q2588 : (Jvm.Cond.static ({ cls := "SelahGeneratorLaw", name := "writeRule", desc := "(LSelahGenerator;I[J)I" } : Jvm.MethodName)) ∈ lw_all := lw_g (lw_at lw_m11 66 rfl) rfl
theorem q2589 : (Jvm.Cond.codeWith ({ cls := "SelahGeneratorLaw", name := "writeRule", desc := "(LSelahGenerator;I[J)I" } : Jvm.MethodName) method_26_code (4 : Nat) (Option.some Jvm.ClassFile.FieldType.int) [((0 : Nat), (9 : Nat), (12 : Nat), (13 : Nat))]) ∈ lw_all := lw_g (lw_at lw_m11 67 rfl) rfl
theorem q2590 : (Jvm.Cond.methodLink "SelahGeneratorLaw" (89 : Nat) ({ cls := "SelahGenerator", name := "writeRule", desc := "(I)I" } : Jvm.MethodName)) ∈ lw_all := lw_g (lw_at lw_m11 68 rfl) rfl
theorem q2666 : (Jvm.Cond.classLink "SelahGeneratorLaw" (93 : Nat) "SelahGeneratorModel") ∈ lw_all := lw_g (lw_at lw_m11 144 rfl) rfl
theorem q2668 : (Jvm.Cond.methodLink "SelahGeneratorLaw" (95 : Nat) ({ cls := "SelahGeneratorModel", name := "<init>", desc := "()V" } : Jvm.MethodName)) ∈ lw_all := lw_g (lw_at lw_m11 146 rfl) rfl
theorem q2800 : (Jvm.Cond.methodLink "SelahGeneratorLaw" (102 : Nat) ({ cls := "SelahGeneratorModel", name := "thrown", desc := "()I" } : Jvm.MethodName)) ∈ lw_all := lw_g (lw_at lw_m12 38 rfl) rfl
theorem q2804 : (Jvm.Cond.methodLink "SelahGeneratorLaw" (101 : Nat) ({ cls := "SelahGeneratorModel", name := "addRule", desc := "(I)I" } : Jvm.MethodName)) ∈ lw_all := lw_g (lw_at lw_m12 42 rfl) rfl
theorem q2836 : (Jvm.Cond.methodLink "SelahGeneratorLaw" (108 : Nat) ({ cls := "SelahGeneratorModel", name := "append", desc := "(II)I" } : Jvm.MethodName)) ∈ lw_all := lw_g (lw_at lw_m12 74 rfl) rfl
theorem q2856 : (Jvm.Cond.methodLink "SelahGeneratorLaw" (111 : Nat) ({ cls := "SelahGeneratorModel", name := "removeRule", desc := "(I)I" } : Jvm.MethodName)) ∈ lw_all := lw_g (lw_at lw_m12 94 rfl) rfl
theorem q2871 : (Jvm.Cond.methodLink "SelahGeneratorLaw" (115 : Nat) ({ cls := "SelahGeneratorModel", name := "ruleCount", desc := "()I" } : Jvm.MethodName)) ∈ lw_all := lw_g (lw_at lw_m12 109 rfl) rfl
theorem q2879 : (Jvm.Cond.methodLink "SelahGeneratorLaw" (118 : Nat) ({ cls := "SelahGeneratorModel", name := "leftOf", desc := "(I)I" } : Jvm.MethodName)) ∈ lw_all := lw_g (lw_at lw_m12 117 rfl) rfl
theorem q2883 : (Jvm.Cond.methodLink "SelahGeneratorLaw" (121 : Nat) ({ cls := "SelahGeneratorModel", name := "lengthOf", desc := "(I)I" } : Jvm.MethodName)) ∈ lw_all := lw_g (lw_at lw_m12 121 rfl) rfl
theorem q2887 : (Jvm.Cond.methodLink "SelahGeneratorLaw" (124 : Nat) ({ cls := "SelahGeneratorModel", name := "symbolAt", desc := "(II)I" } : Jvm.MethodName)) ∈ lw_all := lw_g (lw_at lw_m12 125 rfl) rfl
theorem q2895 : (Jvm.Cond.methodLink "SelahGeneratorLaw" (128 : Nat) ({ cls := "SelahGeneratorModel", name := "usedNonterminals", desc := "()I" } : Jvm.MethodName)) ∈ lw_all := lw_g (lw_at lw_m12 133 rfl) rfl
theorem q2903 : (Jvm.Cond.methodLink "SelahGeneratorLaw" (131 : Nat) ({ cls := "SelahGeneratorModel", name := "isNullable", desc := "(I)Z" } : Jvm.MethodName)) ∈ lw_all := lw_g (lw_at lw_m12 141 rfl) rfl
theorem q2942 : (Jvm.Cond.methodLink "SelahGeneratorLaw" (134 : Nat) ({ cls := "SelahGeneratorModel", name := "firstOf", desc := "(I)I" } : Jvm.MethodName)) ∈ lw_all := lw_g (lw_at lw_m12 180 rfl) rfl
theorem q2946 : (Jvm.Cond.methodLink "SelahGeneratorLaw" (137 : Nat) ({ cls := "SelahGeneratorModel", name := "followOf", desc := "(I)I" } : Jvm.MethodName)) ∈ lw_all := lw_g (lw_at lw_m12 184 rfl) rfl
theorem q2950 : (Jvm.Cond.methodLink "SelahGeneratorLaw" (141 : Nat) ({ cls := "SelahGeneratorModel", name := "firstRounds", desc := "()I" } : Jvm.MethodName)) ∈ lw_all := lw_g (lw_at lw_m12 188 rfl) rfl
theorem q2954 : (Jvm.Cond.methodLink "SelahGeneratorLaw" (144 : Nat) ({ cls := "SelahGeneratorModel", name := "shortestOf", desc := "(I)I" } : Jvm.MethodName)) ∈ lw_all := lw_g (lw_at lw_m12 192 rfl) rfl
theorem q2963 : (Jvm.Cond.methodLink "SelahGeneratorLaw" (147 : Nat) ({ cls := "SelahGeneratorModel", name := "predictionOf", desc := "(I)I" } : Jvm.MethodName)) ∈ lw_all := lw_g (lw_at lw_m12 201 rfl) rfl
theorem q2971 : (Jvm.Cond.methodLink "SelahGeneratorLaw" (150 : Nat) ({ cls := "SelahGeneratorModel", name := "predicted", desc := "(II)I" } : Jvm.MethodName)) ∈ lw_all := lw_g (lw_at lw_m12 209 rfl) rfl
theorem q2983 : (Jvm.Cond.methodLink "SelahGeneratorLaw" (154 : Nat) ({ cls := "SelahGeneratorModel", name := "conflicts", desc := "()I" } : Jvm.MethodName)) ∈ lw_all := lw_g (lw_at lw_m12 221 rfl) rfl
theorem q2991 : (Jvm.Cond.methodLink "SelahGeneratorLaw" (159 : Nat) ({ cls := "SelahGeneratorModel", name := "isLL1", desc := "()Z" } : Jvm.MethodName)) ∈ lw_all := lw_g (lw_at lw_m12 229 rfl) rfl
theorem q2995 : (Jvm.Cond.methodLink "SelahGeneratorLaw" (162 : Nat) ({ cls := "SelahGeneratorModel", name := "pairCount", desc := "(I)I" } : Jvm.MethodName)) ∈ lw_all := lw_g (lw_at lw_m12 233 rfl) rfl
theorem q3037 : (Jvm.Cond.methodLink "SelahGeneratorLaw" (166 : Nat) ({ cls := "SelahGeneratorModel", name := "predictedByPair", desc := "(III)I" } : Jvm.MethodName)) ∈ lw_all := lw_g (lw_at lw_m13 35 rfl) rfl
theorem q3045 : (Jvm.Cond.methodLink "SelahGeneratorLaw" (170 : Nat) ({ cls := "SelahGeneratorModel", name := "pairConflicts", desc := "()I" } : Jvm.MethodName)) ∈ lw_all := lw_g (lw_at lw_m13 43 rfl) rfl
theorem q3057 : (Jvm.Cond.methodLink "SelahGeneratorLaw" (174 : Nat) ({ cls := "SelahGeneratorModel", name := "isStrongLL2", desc := "()Z" } : Jvm.MethodName)) ∈ lw_all := lw_g (lw_at lw_m13 55 rfl) rfl
theorem q3061 : (Jvm.Cond.methodLink "SelahGeneratorLaw" (177 : Nat) ({ cls := "SelahGeneratorModel", name := "isLeftRecursive", desc := "(I)Z" } : Jvm.MethodName)) ∈ lw_all := lw_g (lw_at lw_m13 59 rfl) rfl
theorem q3069 : (Jvm.Cond.methodLink "SelahGeneratorLaw" (181 : Nat) ({ cls := "SelahGeneratorModel", name := "removeLeftRecursion", desc := "()I" } : Jvm.MethodName)) ∈ lw_all := lw_g (lw_at lw_m13 67 rfl) rfl
theorem q3113 : (Jvm.Cond.methodLink "SelahGeneratorLaw" (184 : Nat) ({ cls := "SelahGeneratorModel", name := "factorOut", desc := "()I" } : Jvm.MethodName)) ∈ lw_all := lw_g (lw_at lw_m13 111 rfl) rfl
theorem q3141 : (Jvm.Cond.methodLink "SelahGeneratorLaw" (187 : Nat) ({ cls := "SelahGeneratorModel", name := "start", desc := "(I)I" } : Jvm.MethodName)) ∈ lw_all := lw_g (lw_at lw_m13 139 rfl) rfl
theorem q3146 : (Jvm.Cond.methodLink "SelahGeneratorLaw" (190 : Nat) ({ cls := "SelahGeneratorModel", name := "give", desc := "(I)I" } : Jvm.MethodName)) ∈ lw_all := lw_g (lw_at lw_m13 144 rfl) rfl
theorem q3166 : (Jvm.Cond.methodLink "SelahGeneratorLaw" (194 : Nat) ({ cls := "SelahGeneratorModel", name := "parseState", desc := "()I" } : Jvm.MethodName)) ∈ lw_all := lw_g (lw_at lw_m13 164 rfl) rfl
theorem q3170 : (Jvm.Cond.methodLink "SelahGeneratorLaw" (198 : Nat) ({ cls := "SelahGeneratorModel", name := "tokenCount", desc := "()I" } : Jvm.MethodName)) ∈ lw_all := lw_g (lw_at lw_m13 168 rfl) rfl
theorem q3174 : (Jvm.Cond.methodLink "SelahGeneratorLaw" (202 : Nat) ({ cls := "SelahGeneratorModel", name := "stackDepth", desc := "()I" } : Jvm.MethodName)) ∈ lw_all := lw_g (lw_at lw_m13 172 rfl) rfl
theorem q3178 : (Jvm.Cond.methodLink "SelahGeneratorLaw" (206 : Nat) ({ cls := "SelahGeneratorModel", name := "stackAt", desc := "(I)I" } : Jvm.MethodName)) ∈ lw_all := lw_g (lw_at lw_m13 176 rfl) rfl
theorem q3182 : (Jvm.Cond.methodLink "SelahGeneratorLaw" (210 : Nat) ({ cls := "SelahGeneratorModel", name := "expected", desc := "()I" } : Jvm.MethodName)) ∈ lw_all := lw_g (lw_at lw_m13 180 rfl) rfl
theorem q3190 : (Jvm.Cond.methodLink "SelahGeneratorLaw" (214 : Nat) ({ cls := "SelahGeneratorModel", name := "appliedCount", desc := "()I" } : Jvm.MethodName)) ∈ lw_all := lw_g (lw_at lw_m13 188 rfl) rfl
theorem q3194 : (Jvm.Cond.methodLink "SelahGeneratorLaw" (218 : Nat) ({ cls := "SelahGeneratorModel", name := "appliedRule", desc := "(I)I" } : Jvm.MethodName)) ∈ lw_all := lw_g (lw_at lw_m13 192 rfl) rfl
theorem q3198 : (Jvm.Cond.methodLink "SelahGeneratorLaw" (222 : Nat) ({ cls := "SelahGeneratorModel", name := "errorCount", desc := "()I" } : Jvm.MethodName)) ∈ lw_all := lw_g (lw_at lw_m13 196 rfl) rfl
theorem q3202 : (Jvm.Cond.methodLink "SelahGeneratorLaw" (225 : Nat) ({ cls := "SelahGeneratorModel", name := "errorToken", desc := "(I)I" } : Jvm.MethodName)) ∈ lw_all := lw_g (lw_at lw_m13 200 rfl) rfl
theorem q3210 : (Jvm.Cond.methodLink "SelahGeneratorLaw" (228 : Nat) ({ cls := "SelahGeneratorModel", name := "errorSymbol", desc := "(I)I" } : Jvm.MethodName)) ∈ lw_all := lw_g (lw_at lw_m13 208 rfl) rfl
theorem q3214 : (Jvm.Cond.methodLink "SelahGeneratorLaw" (231 : Nat) ({ cls := "SelahGeneratorModel", name := "wasSkipped", desc := "(I)Z" } : Jvm.MethodName)) ∈ lw_all := lw_g (lw_at lw_m13 212 rfl) rfl
theorem q3218 : (Jvm.Cond.methodLink "SelahGeneratorLaw" (234 : Nat) ({ cls := "SelahGeneratorModel", name := "derivations", desc := "()I" } : Jvm.MethodName)) ∈ lw_all := lw_g (lw_at lw_m13 216 rfl) rfl
theorem q3253 : (Jvm.Cond.methodLink "SelahGeneratorLaw" (238 : Nat) ({ cls := "SelahGeneratorModel", name := "disagreements", desc := "()I" } : Jvm.MethodName)) ∈ lw_all := lw_g (lw_at lw_m14 11 rfl) rfl
theorem q3257 : (Jvm.Cond.methodLink "SelahGeneratorLaw" (243 : Nat) ({ cls := "SelahGeneratorModel", name := "meanLength", desc := "()D" } : Jvm.MethodName)) ∈ lw_all := lw_g (lw_at lw_m14 15 rfl) rfl
theorem q3261 : (Jvm.Cond.methodLink "SelahGeneratorLaw" (248 : Nat) ({ cls := "SelahGeneratorModel", name := "tableShare", desc := "()F" } : Jvm.MethodName)) ∈ lw_all := lw_g (lw_at lw_m14 19 rfl) rfl
theorem q3265 : (Jvm.Cond.methodLink "SelahGeneratorLaw" (251 : Nat) ({ cls := "SelahGeneratorModel", name := "writeRule", desc := "(I)I" } : Jvm.MethodName)) ∈ lw_all := lw_g (lw_at lw_m14 23 rfl) rfl
theorem q3269 : (Jvm.Cond.methodLink "SelahGeneratorLaw" (255 : Nat) ({ cls := "SelahGeneratorModel", name := "outputByte", desc := "(I)I" } : Jvm.MethodName)) ∈ lw_all := lw_g (lw_at lw_m14 27 rfl) rfl
/-! SelahGenerator -/
set_option maxRecDepth 100000
def RX1 : String := "SelahGenerator"
def TX1 : u_T := fun k => match k with
  | 0 => ("SelahGenerator", "rules", "Ljava/util/List;", false)
  | 1 => ("SelahGenerator", "sets", "LSelahGenerator$Sets;", false)
  | 2 => ("SelahGenerator", "pairs", "LSelahGenerator$Pairs;", false)
  | 3 => ("SelahGenerator", "parse", "LSelahGenerator$Parse;", false)
  | _ => ("SelahGenerator", "output", "Ljava/lang/StringBuilder;", true)
def tyX1 : Nat → FieldType := fun k => match k with
  | 0 => .object "java/util/List"
  | 1 => .object "SelahGenerator$Sets"
  | 2 => .object "SelahGenerator$Pairs"
  | 3 => .object "SelahGenerator$Parse"
  | _ => .object "java/lang/StringBuilder"
abbrev wsX10 : List Cond := u_ws RX1 TX1 5
theorem nmX1 : ∀ a, a < 5 → ∀ b, b < 5 → a ≠ b → (TX1 a).2.1 ≠ (TX1 b).2.1 := by decide +kernel
theorem tyX1_ok : ∀ k, k < 5 → parseFieldDescriptor (TX1 k).2.2.1 = some (tyX1 k) := by decide +kernel
abbrev cX1_init : ByteArray := prog_1_method_3_code
def yX1_init : MethodName := ⟨RX1, "<init>", "()V"⟩
def dkwX1_init_1 : List UInt8 := [181, 0, 23, 177]
abbrev dktX1_init_1 : List UInt8 := dkwX1_init_1 ++ []
def dkwX1_init_0 : List UInt8 := [42, 183, 0, 7, 42, 187, 0, 13, 89, 183, 0, 15, 181, 0, 16, 42, 187, 0, 20, 89, 183, 0, 22]
abbrev dktX1_init_0 : List UInt8 := dkwX1_init_0 ++ dktX1_init_1
theorem dksX1_init_0 : cX1_init.data.toList.drop 0 = dktX1_init_0 := by decide +kernel
theorem dksX1_init_1 : cX1_init.data.toList.drop 23 = dktX1_init_1 := dk_seg dksX1_init_0 23 rfl rfl
theorem dX1_init_0 : decode cX1_init 0 = .ok (.aload_n 0, 1) := dk_42 (dk_at dksX1_init_0 0 rfl rfl)
theorem dX1_init_1 : decode cX1_init 1 = .ok (.invokespecial 7, 3) := dk_183 0 7 (dk_at dksX1_init_0 1 rfl rfl)
theorem dX1_init_4 : decode cX1_init 4 = .ok (.aload_n 0, 1) := dk_42 (dk_at dksX1_init_0 4 rfl rfl)
theorem dX1_init_5 : decode cX1_init 5 = .ok (.new 13, 3) := dk_187 0 13 (dk_at dksX1_init_0 5 rfl rfl)
theorem dX1_init_8 : decode cX1_init 8 = .ok (.dup, 1) := dk_89 (dk_at dksX1_init_0 8 rfl rfl)
theorem dX1_init_9 : decode cX1_init 9 = .ok (.invokespecial 15, 3) := dk_183 0 15 (dk_at dksX1_init_0 9 rfl rfl)
theorem dX1_init_12 : decode cX1_init 12 = .ok (.putfield 16, 3) := dk_181 0 16 (dk_at dksX1_init_0 12 rfl rfl)
theorem dX1_init_15 : decode cX1_init 15 = .ok (.aload_n 0, 1) := dk_42 (dk_at dksX1_init_0 15 rfl rfl)
theorem dX1_init_16 : decode cX1_init 16 = .ok (.new 20, 3) := dk_187 0 20 (dk_at dksX1_init_0 16 rfl rfl)
theorem dX1_init_19 : decode cX1_init 19 = .ok (.dup, 1) := dk_89 (dk_at dksX1_init_0 19 rfl rfl)
theorem dX1_init_20 : decode cX1_init 20 = .ok (.invokespecial 22, 3) := dk_183 0 22 (dk_at dksX1_init_0 20 rfl rfl)
theorem dX1_init_23 : decode cX1_init 23 = .ok (.putfield 23, 3) := dk_181 0 23 (dk_at dksX1_init_1 0 rfl rfl)
theorem dX1_init_26 : decode cX1_init 26 = .ok (.return_, 1) := dk_177 (dk_at dksX1_init_1 3 rfl rfl)
abbrev cX1_ruleCount : ByteArray := prog_1_method_17_code
def yX1_ruleCount : MethodName := ⟨RX1, "ruleCount", "()I"⟩
def dkwX1_ruleCount_0 : List UInt8 := [42, 180, 0, 16, 185, 0, 54, 1, 0, 172]
abbrev dktX1_ruleCount_0 : List UInt8 := dkwX1_ruleCount_0 ++ []
theorem dksX1_ruleCount_0 : cX1_ruleCount.data.toList.drop 0 = dktX1_ruleCount_0 := by decide +kernel
theorem dX1_ruleCount_0 : decode cX1_ruleCount 0 = .ok (.aload_n 0, 1) := dk_42 (dk_at dksX1_ruleCount_0 0 rfl rfl)
theorem dX1_ruleCount_1 : decode cX1_ruleCount 1 = .ok (.getfield 16, 3) := dk_180 0 16 (dk_at dksX1_ruleCount_0 1 rfl rfl)
theorem dX1_ruleCount_4 : decode cX1_ruleCount 4 = .ok (.invokeinterface 54 1, 5) := by decide +kernel
theorem dX1_ruleCount_9 : decode cX1_ruleCount 9 = .ok (.ireturn, 1) := dk_172 (dk_at dksX1_ruleCount_0 9 rfl rfl)
abbrev cX1_usedNonterminals : ByteArray := prog_1_method_21_code
def yX1_usedNonterminals : MethodName := ⟨RX1, "usedNonterminals", "()I"⟩
def dkwX1_usedNonterminals_0 : List UInt8 := [42, 180, 0, 16, 184, 0, 122, 172]
abbrev dktX1_usedNonterminals_0 : List UInt8 := dkwX1_usedNonterminals_0 ++ []
theorem dksX1_usedNonterminals_0 : cX1_usedNonterminals.data.toList.drop 0 = dktX1_usedNonterminals_0 := by decide +kernel
theorem dX1_usedNonterminals_0 : decode cX1_usedNonterminals 0 = .ok (.aload_n 0, 1) := dk_42 (dk_at dksX1_usedNonterminals_0 0 rfl rfl)
theorem dX1_usedNonterminals_1 : decode cX1_usedNonterminals 1 = .ok (.getfield 16, 3) := dk_180 0 16 (dk_at dksX1_usedNonterminals_0 1 rfl rfl)
theorem dX1_usedNonterminals_4 : decode cX1_usedNonterminals 4 = .ok (.invokestatic 122, 3) := dk_184 0 122 (dk_at dksX1_usedNonterminals_0 4 rfl rfl)
theorem dX1_usedNonterminals_7 : decode cX1_usedNonterminals 7 = .ok (.ireturn, 1) := dk_172 (dk_at dksX1_usedNonterminals_0 7 rfl rfl)
abbrev cX1_isNonterminal : ByteArray := prog_1_method_2_code
def yX1_isNonterminal : MethodName := ⟨RX1, "isNonterminal", "(I)Z"⟩
def dkwX1_isNonterminal_0 : List UInt8 := [26, 16, 20, 16, 31, 184, 0, 3, 172]
abbrev dktX1_isNonterminal_0 : List UInt8 := dkwX1_isNonterminal_0 ++ []
theorem dksX1_isNonterminal_0 : cX1_isNonterminal.data.toList.drop 0 = dktX1_isNonterminal_0 := by decide +kernel
theorem dX1_isNonterminal_0 : decode cX1_isNonterminal 0 = .ok (.iload_n 0, 1) := dk_26 (dk_at dksX1_isNonterminal_0 0 rfl rfl)
theorem dX1_isNonterminal_1 : decode cX1_isNonterminal 1 = .ok (.bipush 20, 2) := dk_16 20 (dk_at dksX1_isNonterminal_0 1 rfl rfl)
theorem dX1_isNonterminal_3 : decode cX1_isNonterminal 3 = .ok (.bipush 31, 2) := dk_16 31 (dk_at dksX1_isNonterminal_0 3 rfl rfl)
theorem dX1_isNonterminal_5 : decode cX1_isNonterminal 5 = .ok (.invokestatic 3, 3) := dk_184 0 3 (dk_at dksX1_isNonterminal_0 5 rfl rfl)
theorem dX1_isNonterminal_8 : decode cX1_isNonterminal 8 = .ok (.ireturn, 1) := dk_172 (dk_at dksX1_isNonterminal_0 8 rfl rfl)
abbrev cX1_isIn : ByteArray := prog_1_method_1_code
def yX1_isIn : MethodName := ⟨RX1, "isIn", "(III)Z"⟩
def dkwX1_isIn_0 : List UInt8 := [26, 27, 161, 0, 12, 26, 28, 163, 0, 7, 4, 167, 0, 4, 3, 172]
abbrev dktX1_isIn_0 : List UInt8 := dkwX1_isIn_0 ++ []
theorem dksX1_isIn_0 : cX1_isIn.data.toList.drop 0 = dktX1_isIn_0 := by decide +kernel
theorem dX1_isIn_0 : decode cX1_isIn 0 = .ok (.iload_n 0, 1) := dk_26 (dk_at dksX1_isIn_0 0 rfl rfl)
theorem dX1_isIn_1 : decode cX1_isIn 1 = .ok (.iload_n 1, 1) := dk_27 (dk_at dksX1_isIn_0 1 rfl rfl)
theorem dX1_isIn_2 : decode cX1_isIn 2 = .ok (.if_icmp .lt 12, 3) := dk_161 0 12 (dk_at dksX1_isIn_0 2 rfl rfl)
theorem dX1_isIn_5 : decode cX1_isIn 5 = .ok (.iload_n 0, 1) := dk_26 (dk_at dksX1_isIn_0 5 rfl rfl)
theorem dX1_isIn_6 : decode cX1_isIn 6 = .ok (.iload_n 2, 1) := dk_28 (dk_at dksX1_isIn_0 6 rfl rfl)
theorem dX1_isIn_7 : decode cX1_isIn 7 = .ok (.if_icmp .gt 7, 3) := dk_163 0 7 (dk_at dksX1_isIn_0 7 rfl rfl)
theorem dX1_isIn_10 : decode cX1_isIn 10 = .ok (.iconst 1, 1) := dk_4 (dk_at dksX1_isIn_0 10 rfl rfl)
theorem dX1_isIn_11 : decode cX1_isIn 11 = .ok (.goto 4, 3) := dk_167 0 4 (dk_at dksX1_isIn_0 11 rfl rfl)
theorem dX1_isIn_14 : decode cX1_isIn 14 = .ok (.iconst 0, 1) := dk_3 (dk_at dksX1_isIn_0 14 rfl rfl)
theorem dX1_isIn_15 : decode cX1_isIn 15 = .ok (.ireturn, 1) := dk_172 (dk_at dksX1_isIn_0 15 rfl rfl)
abbrev cX1_firstRounds : ByteArray := prog_1_method_25_code
def yX1_firstRounds : MethodName := ⟨RX1, "firstRounds", "()I"⟩
def dkwX1_firstRounds_0 : List UInt8 := [42, 182, 0, 128, 180, 0, 140, 172]
abbrev dktX1_firstRounds_0 : List UInt8 := dkwX1_firstRounds_0 ++ []
theorem dksX1_firstRounds_0 : cX1_firstRounds.data.toList.drop 0 = dktX1_firstRounds_0 := by decide +kernel
theorem dX1_firstRounds_0 : decode cX1_firstRounds 0 = .ok (.aload_n 0, 1) := dk_42 (dk_at dksX1_firstRounds_0 0 rfl rfl)
theorem dX1_firstRounds_1 : decode cX1_firstRounds 1 = .ok (.invokevirtual 128, 3) := dk_182 0 128 (dk_at dksX1_firstRounds_0 1 rfl rfl)
theorem dX1_firstRounds_4 : decode cX1_firstRounds 4 = .ok (.getfield 140, 3) := dk_180 0 140 (dk_at dksX1_firstRounds_0 4 rfl rfl)
theorem dX1_firstRounds_7 : decode cX1_firstRounds 7 = .ok (.ireturn, 1) := dk_172 (dk_at dksX1_firstRounds_0 7 rfl rfl)
abbrev cX1_sets : ByteArray := prog_1_method_4_code
def yX1_sets : MethodName := ⟨RX1, "sets", "()LSelahGenerator$Sets;"⟩
def dkwX1_sets_1 : List UInt8 := [180, 0, 27, 176]
abbrev dktX1_sets_1 : List UInt8 := dkwX1_sets_1 ++ []
def dkwX1_sets_0 : List UInt8 := [42, 180, 0, 27, 199, 0, 18, 42, 187, 0, 31, 89, 42, 180, 0, 16, 183, 0, 33, 181, 0, 27, 42]
abbrev dktX1_sets_0 : List UInt8 := dkwX1_sets_0 ++ dktX1_sets_1
theorem dksX1_sets_0 : cX1_sets.data.toList.drop 0 = dktX1_sets_0 := by decide +kernel
theorem dksX1_sets_1 : cX1_sets.data.toList.drop 23 = dktX1_sets_1 := dk_seg dksX1_sets_0 23 rfl rfl
theorem dX1_sets_0 : decode cX1_sets 0 = .ok (.aload_n 0, 1) := dk_42 (dk_at dksX1_sets_0 0 rfl rfl)
theorem dX1_sets_1 : decode cX1_sets 1 = .ok (.getfield 27, 3) := dk_180 0 27 (dk_at dksX1_sets_0 1 rfl rfl)
theorem dX1_sets_4 : decode cX1_sets 4 = .ok (.ifnonnull 18, 3) := dk_199 0 18 (dk_at dksX1_sets_0 4 rfl rfl)
theorem dX1_sets_7 : decode cX1_sets 7 = .ok (.aload_n 0, 1) := dk_42 (dk_at dksX1_sets_0 7 rfl rfl)
theorem dX1_sets_8 : decode cX1_sets 8 = .ok (.new 31, 3) := dk_187 0 31 (dk_at dksX1_sets_0 8 rfl rfl)
theorem dX1_sets_11 : decode cX1_sets 11 = .ok (.dup, 1) := dk_89 (dk_at dksX1_sets_0 11 rfl rfl)
theorem dX1_sets_12 : decode cX1_sets 12 = .ok (.aload_n 0, 1) := dk_42 (dk_at dksX1_sets_0 12 rfl rfl)
theorem dX1_sets_13 : decode cX1_sets 13 = .ok (.getfield 16, 3) := dk_180 0 16 (dk_at dksX1_sets_0 13 rfl rfl)
theorem dX1_sets_16 : decode cX1_sets 16 = .ok (.invokespecial 33, 3) := dk_183 0 33 (dk_at dksX1_sets_0 16 rfl rfl)
theorem dX1_sets_19 : decode cX1_sets 19 = .ok (.putfield 27, 3) := dk_181 0 27 (dk_at dksX1_sets_0 19 rfl rfl)
theorem dX1_sets_22 : decode cX1_sets 22 = .ok (.aload_n 0, 1) := dk_42 (dk_at dksX1_sets_0 22 rfl rfl)
theorem dX1_sets_23 : decode cX1_sets 23 = .ok (.getfield 27, 3) := dk_180 0 27 (dk_at dksX1_sets_1 0 rfl rfl)
theorem dX1_sets_26 : decode cX1_sets 26 = .ok (.areturn, 1) := dk_176 (dk_at dksX1_sets_1 3 rfl rfl)
abbrev cX1_conflicts : ByteArray := prog_1_method_29_code
def yX1_conflicts : MethodName := ⟨RX1, "conflicts", "()I"⟩
def dkwX1_conflicts_0 : List UInt8 := [42, 182, 0, 128, 182, 0, 156, 172]
abbrev dktX1_conflicts_0 : List UInt8 := dkwX1_conflicts_0 ++ []
theorem dksX1_conflicts_0 : cX1_conflicts.data.toList.drop 0 = dktX1_conflicts_0 := by decide +kernel
theorem dX1_conflicts_0 : decode cX1_conflicts 0 = .ok (.aload_n 0, 1) := dk_42 (dk_at dksX1_conflicts_0 0 rfl rfl)
theorem dX1_conflicts_1 : decode cX1_conflicts 1 = .ok (.invokevirtual 128, 3) := dk_182 0 128 (dk_at dksX1_conflicts_0 1 rfl rfl)
theorem dX1_conflicts_4 : decode cX1_conflicts 4 = .ok (.invokevirtual 156, 3) := dk_182 0 156 (dk_at dksX1_conflicts_0 4 rfl rfl)
theorem dX1_conflicts_7 : decode cX1_conflicts 7 = .ok (.ireturn, 1) := dk_172 (dk_at dksX1_conflicts_0 7 rfl rfl)
abbrev cX1_isLL1 : ByteArray := prog_1_method_30_code
def yX1_isLL1 : MethodName := ⟨RX1, "isLL1", "()Z"⟩
def dkwX1_isLL1_0 : List UInt8 := [42, 182, 0, 128, 182, 0, 156, 154, 0, 7, 4, 167, 0, 4, 3, 172]
abbrev dktX1_isLL1_0 : List UInt8 := dkwX1_isLL1_0 ++ []
theorem dksX1_isLL1_0 : cX1_isLL1.data.toList.drop 0 = dktX1_isLL1_0 := by decide +kernel
theorem dX1_isLL1_0 : decode cX1_isLL1 0 = .ok (.aload_n 0, 1) := dk_42 (dk_at dksX1_isLL1_0 0 rfl rfl)
theorem dX1_isLL1_1 : decode cX1_isLL1 1 = .ok (.invokevirtual 128, 3) := dk_182 0 128 (dk_at dksX1_isLL1_0 1 rfl rfl)
theorem dX1_isLL1_4 : decode cX1_isLL1 4 = .ok (.invokevirtual 156, 3) := dk_182 0 156 (dk_at dksX1_isLL1_0 4 rfl rfl)
theorem dX1_isLL1_7 : decode cX1_isLL1 7 = .ok (.ifCond .ne 7, 3) := dk_154 0 7 (dk_at dksX1_isLL1_0 7 rfl rfl)
theorem dX1_isLL1_10 : decode cX1_isLL1 10 = .ok (.iconst 1, 1) := dk_4 (dk_at dksX1_isLL1_0 10 rfl rfl)
theorem dX1_isLL1_11 : decode cX1_isLL1 11 = .ok (.goto 4, 3) := dk_167 0 4 (dk_at dksX1_isLL1_0 11 rfl rfl)
theorem dX1_isLL1_14 : decode cX1_isLL1 14 = .ok (.iconst 0, 1) := dk_3 (dk_at dksX1_isLL1_0 14 rfl rfl)
theorem dX1_isLL1_15 : decode cX1_isLL1 15 = .ok (.ireturn, 1) := dk_172 (dk_at dksX1_isLL1_0 15 rfl rfl)
abbrev cX1_pairConflicts : ByteArray := prog_1_method_33_code
def yX1_pairConflicts : MethodName := ⟨RX1, "pairConflicts", "()I"⟩
def dkwX1_pairConflicts_0 : List UInt8 := [42, 182, 0, 159, 182, 0, 171, 172]
abbrev dktX1_pairConflicts_0 : List UInt8 := dkwX1_pairConflicts_0 ++ []
theorem dksX1_pairConflicts_0 : cX1_pairConflicts.data.toList.drop 0 = dktX1_pairConflicts_0 := by decide +kernel
theorem dX1_pairConflicts_0 : decode cX1_pairConflicts 0 = .ok (.aload_n 0, 1) := dk_42 (dk_at dksX1_pairConflicts_0 0 rfl rfl)
theorem dX1_pairConflicts_1 : decode cX1_pairConflicts 1 = .ok (.invokevirtual 159, 3) := dk_182 0 159 (dk_at dksX1_pairConflicts_0 1 rfl rfl)
theorem dX1_pairConflicts_4 : decode cX1_pairConflicts 4 = .ok (.invokevirtual 171, 3) := dk_182 0 171 (dk_at dksX1_pairConflicts_0 4 rfl rfl)
theorem dX1_pairConflicts_7 : decode cX1_pairConflicts 7 = .ok (.ireturn, 1) := dk_172 (dk_at dksX1_pairConflicts_0 7 rfl rfl)
abbrev cX1_pairs : ByteArray := prog_1_method_5_code
def yX1_pairs : MethodName := ⟨RX1, "pairs", "()LSelahGenerator$Pairs;"⟩
def dkwX1_pairs_1 : List UInt8 := [180, 0, 36, 176]
abbrev dktX1_pairs_1 : List UInt8 := dkwX1_pairs_1 ++ []
def dkwX1_pairs_0 : List UInt8 := [42, 180, 0, 36, 199, 0, 18, 42, 187, 0, 40, 89, 42, 180, 0, 16, 183, 0, 42, 181, 0, 36, 42]
abbrev dktX1_pairs_0 : List UInt8 := dkwX1_pairs_0 ++ dktX1_pairs_1
theorem dksX1_pairs_0 : cX1_pairs.data.toList.drop 0 = dktX1_pairs_0 := by decide +kernel
theorem dksX1_pairs_1 : cX1_pairs.data.toList.drop 23 = dktX1_pairs_1 := dk_seg dksX1_pairs_0 23 rfl rfl
theorem dX1_pairs_0 : decode cX1_pairs 0 = .ok (.aload_n 0, 1) := dk_42 (dk_at dksX1_pairs_0 0 rfl rfl)
theorem dX1_pairs_1 : decode cX1_pairs 1 = .ok (.getfield 36, 3) := dk_180 0 36 (dk_at dksX1_pairs_0 1 rfl rfl)
theorem dX1_pairs_4 : decode cX1_pairs 4 = .ok (.ifnonnull 18, 3) := dk_199 0 18 (dk_at dksX1_pairs_0 4 rfl rfl)
theorem dX1_pairs_7 : decode cX1_pairs 7 = .ok (.aload_n 0, 1) := dk_42 (dk_at dksX1_pairs_0 7 rfl rfl)
theorem dX1_pairs_8 : decode cX1_pairs 8 = .ok (.new 40, 3) := dk_187 0 40 (dk_at dksX1_pairs_0 8 rfl rfl)
theorem dX1_pairs_11 : decode cX1_pairs 11 = .ok (.dup, 1) := dk_89 (dk_at dksX1_pairs_0 11 rfl rfl)
theorem dX1_pairs_12 : decode cX1_pairs 12 = .ok (.aload_n 0, 1) := dk_42 (dk_at dksX1_pairs_0 12 rfl rfl)
theorem dX1_pairs_13 : decode cX1_pairs 13 = .ok (.getfield 16, 3) := dk_180 0 16 (dk_at dksX1_pairs_0 13 rfl rfl)
theorem dX1_pairs_16 : decode cX1_pairs 16 = .ok (.invokespecial 42, 3) := dk_183 0 42 (dk_at dksX1_pairs_0 16 rfl rfl)
theorem dX1_pairs_19 : decode cX1_pairs 19 = .ok (.putfield 36, 3) := dk_181 0 36 (dk_at dksX1_pairs_0 19 rfl rfl)
theorem dX1_pairs_22 : decode cX1_pairs 22 = .ok (.aload_n 0, 1) := dk_42 (dk_at dksX1_pairs_0 22 rfl rfl)
theorem dX1_pairs_23 : decode cX1_pairs 23 = .ok (.getfield 36, 3) := dk_180 0 36 (dk_at dksX1_pairs_1 0 rfl rfl)
theorem dX1_pairs_26 : decode cX1_pairs 26 = .ok (.areturn, 1) := dk_176 (dk_at dksX1_pairs_1 3 rfl rfl)
abbrev cX1_isStrongLL2 : ByteArray := prog_1_method_34_code
def yX1_isStrongLL2 : MethodName := ⟨RX1, "isStrongLL2", "()Z"⟩
def dkwX1_isStrongLL2_0 : List UInt8 := [42, 182, 0, 159, 182, 0, 171, 154, 0, 7, 4, 167, 0, 4, 3, 172]
abbrev dktX1_isStrongLL2_0 : List UInt8 := dkwX1_isStrongLL2_0 ++ []
theorem dksX1_isStrongLL2_0 : cX1_isStrongLL2.data.toList.drop 0 = dktX1_isStrongLL2_0 := by decide +kernel
theorem dX1_isStrongLL2_0 : decode cX1_isStrongLL2 0 = .ok (.aload_n 0, 1) := dk_42 (dk_at dksX1_isStrongLL2_0 0 rfl rfl)
theorem dX1_isStrongLL2_1 : decode cX1_isStrongLL2 1 = .ok (.invokevirtual 159, 3) := dk_182 0 159 (dk_at dksX1_isStrongLL2_0 1 rfl rfl)
theorem dX1_isStrongLL2_4 : decode cX1_isStrongLL2 4 = .ok (.invokevirtual 171, 3) := dk_182 0 171 (dk_at dksX1_isStrongLL2_0 4 rfl rfl)
theorem dX1_isStrongLL2_7 : decode cX1_isStrongLL2 7 = .ok (.ifCond .ne 7, 3) := dk_154 0 7 (dk_at dksX1_isStrongLL2_0 7 rfl rfl)
theorem dX1_isStrongLL2_10 : decode cX1_isStrongLL2 10 = .ok (.iconst 1, 1) := dk_4 (dk_at dksX1_isStrongLL2_0 10 rfl rfl)
theorem dX1_isStrongLL2_11 : decode cX1_isStrongLL2 11 = .ok (.goto 4, 3) := dk_167 0 4 (dk_at dksX1_isStrongLL2_0 11 rfl rfl)
theorem dX1_isStrongLL2_14 : decode cX1_isStrongLL2 14 = .ok (.iconst 0, 1) := dk_3 (dk_at dksX1_isStrongLL2_0 14 rfl rfl)
theorem dX1_isStrongLL2_15 : decode cX1_isStrongLL2 15 = .ok (.ireturn, 1) := dk_172 (dk_at dksX1_isStrongLL2_0 15 rfl rfl)
abbrev cX1_parseState : ByteArray := prog_1_method_41_code
def yX1_parseState : MethodName := ⟨RX1, "parseState", "()I"⟩
def dkwX1_parseState_0 : List UInt8 := [42, 180, 0, 43, 199, 0, 7, 3, 167, 0, 10, 42, 180, 0, 43, 180, 0, 207, 172]
abbrev dktX1_parseState_0 : List UInt8 := dkwX1_parseState_0 ++ []
theorem dksX1_parseState_0 : cX1_parseState.data.toList.drop 0 = dktX1_parseState_0 := by decide +kernel
theorem dX1_parseState_0 : decode cX1_parseState 0 = .ok (.aload_n 0, 1) := dk_42 (dk_at dksX1_parseState_0 0 rfl rfl)
theorem dX1_parseState_1 : decode cX1_parseState 1 = .ok (.getfield 43, 3) := dk_180 0 43 (dk_at dksX1_parseState_0 1 rfl rfl)
theorem dX1_parseState_4 : decode cX1_parseState 4 = .ok (.ifnonnull 7, 3) := dk_199 0 7 (dk_at dksX1_parseState_0 4 rfl rfl)
theorem dX1_parseState_7 : decode cX1_parseState 7 = .ok (.iconst 0, 1) := dk_3 (dk_at dksX1_parseState_0 7 rfl rfl)
theorem dX1_parseState_8 : decode cX1_parseState 8 = .ok (.goto 10, 3) := dk_167 0 10 (dk_at dksX1_parseState_0 8 rfl rfl)
theorem dX1_parseState_11 : decode cX1_parseState 11 = .ok (.aload_n 0, 1) := dk_42 (dk_at dksX1_parseState_0 11 rfl rfl)
theorem dX1_parseState_12 : decode cX1_parseState 12 = .ok (.getfield 43, 3) := dk_180 0 43 (dk_at dksX1_parseState_0 12 rfl rfl)
theorem dX1_parseState_15 : decode cX1_parseState 15 = .ok (.getfield 207, 3) := dk_180 0 207 (dk_at dksX1_parseState_0 15 rfl rfl)
theorem dX1_parseState_18 : decode cX1_parseState 18 = .ok (.ireturn, 1) := dk_172 (dk_at dksX1_parseState_0 18 rfl rfl)
abbrev cX1_tokenCount : ByteArray := prog_1_method_42_code
def yX1_tokenCount : MethodName := ⟨RX1, "tokenCount", "()I"⟩
def dkwX1_tokenCount_0 : List UInt8 := [42, 180, 0, 43, 199, 0, 7, 3, 167, 0, 15, 42, 180, 0, 43, 180, 0, 210, 185, 0, 54, 1, 0, 172]
abbrev dktX1_tokenCount_0 : List UInt8 := dkwX1_tokenCount_0 ++ []
theorem dksX1_tokenCount_0 : cX1_tokenCount.data.toList.drop 0 = dktX1_tokenCount_0 := by decide +kernel
theorem dX1_tokenCount_0 : decode cX1_tokenCount 0 = .ok (.aload_n 0, 1) := dk_42 (dk_at dksX1_tokenCount_0 0 rfl rfl)
theorem dX1_tokenCount_1 : decode cX1_tokenCount 1 = .ok (.getfield 43, 3) := dk_180 0 43 (dk_at dksX1_tokenCount_0 1 rfl rfl)
theorem dX1_tokenCount_4 : decode cX1_tokenCount 4 = .ok (.ifnonnull 7, 3) := dk_199 0 7 (dk_at dksX1_tokenCount_0 4 rfl rfl)
theorem dX1_tokenCount_7 : decode cX1_tokenCount 7 = .ok (.iconst 0, 1) := dk_3 (dk_at dksX1_tokenCount_0 7 rfl rfl)
theorem dX1_tokenCount_8 : decode cX1_tokenCount 8 = .ok (.goto 15, 3) := dk_167 0 15 (dk_at dksX1_tokenCount_0 8 rfl rfl)
theorem dX1_tokenCount_11 : decode cX1_tokenCount 11 = .ok (.aload_n 0, 1) := dk_42 (dk_at dksX1_tokenCount_0 11 rfl rfl)
theorem dX1_tokenCount_12 : decode cX1_tokenCount 12 = .ok (.getfield 43, 3) := dk_180 0 43 (dk_at dksX1_tokenCount_0 12 rfl rfl)
theorem dX1_tokenCount_15 : decode cX1_tokenCount 15 = .ok (.getfield 210, 3) := dk_180 0 210 (dk_at dksX1_tokenCount_0 15 rfl rfl)
theorem dX1_tokenCount_18 : decode cX1_tokenCount 18 = .ok (.invokeinterface 54 1, 5) := by decide +kernel
theorem dX1_tokenCount_23 : decode cX1_tokenCount 23 = .ok (.ireturn, 1) := dk_172 (dk_at dksX1_tokenCount_0 23 rfl rfl)
abbrev cX1_stackDepth : ByteArray := prog_1_method_43_code
def yX1_stackDepth : MethodName := ⟨RX1, "stackDepth", "()I"⟩
def dkwX1_stackDepth_0 : List UInt8 := [42, 180, 0, 43, 199, 0, 7, 3, 167, 0, 13, 42, 180, 0, 43, 180, 0, 216, 182, 0, 220, 172]
abbrev dktX1_stackDepth_0 : List UInt8 := dkwX1_stackDepth_0 ++ []
theorem dksX1_stackDepth_0 : cX1_stackDepth.data.toList.drop 0 = dktX1_stackDepth_0 := by decide +kernel
theorem dX1_stackDepth_0 : decode cX1_stackDepth 0 = .ok (.aload_n 0, 1) := dk_42 (dk_at dksX1_stackDepth_0 0 rfl rfl)
theorem dX1_stackDepth_1 : decode cX1_stackDepth 1 = .ok (.getfield 43, 3) := dk_180 0 43 (dk_at dksX1_stackDepth_0 1 rfl rfl)
theorem dX1_stackDepth_4 : decode cX1_stackDepth 4 = .ok (.ifnonnull 7, 3) := dk_199 0 7 (dk_at dksX1_stackDepth_0 4 rfl rfl)
theorem dX1_stackDepth_7 : decode cX1_stackDepth 7 = .ok (.iconst 0, 1) := dk_3 (dk_at dksX1_stackDepth_0 7 rfl rfl)
theorem dX1_stackDepth_8 : decode cX1_stackDepth 8 = .ok (.goto 13, 3) := dk_167 0 13 (dk_at dksX1_stackDepth_0 8 rfl rfl)
theorem dX1_stackDepth_11 : decode cX1_stackDepth 11 = .ok (.aload_n 0, 1) := dk_42 (dk_at dksX1_stackDepth_0 11 rfl rfl)
theorem dX1_stackDepth_12 : decode cX1_stackDepth 12 = .ok (.getfield 43, 3) := dk_180 0 43 (dk_at dksX1_stackDepth_0 12 rfl rfl)
theorem dX1_stackDepth_15 : decode cX1_stackDepth 15 = .ok (.getfield 216, 3) := dk_180 0 216 (dk_at dksX1_stackDepth_0 15 rfl rfl)
theorem dX1_stackDepth_18 : decode cX1_stackDepth 18 = .ok (.invokevirtual 220, 3) := dk_182 0 220 (dk_at dksX1_stackDepth_0 18 rfl rfl)
theorem dX1_stackDepth_21 : decode cX1_stackDepth 21 = .ok (.ireturn, 1) := dk_172 (dk_at dksX1_stackDepth_0 21 rfl rfl)
abbrev cX1_stackAt : ByteArray := prog_1_method_44_code
def yX1_stackAt : MethodName := ⟨RX1, "stackAt", "(I)I"⟩
def dkwX1_stackAt_2 : List UInt8 := [54, 4, 132, 3, 1, 167, 255, 234, 44, 185, 0, 230, 1, 0, 192, 0, 236, 182, 0, 238, 172]
abbrev dktX1_stackAt_2 : List UInt8 := dkwX1_stackAt_2 ++ []
def dkwX1_stackAt_1 : List UInt8 := [182, 0, 226, 77, 3, 62, 29, 27, 162, 0, 23, 44, 185, 0, 230, 1, 0, 192, 0, 236, 182, 0, 238]
abbrev dktX1_stackAt_1 : List UInt8 := dkwX1_stackAt_1 ++ dktX1_stackAt_2
def dkwX1_stackAt_0 : List UInt8 := [27, 3, 42, 182, 0, 223, 4, 100, 184, 0, 3, 154, 0, 5, 2, 172, 42, 180, 0, 43, 180, 0, 216]
abbrev dktX1_stackAt_0 : List UInt8 := dkwX1_stackAt_0 ++ dktX1_stackAt_1
theorem dksX1_stackAt_0 : cX1_stackAt.data.toList.drop 0 = dktX1_stackAt_0 := by decide +kernel
theorem dksX1_stackAt_1 : cX1_stackAt.data.toList.drop 23 = dktX1_stackAt_1 := dk_seg dksX1_stackAt_0 23 rfl rfl
theorem dksX1_stackAt_2 : cX1_stackAt.data.toList.drop 46 = dktX1_stackAt_2 := dk_seg dksX1_stackAt_1 23 rfl rfl
theorem dX1_stackAt_0 : decode cX1_stackAt 0 = .ok (.iload_n 1, 1) := dk_27 (dk_at dksX1_stackAt_0 0 rfl rfl)
theorem dX1_stackAt_1 : decode cX1_stackAt 1 = .ok (.iconst 0, 1) := dk_3 (dk_at dksX1_stackAt_0 1 rfl rfl)
theorem dX1_stackAt_2 : decode cX1_stackAt 2 = .ok (.aload_n 0, 1) := dk_42 (dk_at dksX1_stackAt_0 2 rfl rfl)
theorem dX1_stackAt_3 : decode cX1_stackAt 3 = .ok (.invokevirtual 223, 3) := dk_182 0 223 (dk_at dksX1_stackAt_0 3 rfl rfl)
theorem dX1_stackAt_6 : decode cX1_stackAt 6 = .ok (.iconst 1, 1) := dk_4 (dk_at dksX1_stackAt_0 6 rfl rfl)
theorem dX1_stackAt_7 : decode cX1_stackAt 7 = .ok (.isub, 1) := dk_100 (dk_at dksX1_stackAt_0 7 rfl rfl)
theorem dX1_stackAt_8 : decode cX1_stackAt 8 = .ok (.invokestatic 3, 3) := dk_184 0 3 (dk_at dksX1_stackAt_0 8 rfl rfl)
theorem dX1_stackAt_11 : decode cX1_stackAt 11 = .ok (.ifCond .ne 5, 3) := dk_154 0 5 (dk_at dksX1_stackAt_0 11 rfl rfl)
theorem dX1_stackAt_14 : decode cX1_stackAt 14 = .ok (.iconst (-1), 1) := dk_2 (dk_at dksX1_stackAt_0 14 rfl rfl)
theorem dX1_stackAt_15 : decode cX1_stackAt 15 = .ok (.ireturn, 1) := dk_172 (dk_at dksX1_stackAt_0 15 rfl rfl)
theorem dX1_stackAt_16 : decode cX1_stackAt 16 = .ok (.aload_n 0, 1) := dk_42 (dk_at dksX1_stackAt_0 16 rfl rfl)
theorem dX1_stackAt_17 : decode cX1_stackAt 17 = .ok (.getfield 43, 3) := dk_180 0 43 (dk_at dksX1_stackAt_0 17 rfl rfl)
theorem dX1_stackAt_20 : decode cX1_stackAt 20 = .ok (.getfield 216, 3) := dk_180 0 216 (dk_at dksX1_stackAt_0 20 rfl rfl)
theorem dX1_stackAt_23 : decode cX1_stackAt 23 = .ok (.invokevirtual 226, 3) := dk_182 0 226 (dk_at dksX1_stackAt_1 0 rfl rfl)
theorem dX1_stackAt_26 : decode cX1_stackAt 26 = .ok (.astore_n 2, 1) := dk_77 (dk_at dksX1_stackAt_1 3 rfl rfl)
theorem dX1_stackAt_27 : decode cX1_stackAt 27 = .ok (.iconst 0, 1) := dk_3 (dk_at dksX1_stackAt_1 4 rfl rfl)
theorem dX1_stackAt_28 : decode cX1_stackAt 28 = .ok (.istore_n 3, 1) := dk_62 (dk_at dksX1_stackAt_1 5 rfl rfl)
theorem dX1_stackAt_29 : decode cX1_stackAt 29 = .ok (.iload_n 3, 1) := dk_29 (dk_at dksX1_stackAt_1 6 rfl rfl)
theorem dX1_stackAt_30 : decode cX1_stackAt 30 = .ok (.iload_n 1, 1) := dk_27 (dk_at dksX1_stackAt_1 7 rfl rfl)
theorem dX1_stackAt_31 : decode cX1_stackAt 31 = .ok (.if_icmp .ge 23, 3) := dk_162 0 23 (dk_at dksX1_stackAt_1 8 rfl rfl)
theorem dX1_stackAt_34 : decode cX1_stackAt 34 = .ok (.aload_n 2, 1) := dk_44 (dk_at dksX1_stackAt_1 11 rfl rfl)
theorem dX1_stackAt_35 : decode cX1_stackAt 35 = .ok (.invokeinterface 230 1, 5) := by decide +kernel
theorem dX1_stackAt_40 : decode cX1_stackAt 40 = .ok (.checkcast 236, 3) := dk_192 0 236 (dk_at dksX1_stackAt_1 17 rfl rfl)
theorem dX1_stackAt_43 : decode cX1_stackAt 43 = .ok (.invokevirtual 238, 3) := dk_182 0 238 (dk_at dksX1_stackAt_1 20 rfl rfl)
theorem dX1_stackAt_46 : decode cX1_stackAt 46 = .ok (.istore 4, 2) := dk_54 4 (dk_at dksX1_stackAt_2 0 rfl rfl)
theorem dX1_stackAt_48 : decode cX1_stackAt 48 = .ok (.iinc 3 1, 3) := dk_132 3 1 (dk_at dksX1_stackAt_2 2 rfl rfl)
theorem dX1_stackAt_51 : decode cX1_stackAt 51 = .ok (.goto (-22), 3) := dk_167 255 234 (dk_at dksX1_stackAt_2 5 rfl rfl)
theorem dX1_stackAt_54 : decode cX1_stackAt 54 = .ok (.aload_n 2, 1) := dk_44 (dk_at dksX1_stackAt_2 8 rfl rfl)
theorem dX1_stackAt_55 : decode cX1_stackAt 55 = .ok (.invokeinterface 230 1, 5) := by decide +kernel
theorem dX1_stackAt_60 : decode cX1_stackAt 60 = .ok (.checkcast 236, 3) := dk_192 0 236 (dk_at dksX1_stackAt_2 14 rfl rfl)
theorem dX1_stackAt_63 : decode cX1_stackAt 63 = .ok (.invokevirtual 238, 3) := dk_182 0 238 (dk_at dksX1_stackAt_2 17 rfl rfl)
theorem dX1_stackAt_66 : decode cX1_stackAt 66 = .ok (.ireturn, 1) := dk_172 (dk_at dksX1_stackAt_2 20 rfl rfl)
abbrev cX1_expected : ByteArray := prog_1_method_45_code
def yX1_expected : MethodName := ⟨RX1, "expected", "()I"⟩
def dkwX1_expected_0 : List UInt8 := [42, 180, 0, 43, 199, 0, 7, 3, 167, 0, 10, 42, 180, 0, 43, 182, 0, 241, 172]
abbrev dktX1_expected_0 : List UInt8 := dkwX1_expected_0 ++ []
theorem dksX1_expected_0 : cX1_expected.data.toList.drop 0 = dktX1_expected_0 := by decide +kernel
theorem dX1_expected_0 : decode cX1_expected 0 = .ok (.aload_n 0, 1) := dk_42 (dk_at dksX1_expected_0 0 rfl rfl)
theorem dX1_expected_1 : decode cX1_expected 1 = .ok (.getfield 43, 3) := dk_180 0 43 (dk_at dksX1_expected_0 1 rfl rfl)
theorem dX1_expected_4 : decode cX1_expected 4 = .ok (.ifnonnull 7, 3) := dk_199 0 7 (dk_at dksX1_expected_0 4 rfl rfl)
theorem dX1_expected_7 : decode cX1_expected 7 = .ok (.iconst 0, 1) := dk_3 (dk_at dksX1_expected_0 7 rfl rfl)
theorem dX1_expected_8 : decode cX1_expected 8 = .ok (.goto 10, 3) := dk_167 0 10 (dk_at dksX1_expected_0 8 rfl rfl)
theorem dX1_expected_11 : decode cX1_expected 11 = .ok (.aload_n 0, 1) := dk_42 (dk_at dksX1_expected_0 11 rfl rfl)
theorem dX1_expected_12 : decode cX1_expected 12 = .ok (.getfield 43, 3) := dk_180 0 43 (dk_at dksX1_expected_0 12 rfl rfl)
theorem dX1_expected_15 : decode cX1_expected 15 = .ok (.invokevirtual 241, 3) := dk_182 0 241 (dk_at dksX1_expected_0 15 rfl rfl)
theorem dX1_expected_18 : decode cX1_expected 18 = .ok (.ireturn, 1) := dk_172 (dk_at dksX1_expected_0 18 rfl rfl)
abbrev cX1_appliedCount : ByteArray := prog_1_method_46_code
def yX1_appliedCount : MethodName := ⟨RX1, "appliedCount", "()I"⟩
def dkwX1_appliedCount_0 : List UInt8 := [42, 180, 0, 43, 199, 0, 7, 3, 167, 0, 15, 42, 180, 0, 43, 180, 0, 244, 185, 0, 54, 1, 0, 172]
abbrev dktX1_appliedCount_0 : List UInt8 := dkwX1_appliedCount_0 ++ []
theorem dksX1_appliedCount_0 : cX1_appliedCount.data.toList.drop 0 = dktX1_appliedCount_0 := by decide +kernel
theorem dX1_appliedCount_0 : decode cX1_appliedCount 0 = .ok (.aload_n 0, 1) := dk_42 (dk_at dksX1_appliedCount_0 0 rfl rfl)
theorem dX1_appliedCount_1 : decode cX1_appliedCount 1 = .ok (.getfield 43, 3) := dk_180 0 43 (dk_at dksX1_appliedCount_0 1 rfl rfl)
theorem dX1_appliedCount_4 : decode cX1_appliedCount 4 = .ok (.ifnonnull 7, 3) := dk_199 0 7 (dk_at dksX1_appliedCount_0 4 rfl rfl)
theorem dX1_appliedCount_7 : decode cX1_appliedCount 7 = .ok (.iconst 0, 1) := dk_3 (dk_at dksX1_appliedCount_0 7 rfl rfl)
theorem dX1_appliedCount_8 : decode cX1_appliedCount 8 = .ok (.goto 15, 3) := dk_167 0 15 (dk_at dksX1_appliedCount_0 8 rfl rfl)
theorem dX1_appliedCount_11 : decode cX1_appliedCount 11 = .ok (.aload_n 0, 1) := dk_42 (dk_at dksX1_appliedCount_0 11 rfl rfl)
theorem dX1_appliedCount_12 : decode cX1_appliedCount 12 = .ok (.getfield 43, 3) := dk_180 0 43 (dk_at dksX1_appliedCount_0 12 rfl rfl)
theorem dX1_appliedCount_15 : decode cX1_appliedCount 15 = .ok (.getfield 244, 3) := dk_180 0 244 (dk_at dksX1_appliedCount_0 15 rfl rfl)
theorem dX1_appliedCount_18 : decode cX1_appliedCount 18 = .ok (.invokeinterface 54 1, 5) := by decide +kernel
theorem dX1_appliedCount_23 : decode cX1_appliedCount 23 = .ok (.ireturn, 1) := dk_172 (dk_at dksX1_appliedCount_0 23 rfl rfl)
abbrev cX1_appliedRule : ByteArray := prog_1_method_47_code
def yX1_appliedRule : MethodName := ⟨RX1, "appliedRule", "(I)I"⟩
def dkwX1_appliedRule_1 : List UInt8 := [185, 0, 64, 2, 0, 192, 0, 236, 182, 0, 238, 167, 0, 4, 2, 172]
abbrev dktX1_appliedRule_1 : List UInt8 := dkwX1_appliedRule_1 ++ []
def dkwX1_appliedRule_0 : List UInt8 := [27, 3, 42, 182, 0, 247, 4, 100, 184, 0, 3, 153, 0, 25, 42, 180, 0, 43, 180, 0, 244, 27]
abbrev dktX1_appliedRule_0 : List UInt8 := dkwX1_appliedRule_0 ++ dktX1_appliedRule_1
theorem dksX1_appliedRule_0 : cX1_appliedRule.data.toList.drop 0 = dktX1_appliedRule_0 := by decide +kernel
theorem dksX1_appliedRule_1 : cX1_appliedRule.data.toList.drop 22 = dktX1_appliedRule_1 := dk_seg dksX1_appliedRule_0 22 rfl rfl
theorem dX1_appliedRule_0 : decode cX1_appliedRule 0 = .ok (.iload_n 1, 1) := dk_27 (dk_at dksX1_appliedRule_0 0 rfl rfl)
theorem dX1_appliedRule_1 : decode cX1_appliedRule 1 = .ok (.iconst 0, 1) := dk_3 (dk_at dksX1_appliedRule_0 1 rfl rfl)
theorem dX1_appliedRule_2 : decode cX1_appliedRule 2 = .ok (.aload_n 0, 1) := dk_42 (dk_at dksX1_appliedRule_0 2 rfl rfl)
theorem dX1_appliedRule_3 : decode cX1_appliedRule 3 = .ok (.invokevirtual 247, 3) := dk_182 0 247 (dk_at dksX1_appliedRule_0 3 rfl rfl)
theorem dX1_appliedRule_6 : decode cX1_appliedRule 6 = .ok (.iconst 1, 1) := dk_4 (dk_at dksX1_appliedRule_0 6 rfl rfl)
theorem dX1_appliedRule_7 : decode cX1_appliedRule 7 = .ok (.isub, 1) := dk_100 (dk_at dksX1_appliedRule_0 7 rfl rfl)
theorem dX1_appliedRule_8 : decode cX1_appliedRule 8 = .ok (.invokestatic 3, 3) := dk_184 0 3 (dk_at dksX1_appliedRule_0 8 rfl rfl)
theorem dX1_appliedRule_11 : decode cX1_appliedRule 11 = .ok (.ifCond .eq 25, 3) := dk_153 0 25 (dk_at dksX1_appliedRule_0 11 rfl rfl)
theorem dX1_appliedRule_14 : decode cX1_appliedRule 14 = .ok (.aload_n 0, 1) := dk_42 (dk_at dksX1_appliedRule_0 14 rfl rfl)
theorem dX1_appliedRule_15 : decode cX1_appliedRule 15 = .ok (.getfield 43, 3) := dk_180 0 43 (dk_at dksX1_appliedRule_0 15 rfl rfl)
theorem dX1_appliedRule_18 : decode cX1_appliedRule 18 = .ok (.getfield 244, 3) := dk_180 0 244 (dk_at dksX1_appliedRule_0 18 rfl rfl)
theorem dX1_appliedRule_21 : decode cX1_appliedRule 21 = .ok (.iload_n 1, 1) := dk_27 (dk_at dksX1_appliedRule_0 21 rfl rfl)
theorem dX1_appliedRule_22 : decode cX1_appliedRule 22 = .ok (.invokeinterface 64 2, 5) := by decide +kernel
theorem dX1_appliedRule_27 : decode cX1_appliedRule 27 = .ok (.checkcast 236, 3) := dk_192 0 236 (dk_at dksX1_appliedRule_1 5 rfl rfl)
theorem dX1_appliedRule_30 : decode cX1_appliedRule 30 = .ok (.invokevirtual 238, 3) := dk_182 0 238 (dk_at dksX1_appliedRule_1 8 rfl rfl)
theorem dX1_appliedRule_33 : decode cX1_appliedRule 33 = .ok (.goto 4, 3) := dk_167 0 4 (dk_at dksX1_appliedRule_1 11 rfl rfl)
theorem dX1_appliedRule_36 : decode cX1_appliedRule 36 = .ok (.iconst (-1), 1) := dk_2 (dk_at dksX1_appliedRule_1 14 rfl rfl)
theorem dX1_appliedRule_37 : decode cX1_appliedRule 37 = .ok (.ireturn, 1) := dk_172 (dk_at dksX1_appliedRule_1 15 rfl rfl)
abbrev cX1_errorCount : ByteArray := prog_1_method_48_code
def yX1_errorCount : MethodName := ⟨RX1, "errorCount", "()I"⟩
def dkwX1_errorCount_0 : List UInt8 := [42, 180, 0, 43, 199, 0, 7, 3, 167, 0, 15, 42, 180, 0, 43, 180, 0, 250, 185, 0, 54, 1, 0, 172]
abbrev dktX1_errorCount_0 : List UInt8 := dkwX1_errorCount_0 ++ []
theorem dksX1_errorCount_0 : cX1_errorCount.data.toList.drop 0 = dktX1_errorCount_0 := by decide +kernel
theorem dX1_errorCount_0 : decode cX1_errorCount 0 = .ok (.aload_n 0, 1) := dk_42 (dk_at dksX1_errorCount_0 0 rfl rfl)
theorem dX1_errorCount_1 : decode cX1_errorCount 1 = .ok (.getfield 43, 3) := dk_180 0 43 (dk_at dksX1_errorCount_0 1 rfl rfl)
theorem dX1_errorCount_4 : decode cX1_errorCount 4 = .ok (.ifnonnull 7, 3) := dk_199 0 7 (dk_at dksX1_errorCount_0 4 rfl rfl)
theorem dX1_errorCount_7 : decode cX1_errorCount 7 = .ok (.iconst 0, 1) := dk_3 (dk_at dksX1_errorCount_0 7 rfl rfl)
theorem dX1_errorCount_8 : decode cX1_errorCount 8 = .ok (.goto 15, 3) := dk_167 0 15 (dk_at dksX1_errorCount_0 8 rfl rfl)
theorem dX1_errorCount_11 : decode cX1_errorCount 11 = .ok (.aload_n 0, 1) := dk_42 (dk_at dksX1_errorCount_0 11 rfl rfl)
theorem dX1_errorCount_12 : decode cX1_errorCount 12 = .ok (.getfield 43, 3) := dk_180 0 43 (dk_at dksX1_errorCount_0 12 rfl rfl)
theorem dX1_errorCount_15 : decode cX1_errorCount 15 = .ok (.getfield 250, 3) := dk_180 0 250 (dk_at dksX1_errorCount_0 15 rfl rfl)
theorem dX1_errorCount_18 : decode cX1_errorCount 18 = .ok (.invokeinterface 54 1, 5) := by decide +kernel
theorem dX1_errorCount_23 : decode cX1_errorCount 23 = .ok (.ireturn, 1) := dk_172 (dk_at dksX1_errorCount_0 23 rfl rfl)
abbrev cX1_disagreements : ByteArray := prog_1_method_55_code
def yX1_disagreements : MethodName := ⟨RX1, "disagreements", "()I"⟩
def dkwX1_disagreements_1 : List UInt8 := [182, 0, 253, 154, 0, 7, 4, 167, 0, 4, 3, 160, 0, 7, 3, 167, 0, 4, 4, 172]
abbrev dktX1_disagreements_1 : List UInt8 := dkwX1_disagreements_1 ++ []
def dkwX1_disagreements_0 : List UInt8 := [42, 182, 1, 26, 5, 160, 0, 10, 42, 182, 1, 15, 154, 0, 5, 3, 172, 42, 182, 1, 29, 42]
abbrev dktX1_disagreements_0 : List UInt8 := dkwX1_disagreements_0 ++ dktX1_disagreements_1
theorem dksX1_disagreements_0 : cX1_disagreements.data.toList.drop 0 = dktX1_disagreements_0 := by decide +kernel
theorem dksX1_disagreements_1 : cX1_disagreements.data.toList.drop 22 = dktX1_disagreements_1 := dk_seg dksX1_disagreements_0 22 rfl rfl
theorem dX1_disagreements_0 : decode cX1_disagreements 0 = .ok (.aload_n 0, 1) := dk_42 (dk_at dksX1_disagreements_0 0 rfl rfl)
theorem dX1_disagreements_1 : decode cX1_disagreements 1 = .ok (.invokevirtual 282, 3) := dk_182 1 26 (dk_at dksX1_disagreements_0 1 rfl rfl)
theorem dX1_disagreements_4 : decode cX1_disagreements 4 = .ok (.iconst 2, 1) := dk_5 (dk_at dksX1_disagreements_0 4 rfl rfl)
theorem dX1_disagreements_5 : decode cX1_disagreements 5 = .ok (.if_icmp .ne 10, 3) := dk_160 0 10 (dk_at dksX1_disagreements_0 5 rfl rfl)
theorem dX1_disagreements_8 : decode cX1_disagreements 8 = .ok (.aload_n 0, 1) := dk_42 (dk_at dksX1_disagreements_0 8 rfl rfl)
theorem dX1_disagreements_9 : decode cX1_disagreements 9 = .ok (.invokevirtual 271, 3) := dk_182 1 15 (dk_at dksX1_disagreements_0 9 rfl rfl)
theorem dX1_disagreements_12 : decode cX1_disagreements 12 = .ok (.ifCond .ne 5, 3) := dk_154 0 5 (dk_at dksX1_disagreements_0 12 rfl rfl)
theorem dX1_disagreements_15 : decode cX1_disagreements 15 = .ok (.iconst 0, 1) := dk_3 (dk_at dksX1_disagreements_0 15 rfl rfl)
theorem dX1_disagreements_16 : decode cX1_disagreements 16 = .ok (.ireturn, 1) := dk_172 (dk_at dksX1_disagreements_0 16 rfl rfl)
theorem dX1_disagreements_17 : decode cX1_disagreements 17 = .ok (.aload_n 0, 1) := dk_42 (dk_at dksX1_disagreements_0 17 rfl rfl)
theorem dX1_disagreements_18 : decode cX1_disagreements 18 = .ok (.invokevirtual 285, 3) := dk_182 1 29 (dk_at dksX1_disagreements_0 18 rfl rfl)
theorem dX1_disagreements_21 : decode cX1_disagreements 21 = .ok (.aload_n 0, 1) := dk_42 (dk_at dksX1_disagreements_0 21 rfl rfl)
theorem dX1_disagreements_22 : decode cX1_disagreements 22 = .ok (.invokevirtual 253, 3) := dk_182 0 253 (dk_at dksX1_disagreements_1 0 rfl rfl)
theorem dX1_disagreements_25 : decode cX1_disagreements 25 = .ok (.ifCond .ne 7, 3) := dk_154 0 7 (dk_at dksX1_disagreements_1 3 rfl rfl)
theorem dX1_disagreements_28 : decode cX1_disagreements 28 = .ok (.iconst 1, 1) := dk_4 (dk_at dksX1_disagreements_1 6 rfl rfl)
theorem dX1_disagreements_29 : decode cX1_disagreements 29 = .ok (.goto 4, 3) := dk_167 0 4 (dk_at dksX1_disagreements_1 7 rfl rfl)
theorem dX1_disagreements_32 : decode cX1_disagreements 32 = .ok (.iconst 0, 1) := dk_3 (dk_at dksX1_disagreements_1 10 rfl rfl)
theorem dX1_disagreements_33 : decode cX1_disagreements 33 = .ok (.if_icmp .ne 7, 3) := dk_160 0 7 (dk_at dksX1_disagreements_1 11 rfl rfl)
theorem dX1_disagreements_36 : decode cX1_disagreements 36 = .ok (.iconst 0, 1) := dk_3 (dk_at dksX1_disagreements_1 14 rfl rfl)
theorem dX1_disagreements_37 : decode cX1_disagreements 37 = .ok (.goto 4, 3) := dk_167 0 4 (dk_at dksX1_disagreements_1 15 rfl rfl)
theorem dX1_disagreements_40 : decode cX1_disagreements 40 = .ok (.iconst 1, 1) := dk_4 (dk_at dksX1_disagreements_1 18 rfl rfl)
theorem dX1_disagreements_41 : decode cX1_disagreements 41 = .ok (.ireturn, 1) := dk_172 (dk_at dksX1_disagreements_1 19 rfl rfl)
abbrev cX1_canCount : ByteArray := prog_1_method_53_code
def yX1_canCount : MethodName := ⟨RX1, "canCount", "()Z"⟩
def dkwX1_canCount_2 : List UInt8 := [132, 1, 1, 167, 255, 234, 4, 172]
abbrev dktX1_canCount_2 : List UInt8 := dkwX1_canCount_2 ++ []
def dkwX1_canCount_1 : List UInt8 := [3, 172, 3, 60, 27, 16, 12, 162, 0, 22, 42, 182, 0, 128, 27, 182, 0, 172, 153, 0, 5, 3, 172]
abbrev dktX1_canCount_1 : List UInt8 := dkwX1_canCount_1 ++ dktX1_canCount_2
def dkwX1_canCount_0 : List UInt8 := [42, 180, 0, 43, 198, 0, 20, 42, 180, 0, 43, 180, 0, 210, 185, 0, 54, 1, 0, 16, 16, 164, 0, 5]
abbrev dktX1_canCount_0 : List UInt8 := dkwX1_canCount_0 ++ dktX1_canCount_1
theorem dksX1_canCount_0 : cX1_canCount.data.toList.drop 0 = dktX1_canCount_0 := by decide +kernel
theorem dksX1_canCount_1 : cX1_canCount.data.toList.drop 24 = dktX1_canCount_1 := dk_seg dksX1_canCount_0 24 rfl rfl
theorem dksX1_canCount_2 : cX1_canCount.data.toList.drop 47 = dktX1_canCount_2 := dk_seg dksX1_canCount_1 23 rfl rfl
theorem dX1_canCount_0 : decode cX1_canCount 0 = .ok (.aload_n 0, 1) := dk_42 (dk_at dksX1_canCount_0 0 rfl rfl)
theorem dX1_canCount_1 : decode cX1_canCount 1 = .ok (.getfield 43, 3) := dk_180 0 43 (dk_at dksX1_canCount_0 1 rfl rfl)
theorem dX1_canCount_4 : decode cX1_canCount 4 = .ok (.ifnull 20, 3) := dk_198 0 20 (dk_at dksX1_canCount_0 4 rfl rfl)
theorem dX1_canCount_7 : decode cX1_canCount 7 = .ok (.aload_n 0, 1) := dk_42 (dk_at dksX1_canCount_0 7 rfl rfl)
theorem dX1_canCount_8 : decode cX1_canCount 8 = .ok (.getfield 43, 3) := dk_180 0 43 (dk_at dksX1_canCount_0 8 rfl rfl)
theorem dX1_canCount_11 : decode cX1_canCount 11 = .ok (.getfield 210, 3) := dk_180 0 210 (dk_at dksX1_canCount_0 11 rfl rfl)
theorem dX1_canCount_14 : decode cX1_canCount 14 = .ok (.invokeinterface 54 1, 5) := by decide +kernel
theorem dX1_canCount_19 : decode cX1_canCount 19 = .ok (.bipush 16, 2) := dk_16 16 (dk_at dksX1_canCount_0 19 rfl rfl)
theorem dX1_canCount_21 : decode cX1_canCount 21 = .ok (.if_icmp .le 5, 3) := dk_164 0 5 (dk_at dksX1_canCount_0 21 rfl rfl)
theorem dX1_canCount_24 : decode cX1_canCount 24 = .ok (.iconst 0, 1) := dk_3 (dk_at dksX1_canCount_1 0 rfl rfl)
theorem dX1_canCount_25 : decode cX1_canCount 25 = .ok (.ireturn, 1) := dk_172 (dk_at dksX1_canCount_1 1 rfl rfl)
theorem dX1_canCount_26 : decode cX1_canCount 26 = .ok (.iconst 0, 1) := dk_3 (dk_at dksX1_canCount_1 2 rfl rfl)
theorem dX1_canCount_27 : decode cX1_canCount 27 = .ok (.istore_n 1, 1) := dk_60 (dk_at dksX1_canCount_1 3 rfl rfl)
theorem dX1_canCount_28 : decode cX1_canCount 28 = .ok (.iload_n 1, 1) := dk_27 (dk_at dksX1_canCount_1 4 rfl rfl)
theorem dX1_canCount_29 : decode cX1_canCount 29 = .ok (.bipush 12, 2) := dk_16 12 (dk_at dksX1_canCount_1 5 rfl rfl)
theorem dX1_canCount_31 : decode cX1_canCount 31 = .ok (.if_icmp .ge 22, 3) := dk_162 0 22 (dk_at dksX1_canCount_1 7 rfl rfl)
theorem dX1_canCount_34 : decode cX1_canCount 34 = .ok (.aload_n 0, 1) := dk_42 (dk_at dksX1_canCount_1 10 rfl rfl)
theorem dX1_canCount_35 : decode cX1_canCount 35 = .ok (.invokevirtual 128, 3) := dk_182 0 128 (dk_at dksX1_canCount_1 11 rfl rfl)
theorem dX1_canCount_38 : decode cX1_canCount 38 = .ok (.iload_n 1, 1) := dk_27 (dk_at dksX1_canCount_1 14 rfl rfl)
theorem dX1_canCount_39 : decode cX1_canCount 39 = .ok (.invokevirtual 172, 3) := dk_182 0 172 (dk_at dksX1_canCount_1 15 rfl rfl)
theorem dX1_canCount_42 : decode cX1_canCount 42 = .ok (.ifCond .eq 5, 3) := dk_153 0 5 (dk_at dksX1_canCount_1 18 rfl rfl)
theorem dX1_canCount_45 : decode cX1_canCount 45 = .ok (.iconst 0, 1) := dk_3 (dk_at dksX1_canCount_1 21 rfl rfl)
theorem dX1_canCount_46 : decode cX1_canCount 46 = .ok (.ireturn, 1) := dk_172 (dk_at dksX1_canCount_1 22 rfl rfl)
theorem dX1_canCount_47 : decode cX1_canCount 47 = .ok (.iinc 1 1, 3) := dk_132 1 1 (dk_at dksX1_canCount_2 0 rfl rfl)
theorem dX1_canCount_50 : decode cX1_canCount 50 = .ok (.goto (-22), 3) := dk_167 255 234 (dk_at dksX1_canCount_2 3 rfl rfl)
theorem dX1_canCount_53 : decode cX1_canCount 53 = .ok (.iconst 1, 1) := dk_4 (dk_at dksX1_canCount_2 6 rfl rfl)
theorem dX1_canCount_54 : decode cX1_canCount 54 = .ok (.ireturn, 1) := dk_172 (dk_at dksX1_canCount_2 7 rfl rfl)
abbrev cX1_derivations : ByteArray := prog_1_method_54_code
def yX1_derivations : MethodName := ⟨RX1, "derivations", "()I"⟩
def dkwX1_derivations_1 : List UInt8 := [182, 1, 23, 172]
abbrev dktX1_derivations_1 : List UInt8 := dkwX1_derivations_1 ++ []
def dkwX1_derivations_0 : List UInt8 := [42, 182, 1, 15, 184, 0, 79, 187, 1, 18, 89, 42, 42, 180, 0, 43, 180, 0, 210, 183, 1, 20]
abbrev dktX1_derivations_0 : List UInt8 := dkwX1_derivations_0 ++ dktX1_derivations_1
theorem dksX1_derivations_0 : cX1_derivations.data.toList.drop 0 = dktX1_derivations_0 := by decide +kernel
theorem dksX1_derivations_1 : cX1_derivations.data.toList.drop 22 = dktX1_derivations_1 := dk_seg dksX1_derivations_0 22 rfl rfl
theorem dX1_derivations_0 : decode cX1_derivations 0 = .ok (.aload_n 0, 1) := dk_42 (dk_at dksX1_derivations_0 0 rfl rfl)
theorem dX1_derivations_1 : decode cX1_derivations 1 = .ok (.invokevirtual 271, 3) := dk_182 1 15 (dk_at dksX1_derivations_0 1 rfl rfl)
theorem dX1_derivations_4 : decode cX1_derivations 4 = .ok (.invokestatic 79, 3) := dk_184 0 79 (dk_at dksX1_derivations_0 4 rfl rfl)
theorem dX1_derivations_7 : decode cX1_derivations 7 = .ok (.new 274, 3) := dk_187 1 18 (dk_at dksX1_derivations_0 7 rfl rfl)
theorem dX1_derivations_10 : decode cX1_derivations 10 = .ok (.dup, 1) := dk_89 (dk_at dksX1_derivations_0 10 rfl rfl)
theorem dX1_derivations_11 : decode cX1_derivations 11 = .ok (.aload_n 0, 1) := dk_42 (dk_at dksX1_derivations_0 11 rfl rfl)
theorem dX1_derivations_12 : decode cX1_derivations 12 = .ok (.aload_n 0, 1) := dk_42 (dk_at dksX1_derivations_0 12 rfl rfl)
theorem dX1_derivations_13 : decode cX1_derivations 13 = .ok (.getfield 43, 3) := dk_180 0 43 (dk_at dksX1_derivations_0 13 rfl rfl)
theorem dX1_derivations_16 : decode cX1_derivations 16 = .ok (.getfield 210, 3) := dk_180 0 210 (dk_at dksX1_derivations_0 16 rfl rfl)
theorem dX1_derivations_19 : decode cX1_derivations 19 = .ok (.invokespecial 276, 3) := dk_183 1 20 (dk_at dksX1_derivations_0 19 rfl rfl)
theorem dX1_derivations_22 : decode cX1_derivations 22 = .ok (.invokevirtual 279, 3) := dk_182 1 23 (dk_at dksX1_derivations_1 0 rfl rfl)
theorem dX1_derivations_25 : decode cX1_derivations 25 = .ok (.ireturn, 1) := dk_172 (dk_at dksX1_derivations_1 3 rfl rfl)
abbrev cX1_may : ByteArray := prog_1_method_13_code
def yX1_may : MethodName := ⟨RX1, "may", "(Z)V"⟩
def dkwX1_may_0 : List UInt8 := [26, 154, 0, 11, 187, 0, 73, 89, 183, 0, 75, 191, 177]
abbrev dktX1_may_0 : List UInt8 := dkwX1_may_0 ++ []
theorem dksX1_may_0 : cX1_may.data.toList.drop 0 = dktX1_may_0 := by decide +kernel
theorem dX1_may_0 : decode cX1_may 0 = .ok (.iload_n 0, 1) := dk_26 (dk_at dksX1_may_0 0 rfl rfl)
theorem dX1_may_1 : decode cX1_may 1 = .ok (.ifCond .ne 11, 3) := dk_154 0 11 (dk_at dksX1_may_0 1 rfl rfl)
theorem dX1_may_4 : decode cX1_may 4 = .ok (.new 73, 3) := dk_187 0 73 (dk_at dksX1_may_0 4 rfl rfl)
theorem dX1_may_7 : decode cX1_may 7 = .ok (.dup, 1) := dk_89 (dk_at dksX1_may_0 7 rfl rfl)
theorem dX1_may_8 : decode cX1_may 8 = .ok (.invokespecial 75, 3) := dk_183 0 75 (dk_at dksX1_may_0 8 rfl rfl)
theorem dX1_may_11 : decode cX1_may 11 = .ok (.athrow, 1) := dk_191 (dk_at dksX1_may_0 11 rfl rfl)
theorem dX1_may_12 : decode cX1_may 12 = .ok (.return_, 1) := dk_177 (dk_at dksX1_may_0 12 rfl rfl)
abbrev cX1_meanLength : ByteArray := prog_1_method_56_code
def yX1_meanLength : MethodName := ⟨RX1, "meanLength", "()D"⟩
def dkwX1_meanLength_3 : List UInt8 := [111, 175]
abbrev dktX1_meanLength_3 : List UInt8 := dkwX1_meanLength_3 ++ []
def dkwX1_meanLength_2 : List UInt8 := [185, 0, 192, 1, 0, 153, 0, 7, 14, 167, 0, 16, 27, 135, 42, 180, 0, 16, 185, 0, 54, 1, 0, 135]
abbrev dktX1_meanLength_2 : List UInt8 := dkwX1_meanLength_2 ++ dktX1_meanLength_3
def dkwX1_meanLength_1 : List UInt8 := [185, 0, 230, 1, 0, 192, 0, 68, 78, 27, 45, 180, 0, 104, 190, 96, 60, 167, 255, 229, 42, 180, 0, 16]
abbrev dktX1_meanLength_1 : List UInt8 := dkwX1_meanLength_1 ++ dktX1_meanLength_2
def dkwX1_meanLength_0 : List UInt8 := [3, 60, 42, 180, 0, 16, 185, 1, 32, 1, 0, 77, 44, 185, 1, 33, 1, 0, 153, 0, 24, 44]
abbrev dktX1_meanLength_0 : List UInt8 := dkwX1_meanLength_0 ++ dktX1_meanLength_1
theorem dksX1_meanLength_0 : cX1_meanLength.data.toList.drop 0 = dktX1_meanLength_0 := by decide +kernel
theorem dksX1_meanLength_1 : cX1_meanLength.data.toList.drop 22 = dktX1_meanLength_1 := dk_seg dksX1_meanLength_0 22 rfl rfl
theorem dksX1_meanLength_2 : cX1_meanLength.data.toList.drop 46 = dktX1_meanLength_2 := dk_seg dksX1_meanLength_1 24 rfl rfl
theorem dksX1_meanLength_3 : cX1_meanLength.data.toList.drop 70 = dktX1_meanLength_3 := dk_seg dksX1_meanLength_2 24 rfl rfl
theorem dX1_meanLength_0 : decode cX1_meanLength 0 = .ok (.iconst 0, 1) := dk_3 (dk_at dksX1_meanLength_0 0 rfl rfl)
theorem dX1_meanLength_1 : decode cX1_meanLength 1 = .ok (.istore_n 1, 1) := dk_60 (dk_at dksX1_meanLength_0 1 rfl rfl)
theorem dX1_meanLength_2 : decode cX1_meanLength 2 = .ok (.aload_n 0, 1) := dk_42 (dk_at dksX1_meanLength_0 2 rfl rfl)
theorem dX1_meanLength_3 : decode cX1_meanLength 3 = .ok (.getfield 16, 3) := dk_180 0 16 (dk_at dksX1_meanLength_0 3 rfl rfl)
theorem dX1_meanLength_6 : decode cX1_meanLength 6 = .ok (.invokeinterface 288 1, 5) := by decide +kernel
theorem dX1_meanLength_11 : decode cX1_meanLength 11 = .ok (.astore_n 2, 1) := dk_77 (dk_at dksX1_meanLength_0 11 rfl rfl)
theorem dX1_meanLength_12 : decode cX1_meanLength 12 = .ok (.aload_n 2, 1) := dk_44 (dk_at dksX1_meanLength_0 12 rfl rfl)
theorem dX1_meanLength_13 : decode cX1_meanLength 13 = .ok (.invokeinterface 289 1, 5) := by decide +kernel
theorem dX1_meanLength_18 : decode cX1_meanLength 18 = .ok (.ifCond .eq 24, 3) := dk_153 0 24 (dk_at dksX1_meanLength_0 18 rfl rfl)
theorem dX1_meanLength_21 : decode cX1_meanLength 21 = .ok (.aload_n 2, 1) := dk_44 (dk_at dksX1_meanLength_0 21 rfl rfl)
theorem dX1_meanLength_22 : decode cX1_meanLength 22 = .ok (.invokeinterface 230 1, 5) := by decide +kernel
theorem dX1_meanLength_27 : decode cX1_meanLength 27 = .ok (.checkcast 68, 3) := dk_192 0 68 (dk_at dksX1_meanLength_1 5 rfl rfl)
theorem dX1_meanLength_30 : decode cX1_meanLength 30 = .ok (.astore_n 3, 1) := dk_78 (dk_at dksX1_meanLength_1 8 rfl rfl)
theorem dX1_meanLength_31 : decode cX1_meanLength 31 = .ok (.iload_n 1, 1) := dk_27 (dk_at dksX1_meanLength_1 9 rfl rfl)
theorem dX1_meanLength_32 : decode cX1_meanLength 32 = .ok (.aload_n 3, 1) := dk_45 (dk_at dksX1_meanLength_1 10 rfl rfl)
theorem dX1_meanLength_33 : decode cX1_meanLength 33 = .ok (.getfield 104, 3) := dk_180 0 104 (dk_at dksX1_meanLength_1 11 rfl rfl)
theorem dX1_meanLength_36 : decode cX1_meanLength 36 = .ok (.arraylength, 1) := dk_190 (dk_at dksX1_meanLength_1 14 rfl rfl)
theorem dX1_meanLength_37 : decode cX1_meanLength 37 = .ok (.iadd, 1) := dk_96 (dk_at dksX1_meanLength_1 15 rfl rfl)
theorem dX1_meanLength_38 : decode cX1_meanLength 38 = .ok (.istore_n 1, 1) := dk_60 (dk_at dksX1_meanLength_1 16 rfl rfl)
theorem dX1_meanLength_39 : decode cX1_meanLength 39 = .ok (.goto (-27), 3) := dk_167 255 229 (dk_at dksX1_meanLength_1 17 rfl rfl)
theorem dX1_meanLength_42 : decode cX1_meanLength 42 = .ok (.aload_n 0, 1) := dk_42 (dk_at dksX1_meanLength_1 20 rfl rfl)
theorem dX1_meanLength_43 : decode cX1_meanLength 43 = .ok (.getfield 16, 3) := dk_180 0 16 (dk_at dksX1_meanLength_1 21 rfl rfl)
theorem dX1_meanLength_46 : decode cX1_meanLength 46 = .ok (.invokeinterface 192 1, 5) := by decide +kernel
theorem dX1_meanLength_51 : decode cX1_meanLength 51 = .ok (.ifCond .eq 7, 3) := dk_153 0 7 (dk_at dksX1_meanLength_2 5 rfl rfl)
theorem dX1_meanLength_54 : decode cX1_meanLength 54 = .ok (.dconst 0, 1) := dk_14 (dk_at dksX1_meanLength_2 8 rfl rfl)
theorem dX1_meanLength_55 : decode cX1_meanLength 55 = .ok (.goto 16, 3) := dk_167 0 16 (dk_at dksX1_meanLength_2 9 rfl rfl)
theorem dX1_meanLength_58 : decode cX1_meanLength 58 = .ok (.iload_n 1, 1) := dk_27 (dk_at dksX1_meanLength_2 12 rfl rfl)
theorem dX1_meanLength_59 : decode cX1_meanLength 59 = .ok (.i2d, 1) := dk_135 (dk_at dksX1_meanLength_2 13 rfl rfl)
theorem dX1_meanLength_60 : decode cX1_meanLength 60 = .ok (.aload_n 0, 1) := dk_42 (dk_at dksX1_meanLength_2 14 rfl rfl)
theorem dX1_meanLength_61 : decode cX1_meanLength 61 = .ok (.getfield 16, 3) := dk_180 0 16 (dk_at dksX1_meanLength_2 15 rfl rfl)
theorem dX1_meanLength_64 : decode cX1_meanLength 64 = .ok (.invokeinterface 54 1, 5) := by decide +kernel
theorem dX1_meanLength_69 : decode cX1_meanLength 69 = .ok (.i2d, 1) := dk_135 (dk_at dksX1_meanLength_2 23 rfl rfl)
theorem dX1_meanLength_70 : decode cX1_meanLength 70 = .ok (.ddiv, 1) := dk_111 (dk_at dksX1_meanLength_3 0 rfl rfl)
theorem dX1_meanLength_71 : decode cX1_meanLength 71 = .ok (.dreturn, 1) := dk_175 (dk_at dksX1_meanLength_3 1 rfl rfl)
abbrev cX1_tableShare : ByteArray := prog_1_method_57_code
def yX1_tableShare : MethodName := ⟨RX1, "tableShare", "()F"⟩
def dkwX1_tableShare_3 : List UInt8 := [184, 1, 43, 104, 134, 110, 174]
abbrev dktX1_tableShare_3 : List UInt8 := dkwX1_tableShare_3 ++ []
def dkwX1_tableShare_2 : List UInt8 := [27, 154, 0, 7, 11, 167, 0, 25, 42, 182, 0, 128, 180, 1, 36, 185, 1, 40, 1, 0, 134, 16, 13, 27]
abbrev dktX1_tableShare_2 : List UInt8 := dkwX1_tableShare_2 ++ dktX1_tableShare_3
def dkwX1_tableShare_1 : List UInt8 := [185, 0, 230, 1, 0, 192, 0, 68, 78, 27, 4, 45, 180, 0, 118, 16, 20, 100, 120, 128, 60, 167, 255, 225]
abbrev dktX1_tableShare_1 : List UInt8 := dkwX1_tableShare_1 ++ dktX1_tableShare_2
def dkwX1_tableShare_0 : List UInt8 := [3, 60, 42, 180, 0, 16, 185, 1, 32, 1, 0, 77, 44, 185, 1, 33, 1, 0, 153, 0, 28, 44]
abbrev dktX1_tableShare_0 : List UInt8 := dkwX1_tableShare_0 ++ dktX1_tableShare_1
theorem dksX1_tableShare_0 : cX1_tableShare.data.toList.drop 0 = dktX1_tableShare_0 := by decide +kernel
theorem dksX1_tableShare_1 : cX1_tableShare.data.toList.drop 22 = dktX1_tableShare_1 := dk_seg dksX1_tableShare_0 22 rfl rfl
theorem dksX1_tableShare_2 : cX1_tableShare.data.toList.drop 46 = dktX1_tableShare_2 := dk_seg dksX1_tableShare_1 24 rfl rfl
theorem dksX1_tableShare_3 : cX1_tableShare.data.toList.drop 70 = dktX1_tableShare_3 := dk_seg dksX1_tableShare_2 24 rfl rfl
theorem dX1_tableShare_0 : decode cX1_tableShare 0 = .ok (.iconst 0, 1) := dk_3 (dk_at dksX1_tableShare_0 0 rfl rfl)
theorem dX1_tableShare_1 : decode cX1_tableShare 1 = .ok (.istore_n 1, 1) := dk_60 (dk_at dksX1_tableShare_0 1 rfl rfl)
theorem dX1_tableShare_2 : decode cX1_tableShare 2 = .ok (.aload_n 0, 1) := dk_42 (dk_at dksX1_tableShare_0 2 rfl rfl)
theorem dX1_tableShare_3 : decode cX1_tableShare 3 = .ok (.getfield 16, 3) := dk_180 0 16 (dk_at dksX1_tableShare_0 3 rfl rfl)
theorem dX1_tableShare_6 : decode cX1_tableShare 6 = .ok (.invokeinterface 288 1, 5) := by decide +kernel
theorem dX1_tableShare_11 : decode cX1_tableShare 11 = .ok (.astore_n 2, 1) := dk_77 (dk_at dksX1_tableShare_0 11 rfl rfl)
theorem dX1_tableShare_12 : decode cX1_tableShare 12 = .ok (.aload_n 2, 1) := dk_44 (dk_at dksX1_tableShare_0 12 rfl rfl)
theorem dX1_tableShare_13 : decode cX1_tableShare 13 = .ok (.invokeinterface 289 1, 5) := by decide +kernel
theorem dX1_tableShare_18 : decode cX1_tableShare 18 = .ok (.ifCond .eq 28, 3) := dk_153 0 28 (dk_at dksX1_tableShare_0 18 rfl rfl)
theorem dX1_tableShare_21 : decode cX1_tableShare 21 = .ok (.aload_n 2, 1) := dk_44 (dk_at dksX1_tableShare_0 21 rfl rfl)
theorem dX1_tableShare_22 : decode cX1_tableShare 22 = .ok (.invokeinterface 230 1, 5) := by decide +kernel
theorem dX1_tableShare_27 : decode cX1_tableShare 27 = .ok (.checkcast 68, 3) := dk_192 0 68 (dk_at dksX1_tableShare_1 5 rfl rfl)
theorem dX1_tableShare_30 : decode cX1_tableShare 30 = .ok (.astore_n 3, 1) := dk_78 (dk_at dksX1_tableShare_1 8 rfl rfl)
theorem dX1_tableShare_31 : decode cX1_tableShare 31 = .ok (.iload_n 1, 1) := dk_27 (dk_at dksX1_tableShare_1 9 rfl rfl)
theorem dX1_tableShare_32 : decode cX1_tableShare 32 = .ok (.iconst 1, 1) := dk_4 (dk_at dksX1_tableShare_1 10 rfl rfl)
theorem dX1_tableShare_33 : decode cX1_tableShare 33 = .ok (.aload_n 3, 1) := dk_45 (dk_at dksX1_tableShare_1 11 rfl rfl)
theorem dX1_tableShare_34 : decode cX1_tableShare 34 = .ok (.getfield 118, 3) := dk_180 0 118 (dk_at dksX1_tableShare_1 12 rfl rfl)
theorem dX1_tableShare_37 : decode cX1_tableShare 37 = .ok (.bipush 20, 2) := dk_16 20 (dk_at dksX1_tableShare_1 15 rfl rfl)
theorem dX1_tableShare_39 : decode cX1_tableShare 39 = .ok (.isub, 1) := dk_100 (dk_at dksX1_tableShare_1 17 rfl rfl)
theorem dX1_tableShare_40 : decode cX1_tableShare 40 = .ok (.ishl, 1) := dk_120 (dk_at dksX1_tableShare_1 18 rfl rfl)
theorem dX1_tableShare_41 : decode cX1_tableShare 41 = .ok (.ior, 1) := dk_128 (dk_at dksX1_tableShare_1 19 rfl rfl)
theorem dX1_tableShare_42 : decode cX1_tableShare 42 = .ok (.istore_n 1, 1) := dk_60 (dk_at dksX1_tableShare_1 20 rfl rfl)
theorem dX1_tableShare_43 : decode cX1_tableShare 43 = .ok (.goto (-31), 3) := dk_167 255 225 (dk_at dksX1_tableShare_1 21 rfl rfl)
theorem dX1_tableShare_46 : decode cX1_tableShare 46 = .ok (.iload_n 1, 1) := dk_27 (dk_at dksX1_tableShare_2 0 rfl rfl)
theorem dX1_tableShare_47 : decode cX1_tableShare 47 = .ok (.ifCond .ne 7, 3) := dk_154 0 7 (dk_at dksX1_tableShare_2 1 rfl rfl)
theorem dX1_tableShare_50 : decode cX1_tableShare 50 = .ok (.fconst 0, 1) := dk_11 (dk_at dksX1_tableShare_2 4 rfl rfl)
theorem dX1_tableShare_51 : decode cX1_tableShare 51 = .ok (.goto 25, 3) := dk_167 0 25 (dk_at dksX1_tableShare_2 5 rfl rfl)
theorem dX1_tableShare_54 : decode cX1_tableShare 54 = .ok (.aload_n 0, 1) := dk_42 (dk_at dksX1_tableShare_2 8 rfl rfl)
theorem dX1_tableShare_55 : decode cX1_tableShare 55 = .ok (.invokevirtual 128, 3) := dk_182 0 128 (dk_at dksX1_tableShare_2 9 rfl rfl)
theorem dX1_tableShare_58 : decode cX1_tableShare 58 = .ok (.getfield 292, 3) := dk_180 1 36 (dk_at dksX1_tableShare_2 12 rfl rfl)
theorem dX1_tableShare_61 : decode cX1_tableShare 61 = .ok (.invokeinterface 296 1, 5) := by decide +kernel
theorem dX1_tableShare_66 : decode cX1_tableShare 66 = .ok (.i2f, 1) := dk_134 (dk_at dksX1_tableShare_2 20 rfl rfl)
theorem dX1_tableShare_67 : decode cX1_tableShare 67 = .ok (.bipush 13, 2) := dk_16 13 (dk_at dksX1_tableShare_2 21 rfl rfl)
theorem dX1_tableShare_69 : decode cX1_tableShare 69 = .ok (.iload_n 1, 1) := dk_27 (dk_at dksX1_tableShare_2 23 rfl rfl)
theorem dX1_tableShare_70 : decode cX1_tableShare 70 = .ok (.invokestatic 299, 3) := dk_184 1 43 (dk_at dksX1_tableShare_3 0 rfl rfl)
theorem dX1_tableShare_73 : decode cX1_tableShare 73 = .ok (.imul, 1) := dk_104 (dk_at dksX1_tableShare_3 3 rfl rfl)
theorem dX1_tableShare_74 : decode cX1_tableShare 74 = .ok (.i2f, 1) := dk_134 (dk_at dksX1_tableShare_3 4 rfl rfl)
theorem dX1_tableShare_75 : decode cX1_tableShare 75 = .ok (.fdiv, 1) := dk_110 (dk_at dksX1_tableShare_3 5 rfl rfl)
theorem dX1_tableShare_76 : decode cX1_tableShare 76 = .ok (.freturn, 1) := dk_174 (dk_at dksX1_tableShare_3 6 rfl rfl)
abbrev cX1_outputByte : ByteArray := prog_1_method_60_code
def yX1_outputByte : MethodName := ⟨RX1, "outputByte", "(I)I"⟩
def dkwX1_outputByte_1 : List UInt8 := [182, 1, 61, 167, 0, 4, 2, 172]
abbrev dktX1_outputByte_1 : List UInt8 := dkwX1_outputByte_1 ++ []
def dkwX1_outputByte_0 : List UInt8 := [27, 3, 42, 180, 0, 23, 182, 1, 58, 4, 100, 184, 0, 3, 153, 0, 14, 42, 180, 0, 23, 27]
abbrev dktX1_outputByte_0 : List UInt8 := dkwX1_outputByte_0 ++ dktX1_outputByte_1
theorem dksX1_outputByte_0 : cX1_outputByte.data.toList.drop 0 = dktX1_outputByte_0 := by decide +kernel
theorem dksX1_outputByte_1 : cX1_outputByte.data.toList.drop 22 = dktX1_outputByte_1 := dk_seg dksX1_outputByte_0 22 rfl rfl
theorem dX1_outputByte_0 : decode cX1_outputByte 0 = .ok (.iload_n 1, 1) := dk_27 (dk_at dksX1_outputByte_0 0 rfl rfl)
theorem dX1_outputByte_1 : decode cX1_outputByte 1 = .ok (.iconst 0, 1) := dk_3 (dk_at dksX1_outputByte_0 1 rfl rfl)
theorem dX1_outputByte_2 : decode cX1_outputByte 2 = .ok (.aload_n 0, 1) := dk_42 (dk_at dksX1_outputByte_0 2 rfl rfl)
theorem dX1_outputByte_3 : decode cX1_outputByte 3 = .ok (.getfield 23, 3) := dk_180 0 23 (dk_at dksX1_outputByte_0 3 rfl rfl)
theorem dX1_outputByte_6 : decode cX1_outputByte 6 = .ok (.invokevirtual 314, 3) := dk_182 1 58 (dk_at dksX1_outputByte_0 6 rfl rfl)
theorem dX1_outputByte_9 : decode cX1_outputByte 9 = .ok (.iconst 1, 1) := dk_4 (dk_at dksX1_outputByte_0 9 rfl rfl)
theorem dX1_outputByte_10 : decode cX1_outputByte 10 = .ok (.isub, 1) := dk_100 (dk_at dksX1_outputByte_0 10 rfl rfl)
theorem dX1_outputByte_11 : decode cX1_outputByte 11 = .ok (.invokestatic 3, 3) := dk_184 0 3 (dk_at dksX1_outputByte_0 11 rfl rfl)
theorem dX1_outputByte_14 : decode cX1_outputByte 14 = .ok (.ifCond .eq 14, 3) := dk_153 0 14 (dk_at dksX1_outputByte_0 14 rfl rfl)
theorem dX1_outputByte_17 : decode cX1_outputByte 17 = .ok (.aload_n 0, 1) := dk_42 (dk_at dksX1_outputByte_0 17 rfl rfl)
theorem dX1_outputByte_18 : decode cX1_outputByte 18 = .ok (.getfield 23, 3) := dk_180 0 23 (dk_at dksX1_outputByte_0 18 rfl rfl)
theorem dX1_outputByte_21 : decode cX1_outputByte 21 = .ok (.iload_n 1, 1) := dk_27 (dk_at dksX1_outputByte_0 21 rfl rfl)
theorem dX1_outputByte_22 : decode cX1_outputByte 22 = .ok (.invokevirtual 317, 3) := dk_182 1 61 (dk_at dksX1_outputByte_1 0 rfl rfl)
theorem dX1_outputByte_25 : decode cX1_outputByte 25 = .ok (.goto 4, 3) := dk_167 0 4 (dk_at dksX1_outputByte_1 3 rfl rfl)
theorem dX1_outputByte_28 : decode cX1_outputByte 28 = .ok (.iconst (-1), 1) := dk_2 (dk_at dksX1_outputByte_1 6 rfl rfl)
theorem dX1_outputByte_29 : decode cX1_outputByte 29 = .ok (.ireturn, 1) := dk_172 (dk_at dksX1_outputByte_1 7 rfl rfl)
abbrev cX1_addRule : ByteArray := prog_1_method_14_code
def yX1_addRule : MethodName := ⟨RX1, "addRule", "(I)I"⟩
def dkwX1_addRule_2 : List UInt8 := [185, 0, 86, 2, 0, 87, 42, 42, 180, 0, 16, 185, 0, 54, 1, 0, 4, 100, 182, 0, 90, 172]
abbrev dktX1_addRule_2 : List UInt8 := dkwX1_addRule_2 ++ []
def dkwX1_addRule_1 : List UInt8 := [167, 0, 4, 3, 184, 0, 79, 42, 180, 0, 16, 187, 0, 68, 89, 28, 3, 188, 10, 183, 0, 83]
abbrev dktX1_addRule_1 : List UInt8 := dkwX1_addRule_1 ++ dktX1_addRule_2
def dkwX1_addRule_0 : List UInt8 := [16, 20, 27, 184, 0, 76, 96, 61, 42, 180, 0, 16, 185, 0, 54, 1, 0, 16, 48, 162, 0, 7, 4]
abbrev dktX1_addRule_0 : List UInt8 := dkwX1_addRule_0 ++ dktX1_addRule_1
theorem dksX1_addRule_0 : cX1_addRule.data.toList.drop 0 = dktX1_addRule_0 := by decide +kernel
theorem dksX1_addRule_1 : cX1_addRule.data.toList.drop 23 = dktX1_addRule_1 := dk_seg dksX1_addRule_0 23 rfl rfl
theorem dksX1_addRule_2 : cX1_addRule.data.toList.drop 45 = dktX1_addRule_2 := dk_seg dksX1_addRule_1 22 rfl rfl
theorem dX1_addRule_0 : decode cX1_addRule 0 = .ok (.bipush 20, 2) := dk_16 20 (dk_at dksX1_addRule_0 0 rfl rfl)
theorem dX1_addRule_2 : decode cX1_addRule 2 = .ok (.iload_n 1, 1) := dk_27 (dk_at dksX1_addRule_0 2 rfl rfl)
theorem dX1_addRule_3 : decode cX1_addRule 3 = .ok (.invokestatic 76, 3) := dk_184 0 76 (dk_at dksX1_addRule_0 3 rfl rfl)
theorem dX1_addRule_6 : decode cX1_addRule 6 = .ok (.iadd, 1) := dk_96 (dk_at dksX1_addRule_0 6 rfl rfl)
theorem dX1_addRule_7 : decode cX1_addRule 7 = .ok (.istore_n 2, 1) := dk_61 (dk_at dksX1_addRule_0 7 rfl rfl)
theorem dX1_addRule_8 : decode cX1_addRule 8 = .ok (.aload_n 0, 1) := dk_42 (dk_at dksX1_addRule_0 8 rfl rfl)
theorem dX1_addRule_9 : decode cX1_addRule 9 = .ok (.getfield 16, 3) := dk_180 0 16 (dk_at dksX1_addRule_0 9 rfl rfl)
theorem dX1_addRule_12 : decode cX1_addRule 12 = .ok (.invokeinterface 54 1, 5) := by decide +kernel
theorem dX1_addRule_17 : decode cX1_addRule 17 = .ok (.bipush 48, 2) := dk_16 48 (dk_at dksX1_addRule_0 17 rfl rfl)
theorem dX1_addRule_19 : decode cX1_addRule 19 = .ok (.if_icmp .ge 7, 3) := dk_162 0 7 (dk_at dksX1_addRule_0 19 rfl rfl)
theorem dX1_addRule_22 : decode cX1_addRule 22 = .ok (.iconst 1, 1) := dk_4 (dk_at dksX1_addRule_0 22 rfl rfl)
theorem dX1_addRule_23 : decode cX1_addRule 23 = .ok (.goto 4, 3) := dk_167 0 4 (dk_at dksX1_addRule_1 0 rfl rfl)
theorem dX1_addRule_26 : decode cX1_addRule 26 = .ok (.iconst 0, 1) := dk_3 (dk_at dksX1_addRule_1 3 rfl rfl)
theorem dX1_addRule_27 : decode cX1_addRule 27 = .ok (.invokestatic 79, 3) := dk_184 0 79 (dk_at dksX1_addRule_1 4 rfl rfl)
theorem dX1_addRule_30 : decode cX1_addRule 30 = .ok (.aload_n 0, 1) := dk_42 (dk_at dksX1_addRule_1 7 rfl rfl)
theorem dX1_addRule_31 : decode cX1_addRule 31 = .ok (.getfield 16, 3) := dk_180 0 16 (dk_at dksX1_addRule_1 8 rfl rfl)
theorem dX1_addRule_34 : decode cX1_addRule 34 = .ok (.new 68, 3) := dk_187 0 68 (dk_at dksX1_addRule_1 11 rfl rfl)
theorem dX1_addRule_37 : decode cX1_addRule 37 = .ok (.dup, 1) := dk_89 (dk_at dksX1_addRule_1 14 rfl rfl)
theorem dX1_addRule_38 : decode cX1_addRule 38 = .ok (.iload_n 2, 1) := dk_28 (dk_at dksX1_addRule_1 15 rfl rfl)
theorem dX1_addRule_39 : decode cX1_addRule 39 = .ok (.iconst 0, 1) := dk_3 (dk_at dksX1_addRule_1 16 rfl rfl)
theorem dX1_addRule_40 : decode cX1_addRule 40 = .ok (.newarray .int, 2) := dk_188_10 (dk_at dksX1_addRule_1 17 rfl rfl)
theorem dX1_addRule_42 : decode cX1_addRule 42 = .ok (.invokespecial 83, 3) := dk_183 0 83 (dk_at dksX1_addRule_1 19 rfl rfl)
theorem dX1_addRule_45 : decode cX1_addRule 45 = .ok (.invokeinterface 86 2, 5) := by decide +kernel
theorem dX1_addRule_50 : decode cX1_addRule 50 = .ok (.pop, 1) := dk_87 (dk_at dksX1_addRule_2 5 rfl rfl)
theorem dX1_addRule_51 : decode cX1_addRule 51 = .ok (.aload_n 0, 1) := dk_42 (dk_at dksX1_addRule_2 6 rfl rfl)
theorem dX1_addRule_52 : decode cX1_addRule 52 = .ok (.aload_n 0, 1) := dk_42 (dk_at dksX1_addRule_2 7 rfl rfl)
theorem dX1_addRule_53 : decode cX1_addRule 53 = .ok (.getfield 16, 3) := dk_180 0 16 (dk_at dksX1_addRule_2 8 rfl rfl)
theorem dX1_addRule_56 : decode cX1_addRule 56 = .ok (.invokeinterface 54 1, 5) := by decide +kernel
theorem dX1_addRule_61 : decode cX1_addRule 61 = .ok (.iconst 1, 1) := dk_4 (dk_at dksX1_addRule_2 16 rfl rfl)
theorem dX1_addRule_62 : decode cX1_addRule 62 = .ok (.isub, 1) := dk_100 (dk_at dksX1_addRule_2 17 rfl rfl)
theorem dX1_addRule_63 : decode cX1_addRule 63 = .ok (.invokevirtual 90, 3) := dk_182 0 90 (dk_at dksX1_addRule_2 18 rfl rfl)
theorem dX1_addRule_66 : decode cX1_addRule 66 = .ok (.ireturn, 1) := dk_172 (dk_at dksX1_addRule_2 21 rfl rfl)
abbrev cX1_index : ByteArray := prog_1_method_8_code
def yX1_index : MethodName := ⟨RX1, "index", "(I)I"⟩
def dkwX1_index_0 : List UInt8 := [26, 16, 20, 16, 31, 184, 0, 50, 16, 20, 100, 172]
abbrev dktX1_index_0 : List UInt8 := dkwX1_index_0 ++ []
theorem dksX1_index_0 : cX1_index.data.toList.drop 0 = dktX1_index_0 := by decide +kernel
theorem dX1_index_0 : decode cX1_index 0 = .ok (.iload_n 0, 1) := dk_26 (dk_at dksX1_index_0 0 rfl rfl)
theorem dX1_index_1 : decode cX1_index 1 = .ok (.bipush 20, 2) := dk_16 20 (dk_at dksX1_index_0 1 rfl rfl)
theorem dX1_index_3 : decode cX1_index 3 = .ok (.bipush 31, 2) := dk_16 31 (dk_at dksX1_index_0 3 rfl rfl)
theorem dX1_index_5 : decode cX1_index 5 = .ok (.invokestatic 50, 3) := dk_184 0 50 (dk_at dksX1_index_0 5 rfl rfl)
theorem dX1_index_8 : decode cX1_index 8 = .ok (.bipush 20, 2) := dk_16 20 (dk_at dksX1_index_0 8 rfl rfl)
theorem dX1_index_10 : decode cX1_index 10 = .ok (.isub, 1) := dk_100 (dk_at dksX1_index_0 10 rfl rfl)
theorem dX1_index_11 : decode cX1_index 11 = .ok (.ireturn, 1) := dk_172 (dk_at dksX1_index_0 11 rfl rfl)
abbrev cX1_valid : ByteArray := prog_1_method_7_code
def yX1_valid : MethodName := ⟨RX1, "valid", "(III)I"⟩
def dkwX1_valid_0 : List UInt8 := [26, 27, 28, 184, 0, 3, 154, 0, 11, 187, 0, 47, 89, 183, 0, 49, 191, 26, 172]
abbrev dktX1_valid_0 : List UInt8 := dkwX1_valid_0 ++ []
theorem dksX1_valid_0 : cX1_valid.data.toList.drop 0 = dktX1_valid_0 := by decide +kernel
theorem dX1_valid_0 : decode cX1_valid 0 = .ok (.iload_n 0, 1) := dk_26 (dk_at dksX1_valid_0 0 rfl rfl)
theorem dX1_valid_1 : decode cX1_valid 1 = .ok (.iload_n 1, 1) := dk_27 (dk_at dksX1_valid_0 1 rfl rfl)
theorem dX1_valid_2 : decode cX1_valid 2 = .ok (.iload_n 2, 1) := dk_28 (dk_at dksX1_valid_0 2 rfl rfl)
theorem dX1_valid_3 : decode cX1_valid 3 = .ok (.invokestatic 3, 3) := dk_184 0 3 (dk_at dksX1_valid_0 3 rfl rfl)
theorem dX1_valid_6 : decode cX1_valid 6 = .ok (.ifCond .ne 11, 3) := dk_154 0 11 (dk_at dksX1_valid_0 6 rfl rfl)
theorem dX1_valid_9 : decode cX1_valid 9 = .ok (.new 47, 3) := dk_187 0 47 (dk_at dksX1_valid_0 9 rfl rfl)
theorem dX1_valid_12 : decode cX1_valid 12 = .ok (.dup, 1) := dk_89 (dk_at dksX1_valid_0 12 rfl rfl)
theorem dX1_valid_13 : decode cX1_valid 13 = .ok (.invokespecial 49, 3) := dk_183 0 49 (dk_at dksX1_valid_0 13 rfl rfl)
theorem dX1_valid_16 : decode cX1_valid 16 = .ok (.athrow, 1) := dk_191 (dk_at dksX1_valid_0 16 rfl rfl)
theorem dX1_valid_17 : decode cX1_valid 17 = .ok (.iload_n 0, 1) := dk_26 (dk_at dksX1_valid_0 17 rfl rfl)
theorem dX1_valid_18 : decode cX1_valid 18 = .ok (.ireturn, 1) := dk_172 (dk_at dksX1_valid_0 18 rfl rfl)
abbrev cX1_changed : ByteArray := prog_1_method_6_code
def yX1_changed : MethodName := ⟨RX1, "changed", "(I)I"⟩
def dkwX1_changed_0 : List UInt8 := [42, 1, 181, 0, 27, 42, 1, 181, 0, 36, 42, 1, 181, 0, 43, 27, 172]
abbrev dktX1_changed_0 : List UInt8 := dkwX1_changed_0 ++ []
theorem dksX1_changed_0 : cX1_changed.data.toList.drop 0 = dktX1_changed_0 := by decide +kernel
theorem dX1_changed_0 : decode cX1_changed 0 = .ok (.aload_n 0, 1) := dk_42 (dk_at dksX1_changed_0 0 rfl rfl)
theorem dX1_changed_1 : decode cX1_changed 1 = .ok (.aconst_null, 1) := dk_1 (dk_at dksX1_changed_0 1 rfl rfl)
theorem dX1_changed_2 : decode cX1_changed 2 = .ok (.putfield 27, 3) := dk_181 0 27 (dk_at dksX1_changed_0 2 rfl rfl)
theorem dX1_changed_5 : decode cX1_changed 5 = .ok (.aload_n 0, 1) := dk_42 (dk_at dksX1_changed_0 5 rfl rfl)
theorem dX1_changed_6 : decode cX1_changed 6 = .ok (.aconst_null, 1) := dk_1 (dk_at dksX1_changed_0 6 rfl rfl)
theorem dX1_changed_7 : decode cX1_changed 7 = .ok (.putfield 36, 3) := dk_181 0 36 (dk_at dksX1_changed_0 7 rfl rfl)
theorem dX1_changed_10 : decode cX1_changed 10 = .ok (.aload_n 0, 1) := dk_42 (dk_at dksX1_changed_0 10 rfl rfl)
theorem dX1_changed_11 : decode cX1_changed 11 = .ok (.aconst_null, 1) := dk_1 (dk_at dksX1_changed_0 11 rfl rfl)
theorem dX1_changed_12 : decode cX1_changed 12 = .ok (.putfield 43, 3) := dk_181 0 43 (dk_at dksX1_changed_0 12 rfl rfl)
theorem dX1_changed_15 : decode cX1_changed 15 = .ok (.iload_n 1, 1) := dk_27 (dk_at dksX1_changed_0 15 rfl rfl)
theorem dX1_changed_16 : decode cX1_changed 16 = .ok (.ireturn, 1) := dk_172 (dk_at dksX1_changed_0 16 rfl rfl)
abbrev cX1_append : ByteArray := prog_1_method_15_code
def yX1_append : MethodName := ⟨RX1, "append", "(II)I"⟩
def dkwX1_append_3 : List UInt8 := [25, 4, 180, 0, 104, 190, 4, 96, 182, 0, 90, 172]
abbrev dktX1_append_3 : List UInt8 := dkwX1_append_3 ++ []
def dkwX1_append_2 : List UInt8 := [184, 0, 79, 42, 180, 0, 16, 27, 45, 28, 182, 0, 108, 185, 0, 111, 3, 0, 192, 0, 68, 58, 4, 42]
abbrev dktX1_append_2 : List UInt8 := dkwX1_append_2 ++ dktX1_append_3
def dkwX1_append_1 : List UInt8 := [167, 0, 4, 3, 184, 0, 101, 45, 180, 0, 104, 190, 16, 10, 162, 0, 7, 4, 167, 0, 4, 3]
abbrev dktX1_append_1 : List UInt8 := dkwX1_append_1 ++ dktX1_append_2
def dkwX1_append_0 : List UInt8 := [42, 27, 182, 0, 93, 78, 28, 3, 16, 11, 184, 0, 3, 154, 0, 10, 28, 184, 0, 97, 153, 0, 7, 4]
abbrev dktX1_append_0 : List UInt8 := dkwX1_append_0 ++ dktX1_append_1
theorem dksX1_append_0 : cX1_append.data.toList.drop 0 = dktX1_append_0 := by decide +kernel
theorem dksX1_append_1 : cX1_append.data.toList.drop 24 = dktX1_append_1 := dk_seg dksX1_append_0 24 rfl rfl
theorem dksX1_append_2 : cX1_append.data.toList.drop 46 = dktX1_append_2 := dk_seg dksX1_append_1 22 rfl rfl
theorem dksX1_append_3 : cX1_append.data.toList.drop 70 = dktX1_append_3 := dk_seg dksX1_append_2 24 rfl rfl
theorem dX1_append_0 : decode cX1_append 0 = .ok (.aload_n 0, 1) := dk_42 (dk_at dksX1_append_0 0 rfl rfl)
theorem dX1_append_1 : decode cX1_append 1 = .ok (.iload_n 1, 1) := dk_27 (dk_at dksX1_append_0 1 rfl rfl)
theorem dX1_append_2 : decode cX1_append 2 = .ok (.invokevirtual 93, 3) := dk_182 0 93 (dk_at dksX1_append_0 2 rfl rfl)
theorem dX1_append_5 : decode cX1_append 5 = .ok (.astore_n 3, 1) := dk_78 (dk_at dksX1_append_0 5 rfl rfl)
theorem dX1_append_6 : decode cX1_append 6 = .ok (.iload_n 2, 1) := dk_28 (dk_at dksX1_append_0 6 rfl rfl)
theorem dX1_append_7 : decode cX1_append 7 = .ok (.iconst 0, 1) := dk_3 (dk_at dksX1_append_0 7 rfl rfl)
theorem dX1_append_8 : decode cX1_append 8 = .ok (.bipush 11, 2) := dk_16 11 (dk_at dksX1_append_0 8 rfl rfl)
theorem dX1_append_10 : decode cX1_append 10 = .ok (.invokestatic 3, 3) := dk_184 0 3 (dk_at dksX1_append_0 10 rfl rfl)
theorem dX1_append_13 : decode cX1_append 13 = .ok (.ifCond .ne 10, 3) := dk_154 0 10 (dk_at dksX1_append_0 13 rfl rfl)
theorem dX1_append_16 : decode cX1_append 16 = .ok (.iload_n 2, 1) := dk_28 (dk_at dksX1_append_0 16 rfl rfl)
theorem dX1_append_17 : decode cX1_append 17 = .ok (.invokestatic 97, 3) := dk_184 0 97 (dk_at dksX1_append_0 17 rfl rfl)
theorem dX1_append_20 : decode cX1_append 20 = .ok (.ifCond .eq 7, 3) := dk_153 0 7 (dk_at dksX1_append_0 20 rfl rfl)
theorem dX1_append_23 : decode cX1_append 23 = .ok (.iconst 1, 1) := dk_4 (dk_at dksX1_append_0 23 rfl rfl)
theorem dX1_append_24 : decode cX1_append 24 = .ok (.goto 4, 3) := dk_167 0 4 (dk_at dksX1_append_1 0 rfl rfl)
theorem dX1_append_27 : decode cX1_append 27 = .ok (.iconst 0, 1) := dk_3 (dk_at dksX1_append_1 3 rfl rfl)
theorem dX1_append_28 : decode cX1_append 28 = .ok (.invokestatic 101, 3) := dk_184 0 101 (dk_at dksX1_append_1 4 rfl rfl)
theorem dX1_append_31 : decode cX1_append 31 = .ok (.aload_n 3, 1) := dk_45 (dk_at dksX1_append_1 7 rfl rfl)
theorem dX1_append_32 : decode cX1_append 32 = .ok (.getfield 104, 3) := dk_180 0 104 (dk_at dksX1_append_1 8 rfl rfl)
theorem dX1_append_35 : decode cX1_append 35 = .ok (.arraylength, 1) := dk_190 (dk_at dksX1_append_1 11 rfl rfl)
theorem dX1_append_36 : decode cX1_append 36 = .ok (.bipush 10, 2) := dk_16 10 (dk_at dksX1_append_1 12 rfl rfl)
theorem dX1_append_38 : decode cX1_append 38 = .ok (.if_icmp .ge 7, 3) := dk_162 0 7 (dk_at dksX1_append_1 14 rfl rfl)
theorem dX1_append_41 : decode cX1_append 41 = .ok (.iconst 1, 1) := dk_4 (dk_at dksX1_append_1 17 rfl rfl)
theorem dX1_append_42 : decode cX1_append 42 = .ok (.goto 4, 3) := dk_167 0 4 (dk_at dksX1_append_1 18 rfl rfl)
theorem dX1_append_45 : decode cX1_append 45 = .ok (.iconst 0, 1) := dk_3 (dk_at dksX1_append_1 21 rfl rfl)
theorem dX1_append_46 : decode cX1_append 46 = .ok (.invokestatic 79, 3) := dk_184 0 79 (dk_at dksX1_append_2 0 rfl rfl)
theorem dX1_append_49 : decode cX1_append 49 = .ok (.aload_n 0, 1) := dk_42 (dk_at dksX1_append_2 3 rfl rfl)
theorem dX1_append_50 : decode cX1_append 50 = .ok (.getfield 16, 3) := dk_180 0 16 (dk_at dksX1_append_2 4 rfl rfl)
theorem dX1_append_53 : decode cX1_append 53 = .ok (.iload_n 1, 1) := dk_27 (dk_at dksX1_append_2 7 rfl rfl)
theorem dX1_append_54 : decode cX1_append 54 = .ok (.aload_n 3, 1) := dk_45 (dk_at dksX1_append_2 8 rfl rfl)
theorem dX1_append_55 : decode cX1_append 55 = .ok (.iload_n 2, 1) := dk_28 (dk_at dksX1_append_2 9 rfl rfl)
theorem dX1_append_56 : decode cX1_append 56 = .ok (.invokevirtual 108, 3) := dk_182 0 108 (dk_at dksX1_append_2 10 rfl rfl)
theorem dX1_append_59 : decode cX1_append 59 = .ok (.invokeinterface 111 3, 5) := by decide +kernel
theorem dX1_append_64 : decode cX1_append 64 = .ok (.checkcast 68, 3) := dk_192 0 68 (dk_at dksX1_append_2 18 rfl rfl)
theorem dX1_append_67 : decode cX1_append 67 = .ok (.astore 4, 2) := dk_58 4 (dk_at dksX1_append_2 21 rfl rfl)
theorem dX1_append_69 : decode cX1_append 69 = .ok (.aload_n 0, 1) := dk_42 (dk_at dksX1_append_2 23 rfl rfl)
theorem dX1_append_70 : decode cX1_append 70 = .ok (.aload 4, 2) := dk_25 4 (dk_at dksX1_append_3 0 rfl rfl)
theorem dX1_append_72 : decode cX1_append 72 = .ok (.getfield 104, 3) := dk_180 0 104 (dk_at dksX1_append_3 2 rfl rfl)
theorem dX1_append_75 : decode cX1_append 75 = .ok (.arraylength, 1) := dk_190 (dk_at dksX1_append_3 5 rfl rfl)
theorem dX1_append_76 : decode cX1_append 76 = .ok (.iconst 1, 1) := dk_4 (dk_at dksX1_append_3 6 rfl rfl)
theorem dX1_append_77 : decode cX1_append 77 = .ok (.iadd, 1) := dk_96 (dk_at dksX1_append_3 7 rfl rfl)
theorem dX1_append_78 : decode cX1_append 78 = .ok (.invokevirtual 90, 3) := dk_182 0 90 (dk_at dksX1_append_3 8 rfl rfl)
theorem dX1_append_81 : decode cX1_append 81 = .ok (.ireturn, 1) := dk_172 (dk_at dksX1_append_3 11 rfl rfl)
abbrev cX1_rule : ByteArray := prog_1_method_11_code
def yX1_rule : MethodName := ⟨RX1, "rule", "(I)LSelahGenerator$Rule;"⟩
def dkwX1_rule_0 : List UInt8 := [42, 180, 0, 16, 42, 27, 182, 0, 60, 185, 0, 64, 2, 0, 192, 0, 68, 176]
abbrev dktX1_rule_0 : List UInt8 := dkwX1_rule_0 ++ []
theorem dksX1_rule_0 : cX1_rule.data.toList.drop 0 = dktX1_rule_0 := by decide +kernel
theorem dX1_rule_0 : decode cX1_rule 0 = .ok (.aload_n 0, 1) := dk_42 (dk_at dksX1_rule_0 0 rfl rfl)
theorem dX1_rule_1 : decode cX1_rule 1 = .ok (.getfield 16, 3) := dk_180 0 16 (dk_at dksX1_rule_0 1 rfl rfl)
theorem dX1_rule_4 : decode cX1_rule 4 = .ok (.aload_n 0, 1) := dk_42 (dk_at dksX1_rule_0 4 rfl rfl)
theorem dX1_rule_5 : decode cX1_rule 5 = .ok (.iload_n 1, 1) := dk_27 (dk_at dksX1_rule_0 5 rfl rfl)
theorem dX1_rule_6 : decode cX1_rule 6 = .ok (.invokevirtual 60, 3) := dk_182 0 60 (dk_at dksX1_rule_0 6 rfl rfl)
theorem dX1_rule_9 : decode cX1_rule 9 = .ok (.invokeinterface 64 2, 5) := by decide +kernel
theorem dX1_rule_14 : decode cX1_rule 14 = .ok (.checkcast 68, 3) := dk_192 0 68 (dk_at dksX1_rule_0 14 rfl rfl)
theorem dX1_rule_17 : decode cX1_rule 17 = .ok (.areturn, 1) := dk_176 (dk_at dksX1_rule_0 17 rfl rfl)
abbrev cX1_number : ByteArray := prog_1_method_10_code
def yX1_number : MethodName := ⟨RX1, "number", "(I)I"⟩
def dkwX1_number_0 : List UInt8 := [27, 3, 42, 180, 0, 16, 185, 0, 54, 1, 0, 4, 100, 184, 0, 50, 172]
abbrev dktX1_number_0 : List UInt8 := dkwX1_number_0 ++ []
theorem dksX1_number_0 : cX1_number.data.toList.drop 0 = dktX1_number_0 := by decide +kernel
theorem dX1_number_0 : decode cX1_number 0 = .ok (.iload_n 1, 1) := dk_27 (dk_at dksX1_number_0 0 rfl rfl)
theorem dX1_number_1 : decode cX1_number 1 = .ok (.iconst 0, 1) := dk_3 (dk_at dksX1_number_0 1 rfl rfl)
theorem dX1_number_2 : decode cX1_number 2 = .ok (.aload_n 0, 1) := dk_42 (dk_at dksX1_number_0 2 rfl rfl)
theorem dX1_number_3 : decode cX1_number 3 = .ok (.getfield 16, 3) := dk_180 0 16 (dk_at dksX1_number_0 3 rfl rfl)
theorem dX1_number_6 : decode cX1_number 6 = .ok (.invokeinterface 54 1, 5) := by decide +kernel
theorem dX1_number_11 : decode cX1_number 11 = .ok (.iconst 1, 1) := dk_4 (dk_at dksX1_number_0 11 rfl rfl)
theorem dX1_number_12 : decode cX1_number 12 = .ok (.isub, 1) := dk_100 (dk_at dksX1_number_0 12 rfl rfl)
theorem dX1_number_13 : decode cX1_number 13 = .ok (.invokestatic 50, 3) := dk_184 0 50 (dk_at dksX1_number_0 13 rfl rfl)
theorem dX1_number_16 : decode cX1_number 16 = .ok (.ireturn, 1) := dk_172 (dk_at dksX1_number_0 16 rfl rfl)
abbrev cX1_argument : ByteArray := prog_1_method_12_code
def yX1_argument : MethodName := ⟨RX1, "argument", "(Z)V"⟩
def dkwX1_argument_0 : List UInt8 := [26, 154, 0, 11, 187, 0, 70, 89, 183, 0, 72, 191, 177]
abbrev dktX1_argument_0 : List UInt8 := dkwX1_argument_0 ++ []
theorem dksX1_argument_0 : cX1_argument.data.toList.drop 0 = dktX1_argument_0 := by decide +kernel
theorem dX1_argument_0 : decode cX1_argument 0 = .ok (.iload_n 0, 1) := dk_26 (dk_at dksX1_argument_0 0 rfl rfl)
theorem dX1_argument_1 : decode cX1_argument 1 = .ok (.ifCond .ne 11, 3) := dk_154 0 11 (dk_at dksX1_argument_0 1 rfl rfl)
theorem dX1_argument_4 : decode cX1_argument 4 = .ok (.new 70, 3) := dk_187 0 70 (dk_at dksX1_argument_0 4 rfl rfl)
theorem dX1_argument_7 : decode cX1_argument 7 = .ok (.dup, 1) := dk_89 (dk_at dksX1_argument_0 7 rfl rfl)
theorem dX1_argument_8 : decode cX1_argument 8 = .ok (.invokespecial 72, 3) := dk_183 0 72 (dk_at dksX1_argument_0 8 rfl rfl)
theorem dX1_argument_11 : decode cX1_argument 11 = .ok (.athrow, 1) := dk_191 (dk_at dksX1_argument_0 11 rfl rfl)
theorem dX1_argument_12 : decode cX1_argument 12 = .ok (.return_, 1) := dk_177 (dk_at dksX1_argument_0 12 rfl rfl)
abbrev cX1_removeRule : ByteArray := prog_1_method_16_code
def yX1_removeRule : MethodName := ⟨RX1, "removeRule", "(I)I"⟩
def dkwX1_removeRule_1 : List UInt8 := [185, 0, 54, 1, 0, 182, 0, 90, 172]
abbrev dktX1_removeRule_1 : List UInt8 := dkwX1_removeRule_1 ++ []
def dkwX1_removeRule_0 : List UInt8 := [42, 180, 0, 16, 42, 27, 182, 0, 60, 185, 0, 115, 2, 0, 192, 0, 68, 77, 42, 42, 180, 0, 16]
abbrev dktX1_removeRule_0 : List UInt8 := dkwX1_removeRule_0 ++ dktX1_removeRule_1
theorem dksX1_removeRule_0 : cX1_removeRule.data.toList.drop 0 = dktX1_removeRule_0 := by decide +kernel
theorem dksX1_removeRule_1 : cX1_removeRule.data.toList.drop 23 = dktX1_removeRule_1 := dk_seg dksX1_removeRule_0 23 rfl rfl
theorem dX1_removeRule_0 : decode cX1_removeRule 0 = .ok (.aload_n 0, 1) := dk_42 (dk_at dksX1_removeRule_0 0 rfl rfl)
theorem dX1_removeRule_1 : decode cX1_removeRule 1 = .ok (.getfield 16, 3) := dk_180 0 16 (dk_at dksX1_removeRule_0 1 rfl rfl)
theorem dX1_removeRule_4 : decode cX1_removeRule 4 = .ok (.aload_n 0, 1) := dk_42 (dk_at dksX1_removeRule_0 4 rfl rfl)
theorem dX1_removeRule_5 : decode cX1_removeRule 5 = .ok (.iload_n 1, 1) := dk_27 (dk_at dksX1_removeRule_0 5 rfl rfl)
theorem dX1_removeRule_6 : decode cX1_removeRule 6 = .ok (.invokevirtual 60, 3) := dk_182 0 60 (dk_at dksX1_removeRule_0 6 rfl rfl)
theorem dX1_removeRule_9 : decode cX1_removeRule 9 = .ok (.invokeinterface 115 2, 5) := by decide +kernel
theorem dX1_removeRule_14 : decode cX1_removeRule 14 = .ok (.checkcast 68, 3) := dk_192 0 68 (dk_at dksX1_removeRule_0 14 rfl rfl)
theorem dX1_removeRule_17 : decode cX1_removeRule 17 = .ok (.astore_n 2, 1) := dk_77 (dk_at dksX1_removeRule_0 17 rfl rfl)
theorem dX1_removeRule_18 : decode cX1_removeRule 18 = .ok (.aload_n 0, 1) := dk_42 (dk_at dksX1_removeRule_0 18 rfl rfl)
theorem dX1_removeRule_19 : decode cX1_removeRule 19 = .ok (.aload_n 0, 1) := dk_42 (dk_at dksX1_removeRule_0 19 rfl rfl)
theorem dX1_removeRule_20 : decode cX1_removeRule 20 = .ok (.getfield 16, 3) := dk_180 0 16 (dk_at dksX1_removeRule_0 20 rfl rfl)
theorem dX1_removeRule_23 : decode cX1_removeRule 23 = .ok (.invokeinterface 54 1, 5) := by decide +kernel
theorem dX1_removeRule_28 : decode cX1_removeRule 28 = .ok (.invokevirtual 90, 3) := dk_182 0 90 (dk_at dksX1_removeRule_1 5 rfl rfl)
theorem dX1_removeRule_31 : decode cX1_removeRule 31 = .ok (.ireturn, 1) := dk_172 (dk_at dksX1_removeRule_1 8 rfl rfl)
abbrev cX1_leftOf : ByteArray := prog_1_method_18_code
def yX1_leftOf : MethodName := ⟨RX1, "leftOf", "(I)I"⟩
def dkwX1_leftOf_0 : List UInt8 := [42, 27, 182, 0, 93, 180, 0, 118, 172]
abbrev dktX1_leftOf_0 : List UInt8 := dkwX1_leftOf_0 ++ []
theorem dksX1_leftOf_0 : cX1_leftOf.data.toList.drop 0 = dktX1_leftOf_0 := by decide +kernel
theorem dX1_leftOf_0 : decode cX1_leftOf 0 = .ok (.aload_n 0, 1) := dk_42 (dk_at dksX1_leftOf_0 0 rfl rfl)
theorem dX1_leftOf_1 : decode cX1_leftOf 1 = .ok (.iload_n 1, 1) := dk_27 (dk_at dksX1_leftOf_0 1 rfl rfl)
theorem dX1_leftOf_2 : decode cX1_leftOf 2 = .ok (.invokevirtual 93, 3) := dk_182 0 93 (dk_at dksX1_leftOf_0 2 rfl rfl)
theorem dX1_leftOf_5 : decode cX1_leftOf 5 = .ok (.getfield 118, 3) := dk_180 0 118 (dk_at dksX1_leftOf_0 5 rfl rfl)
theorem dX1_leftOf_8 : decode cX1_leftOf 8 = .ok (.ireturn, 1) := dk_172 (dk_at dksX1_leftOf_0 8 rfl rfl)
abbrev cX1_lengthOf : ByteArray := prog_1_method_19_code
def yX1_lengthOf : MethodName := ⟨RX1, "lengthOf", "(I)I"⟩
def dkwX1_lengthOf_0 : List UInt8 := [42, 27, 182, 0, 93, 180, 0, 104, 190, 172]
abbrev dktX1_lengthOf_0 : List UInt8 := dkwX1_lengthOf_0 ++ []
theorem dksX1_lengthOf_0 : cX1_lengthOf.data.toList.drop 0 = dktX1_lengthOf_0 := by decide +kernel
theorem dX1_lengthOf_0 : decode cX1_lengthOf 0 = .ok (.aload_n 0, 1) := dk_42 (dk_at dksX1_lengthOf_0 0 rfl rfl)
theorem dX1_lengthOf_1 : decode cX1_lengthOf 1 = .ok (.iload_n 1, 1) := dk_27 (dk_at dksX1_lengthOf_0 1 rfl rfl)
theorem dX1_lengthOf_2 : decode cX1_lengthOf 2 = .ok (.invokevirtual 93, 3) := dk_182 0 93 (dk_at dksX1_lengthOf_0 2 rfl rfl)
theorem dX1_lengthOf_5 : decode cX1_lengthOf 5 = .ok (.getfield 104, 3) := dk_180 0 104 (dk_at dksX1_lengthOf_0 5 rfl rfl)
theorem dX1_lengthOf_8 : decode cX1_lengthOf 8 = .ok (.arraylength, 1) := dk_190 (dk_at dksX1_lengthOf_0 8 rfl rfl)
theorem dX1_lengthOf_9 : decode cX1_lengthOf 9 = .ok (.ireturn, 1) := dk_172 (dk_at dksX1_lengthOf_0 9 rfl rfl)
abbrev cX1_symbolAt : ByteArray := prog_1_method_20_code
def yX1_symbolAt : MethodName := ⟨RX1, "symbolAt", "(II)I"⟩
def dkwX1_symbolAt_1 : List UInt8 := [167, 0, 4, 2, 172]
abbrev dktX1_symbolAt_1 : List UInt8 := dkwX1_symbolAt_1 ++ []
def dkwX1_symbolAt_0 : List UInt8 := [42, 27, 182, 0, 93, 180, 0, 104, 78, 28, 3, 45, 190, 4, 100, 184, 0, 3, 153, 0, 9, 45, 28, 46]
abbrev dktX1_symbolAt_0 : List UInt8 := dkwX1_symbolAt_0 ++ dktX1_symbolAt_1
theorem dksX1_symbolAt_0 : cX1_symbolAt.data.toList.drop 0 = dktX1_symbolAt_0 := by decide +kernel
theorem dksX1_symbolAt_1 : cX1_symbolAt.data.toList.drop 24 = dktX1_symbolAt_1 := dk_seg dksX1_symbolAt_0 24 rfl rfl
theorem dX1_symbolAt_0 : decode cX1_symbolAt 0 = .ok (.aload_n 0, 1) := dk_42 (dk_at dksX1_symbolAt_0 0 rfl rfl)
theorem dX1_symbolAt_1 : decode cX1_symbolAt 1 = .ok (.iload_n 1, 1) := dk_27 (dk_at dksX1_symbolAt_0 1 rfl rfl)
theorem dX1_symbolAt_2 : decode cX1_symbolAt 2 = .ok (.invokevirtual 93, 3) := dk_182 0 93 (dk_at dksX1_symbolAt_0 2 rfl rfl)
theorem dX1_symbolAt_5 : decode cX1_symbolAt 5 = .ok (.getfield 104, 3) := dk_180 0 104 (dk_at dksX1_symbolAt_0 5 rfl rfl)
theorem dX1_symbolAt_8 : decode cX1_symbolAt 8 = .ok (.astore_n 3, 1) := dk_78 (dk_at dksX1_symbolAt_0 8 rfl rfl)
theorem dX1_symbolAt_9 : decode cX1_symbolAt 9 = .ok (.iload_n 2, 1) := dk_28 (dk_at dksX1_symbolAt_0 9 rfl rfl)
theorem dX1_symbolAt_10 : decode cX1_symbolAt 10 = .ok (.iconst 0, 1) := dk_3 (dk_at dksX1_symbolAt_0 10 rfl rfl)
theorem dX1_symbolAt_11 : decode cX1_symbolAt 11 = .ok (.aload_n 3, 1) := dk_45 (dk_at dksX1_symbolAt_0 11 rfl rfl)
theorem dX1_symbolAt_12 : decode cX1_symbolAt 12 = .ok (.arraylength, 1) := dk_190 (dk_at dksX1_symbolAt_0 12 rfl rfl)
theorem dX1_symbolAt_13 : decode cX1_symbolAt 13 = .ok (.iconst 1, 1) := dk_4 (dk_at dksX1_symbolAt_0 13 rfl rfl)
theorem dX1_symbolAt_14 : decode cX1_symbolAt 14 = .ok (.isub, 1) := dk_100 (dk_at dksX1_symbolAt_0 14 rfl rfl)
theorem dX1_symbolAt_15 : decode cX1_symbolAt 15 = .ok (.invokestatic 3, 3) := dk_184 0 3 (dk_at dksX1_symbolAt_0 15 rfl rfl)
theorem dX1_symbolAt_18 : decode cX1_symbolAt 18 = .ok (.ifCond .eq 9, 3) := dk_153 0 9 (dk_at dksX1_symbolAt_0 18 rfl rfl)
theorem dX1_symbolAt_21 : decode cX1_symbolAt 21 = .ok (.aload_n 3, 1) := dk_45 (dk_at dksX1_symbolAt_0 21 rfl rfl)
theorem dX1_symbolAt_22 : decode cX1_symbolAt 22 = .ok (.iload_n 2, 1) := dk_28 (dk_at dksX1_symbolAt_0 22 rfl rfl)
theorem dX1_symbolAt_23 : decode cX1_symbolAt 23 = .ok (.iaload, 1) := dk_46 (dk_at dksX1_symbolAt_0 23 rfl rfl)
theorem dX1_symbolAt_24 : decode cX1_symbolAt 24 = .ok (.goto 4, 3) := dk_167 0 4 (dk_at dksX1_symbolAt_1 0 rfl rfl)
theorem dX1_symbolAt_27 : decode cX1_symbolAt 27 = .ok (.iconst (-1), 1) := dk_2 (dk_at dksX1_symbolAt_1 3 rfl rfl)
theorem dX1_symbolAt_28 : decode cX1_symbolAt 28 = .ok (.ireturn, 1) := dk_172 (dk_at dksX1_symbolAt_1 4 rfl rfl)
abbrev cX1_isNullable : ByteArray := prog_1_method_22_code
def yX1_isNullable : MethodName := ⟨RX1, "isNullable", "(I)Z"⟩
def dkwX1_isNullable_0 : List UInt8 := [42, 182, 0, 128, 16, 20, 27, 184, 0, 76, 96, 182, 0, 131, 172]
abbrev dktX1_isNullable_0 : List UInt8 := dkwX1_isNullable_0 ++ []
theorem dksX1_isNullable_0 : cX1_isNullable.data.toList.drop 0 = dktX1_isNullable_0 := by decide +kernel
theorem dX1_isNullable_0 : decode cX1_isNullable 0 = .ok (.aload_n 0, 1) := dk_42 (dk_at dksX1_isNullable_0 0 rfl rfl)
theorem dX1_isNullable_1 : decode cX1_isNullable 1 = .ok (.invokevirtual 128, 3) := dk_182 0 128 (dk_at dksX1_isNullable_0 1 rfl rfl)
theorem dX1_isNullable_4 : decode cX1_isNullable 4 = .ok (.bipush 20, 2) := dk_16 20 (dk_at dksX1_isNullable_0 4 rfl rfl)
theorem dX1_isNullable_6 : decode cX1_isNullable 6 = .ok (.iload_n 1, 1) := dk_27 (dk_at dksX1_isNullable_0 6 rfl rfl)
theorem dX1_isNullable_7 : decode cX1_isNullable 7 = .ok (.invokestatic 76, 3) := dk_184 0 76 (dk_at dksX1_isNullable_0 7 rfl rfl)
theorem dX1_isNullable_10 : decode cX1_isNullable 10 = .ok (.iadd, 1) := dk_96 (dk_at dksX1_isNullable_0 10 rfl rfl)
theorem dX1_isNullable_11 : decode cX1_isNullable 11 = .ok (.invokevirtual 131, 3) := dk_182 0 131 (dk_at dksX1_isNullable_0 11 rfl rfl)
theorem dX1_isNullable_14 : decode cX1_isNullable 14 = .ok (.ireturn, 1) := dk_172 (dk_at dksX1_isNullable_0 14 rfl rfl)
abbrev cX1_firstOf : ByteArray := prog_1_method_23_code
def yX1_firstOf : MethodName := ⟨RX1, "firstOf", "(I)I"⟩
def dkwX1_firstOf_0 : List UInt8 := [42, 182, 0, 128, 180, 0, 134, 27, 184, 0, 76, 46, 172]
abbrev dktX1_firstOf_0 : List UInt8 := dkwX1_firstOf_0 ++ []
theorem dksX1_firstOf_0 : cX1_firstOf.data.toList.drop 0 = dktX1_firstOf_0 := by decide +kernel
theorem dX1_firstOf_0 : decode cX1_firstOf 0 = .ok (.aload_n 0, 1) := dk_42 (dk_at dksX1_firstOf_0 0 rfl rfl)
theorem dX1_firstOf_1 : decode cX1_firstOf 1 = .ok (.invokevirtual 128, 3) := dk_182 0 128 (dk_at dksX1_firstOf_0 1 rfl rfl)
theorem dX1_firstOf_4 : decode cX1_firstOf 4 = .ok (.getfield 134, 3) := dk_180 0 134 (dk_at dksX1_firstOf_0 4 rfl rfl)
theorem dX1_firstOf_7 : decode cX1_firstOf 7 = .ok (.iload_n 1, 1) := dk_27 (dk_at dksX1_firstOf_0 7 rfl rfl)
theorem dX1_firstOf_8 : decode cX1_firstOf 8 = .ok (.invokestatic 76, 3) := dk_184 0 76 (dk_at dksX1_firstOf_0 8 rfl rfl)
theorem dX1_firstOf_11 : decode cX1_firstOf 11 = .ok (.iaload, 1) := dk_46 (dk_at dksX1_firstOf_0 11 rfl rfl)
theorem dX1_firstOf_12 : decode cX1_firstOf 12 = .ok (.ireturn, 1) := dk_172 (dk_at dksX1_firstOf_0 12 rfl rfl)
abbrev cX1_followOf : ByteArray := prog_1_method_24_code
def yX1_followOf : MethodName := ⟨RX1, "followOf", "(I)I"⟩
def dkwX1_followOf_0 : List UInt8 := [42, 182, 0, 128, 180, 0, 137, 27, 184, 0, 76, 46, 172]
abbrev dktX1_followOf_0 : List UInt8 := dkwX1_followOf_0 ++ []
theorem dksX1_followOf_0 : cX1_followOf.data.toList.drop 0 = dktX1_followOf_0 := by decide +kernel
theorem dX1_followOf_0 : decode cX1_followOf 0 = .ok (.aload_n 0, 1) := dk_42 (dk_at dksX1_followOf_0 0 rfl rfl)
theorem dX1_followOf_1 : decode cX1_followOf 1 = .ok (.invokevirtual 128, 3) := dk_182 0 128 (dk_at dksX1_followOf_0 1 rfl rfl)
theorem dX1_followOf_4 : decode cX1_followOf 4 = .ok (.getfield 137, 3) := dk_180 0 137 (dk_at dksX1_followOf_0 4 rfl rfl)
theorem dX1_followOf_7 : decode cX1_followOf 7 = .ok (.iload_n 1, 1) := dk_27 (dk_at dksX1_followOf_0 7 rfl rfl)
theorem dX1_followOf_8 : decode cX1_followOf 8 = .ok (.invokestatic 76, 3) := dk_184 0 76 (dk_at dksX1_followOf_0 8 rfl rfl)
theorem dX1_followOf_11 : decode cX1_followOf 11 = .ok (.iaload, 1) := dk_46 (dk_at dksX1_followOf_0 11 rfl rfl)
theorem dX1_followOf_12 : decode cX1_followOf 12 = .ok (.ireturn, 1) := dk_172 (dk_at dksX1_followOf_0 12 rfl rfl)
abbrev cX1_shortestOf : ByteArray := prog_1_method_26_code
def yX1_shortestOf : MethodName := ⟨RX1, "shortestOf", "(I)I"⟩
def dkwX1_shortestOf_0 : List UInt8 := [42, 182, 0, 128, 180, 0, 143, 27, 184, 0, 76, 46, 172]
abbrev dktX1_shortestOf_0 : List UInt8 := dkwX1_shortestOf_0 ++ []
theorem dksX1_shortestOf_0 : cX1_shortestOf.data.toList.drop 0 = dktX1_shortestOf_0 := by decide +kernel
theorem dX1_shortestOf_0 : decode cX1_shortestOf 0 = .ok (.aload_n 0, 1) := dk_42 (dk_at dksX1_shortestOf_0 0 rfl rfl)
theorem dX1_shortestOf_1 : decode cX1_shortestOf 1 = .ok (.invokevirtual 128, 3) := dk_182 0 128 (dk_at dksX1_shortestOf_0 1 rfl rfl)
theorem dX1_shortestOf_4 : decode cX1_shortestOf 4 = .ok (.getfield 143, 3) := dk_180 0 143 (dk_at dksX1_shortestOf_0 4 rfl rfl)
theorem dX1_shortestOf_7 : decode cX1_shortestOf 7 = .ok (.iload_n 1, 1) := dk_27 (dk_at dksX1_shortestOf_0 7 rfl rfl)
theorem dX1_shortestOf_8 : decode cX1_shortestOf 8 = .ok (.invokestatic 76, 3) := dk_184 0 76 (dk_at dksX1_shortestOf_0 8 rfl rfl)
theorem dX1_shortestOf_11 : decode cX1_shortestOf 11 = .ok (.iaload, 1) := dk_46 (dk_at dksX1_shortestOf_0 11 rfl rfl)
theorem dX1_shortestOf_12 : decode cX1_shortestOf 12 = .ok (.ireturn, 1) := dk_172 (dk_at dksX1_shortestOf_0 12 rfl rfl)
abbrev cX1_predictionOf : ByteArray := prog_1_method_27_code
def yX1_predictionOf : MethodName := ⟨RX1, "predictionOf", "(I)I"⟩
def dkwX1_predictionOf_0 : List UInt8 := [42, 182, 0, 128, 180, 0, 146, 42, 27, 182, 0, 60, 46, 172]
abbrev dktX1_predictionOf_0 : List UInt8 := dkwX1_predictionOf_0 ++ []
theorem dksX1_predictionOf_0 : cX1_predictionOf.data.toList.drop 0 = dktX1_predictionOf_0 := by decide +kernel
theorem dX1_predictionOf_0 : decode cX1_predictionOf 0 = .ok (.aload_n 0, 1) := dk_42 (dk_at dksX1_predictionOf_0 0 rfl rfl)
theorem dX1_predictionOf_1 : decode cX1_predictionOf 1 = .ok (.invokevirtual 128, 3) := dk_182 0 128 (dk_at dksX1_predictionOf_0 1 rfl rfl)
theorem dX1_predictionOf_4 : decode cX1_predictionOf 4 = .ok (.getfield 146, 3) := dk_180 0 146 (dk_at dksX1_predictionOf_0 4 rfl rfl)
theorem dX1_predictionOf_7 : decode cX1_predictionOf 7 = .ok (.aload_n 0, 1) := dk_42 (dk_at dksX1_predictionOf_0 7 rfl rfl)
theorem dX1_predictionOf_8 : decode cX1_predictionOf 8 = .ok (.iload_n 1, 1) := dk_27 (dk_at dksX1_predictionOf_0 8 rfl rfl)
theorem dX1_predictionOf_9 : decode cX1_predictionOf 9 = .ok (.invokevirtual 60, 3) := dk_182 0 60 (dk_at dksX1_predictionOf_0 9 rfl rfl)
theorem dX1_predictionOf_12 : decode cX1_predictionOf 12 = .ok (.iaload, 1) := dk_46 (dk_at dksX1_predictionOf_0 12 rfl rfl)
theorem dX1_predictionOf_13 : decode cX1_predictionOf 13 = .ok (.ireturn, 1) := dk_172 (dk_at dksX1_predictionOf_0 13 rfl rfl)
abbrev cX1_predicted : ByteArray := prog_1_method_28_code
def yX1_predicted : MethodName := ⟨RX1, "predicted", "(II)I"⟩
def dkwX1_predicted_0 : List UInt8 := [42, 182, 0, 128, 16, 20, 27, 184, 0, 76, 96, 28, 184, 0, 149, 182, 0, 152, 172]
abbrev dktX1_predicted_0 : List UInt8 := dkwX1_predicted_0 ++ []
theorem dksX1_predicted_0 : cX1_predicted.data.toList.drop 0 = dktX1_predicted_0 := by decide +kernel
theorem dX1_predicted_0 : decode cX1_predicted 0 = .ok (.aload_n 0, 1) := dk_42 (dk_at dksX1_predicted_0 0 rfl rfl)
theorem dX1_predicted_1 : decode cX1_predicted 1 = .ok (.invokevirtual 128, 3) := dk_182 0 128 (dk_at dksX1_predicted_0 1 rfl rfl)
theorem dX1_predicted_4 : decode cX1_predicted 4 = .ok (.bipush 20, 2) := dk_16 20 (dk_at dksX1_predicted_0 4 rfl rfl)
theorem dX1_predicted_6 : decode cX1_predicted 6 = .ok (.iload_n 1, 1) := dk_27 (dk_at dksX1_predicted_0 6 rfl rfl)
theorem dX1_predicted_7 : decode cX1_predicted 7 = .ok (.invokestatic 76, 3) := dk_184 0 76 (dk_at dksX1_predicted_0 7 rfl rfl)
theorem dX1_predicted_10 : decode cX1_predicted 10 = .ok (.iadd, 1) := dk_96 (dk_at dksX1_predicted_0 10 rfl rfl)
theorem dX1_predicted_11 : decode cX1_predicted 11 = .ok (.iload_n 2, 1) := dk_28 (dk_at dksX1_predicted_0 11 rfl rfl)
theorem dX1_predicted_12 : decode cX1_predicted 12 = .ok (.invokestatic 149, 3) := dk_184 0 149 (dk_at dksX1_predicted_0 12 rfl rfl)
theorem dX1_predicted_15 : decode cX1_predicted 15 = .ok (.invokevirtual 152, 3) := dk_182 0 152 (dk_at dksX1_predicted_0 15 rfl rfl)
theorem dX1_predicted_18 : decode cX1_predicted 18 = .ok (.ireturn, 1) := dk_172 (dk_at dksX1_predicted_0 18 rfl rfl)
abbrev cX1_token : ByteArray := prog_1_method_9_code
def yX1_token : MethodName := ⟨RX1, "token", "(I)I"⟩
def dkwX1_token_0 : List UInt8 := [26, 3, 16, 12, 184, 0, 50, 172]
abbrev dktX1_token_0 : List UInt8 := dkwX1_token_0 ++ []
theorem dksX1_token_0 : cX1_token.data.toList.drop 0 = dktX1_token_0 := by decide +kernel
theorem dX1_token_0 : decode cX1_token 0 = .ok (.iload_n 0, 1) := dk_26 (dk_at dksX1_token_0 0 rfl rfl)
theorem dX1_token_1 : decode cX1_token 1 = .ok (.iconst 0, 1) := dk_3 (dk_at dksX1_token_0 1 rfl rfl)
theorem dX1_token_2 : decode cX1_token 2 = .ok (.bipush 12, 2) := dk_16 12 (dk_at dksX1_token_0 2 rfl rfl)
theorem dX1_token_4 : decode cX1_token 4 = .ok (.invokestatic 50, 3) := dk_184 0 50 (dk_at dksX1_token_0 4 rfl rfl)
theorem dX1_token_7 : decode cX1_token 7 = .ok (.ireturn, 1) := dk_172 (dk_at dksX1_token_0 7 rfl rfl)
abbrev cX1_pairCount : ByteArray := prog_1_method_31_code
def yX1_pairCount : MethodName := ⟨RX1, "pairCount", "(I)I"⟩
def dkwX1_pairCount_0 : List UInt8 := [42, 182, 0, 159, 180, 0, 162, 42, 27, 182, 0, 60, 50, 182, 0, 165, 172]
abbrev dktX1_pairCount_0 : List UInt8 := dkwX1_pairCount_0 ++ []
theorem dksX1_pairCount_0 : cX1_pairCount.data.toList.drop 0 = dktX1_pairCount_0 := by decide +kernel
theorem dX1_pairCount_0 : decode cX1_pairCount 0 = .ok (.aload_n 0, 1) := dk_42 (dk_at dksX1_pairCount_0 0 rfl rfl)
theorem dX1_pairCount_1 : decode cX1_pairCount 1 = .ok (.invokevirtual 159, 3) := dk_182 0 159 (dk_at dksX1_pairCount_0 1 rfl rfl)
theorem dX1_pairCount_4 : decode cX1_pairCount 4 = .ok (.getfield 162, 3) := dk_180 0 162 (dk_at dksX1_pairCount_0 4 rfl rfl)
theorem dX1_pairCount_7 : decode cX1_pairCount 7 = .ok (.aload_n 0, 1) := dk_42 (dk_at dksX1_pairCount_0 7 rfl rfl)
theorem dX1_pairCount_8 : decode cX1_pairCount 8 = .ok (.iload_n 1, 1) := dk_27 (dk_at dksX1_pairCount_0 8 rfl rfl)
theorem dX1_pairCount_9 : decode cX1_pairCount 9 = .ok (.invokevirtual 60, 3) := dk_182 0 60 (dk_at dksX1_pairCount_0 9 rfl rfl)
theorem dX1_pairCount_12 : decode cX1_pairCount 12 = .ok (.aaload, 1) := dk_50 (dk_at dksX1_pairCount_0 12 rfl rfl)
theorem dX1_pairCount_13 : decode cX1_pairCount 13 = .ok (.invokevirtual 165, 3) := dk_182 0 165 (dk_at dksX1_pairCount_0 13 rfl rfl)
theorem dX1_pairCount_16 : decode cX1_pairCount 16 = .ok (.ireturn, 1) := dk_172 (dk_at dksX1_pairCount_0 16 rfl rfl)
abbrev cX1_predictedByPair : ByteArray := prog_1_method_32_code
def yX1_predictedByPair : MethodName := ⟨RX1, "predictedByPair", "(III)I"⟩
def dkwX1_predictedByPair_0 : List UInt8 := [42, 182, 0, 159, 16, 20, 27, 184, 0, 76, 96, 28, 184, 0, 149, 29, 184, 0, 149, 182, 0, 169, 172]
abbrev dktX1_predictedByPair_0 : List UInt8 := dkwX1_predictedByPair_0 ++ []
theorem dksX1_predictedByPair_0 : cX1_predictedByPair.data.toList.drop 0 = dktX1_predictedByPair_0 := by decide +kernel
theorem dX1_predictedByPair_0 : decode cX1_predictedByPair 0 = .ok (.aload_n 0, 1) := dk_42 (dk_at dksX1_predictedByPair_0 0 rfl rfl)
theorem dX1_predictedByPair_1 : decode cX1_predictedByPair 1 = .ok (.invokevirtual 159, 3) := dk_182 0 159 (dk_at dksX1_predictedByPair_0 1 rfl rfl)
theorem dX1_predictedByPair_4 : decode cX1_predictedByPair 4 = .ok (.bipush 20, 2) := dk_16 20 (dk_at dksX1_predictedByPair_0 4 rfl rfl)
theorem dX1_predictedByPair_6 : decode cX1_predictedByPair 6 = .ok (.iload_n 1, 1) := dk_27 (dk_at dksX1_predictedByPair_0 6 rfl rfl)
theorem dX1_predictedByPair_7 : decode cX1_predictedByPair 7 = .ok (.invokestatic 76, 3) := dk_184 0 76 (dk_at dksX1_predictedByPair_0 7 rfl rfl)
theorem dX1_predictedByPair_10 : decode cX1_predictedByPair 10 = .ok (.iadd, 1) := dk_96 (dk_at dksX1_predictedByPair_0 10 rfl rfl)
theorem dX1_predictedByPair_11 : decode cX1_predictedByPair 11 = .ok (.iload_n 2, 1) := dk_28 (dk_at dksX1_predictedByPair_0 11 rfl rfl)
theorem dX1_predictedByPair_12 : decode cX1_predictedByPair 12 = .ok (.invokestatic 149, 3) := dk_184 0 149 (dk_at dksX1_predictedByPair_0 12 rfl rfl)
theorem dX1_predictedByPair_15 : decode cX1_predictedByPair 15 = .ok (.iload_n 3, 1) := dk_29 (dk_at dksX1_predictedByPair_0 15 rfl rfl)
theorem dX1_predictedByPair_16 : decode cX1_predictedByPair 16 = .ok (.invokestatic 149, 3) := dk_184 0 149 (dk_at dksX1_predictedByPair_0 16 rfl rfl)
theorem dX1_predictedByPair_19 : decode cX1_predictedByPair 19 = .ok (.invokevirtual 169, 3) := dk_182 0 169 (dk_at dksX1_predictedByPair_0 19 rfl rfl)
theorem dX1_predictedByPair_22 : decode cX1_predictedByPair 22 = .ok (.ireturn, 1) := dk_172 (dk_at dksX1_predictedByPair_0 22 rfl rfl)
abbrev cX1_isLeftRecursive : ByteArray := prog_1_method_35_code
def yX1_isLeftRecursive : MethodName := ⟨RX1, "isLeftRecursive", "(I)Z"⟩
def dkwX1_isLeftRecursive_0 : List UInt8 := [42, 182, 0, 128, 27, 184, 0, 76, 182, 0, 172, 172]
abbrev dktX1_isLeftRecursive_0 : List UInt8 := dkwX1_isLeftRecursive_0 ++ []
theorem dksX1_isLeftRecursive_0 : cX1_isLeftRecursive.data.toList.drop 0 = dktX1_isLeftRecursive_0 := by decide +kernel
theorem dX1_isLeftRecursive_0 : decode cX1_isLeftRecursive 0 = .ok (.aload_n 0, 1) := dk_42 (dk_at dksX1_isLeftRecursive_0 0 rfl rfl)
theorem dX1_isLeftRecursive_1 : decode cX1_isLeftRecursive 1 = .ok (.invokevirtual 128, 3) := dk_182 0 128 (dk_at dksX1_isLeftRecursive_0 1 rfl rfl)
theorem dX1_isLeftRecursive_4 : decode cX1_isLeftRecursive 4 = .ok (.iload_n 1, 1) := dk_27 (dk_at dksX1_isLeftRecursive_0 4 rfl rfl)
theorem dX1_isLeftRecursive_5 : decode cX1_isLeftRecursive 5 = .ok (.invokestatic 76, 3) := dk_184 0 76 (dk_at dksX1_isLeftRecursive_0 5 rfl rfl)
theorem dX1_isLeftRecursive_8 : decode cX1_isLeftRecursive 8 = .ok (.invokevirtual 172, 3) := dk_182 0 172 (dk_at dksX1_isLeftRecursive_0 8 rfl rfl)
theorem dX1_isLeftRecursive_11 : decode cX1_isLeftRecursive 11 = .ok (.ireturn, 1) := dk_172 (dk_at dksX1_isLeftRecursive_0 11 rfl rfl)
abbrev cX1_removeLeftRecursion : ByteArray := prog_1_method_37_code
def yX1_removeLeftRecursion : MethodName := ⟨RX1, "removeLeftRecursion", "()I"⟩
def dkwX1_removeLeftRecursion_1 : List UInt8 := [183, 0, 75, 191, 42, 43, 182, 0, 185, 172]
abbrev dktX1_removeLeftRecursion_1 : List UInt8 := dkwX1_removeLeftRecursion_1 ++ []
def dkwX1_removeLeftRecursion_0 : List UInt8 := [187, 0, 123, 89, 42, 180, 0, 16, 183, 0, 179, 76, 43, 182, 0, 180, 167, 0, 12, 77, 187, 0, 73, 89]
abbrev dktX1_removeLeftRecursion_0 : List UInt8 := dkwX1_removeLeftRecursion_0 ++ dktX1_removeLeftRecursion_1
theorem dksX1_removeLeftRecursion_0 : cX1_removeLeftRecursion.data.toList.drop 0 = dktX1_removeLeftRecursion_0 := by decide +kernel
theorem dksX1_removeLeftRecursion_1 : cX1_removeLeftRecursion.data.toList.drop 24 = dktX1_removeLeftRecursion_1 := dk_seg dksX1_removeLeftRecursion_0 24 rfl rfl
theorem dX1_removeLeftRecursion_0 : decode cX1_removeLeftRecursion 0 = .ok (.new 123, 3) := dk_187 0 123 (dk_at dksX1_removeLeftRecursion_0 0 rfl rfl)
theorem dX1_removeLeftRecursion_3 : decode cX1_removeLeftRecursion 3 = .ok (.dup, 1) := dk_89 (dk_at dksX1_removeLeftRecursion_0 3 rfl rfl)
theorem dX1_removeLeftRecursion_4 : decode cX1_removeLeftRecursion 4 = .ok (.aload_n 0, 1) := dk_42 (dk_at dksX1_removeLeftRecursion_0 4 rfl rfl)
theorem dX1_removeLeftRecursion_5 : decode cX1_removeLeftRecursion 5 = .ok (.getfield 16, 3) := dk_180 0 16 (dk_at dksX1_removeLeftRecursion_0 5 rfl rfl)
theorem dX1_removeLeftRecursion_8 : decode cX1_removeLeftRecursion 8 = .ok (.invokespecial 179, 3) := dk_183 0 179 (dk_at dksX1_removeLeftRecursion_0 8 rfl rfl)
theorem dX1_removeLeftRecursion_11 : decode cX1_removeLeftRecursion 11 = .ok (.astore_n 1, 1) := dk_76 (dk_at dksX1_removeLeftRecursion_0 11 rfl rfl)
theorem dX1_removeLeftRecursion_12 : decode cX1_removeLeftRecursion 12 = .ok (.aload_n 1, 1) := dk_43 (dk_at dksX1_removeLeftRecursion_0 12 rfl rfl)
theorem dX1_removeLeftRecursion_13 : decode cX1_removeLeftRecursion 13 = .ok (.invokevirtual 180, 3) := dk_182 0 180 (dk_at dksX1_removeLeftRecursion_0 13 rfl rfl)
theorem dX1_removeLeftRecursion_16 : decode cX1_removeLeftRecursion 16 = .ok (.goto 12, 3) := dk_167 0 12 (dk_at dksX1_removeLeftRecursion_0 16 rfl rfl)
theorem dX1_removeLeftRecursion_19 : decode cX1_removeLeftRecursion 19 = .ok (.astore_n 2, 1) := dk_77 (dk_at dksX1_removeLeftRecursion_0 19 rfl rfl)
theorem dX1_removeLeftRecursion_20 : decode cX1_removeLeftRecursion 20 = .ok (.new 73, 3) := dk_187 0 73 (dk_at dksX1_removeLeftRecursion_0 20 rfl rfl)
theorem dX1_removeLeftRecursion_23 : decode cX1_removeLeftRecursion 23 = .ok (.dup, 1) := dk_89 (dk_at dksX1_removeLeftRecursion_0 23 rfl rfl)
theorem dX1_removeLeftRecursion_24 : decode cX1_removeLeftRecursion 24 = .ok (.invokespecial 75, 3) := dk_183 0 75 (dk_at dksX1_removeLeftRecursion_1 0 rfl rfl)
theorem dX1_removeLeftRecursion_27 : decode cX1_removeLeftRecursion 27 = .ok (.athrow, 1) := dk_191 (dk_at dksX1_removeLeftRecursion_1 3 rfl rfl)
theorem dX1_removeLeftRecursion_28 : decode cX1_removeLeftRecursion 28 = .ok (.aload_n 0, 1) := dk_42 (dk_at dksX1_removeLeftRecursion_1 4 rfl rfl)
theorem dX1_removeLeftRecursion_29 : decode cX1_removeLeftRecursion 29 = .ok (.aload_n 1, 1) := dk_43 (dk_at dksX1_removeLeftRecursion_1 5 rfl rfl)
theorem dX1_removeLeftRecursion_30 : decode cX1_removeLeftRecursion 30 = .ok (.invokevirtual 185, 3) := dk_182 0 185 (dk_at dksX1_removeLeftRecursion_1 6 rfl rfl)
theorem dX1_removeLeftRecursion_33 : decode cX1_removeLeftRecursion 33 = .ok (.ireturn, 1) := dk_172 (dk_at dksX1_removeLeftRecursion_1 9 rfl rfl)
abbrev cX1_kept : ByteArray := prog_1_method_36_code
def yX1_kept : MethodName := ⟨RX1, "kept", "(LSelahGenerator$Workshop;)I"⟩
def dkwX1_kept_0 : List UInt8 := [42, 43, 180, 0, 175, 181, 0, 16, 42, 43, 180, 0, 176, 182, 0, 90, 172]
abbrev dktX1_kept_0 : List UInt8 := dkwX1_kept_0 ++ []
theorem dksX1_kept_0 : cX1_kept.data.toList.drop 0 = dktX1_kept_0 := by decide +kernel
theorem dX1_kept_0 : decode cX1_kept 0 = .ok (.aload_n 0, 1) := dk_42 (dk_at dksX1_kept_0 0 rfl rfl)
theorem dX1_kept_1 : decode cX1_kept 1 = .ok (.aload_n 1, 1) := dk_43 (dk_at dksX1_kept_0 1 rfl rfl)
theorem dX1_kept_2 : decode cX1_kept 2 = .ok (.getfield 175, 3) := dk_180 0 175 (dk_at dksX1_kept_0 2 rfl rfl)
theorem dX1_kept_5 : decode cX1_kept 5 = .ok (.putfield 16, 3) := dk_181 0 16 (dk_at dksX1_kept_0 5 rfl rfl)
theorem dX1_kept_8 : decode cX1_kept 8 = .ok (.aload_n 0, 1) := dk_42 (dk_at dksX1_kept_0 8 rfl rfl)
theorem dX1_kept_9 : decode cX1_kept 9 = .ok (.aload_n 1, 1) := dk_43 (dk_at dksX1_kept_0 9 rfl rfl)
theorem dX1_kept_10 : decode cX1_kept 10 = .ok (.getfield 176, 3) := dk_180 0 176 (dk_at dksX1_kept_0 10 rfl rfl)
theorem dX1_kept_13 : decode cX1_kept 13 = .ok (.invokevirtual 90, 3) := dk_182 0 90 (dk_at dksX1_kept_0 13 rfl rfl)
theorem dX1_kept_16 : decode cX1_kept 16 = .ok (.ireturn, 1) := dk_172 (dk_at dksX1_kept_0 16 rfl rfl)
abbrev cX1_factorOut : ByteArray := prog_1_method_38_code
def yX1_factorOut : MethodName := ⟨RX1, "factorOut", "()I"⟩
def dkwX1_factorOut_1 : List UInt8 := [183, 0, 75, 191, 42, 43, 182, 0, 185, 172]
abbrev dktX1_factorOut_1 : List UInt8 := dkwX1_factorOut_1 ++ []
def dkwX1_factorOut_0 : List UInt8 := [187, 0, 123, 89, 42, 180, 0, 16, 183, 0, 179, 76, 43, 182, 0, 189, 167, 0, 12, 77, 187, 0, 73, 89]
abbrev dktX1_factorOut_0 : List UInt8 := dkwX1_factorOut_0 ++ dktX1_factorOut_1
theorem dksX1_factorOut_0 : cX1_factorOut.data.toList.drop 0 = dktX1_factorOut_0 := by decide +kernel
theorem dksX1_factorOut_1 : cX1_factorOut.data.toList.drop 24 = dktX1_factorOut_1 := dk_seg dksX1_factorOut_0 24 rfl rfl
theorem dX1_factorOut_0 : decode cX1_factorOut 0 = .ok (.new 123, 3) := dk_187 0 123 (dk_at dksX1_factorOut_0 0 rfl rfl)
theorem dX1_factorOut_3 : decode cX1_factorOut 3 = .ok (.dup, 1) := dk_89 (dk_at dksX1_factorOut_0 3 rfl rfl)
theorem dX1_factorOut_4 : decode cX1_factorOut 4 = .ok (.aload_n 0, 1) := dk_42 (dk_at dksX1_factorOut_0 4 rfl rfl)
theorem dX1_factorOut_5 : decode cX1_factorOut 5 = .ok (.getfield 16, 3) := dk_180 0 16 (dk_at dksX1_factorOut_0 5 rfl rfl)
theorem dX1_factorOut_8 : decode cX1_factorOut 8 = .ok (.invokespecial 179, 3) := dk_183 0 179 (dk_at dksX1_factorOut_0 8 rfl rfl)
theorem dX1_factorOut_11 : decode cX1_factorOut 11 = .ok (.astore_n 1, 1) := dk_76 (dk_at dksX1_factorOut_0 11 rfl rfl)
theorem dX1_factorOut_12 : decode cX1_factorOut 12 = .ok (.aload_n 1, 1) := dk_43 (dk_at dksX1_factorOut_0 12 rfl rfl)
theorem dX1_factorOut_13 : decode cX1_factorOut 13 = .ok (.invokevirtual 189, 3) := dk_182 0 189 (dk_at dksX1_factorOut_0 13 rfl rfl)
theorem dX1_factorOut_16 : decode cX1_factorOut 16 = .ok (.goto 12, 3) := dk_167 0 12 (dk_at dksX1_factorOut_0 16 rfl rfl)
theorem dX1_factorOut_19 : decode cX1_factorOut 19 = .ok (.astore_n 2, 1) := dk_77 (dk_at dksX1_factorOut_0 19 rfl rfl)
theorem dX1_factorOut_20 : decode cX1_factorOut 20 = .ok (.new 73, 3) := dk_187 0 73 (dk_at dksX1_factorOut_0 20 rfl rfl)
theorem dX1_factorOut_23 : decode cX1_factorOut 23 = .ok (.dup, 1) := dk_89 (dk_at dksX1_factorOut_0 23 rfl rfl)
theorem dX1_factorOut_24 : decode cX1_factorOut 24 = .ok (.invokespecial 75, 3) := dk_183 0 75 (dk_at dksX1_factorOut_1 0 rfl rfl)
theorem dX1_factorOut_27 : decode cX1_factorOut 27 = .ok (.athrow, 1) := dk_191 (dk_at dksX1_factorOut_1 3 rfl rfl)
theorem dX1_factorOut_28 : decode cX1_factorOut 28 = .ok (.aload_n 0, 1) := dk_42 (dk_at dksX1_factorOut_1 4 rfl rfl)
theorem dX1_factorOut_29 : decode cX1_factorOut 29 = .ok (.aload_n 1, 1) := dk_43 (dk_at dksX1_factorOut_1 5 rfl rfl)
theorem dX1_factorOut_30 : decode cX1_factorOut 30 = .ok (.invokevirtual 185, 3) := dk_182 0 185 (dk_at dksX1_factorOut_1 6 rfl rfl)
theorem dX1_factorOut_33 : decode cX1_factorOut 33 = .ok (.ireturn, 1) := dk_172 (dk_at dksX1_factorOut_1 9 rfl rfl)
abbrev cX1_start : ByteArray := prog_1_method_39_code
def yX1_start : MethodName := ⟨RX1, "start", "(I)I"⟩
def dkwX1_start_3 : List UInt8 := [181, 0, 43, 42, 180, 0, 16, 185, 0, 54, 1, 0, 172]
abbrev dktX1_start_3 : List UInt8 := dkwX1_start_3 ++ []
def dkwX1_start_2 : List UInt8 := [182, 0, 199, 153, 0, 7, 4, 167, 0, 4, 3, 184, 0, 79, 42, 187, 0, 202, 89, 42, 27, 183, 0, 204]
abbrev dktX1_start_2 : List UInt8 := dkwX1_start_2 ++ dktX1_start_3
def dkwX1_start_1 : List UInt8 := [185, 0, 192, 1, 0, 154, 0, 29, 27, 4, 160, 0, 13, 42, 182, 0, 196, 153, 0, 17, 167, 0, 10, 42]
abbrev dktX1_start_1 : List UInt8 := dkwX1_start_1 ++ dktX1_start_2
def dkwX1_start_0 : List UInt8 := [27, 4, 159, 0, 8, 27, 5, 160, 0, 7, 4, 167, 0, 4, 3, 184, 0, 101, 42, 180, 0, 16]
abbrev dktX1_start_0 : List UInt8 := dkwX1_start_0 ++ dktX1_start_1
theorem dksX1_start_0 : cX1_start.data.toList.drop 0 = dktX1_start_0 := by decide +kernel
theorem dksX1_start_1 : cX1_start.data.toList.drop 22 = dktX1_start_1 := dk_seg dksX1_start_0 22 rfl rfl
theorem dksX1_start_2 : cX1_start.data.toList.drop 46 = dktX1_start_2 := dk_seg dksX1_start_1 24 rfl rfl
theorem dksX1_start_3 : cX1_start.data.toList.drop 70 = dktX1_start_3 := dk_seg dksX1_start_2 24 rfl rfl
theorem dX1_start_0 : decode cX1_start 0 = .ok (.iload_n 1, 1) := dk_27 (dk_at dksX1_start_0 0 rfl rfl)
theorem dX1_start_1 : decode cX1_start 1 = .ok (.iconst 1, 1) := dk_4 (dk_at dksX1_start_0 1 rfl rfl)
theorem dX1_start_2 : decode cX1_start 2 = .ok (.if_icmp .eq 8, 3) := dk_159 0 8 (dk_at dksX1_start_0 2 rfl rfl)
theorem dX1_start_5 : decode cX1_start 5 = .ok (.iload_n 1, 1) := dk_27 (dk_at dksX1_start_0 5 rfl rfl)
theorem dX1_start_6 : decode cX1_start 6 = .ok (.iconst 2, 1) := dk_5 (dk_at dksX1_start_0 6 rfl rfl)
theorem dX1_start_7 : decode cX1_start 7 = .ok (.if_icmp .ne 7, 3) := dk_160 0 7 (dk_at dksX1_start_0 7 rfl rfl)
theorem dX1_start_10 : decode cX1_start 10 = .ok (.iconst 1, 1) := dk_4 (dk_at dksX1_start_0 10 rfl rfl)
theorem dX1_start_11 : decode cX1_start 11 = .ok (.goto 4, 3) := dk_167 0 4 (dk_at dksX1_start_0 11 rfl rfl)
theorem dX1_start_14 : decode cX1_start 14 = .ok (.iconst 0, 1) := dk_3 (dk_at dksX1_start_0 14 rfl rfl)
theorem dX1_start_15 : decode cX1_start 15 = .ok (.invokestatic 101, 3) := dk_184 0 101 (dk_at dksX1_start_0 15 rfl rfl)
theorem dX1_start_18 : decode cX1_start 18 = .ok (.aload_n 0, 1) := dk_42 (dk_at dksX1_start_0 18 rfl rfl)
theorem dX1_start_19 : decode cX1_start 19 = .ok (.getfield 16, 3) := dk_180 0 16 (dk_at dksX1_start_0 19 rfl rfl)
theorem dX1_start_22 : decode cX1_start 22 = .ok (.invokeinterface 192 1, 5) := by decide +kernel
theorem dX1_start_27 : decode cX1_start 27 = .ok (.ifCond .ne 29, 3) := dk_154 0 29 (dk_at dksX1_start_1 5 rfl rfl)
theorem dX1_start_30 : decode cX1_start 30 = .ok (.iload_n 1, 1) := dk_27 (dk_at dksX1_start_1 8 rfl rfl)
theorem dX1_start_31 : decode cX1_start 31 = .ok (.iconst 1, 1) := dk_4 (dk_at dksX1_start_1 9 rfl rfl)
theorem dX1_start_32 : decode cX1_start 32 = .ok (.if_icmp .ne 13, 3) := dk_160 0 13 (dk_at dksX1_start_1 10 rfl rfl)
theorem dX1_start_35 : decode cX1_start 35 = .ok (.aload_n 0, 1) := dk_42 (dk_at dksX1_start_1 13 rfl rfl)
theorem dX1_start_36 : decode cX1_start 36 = .ok (.invokevirtual 196, 3) := dk_182 0 196 (dk_at dksX1_start_1 14 rfl rfl)
theorem dX1_start_39 : decode cX1_start 39 = .ok (.ifCond .eq 17, 3) := dk_153 0 17 (dk_at dksX1_start_1 17 rfl rfl)
theorem dX1_start_42 : decode cX1_start 42 = .ok (.goto 10, 3) := dk_167 0 10 (dk_at dksX1_start_1 20 rfl rfl)
theorem dX1_start_45 : decode cX1_start 45 = .ok (.aload_n 0, 1) := dk_42 (dk_at dksX1_start_1 23 rfl rfl)
theorem dX1_start_46 : decode cX1_start 46 = .ok (.invokevirtual 199, 3) := dk_182 0 199 (dk_at dksX1_start_2 0 rfl rfl)
theorem dX1_start_49 : decode cX1_start 49 = .ok (.ifCond .eq 7, 3) := dk_153 0 7 (dk_at dksX1_start_2 3 rfl rfl)
theorem dX1_start_52 : decode cX1_start 52 = .ok (.iconst 1, 1) := dk_4 (dk_at dksX1_start_2 6 rfl rfl)
theorem dX1_start_53 : decode cX1_start 53 = .ok (.goto 4, 3) := dk_167 0 4 (dk_at dksX1_start_2 7 rfl rfl)
theorem dX1_start_56 : decode cX1_start 56 = .ok (.iconst 0, 1) := dk_3 (dk_at dksX1_start_2 10 rfl rfl)
theorem dX1_start_57 : decode cX1_start 57 = .ok (.invokestatic 79, 3) := dk_184 0 79 (dk_at dksX1_start_2 11 rfl rfl)
theorem dX1_start_60 : decode cX1_start 60 = .ok (.aload_n 0, 1) := dk_42 (dk_at dksX1_start_2 14 rfl rfl)
theorem dX1_start_61 : decode cX1_start 61 = .ok (.new 202, 3) := dk_187 0 202 (dk_at dksX1_start_2 15 rfl rfl)
theorem dX1_start_64 : decode cX1_start 64 = .ok (.dup, 1) := dk_89 (dk_at dksX1_start_2 18 rfl rfl)
theorem dX1_start_65 : decode cX1_start 65 = .ok (.aload_n 0, 1) := dk_42 (dk_at dksX1_start_2 19 rfl rfl)
theorem dX1_start_66 : decode cX1_start 66 = .ok (.iload_n 1, 1) := dk_27 (dk_at dksX1_start_2 20 rfl rfl)
theorem dX1_start_67 : decode cX1_start 67 = .ok (.invokespecial 204, 3) := dk_183 0 204 (dk_at dksX1_start_2 21 rfl rfl)
theorem dX1_start_70 : decode cX1_start 70 = .ok (.putfield 43, 3) := dk_181 0 43 (dk_at dksX1_start_3 0 rfl rfl)
theorem dX1_start_73 : decode cX1_start 73 = .ok (.aload_n 0, 1) := dk_42 (dk_at dksX1_start_3 3 rfl rfl)
theorem dX1_start_74 : decode cX1_start 74 = .ok (.getfield 16, 3) := dk_180 0 16 (dk_at dksX1_start_3 4 rfl rfl)
theorem dX1_start_77 : decode cX1_start 77 = .ok (.invokeinterface 54 1, 5) := by decide +kernel
theorem dX1_start_82 : decode cX1_start 82 = .ok (.ireturn, 1) := dk_172 (dk_at dksX1_start_3 12 rfl rfl)
abbrev cX1_give : ByteArray := prog_1_method_40_code
def yX1_give : MethodName := ⟨RX1, "give", "(I)I"⟩
def dkwX1_give_2 : List UInt8 := [167, 0, 4, 3, 184, 0, 79, 42, 180, 0, 43, 28, 182, 0, 213, 172]
abbrev dktX1_give_2 : List UInt8 := dkwX1_give_2 ++ []
def dkwX1_give_1 : List UInt8 := [16, 12, 159, 0, 20, 42, 180, 0, 43, 180, 0, 210, 185, 0, 54, 1, 0, 16, 40, 162, 0, 7, 4]
abbrev dktX1_give_1 : List UInt8 := dkwX1_give_1 ++ dktX1_give_2
def dkwX1_give_0 : List UInt8 := [27, 184, 0, 149, 61, 42, 180, 0, 43, 198, 0, 41, 42, 180, 0, 43, 180, 0, 207, 4, 160, 0, 30, 28]
abbrev dktX1_give_0 : List UInt8 := dkwX1_give_0 ++ dktX1_give_1
theorem dksX1_give_0 : cX1_give.data.toList.drop 0 = dktX1_give_0 := by decide +kernel
theorem dksX1_give_1 : cX1_give.data.toList.drop 24 = dktX1_give_1 := dk_seg dksX1_give_0 24 rfl rfl
theorem dksX1_give_2 : cX1_give.data.toList.drop 47 = dktX1_give_2 := dk_seg dksX1_give_1 23 rfl rfl
theorem dX1_give_0 : decode cX1_give 0 = .ok (.iload_n 1, 1) := dk_27 (dk_at dksX1_give_0 0 rfl rfl)
theorem dX1_give_1 : decode cX1_give 1 = .ok (.invokestatic 149, 3) := dk_184 0 149 (dk_at dksX1_give_0 1 rfl rfl)
theorem dX1_give_4 : decode cX1_give 4 = .ok (.istore_n 2, 1) := dk_61 (dk_at dksX1_give_0 4 rfl rfl)
theorem dX1_give_5 : decode cX1_give 5 = .ok (.aload_n 0, 1) := dk_42 (dk_at dksX1_give_0 5 rfl rfl)
theorem dX1_give_6 : decode cX1_give 6 = .ok (.getfield 43, 3) := dk_180 0 43 (dk_at dksX1_give_0 6 rfl rfl)
theorem dX1_give_9 : decode cX1_give 9 = .ok (.ifnull 41, 3) := dk_198 0 41 (dk_at dksX1_give_0 9 rfl rfl)
theorem dX1_give_12 : decode cX1_give 12 = .ok (.aload_n 0, 1) := dk_42 (dk_at dksX1_give_0 12 rfl rfl)
theorem dX1_give_13 : decode cX1_give 13 = .ok (.getfield 43, 3) := dk_180 0 43 (dk_at dksX1_give_0 13 rfl rfl)
theorem dX1_give_16 : decode cX1_give 16 = .ok (.getfield 207, 3) := dk_180 0 207 (dk_at dksX1_give_0 16 rfl rfl)
theorem dX1_give_19 : decode cX1_give 19 = .ok (.iconst 1, 1) := dk_4 (dk_at dksX1_give_0 19 rfl rfl)
theorem dX1_give_20 : decode cX1_give 20 = .ok (.if_icmp .ne 30, 3) := dk_160 0 30 (dk_at dksX1_give_0 20 rfl rfl)
theorem dX1_give_23 : decode cX1_give 23 = .ok (.iload_n 2, 1) := dk_28 (dk_at dksX1_give_0 23 rfl rfl)
theorem dX1_give_24 : decode cX1_give 24 = .ok (.bipush 12, 2) := dk_16 12 (dk_at dksX1_give_1 0 rfl rfl)
theorem dX1_give_26 : decode cX1_give 26 = .ok (.if_icmp .eq 20, 3) := dk_159 0 20 (dk_at dksX1_give_1 2 rfl rfl)
theorem dX1_give_29 : decode cX1_give 29 = .ok (.aload_n 0, 1) := dk_42 (dk_at dksX1_give_1 5 rfl rfl)
theorem dX1_give_30 : decode cX1_give 30 = .ok (.getfield 43, 3) := dk_180 0 43 (dk_at dksX1_give_1 6 rfl rfl)
theorem dX1_give_33 : decode cX1_give 33 = .ok (.getfield 210, 3) := dk_180 0 210 (dk_at dksX1_give_1 9 rfl rfl)
theorem dX1_give_36 : decode cX1_give 36 = .ok (.invokeinterface 54 1, 5) := by decide +kernel
theorem dX1_give_41 : decode cX1_give 41 = .ok (.bipush 40, 2) := dk_16 40 (dk_at dksX1_give_1 17 rfl rfl)
theorem dX1_give_43 : decode cX1_give 43 = .ok (.if_icmp .ge 7, 3) := dk_162 0 7 (dk_at dksX1_give_1 19 rfl rfl)
theorem dX1_give_46 : decode cX1_give 46 = .ok (.iconst 1, 1) := dk_4 (dk_at dksX1_give_1 22 rfl rfl)
theorem dX1_give_47 : decode cX1_give 47 = .ok (.goto 4, 3) := dk_167 0 4 (dk_at dksX1_give_2 0 rfl rfl)
theorem dX1_give_50 : decode cX1_give 50 = .ok (.iconst 0, 1) := dk_3 (dk_at dksX1_give_2 3 rfl rfl)
theorem dX1_give_51 : decode cX1_give 51 = .ok (.invokestatic 79, 3) := dk_184 0 79 (dk_at dksX1_give_2 4 rfl rfl)
theorem dX1_give_54 : decode cX1_give 54 = .ok (.aload_n 0, 1) := dk_42 (dk_at dksX1_give_2 7 rfl rfl)
theorem dX1_give_55 : decode cX1_give 55 = .ok (.getfield 43, 3) := dk_180 0 43 (dk_at dksX1_give_2 8 rfl rfl)
theorem dX1_give_58 : decode cX1_give 58 = .ok (.iload_n 2, 1) := dk_28 (dk_at dksX1_give_2 11 rfl rfl)
theorem dX1_give_59 : decode cX1_give 59 = .ok (.invokevirtual 213, 3) := dk_182 0 213 (dk_at dksX1_give_2 12 rfl rfl)
theorem dX1_give_62 : decode cX1_give 62 = .ok (.ireturn, 1) := dk_172 (dk_at dksX1_give_2 15 rfl rfl)
abbrev cX1_errorToken : ByteArray := prog_1_method_50_code
def yX1_errorToken : MethodName := ⟨RX1, "errorToken", "(I)I"⟩
def dkwX1_errorToken_0 : List UInt8 := [42, 27, 182, 1, 2, 180, 1, 6, 172]
abbrev dktX1_errorToken_0 : List UInt8 := dkwX1_errorToken_0 ++ []
theorem dksX1_errorToken_0 : cX1_errorToken.data.toList.drop 0 = dktX1_errorToken_0 := by decide +kernel
theorem dX1_errorToken_0 : decode cX1_errorToken 0 = .ok (.aload_n 0, 1) := dk_42 (dk_at dksX1_errorToken_0 0 rfl rfl)
theorem dX1_errorToken_1 : decode cX1_errorToken 1 = .ok (.iload_n 1, 1) := dk_27 (dk_at dksX1_errorToken_0 1 rfl rfl)
theorem dX1_errorToken_2 : decode cX1_errorToken 2 = .ok (.invokevirtual 258, 3) := dk_182 1 2 (dk_at dksX1_errorToken_0 2 rfl rfl)
theorem dX1_errorToken_5 : decode cX1_errorToken 5 = .ok (.getfield 262, 3) := dk_180 1 6 (dk_at dksX1_errorToken_0 5 rfl rfl)
theorem dX1_errorToken_8 : decode cX1_errorToken 8 = .ok (.ireturn, 1) := dk_172 (dk_at dksX1_errorToken_0 8 rfl rfl)
abbrev cX1_fault : ByteArray := prog_1_method_49_code
def yX1_fault : MethodName := ⟨RX1, "fault", "(I)LSelahGenerator$Fault;"⟩
def dkwX1_fault_1 : List UInt8 := [185, 0, 64, 2, 0, 192, 1, 0, 176]
abbrev dktX1_fault_1 : List UInt8 := dkwX1_fault_1 ++ []
def dkwX1_fault_0 : List UInt8 := [27, 3, 42, 182, 0, 253, 4, 100, 184, 0, 50, 61, 42, 180, 0, 43, 180, 0, 250, 28]
abbrev dktX1_fault_0 : List UInt8 := dkwX1_fault_0 ++ dktX1_fault_1
theorem dksX1_fault_0 : cX1_fault.data.toList.drop 0 = dktX1_fault_0 := by decide +kernel
theorem dksX1_fault_1 : cX1_fault.data.toList.drop 20 = dktX1_fault_1 := dk_seg dksX1_fault_0 20 rfl rfl
theorem dX1_fault_0 : decode cX1_fault 0 = .ok (.iload_n 1, 1) := dk_27 (dk_at dksX1_fault_0 0 rfl rfl)
theorem dX1_fault_1 : decode cX1_fault 1 = .ok (.iconst 0, 1) := dk_3 (dk_at dksX1_fault_0 1 rfl rfl)
theorem dX1_fault_2 : decode cX1_fault 2 = .ok (.aload_n 0, 1) := dk_42 (dk_at dksX1_fault_0 2 rfl rfl)
theorem dX1_fault_3 : decode cX1_fault 3 = .ok (.invokevirtual 253, 3) := dk_182 0 253 (dk_at dksX1_fault_0 3 rfl rfl)
theorem dX1_fault_6 : decode cX1_fault 6 = .ok (.iconst 1, 1) := dk_4 (dk_at dksX1_fault_0 6 rfl rfl)
theorem dX1_fault_7 : decode cX1_fault 7 = .ok (.isub, 1) := dk_100 (dk_at dksX1_fault_0 7 rfl rfl)
theorem dX1_fault_8 : decode cX1_fault 8 = .ok (.invokestatic 50, 3) := dk_184 0 50 (dk_at dksX1_fault_0 8 rfl rfl)
theorem dX1_fault_11 : decode cX1_fault 11 = .ok (.istore_n 2, 1) := dk_61 (dk_at dksX1_fault_0 11 rfl rfl)
theorem dX1_fault_12 : decode cX1_fault 12 = .ok (.aload_n 0, 1) := dk_42 (dk_at dksX1_fault_0 12 rfl rfl)
theorem dX1_fault_13 : decode cX1_fault 13 = .ok (.getfield 43, 3) := dk_180 0 43 (dk_at dksX1_fault_0 13 rfl rfl)
theorem dX1_fault_16 : decode cX1_fault 16 = .ok (.getfield 250, 3) := dk_180 0 250 (dk_at dksX1_fault_0 16 rfl rfl)
theorem dX1_fault_19 : decode cX1_fault 19 = .ok (.iload_n 2, 1) := dk_28 (dk_at dksX1_fault_0 19 rfl rfl)
theorem dX1_fault_20 : decode cX1_fault 20 = .ok (.invokeinterface 64 2, 5) := by decide +kernel
theorem dX1_fault_25 : decode cX1_fault 25 = .ok (.checkcast 256, 3) := dk_192 1 0 (dk_at dksX1_fault_1 5 rfl rfl)
theorem dX1_fault_28 : decode cX1_fault 28 = .ok (.areturn, 1) := dk_176 (dk_at dksX1_fault_1 8 rfl rfl)
abbrev cX1_errorSymbol : ByteArray := prog_1_method_51_code
def yX1_errorSymbol : MethodName := ⟨RX1, "errorSymbol", "(I)I"⟩
def dkwX1_errorSymbol_0 : List UInt8 := [42, 27, 182, 1, 2, 180, 1, 8, 172]
abbrev dktX1_errorSymbol_0 : List UInt8 := dkwX1_errorSymbol_0 ++ []
theorem dksX1_errorSymbol_0 : cX1_errorSymbol.data.toList.drop 0 = dktX1_errorSymbol_0 := by decide +kernel
theorem dX1_errorSymbol_0 : decode cX1_errorSymbol 0 = .ok (.aload_n 0, 1) := dk_42 (dk_at dksX1_errorSymbol_0 0 rfl rfl)
theorem dX1_errorSymbol_1 : decode cX1_errorSymbol 1 = .ok (.iload_n 1, 1) := dk_27 (dk_at dksX1_errorSymbol_0 1 rfl rfl)
theorem dX1_errorSymbol_2 : decode cX1_errorSymbol 2 = .ok (.invokevirtual 258, 3) := dk_182 1 2 (dk_at dksX1_errorSymbol_0 2 rfl rfl)
theorem dX1_errorSymbol_5 : decode cX1_errorSymbol 5 = .ok (.getfield 264, 3) := dk_180 1 8 (dk_at dksX1_errorSymbol_0 5 rfl rfl)
theorem dX1_errorSymbol_8 : decode cX1_errorSymbol 8 = .ok (.ireturn, 1) := dk_172 (dk_at dksX1_errorSymbol_0 8 rfl rfl)
abbrev cX1_wasSkipped : ByteArray := prog_1_method_52_code
def yX1_wasSkipped : MethodName := ⟨RX1, "wasSkipped", "(I)Z"⟩
def dkwX1_wasSkipped_0 : List UInt8 := [42, 27, 182, 1, 2, 180, 1, 11, 172]
abbrev dktX1_wasSkipped_0 : List UInt8 := dkwX1_wasSkipped_0 ++ []
theorem dksX1_wasSkipped_0 : cX1_wasSkipped.data.toList.drop 0 = dktX1_wasSkipped_0 := by decide +kernel
theorem dX1_wasSkipped_0 : decode cX1_wasSkipped 0 = .ok (.aload_n 0, 1) := dk_42 (dk_at dksX1_wasSkipped_0 0 rfl rfl)
theorem dX1_wasSkipped_1 : decode cX1_wasSkipped 1 = .ok (.iload_n 1, 1) := dk_27 (dk_at dksX1_wasSkipped_0 1 rfl rfl)
theorem dX1_wasSkipped_2 : decode cX1_wasSkipped 2 = .ok (.invokevirtual 258, 3) := dk_182 1 2 (dk_at dksX1_wasSkipped_0 2 rfl rfl)
theorem dX1_wasSkipped_5 : decode cX1_wasSkipped 5 = .ok (.getfield 267, 3) := dk_180 1 11 (dk_at dksX1_wasSkipped_0 5 rfl rfl)
theorem dX1_wasSkipped_8 : decode cX1_wasSkipped 8 = .ok (.ireturn, 1) := dk_172 (dk_at dksX1_wasSkipped_0 8 rfl rfl)
abbrev cX1_writeRule : ByteArray := prog_1_method_59_code
def yX1_writeRule : MethodName := ⟨RX1, "writeRule", "(I)I"⟩
def dkwX1_writeRule_3 : List UInt8 := [182, 1, 54, 87, 132, 5, 1, 167, 255, 227, 42, 180, 0, 23, 182, 1, 58, 172]
abbrev dktX1_writeRule_3 : List UInt8 := dkwX1_writeRule_3 ++ []
def dkwX1_writeRule_2 : List UInt8 := [21, 5, 21, 4, 162, 0, 28, 45, 21, 5, 46, 54, 6, 42, 180, 0, 23, 21, 6, 184, 1, 50]
abbrev dktX1_writeRule_2 : List UInt8 := dkwX1_writeRule_2 ++ dktX1_writeRule_3
def dkwX1_writeRule_1 : List UInt8 := [184, 1, 50, 182, 1, 54, 16, 61, 182, 1, 54, 87, 44, 180, 0, 104, 78, 45, 190, 54, 4, 3, 54, 5]
abbrev dktX1_writeRule_1 : List UInt8 := dkwX1_writeRule_1 ++ dktX1_writeRule_2
def dkwX1_writeRule_0 : List UInt8 := [42, 27, 182, 0, 93, 77, 42, 180, 0, 23, 3, 182, 1, 46, 42, 180, 0, 23, 44, 180, 0, 118]
abbrev dktX1_writeRule_0 : List UInt8 := dkwX1_writeRule_0 ++ dktX1_writeRule_1
theorem dksX1_writeRule_0 : cX1_writeRule.data.toList.drop 0 = dktX1_writeRule_0 := by decide +kernel
theorem dksX1_writeRule_1 : cX1_writeRule.data.toList.drop 22 = dktX1_writeRule_1 := dk_seg dksX1_writeRule_0 22 rfl rfl
theorem dksX1_writeRule_2 : cX1_writeRule.data.toList.drop 46 = dktX1_writeRule_2 := dk_seg dksX1_writeRule_1 24 rfl rfl
theorem dksX1_writeRule_3 : cX1_writeRule.data.toList.drop 68 = dktX1_writeRule_3 := dk_seg dksX1_writeRule_2 22 rfl rfl
theorem dX1_writeRule_0 : decode cX1_writeRule 0 = .ok (.aload_n 0, 1) := dk_42 (dk_at dksX1_writeRule_0 0 rfl rfl)
theorem dX1_writeRule_1 : decode cX1_writeRule 1 = .ok (.iload_n 1, 1) := dk_27 (dk_at dksX1_writeRule_0 1 rfl rfl)
theorem dX1_writeRule_2 : decode cX1_writeRule 2 = .ok (.invokevirtual 93, 3) := dk_182 0 93 (dk_at dksX1_writeRule_0 2 rfl rfl)
theorem dX1_writeRule_5 : decode cX1_writeRule 5 = .ok (.astore_n 2, 1) := dk_77 (dk_at dksX1_writeRule_0 5 rfl rfl)
theorem dX1_writeRule_6 : decode cX1_writeRule 6 = .ok (.aload_n 0, 1) := dk_42 (dk_at dksX1_writeRule_0 6 rfl rfl)
theorem dX1_writeRule_7 : decode cX1_writeRule 7 = .ok (.getfield 23, 3) := dk_180 0 23 (dk_at dksX1_writeRule_0 7 rfl rfl)
theorem dX1_writeRule_10 : decode cX1_writeRule 10 = .ok (.iconst 0, 1) := dk_3 (dk_at dksX1_writeRule_0 10 rfl rfl)
theorem dX1_writeRule_11 : decode cX1_writeRule 11 = .ok (.invokevirtual 302, 3) := dk_182 1 46 (dk_at dksX1_writeRule_0 11 rfl rfl)
theorem dX1_writeRule_14 : decode cX1_writeRule 14 = .ok (.aload_n 0, 1) := dk_42 (dk_at dksX1_writeRule_0 14 rfl rfl)
theorem dX1_writeRule_15 : decode cX1_writeRule 15 = .ok (.getfield 23, 3) := dk_180 0 23 (dk_at dksX1_writeRule_0 15 rfl rfl)
theorem dX1_writeRule_18 : decode cX1_writeRule 18 = .ok (.aload_n 2, 1) := dk_44 (dk_at dksX1_writeRule_0 18 rfl rfl)
theorem dX1_writeRule_19 : decode cX1_writeRule 19 = .ok (.getfield 118, 3) := dk_180 0 118 (dk_at dksX1_writeRule_0 19 rfl rfl)
theorem dX1_writeRule_22 : decode cX1_writeRule 22 = .ok (.invokestatic 306, 3) := dk_184 1 50 (dk_at dksX1_writeRule_1 0 rfl rfl)
theorem dX1_writeRule_25 : decode cX1_writeRule 25 = .ok (.invokevirtual 310, 3) := dk_182 1 54 (dk_at dksX1_writeRule_1 3 rfl rfl)
theorem dX1_writeRule_28 : decode cX1_writeRule 28 = .ok (.bipush 61, 2) := dk_16 61 (dk_at dksX1_writeRule_1 6 rfl rfl)
theorem dX1_writeRule_30 : decode cX1_writeRule 30 = .ok (.invokevirtual 310, 3) := dk_182 1 54 (dk_at dksX1_writeRule_1 8 rfl rfl)
theorem dX1_writeRule_33 : decode cX1_writeRule 33 = .ok (.pop, 1) := dk_87 (dk_at dksX1_writeRule_1 11 rfl rfl)
theorem dX1_writeRule_34 : decode cX1_writeRule 34 = .ok (.aload_n 2, 1) := dk_44 (dk_at dksX1_writeRule_1 12 rfl rfl)
theorem dX1_writeRule_35 : decode cX1_writeRule 35 = .ok (.getfield 104, 3) := dk_180 0 104 (dk_at dksX1_writeRule_1 13 rfl rfl)
theorem dX1_writeRule_38 : decode cX1_writeRule 38 = .ok (.astore_n 3, 1) := dk_78 (dk_at dksX1_writeRule_1 16 rfl rfl)
theorem dX1_writeRule_39 : decode cX1_writeRule 39 = .ok (.aload_n 3, 1) := dk_45 (dk_at dksX1_writeRule_1 17 rfl rfl)
theorem dX1_writeRule_40 : decode cX1_writeRule 40 = .ok (.arraylength, 1) := dk_190 (dk_at dksX1_writeRule_1 18 rfl rfl)
theorem dX1_writeRule_41 : decode cX1_writeRule 41 = .ok (.istore 4, 2) := dk_54 4 (dk_at dksX1_writeRule_1 19 rfl rfl)
theorem dX1_writeRule_43 : decode cX1_writeRule 43 = .ok (.iconst 0, 1) := dk_3 (dk_at dksX1_writeRule_1 21 rfl rfl)
theorem dX1_writeRule_44 : decode cX1_writeRule 44 = .ok (.istore 5, 2) := dk_54 5 (dk_at dksX1_writeRule_1 22 rfl rfl)
theorem dX1_writeRule_46 : decode cX1_writeRule 46 = .ok (.iload 5, 2) := dk_21 5 (dk_at dksX1_writeRule_2 0 rfl rfl)
theorem dX1_writeRule_48 : decode cX1_writeRule 48 = .ok (.iload 4, 2) := dk_21 4 (dk_at dksX1_writeRule_2 2 rfl rfl)
theorem dX1_writeRule_50 : decode cX1_writeRule 50 = .ok (.if_icmp .ge 28, 3) := dk_162 0 28 (dk_at dksX1_writeRule_2 4 rfl rfl)
theorem dX1_writeRule_53 : decode cX1_writeRule 53 = .ok (.aload_n 3, 1) := dk_45 (dk_at dksX1_writeRule_2 7 rfl rfl)
theorem dX1_writeRule_54 : decode cX1_writeRule 54 = .ok (.iload 5, 2) := dk_21 5 (dk_at dksX1_writeRule_2 8 rfl rfl)
theorem dX1_writeRule_56 : decode cX1_writeRule 56 = .ok (.iaload, 1) := dk_46 (dk_at dksX1_writeRule_2 10 rfl rfl)
theorem dX1_writeRule_57 : decode cX1_writeRule 57 = .ok (.istore 6, 2) := dk_54 6 (dk_at dksX1_writeRule_2 11 rfl rfl)
theorem dX1_writeRule_59 : decode cX1_writeRule 59 = .ok (.aload_n 0, 1) := dk_42 (dk_at dksX1_writeRule_2 13 rfl rfl)
theorem dX1_writeRule_60 : decode cX1_writeRule 60 = .ok (.getfield 23, 3) := dk_180 0 23 (dk_at dksX1_writeRule_2 14 rfl rfl)
theorem dX1_writeRule_63 : decode cX1_writeRule 63 = .ok (.iload 6, 2) := dk_21 6 (dk_at dksX1_writeRule_2 17 rfl rfl)
theorem dX1_writeRule_65 : decode cX1_writeRule 65 = .ok (.invokestatic 306, 3) := dk_184 1 50 (dk_at dksX1_writeRule_2 19 rfl rfl)
theorem dX1_writeRule_68 : decode cX1_writeRule 68 = .ok (.invokevirtual 310, 3) := dk_182 1 54 (dk_at dksX1_writeRule_3 0 rfl rfl)
theorem dX1_writeRule_71 : decode cX1_writeRule 71 = .ok (.pop, 1) := dk_87 (dk_at dksX1_writeRule_3 3 rfl rfl)
theorem dX1_writeRule_72 : decode cX1_writeRule 72 = .ok (.iinc 5 1, 3) := dk_132 5 1 (dk_at dksX1_writeRule_3 4 rfl rfl)
theorem dX1_writeRule_75 : decode cX1_writeRule 75 = .ok (.goto (-29), 3) := dk_167 255 227 (dk_at dksX1_writeRule_3 7 rfl rfl)
theorem dX1_writeRule_78 : decode cX1_writeRule 78 = .ok (.aload_n 0, 1) := dk_42 (dk_at dksX1_writeRule_3 10 rfl rfl)
theorem dX1_writeRule_79 : decode cX1_writeRule 79 = .ok (.getfield 23, 3) := dk_180 0 23 (dk_at dksX1_writeRule_3 11 rfl rfl)
theorem dX1_writeRule_82 : decode cX1_writeRule 82 = .ok (.invokevirtual 314, 3) := dk_182 1 58 (dk_at dksX1_writeRule_3 14 rfl rfl)
theorem dX1_writeRule_85 : decode cX1_writeRule 85 = .ok (.ireturn, 1) := dk_172 (dk_at dksX1_writeRule_3 17 rfl rfl)
abbrev cX1_letter : ByteArray := prog_1_method_58_code
def yX1_letter : MethodName := ⟨RX1, "letter", "(I)C"⟩
def dkwX1_letter_0 : List UInt8 := [26, 184, 0, 97, 153, 0, 13, 16, 65, 26, 96, 16, 20, 100, 167, 0, 7, 16, 97, 26, 96, 146, 172]
abbrev dktX1_letter_0 : List UInt8 := dkwX1_letter_0 ++ []
theorem dksX1_letter_0 : cX1_letter.data.toList.drop 0 = dktX1_letter_0 := by decide +kernel
theorem dX1_letter_0 : decode cX1_letter 0 = .ok (.iload_n 0, 1) := dk_26 (dk_at dksX1_letter_0 0 rfl rfl)
theorem dX1_letter_1 : decode cX1_letter 1 = .ok (.invokestatic 97, 3) := dk_184 0 97 (dk_at dksX1_letter_0 1 rfl rfl)
theorem dX1_letter_4 : decode cX1_letter 4 = .ok (.ifCond .eq 13, 3) := dk_153 0 13 (dk_at dksX1_letter_0 4 rfl rfl)
theorem dX1_letter_7 : decode cX1_letter 7 = .ok (.bipush 65, 2) := dk_16 65 (dk_at dksX1_letter_0 7 rfl rfl)
theorem dX1_letter_9 : decode cX1_letter 9 = .ok (.iload_n 0, 1) := dk_26 (dk_at dksX1_letter_0 9 rfl rfl)
theorem dX1_letter_10 : decode cX1_letter 10 = .ok (.iadd, 1) := dk_96 (dk_at dksX1_letter_0 10 rfl rfl)
theorem dX1_letter_11 : decode cX1_letter 11 = .ok (.bipush 20, 2) := dk_16 20 (dk_at dksX1_letter_0 11 rfl rfl)
theorem dX1_letter_13 : decode cX1_letter 13 = .ok (.isub, 1) := dk_100 (dk_at dksX1_letter_0 13 rfl rfl)
theorem dX1_letter_14 : decode cX1_letter 14 = .ok (.goto 7, 3) := dk_167 0 7 (dk_at dksX1_letter_0 14 rfl rfl)
theorem dX1_letter_17 : decode cX1_letter 17 = .ok (.bipush 97, 2) := dk_16 97 (dk_at dksX1_letter_0 17 rfl rfl)
theorem dX1_letter_19 : decode cX1_letter 19 = .ok (.iload_n 0, 1) := dk_26 (dk_at dksX1_letter_0 19 rfl rfl)
theorem dX1_letter_20 : decode cX1_letter 20 = .ok (.iadd, 1) := dk_96 (dk_at dksX1_letter_0 20 rfl rfl)
theorem dX1_letter_21 : decode cX1_letter 21 = .ok (.i2c, 1) := dk_146 (dk_at dksX1_letter_0 21 rfl rfl)
theorem dX1_letter_22 : decode cX1_letter 22 = .ok (.ireturn, 1) := dk_172 (dk_at dksX1_letter_0 22 rfl rfl)
theorem q123 : (Jvm.Cond.initialized "SelahGenerator") ∈ lw_all := lw_g (lw_at lw_m1 1 rfl) rfl
theorem q176 : (Jvm.Cond.instantiable "SelahGenerator" (5 : Nat)) ∈ lw_all := lw_g (lw_at lw_m1 54 rfl) rfl
theorem q178 : (Jvm.Cond.instanceMethod ({ cls := "SelahGenerator", name := "<init>", desc := "()V" } : Jvm.MethodName)) ∈ lw_all := lw_g (lw_at lw_m1 56 rfl) rfl
theorem q179 : (Jvm.Cond.code ({ cls := "SelahGenerator", name := "<init>", desc := "()V" } : Jvm.MethodName) prog_1_method_3_code (1 : Nat) (Option.none : Option Jvm.ClassFile.FieldType)) ∈ lw_all := lw_g (lw_at lw_m1 57 rfl) rfl
theorem q180 : (Jvm.Cond.methodLink "SelahGenerator" (7 : Nat) ({ cls := "java/lang/Object", name := "<init>", desc := "()V" } : Jvm.MethodName)) ∈ lw_all := lw_g (lw_at lw_m1 58 rfl) rfl
theorem q183 : (Jvm.Cond.classLink "SelahGenerator" (13 : Nat) "java/util/ArrayList") ∈ lw_all := lw_g (lw_at lw_m1 61 rfl) rfl
theorem q185 : (Jvm.Cond.methodLink "SelahGenerator" (15 : Nat) ({ cls := "java/util/ArrayList", name := "<init>", desc := "()V" } : Jvm.MethodName)) ∈ lw_all := lw_g (lw_at lw_m1 63 rfl) rfl
theorem q212 : (Jvm.Cond.classLink "SelahGenerator" (20 : Nat) "java/lang/StringBuilder") ∈ lw_all := lw_g (lw_at lw_m1 90 rfl) rfl
theorem q214 : (Jvm.Cond.methodLink "SelahGenerator" (22 : Nat) ({ cls := "java/lang/StringBuilder", name := "<init>", desc := "()V" } : Jvm.MethodName)) ∈ lw_all := lw_g (lw_at lw_m1 92 rfl) rfl
theorem q245 : (Jvm.Cond.fieldLink "SelahGenerator" (16 : Nat) "SelahGenerator" "rules" "Ljava/util/List;") ∈ lw_all := lw_g (lw_at lw_m1 123 rfl) rfl
theorem q248 : (Jvm.Cond.fieldLink "SelahGenerator" (27 : Nat) "SelahGenerator" "sets" "LSelahGenerator$Sets;") ∈ lw_all := lw_g (lw_at lw_m1 126 rfl) rfl
theorem q249 : (Jvm.Cond.fieldLink "SelahGenerator" (36 : Nat) "SelahGenerator" "pairs" "LSelahGenerator$Pairs;") ∈ lw_all := lw_g (lw_at lw_m1 127 rfl) rfl
theorem q250 : (Jvm.Cond.fieldLink "SelahGenerator" (43 : Nat) "SelahGenerator" "parse" "LSelahGenerator$Parse;") ∈ lw_all := lw_g (lw_at lw_m1 128 rfl) rfl
theorem q251 : (Jvm.Cond.fieldLink "SelahGenerator" (23 : Nat) "SelahGenerator" "output" "Ljava/lang/StringBuilder;") ∈ lw_all := lw_g (lw_at lw_m1 129 rfl) rfl
theorem q252 : (Jvm.Cond.lays "SelahGenerator" "SelahGenerator" "rules" "Ljava/util/List;") ∈ lw_all := lw_g (lw_at lw_m1 130 rfl) rfl
theorem q253 : (Jvm.Cond.soleField "SelahGenerator" "rules") ∈ lw_all := lw_g (lw_at lw_m1 131 rfl) rfl
theorem q254 : (Jvm.Cond.lays "SelahGenerator" "SelahGenerator" "sets" "LSelahGenerator$Sets;") ∈ lw_all := lw_g (lw_at lw_m1 132 rfl) rfl
theorem q255 : (Jvm.Cond.soleField "SelahGenerator" "sets") ∈ lw_all := lw_g (lw_at lw_m1 133 rfl) rfl
theorem q256 : (Jvm.Cond.lays "SelahGenerator" "SelahGenerator" "pairs" "LSelahGenerator$Pairs;") ∈ lw_all := lw_g (lw_at lw_m1 134 rfl) rfl
theorem q257 : (Jvm.Cond.soleField "SelahGenerator" "pairs") ∈ lw_all := lw_g (lw_at lw_m1 135 rfl) rfl
theorem q258 : (Jvm.Cond.lays "SelahGenerator" "SelahGenerator" "parse" "LSelahGenerator$Parse;") ∈ lw_all := lw_g (lw_at lw_m1 136 rfl) rfl
theorem q259 : (Jvm.Cond.soleField "SelahGenerator" "parse") ∈ lw_all := lw_g (lw_at lw_m1 137 rfl) rfl
theorem q260 : (Jvm.Cond.laysFinal "SelahGenerator" "SelahGenerator" "output" "Ljava/lang/StringBuilder;") ∈ lw_all := lw_g (lw_at lw_m1 138 rfl) rfl
theorem q261 : (Jvm.Cond.soleField "SelahGenerator" "output") ∈ lw_all := lw_g (lw_at lw_m1 139 rfl) rfl
theorem q262 : (Jvm.Cond.superclass "SelahGenerator" "java/lang/Object") ∈ lw_all := lw_g (lw_at lw_m1 140 rfl) rfl
theorem q264 : (Jvm.Cond.instanceMethod ({ cls := "SelahGenerator", name := "ruleCount", desc := "()I" } : Jvm.MethodName)) ∈ lw_all := lw_g (lw_at lw_m1 142 rfl) rfl
theorem q265 : (Jvm.Cond.selects "SelahGenerator" ({ cls := "SelahGenerator", name := "ruleCount", desc := "()I" } : Jvm.MethodName) ({ cls := "SelahGenerator", name := "ruleCount", desc := "()I" } : Jvm.MethodName)) ∈ lw_all := lw_g (lw_at lw_m1 143 rfl) rfl
theorem q266 : (Jvm.Cond.code ({ cls := "SelahGenerator", name := "ruleCount", desc := "()I" } : Jvm.MethodName) prog_1_method_17_code (1 : Nat) (Option.some Jvm.ClassFile.FieldType.int)) ∈ lw_all := lw_g (lw_at lw_m1 144 rfl) rfl
theorem q267 : (Jvm.Cond.interfaceEntry "SelahGenerator" (54 : Nat)) ∈ lw_tbl := lw_at lw_m1 145 rfl
theorem q268 : (Jvm.Cond.methodLink "SelahGenerator" (54 : Nat) ({ cls := "java/util/List", name := "size", desc := "()I" } : Jvm.MethodName)) ∈ lw_all := lw_g (lw_at lw_m1 146 rfl) rfl
theorem q278 : (Jvm.Cond.instanceMethod ({ cls := "SelahGenerator", name := "usedNonterminals", desc := "()I" } : Jvm.MethodName)) ∈ lw_all := lw_g (lw_at lw_m1 156 rfl) rfl
theorem q279 : (Jvm.Cond.selects "SelahGenerator" ({ cls := "SelahGenerator", name := "usedNonterminals", desc := "()I" } : Jvm.MethodName) ({ cls := "SelahGenerator", name := "usedNonterminals", desc := "()I" } : Jvm.MethodName)) ∈ lw_all := lw_g (lw_at lw_m1 157 rfl) rfl
theorem q280 : (Jvm.Cond.code ({ cls := "SelahGenerator", name := "usedNonterminals", desc := "()I" } : Jvm.MethodName) prog_1_method_21_code (1 : Nat) (Option.some Jvm.ClassFile.FieldType.int)) ∈ lw_all := lw_g (lw_at lw_m1 158 rfl) rfl
theorem q281 : (Jvm.Cond.methodLinkNest "SelahGenerator" (122 : Nat) ({ cls := "SelahGenerator$Workshop", name := "used", desc := "(Ljava/util/List;)I" } : Jvm.MethodName) "SelahGenerator") ∈ lw_tbl := lw_at lw_m1 159 rfl
theorem q401 : (Jvm.Cond.static ({ cls := "SelahGenerator", name := "isNonterminal", desc := "(I)Z" } : Jvm.MethodName)) ∈ lw_all := lw_g (lw_at lw_m2 39 rfl) rfl
theorem q402 : (Jvm.Cond.code ({ cls := "SelahGenerator", name := "isNonterminal", desc := "(I)Z" } : Jvm.MethodName) prog_1_method_2_code (1 : Nat) (Option.some Jvm.ClassFile.FieldType.boolean)) ∈ lw_all := lw_g (lw_at lw_m2 40 rfl) rfl
theorem q403 : (Jvm.Cond.methodLink "SelahGenerator" (3 : Nat) ({ cls := "SelahGenerator", name := "isIn", desc := "(III)Z" } : Jvm.MethodName)) ∈ lw_all := lw_g (lw_at lw_m2 41 rfl) rfl
theorem q404 : (Jvm.Cond.static ({ cls := "SelahGenerator", name := "isIn", desc := "(III)Z" } : Jvm.MethodName)) ∈ lw_all := lw_g (lw_at lw_m2 42 rfl) rfl
theorem q405 : (Jvm.Cond.code ({ cls := "SelahGenerator", name := "isIn", desc := "(III)Z" } : Jvm.MethodName) prog_1_method_1_code (3 : Nat) (Option.some Jvm.ClassFile.FieldType.boolean)) ∈ lw_all := lw_g (lw_at lw_m2 43 rfl) rfl
theorem q407 : (Jvm.Cond.instanceMethod ({ cls := "SelahGenerator", name := "firstRounds", desc := "()I" } : Jvm.MethodName)) ∈ lw_all := lw_g (lw_at lw_m2 45 rfl) rfl
theorem q408 : (Jvm.Cond.selects "SelahGenerator" ({ cls := "SelahGenerator", name := "firstRounds", desc := "()I" } : Jvm.MethodName) ({ cls := "SelahGenerator", name := "firstRounds", desc := "()I" } : Jvm.MethodName)) ∈ lw_all := lw_g (lw_at lw_m2 46 rfl) rfl
theorem q409 : (Jvm.Cond.code ({ cls := "SelahGenerator", name := "firstRounds", desc := "()I" } : Jvm.MethodName) prog_1_method_25_code (1 : Nat) (Option.some Jvm.ClassFile.FieldType.int)) ∈ lw_all := lw_g (lw_at lw_m2 47 rfl) rfl
theorem q410 : (Jvm.Cond.methodLink "SelahGenerator" (128 : Nat) ({ cls := "SelahGenerator", name := "sets", desc := "()LSelahGenerator$Sets;" } : Jvm.MethodName)) ∈ lw_all := lw_g (lw_at lw_m2 48 rfl) rfl
theorem q411 : (Jvm.Cond.privateMethod ({ cls := "SelahGenerator", name := "sets", desc := "()LSelahGenerator$Sets;" } : Jvm.MethodName)) ∈ lw_tbl := lw_at lw_m2 49 rfl
theorem q412 : (Jvm.Cond.instanceMethod ({ cls := "SelahGenerator", name := "sets", desc := "()LSelahGenerator$Sets;" } : Jvm.MethodName)) ∈ lw_all := lw_g (lw_at lw_m2 50 rfl) rfl
theorem q413 : (Jvm.Cond.code ({ cls := "SelahGenerator", name := "sets", desc := "()LSelahGenerator$Sets;" } : Jvm.MethodName) prog_1_method_4_code (1 : Nat) (Option.some (Jvm.ClassFile.FieldType.object "SelahGenerator$Sets"))) ∈ lw_all := lw_g (lw_at lw_m2 51 rfl) rfl
theorem q414 : (Jvm.Cond.classLink "SelahGenerator" (31 : Nat) "SelahGenerator$Sets") ∈ lw_all := lw_g (lw_at lw_m2 52 rfl) rfl
theorem q416 : (Jvm.Cond.methodLink "SelahGenerator" (33 : Nat) ({ cls := "SelahGenerator$Sets", name := "<init>", desc := "(Ljava/util/List;)V" } : Jvm.MethodName)) ∈ lw_all := lw_g (lw_at lw_m2 54 rfl) rfl
theorem q776 : (Jvm.Cond.selects "SelahGenerator" ({ cls := "java/lang/Object", name := "getClass", desc := "()Ljava/lang/Class;" } : Jvm.MethodName) ({ cls := "java/lang/Object", name := "getClass", desc := "()Ljava/lang/Class;" } : Jvm.MethodName)) ∈ lw_all := lw_g (lw_at lw_m3 174 rfl) rfl
theorem q1147 : (Jvm.Cond.fieldLinkNest "SelahGenerator" (134 : Nat) "SelahGenerator$Sets" "first" "[I" "SelahGenerator") ∈ lw_tbl := lw_at lw_m5 65 rfl
theorem q1150 : (Jvm.Cond.fieldLinkNest "SelahGenerator" (137 : Nat) "SelahGenerator$Sets" "follow" "[I" "SelahGenerator") ∈ lw_tbl := lw_at lw_m5 68 rfl
theorem q1152 : (Jvm.Cond.fieldLinkNest "SelahGenerator" (143 : Nat) "SelahGenerator$Sets" "shortest" "[I" "SelahGenerator") ∈ lw_tbl := lw_at lw_m5 70 rfl
theorem q1156 : (Jvm.Cond.fieldLinkNest "SelahGenerator" (146 : Nat) "SelahGenerator$Sets" "prediction" "[I" "SelahGenerator") ∈ lw_tbl := lw_at lw_m5 74 rfl
theorem q1158 : (Jvm.Cond.fieldLinkNest "SelahGenerator" (292 : Nat) "SelahGenerator$Sets" "table" "Ljava/util/Map;" "SelahGenerator") ∈ lw_tbl := lw_at lw_m5 76 rfl
theorem q1162 : (Jvm.Cond.fieldLinkNest "SelahGenerator" (140 : Nat) "SelahGenerator$Sets" "rounds" "I" "SelahGenerator") ∈ lw_tbl := lw_at lw_m5 80 rfl
theorem q1185 : (Jvm.Cond.instanceMethod ({ cls := "SelahGenerator", name := "conflicts", desc := "()I" } : Jvm.MethodName)) ∈ lw_all := lw_g (lw_at lw_m5 103 rfl) rfl
theorem q1186 : (Jvm.Cond.selects "SelahGenerator" ({ cls := "SelahGenerator", name := "conflicts", desc := "()I" } : Jvm.MethodName) ({ cls := "SelahGenerator", name := "conflicts", desc := "()I" } : Jvm.MethodName)) ∈ lw_all := lw_g (lw_at lw_m5 104 rfl) rfl
theorem q1187 : (Jvm.Cond.code ({ cls := "SelahGenerator", name := "conflicts", desc := "()I" } : Jvm.MethodName) prog_1_method_29_code (1 : Nat) (Option.some Jvm.ClassFile.FieldType.int)) ∈ lw_all := lw_g (lw_at lw_m5 105 rfl) rfl
theorem q1188 : (Jvm.Cond.methodLink "SelahGenerator" (156 : Nat) ({ cls := "SelahGenerator$Sets", name := "conflicts", desc := "()I" } : Jvm.MethodName)) ∈ lw_all := lw_g (lw_at lw_m5 106 rfl) rfl
theorem q1311 : (Jvm.Cond.instanceMethod ({ cls := "SelahGenerator", name := "isLL1", desc := "()Z" } : Jvm.MethodName)) ∈ lw_all := lw_g (lw_at lw_m5 229 rfl) rfl
theorem q1312 : (Jvm.Cond.selects "SelahGenerator" ({ cls := "SelahGenerator", name := "isLL1", desc := "()Z" } : Jvm.MethodName) ({ cls := "SelahGenerator", name := "isLL1", desc := "()Z" } : Jvm.MethodName)) ∈ lw_all := lw_g (lw_at lw_m5 230 rfl) rfl
theorem q1313 : (Jvm.Cond.code ({ cls := "SelahGenerator", name := "isLL1", desc := "()Z" } : Jvm.MethodName) prog_1_method_30_code (1 : Nat) (Option.some Jvm.ClassFile.FieldType.boolean)) ∈ lw_all := lw_g (lw_at lw_m5 231 rfl) rfl
theorem q1315 : (Jvm.Cond.instanceMethod ({ cls := "SelahGenerator", name := "pairConflicts", desc := "()I" } : Jvm.MethodName)) ∈ lw_all := lw_g (lw_at lw_m5 233 rfl) rfl
theorem q1316 : (Jvm.Cond.selects "SelahGenerator" ({ cls := "SelahGenerator", name := "pairConflicts", desc := "()I" } : Jvm.MethodName) ({ cls := "SelahGenerator", name := "pairConflicts", desc := "()I" } : Jvm.MethodName)) ∈ lw_all := lw_g (lw_at lw_m5 234 rfl) rfl
theorem q1317 : (Jvm.Cond.code ({ cls := "SelahGenerator", name := "pairConflicts", desc := "()I" } : Jvm.MethodName) prog_1_method_33_code (1 : Nat) (Option.some Jvm.ClassFile.FieldType.int)) ∈ lw_all := lw_g (lw_at lw_m5 235 rfl) rfl
theorem q1318 : (Jvm.Cond.methodLink "SelahGenerator" (159 : Nat) ({ cls := "SelahGenerator", name := "pairs", desc := "()LSelahGenerator$Pairs;" } : Jvm.MethodName)) ∈ lw_all := lw_g (lw_at lw_m5 236 rfl) rfl
theorem q1319 : (Jvm.Cond.privateMethod ({ cls := "SelahGenerator", name := "pairs", desc := "()LSelahGenerator$Pairs;" } : Jvm.MethodName)) ∈ lw_tbl := lw_at lw_m5 237 rfl
theorem q1320 : (Jvm.Cond.instanceMethod ({ cls := "SelahGenerator", name := "pairs", desc := "()LSelahGenerator$Pairs;" } : Jvm.MethodName)) ∈ lw_all := lw_g (lw_at lw_m5 238 rfl) rfl
theorem q1321 : (Jvm.Cond.code ({ cls := "SelahGenerator", name := "pairs", desc := "()LSelahGenerator$Pairs;" } : Jvm.MethodName) prog_1_method_5_code (1 : Nat) (Option.some (Jvm.ClassFile.FieldType.object "SelahGenerator$Pairs"))) ∈ lw_all := lw_g (lw_at lw_m5 239 rfl) rfl
theorem q1322 : (Jvm.Cond.classLink "SelahGenerator" (40 : Nat) "SelahGenerator$Pairs") ∈ lw_all := lw_g (lw_at lw_m6 0 rfl) rfl
theorem q1324 : (Jvm.Cond.methodLink "SelahGenerator" (42 : Nat) ({ cls := "SelahGenerator$Pairs", name := "<init>", desc := "(Ljava/util/List;)V" } : Jvm.MethodName)) ∈ lw_all := lw_g (lw_at lw_m6 2 rfl) rfl
theorem q1416 : (Jvm.Cond.fieldLinkNest "SelahGenerator" (162 : Nat) "SelahGenerator$Pairs" "prediction" "[LSelahGenerator$Strings;" "SelahGenerator") ∈ lw_tbl := lw_at lw_m6 94 rfl
theorem q1435 : (Jvm.Cond.methodLink "SelahGenerator" (171 : Nat) ({ cls := "SelahGenerator$Pairs", name := "conflicts", desc := "()I" } : Jvm.MethodName)) ∈ lw_all := lw_g (lw_at lw_m6 113 rfl) rfl
theorem q1444 : (Jvm.Cond.instanceMethod ({ cls := "SelahGenerator", name := "isStrongLL2", desc := "()Z" } : Jvm.MethodName)) ∈ lw_all := lw_g (lw_at lw_m6 122 rfl) rfl
theorem q1445 : (Jvm.Cond.selects "SelahGenerator" ({ cls := "SelahGenerator", name := "isStrongLL2", desc := "()Z" } : Jvm.MethodName) ({ cls := "SelahGenerator", name := "isStrongLL2", desc := "()Z" } : Jvm.MethodName)) ∈ lw_all := lw_g (lw_at lw_m6 123 rfl) rfl
theorem q1446 : (Jvm.Cond.code ({ cls := "SelahGenerator", name := "isStrongLL2", desc := "()Z" } : Jvm.MethodName) prog_1_method_34_code (1 : Nat) (Option.some Jvm.ClassFile.FieldType.boolean)) ∈ lw_all := lw_g (lw_at lw_m6 124 rfl) rfl
theorem q1448 : (Jvm.Cond.instanceMethod ({ cls := "SelahGenerator", name := "parseState", desc := "()I" } : Jvm.MethodName)) ∈ lw_all := lw_g (lw_at lw_m6 126 rfl) rfl
theorem q1449 : (Jvm.Cond.selects "SelahGenerator" ({ cls := "SelahGenerator", name := "parseState", desc := "()I" } : Jvm.MethodName) ({ cls := "SelahGenerator", name := "parseState", desc := "()I" } : Jvm.MethodName)) ∈ lw_all := lw_g (lw_at lw_m6 127 rfl) rfl
theorem q1450 : (Jvm.Cond.code ({ cls := "SelahGenerator", name := "parseState", desc := "()I" } : Jvm.MethodName) prog_1_method_41_code (1 : Nat) (Option.some Jvm.ClassFile.FieldType.int)) ∈ lw_all := lw_g (lw_at lw_m6 128 rfl) rfl
theorem q1452 : (Jvm.Cond.instanceMethod ({ cls := "SelahGenerator", name := "tokenCount", desc := "()I" } : Jvm.MethodName)) ∈ lw_all := lw_g (lw_at lw_m6 130 rfl) rfl
theorem q1453 : (Jvm.Cond.selects "SelahGenerator" ({ cls := "SelahGenerator", name := "tokenCount", desc := "()I" } : Jvm.MethodName) ({ cls := "SelahGenerator", name := "tokenCount", desc := "()I" } : Jvm.MethodName)) ∈ lw_all := lw_g (lw_at lw_m6 131 rfl) rfl
theorem q1454 : (Jvm.Cond.code ({ cls := "SelahGenerator", name := "tokenCount", desc := "()I" } : Jvm.MethodName) prog_1_method_42_code (1 : Nat) (Option.some Jvm.ClassFile.FieldType.int)) ∈ lw_all := lw_g (lw_at lw_m6 132 rfl) rfl
theorem q1456 : (Jvm.Cond.instanceMethod ({ cls := "SelahGenerator", name := "stackDepth", desc := "()I" } : Jvm.MethodName)) ∈ lw_all := lw_g (lw_at lw_m6 134 rfl) rfl
theorem q1457 : (Jvm.Cond.selects "SelahGenerator" ({ cls := "SelahGenerator", name := "stackDepth", desc := "()I" } : Jvm.MethodName) ({ cls := "SelahGenerator", name := "stackDepth", desc := "()I" } : Jvm.MethodName)) ∈ lw_all := lw_g (lw_at lw_m6 135 rfl) rfl
theorem q1458 : (Jvm.Cond.code ({ cls := "SelahGenerator", name := "stackDepth", desc := "()I" } : Jvm.MethodName) prog_1_method_43_code (1 : Nat) (Option.some Jvm.ClassFile.FieldType.int)) ∈ lw_all := lw_g (lw_at lw_m6 136 rfl) rfl
theorem q1459 : (Jvm.Cond.methodLink "SelahGenerator" (220 : Nat) ({ cls := "java/util/ArrayDeque", name := "size", desc := "()I" } : Jvm.MethodName)) ∈ lw_all := lw_g (lw_at lw_m6 137 rfl) rfl
theorem q1461 : (Jvm.Cond.instanceMethod ({ cls := "SelahGenerator", name := "stackAt", desc := "(I)I" } : Jvm.MethodName)) ∈ lw_all := lw_g (lw_at lw_m6 139 rfl) rfl
theorem q1462 : (Jvm.Cond.selects "SelahGenerator" ({ cls := "SelahGenerator", name := "stackAt", desc := "(I)I" } : Jvm.MethodName) ({ cls := "SelahGenerator", name := "stackAt", desc := "(I)I" } : Jvm.MethodName)) ∈ lw_all := lw_g (lw_at lw_m6 140 rfl) rfl
theorem q1463 : (Jvm.Cond.code ({ cls := "SelahGenerator", name := "stackAt", desc := "(I)I" } : Jvm.MethodName) prog_1_method_44_code (5 : Nat) (Option.some Jvm.ClassFile.FieldType.int)) ∈ lw_all := lw_g (lw_at lw_m6 141 rfl) rfl
theorem q1464 : (Jvm.Cond.methodLink "SelahGenerator" (223 : Nat) ({ cls := "SelahGenerator", name := "stackDepth", desc := "()I" } : Jvm.MethodName)) ∈ lw_all := lw_g (lw_at lw_m6 142 rfl) rfl
theorem q1465 : (Jvm.Cond.methodLink "SelahGenerator" (226 : Nat) ({ cls := "java/util/ArrayDeque", name := "iterator", desc := "()Ljava/util/Iterator;" } : Jvm.MethodName)) ∈ lw_all := lw_g (lw_at lw_m6 143 rfl) rfl
theorem q1466 : (Jvm.Cond.interfaceEntry "SelahGenerator" (230 : Nat)) ∈ lw_tbl := lw_at lw_m6 144 rfl
theorem q1467 : (Jvm.Cond.methodLink "SelahGenerator" (230 : Nat) ({ cls := "java/util/Iterator", name := "next", desc := "()Ljava/lang/Object;" } : Jvm.MethodName)) ∈ lw_all := lw_g (lw_at lw_m6 145 rfl) rfl
theorem q1468 : (Jvm.Cond.classLink "SelahGenerator" (236 : Nat) "java/lang/Integer") ∈ lw_all := lw_g (lw_at lw_m6 146 rfl) rfl
theorem q1469 : (Jvm.Cond.methodLink "SelahGenerator" (238 : Nat) ({ cls := "java/lang/Integer", name := "intValue", desc := "()I" } : Jvm.MethodName)) ∈ lw_all := lw_g (lw_at lw_m6 147 rfl) rfl
theorem q1471 : (Jvm.Cond.instanceMethod ({ cls := "SelahGenerator", name := "expected", desc := "()I" } : Jvm.MethodName)) ∈ lw_all := lw_g (lw_at lw_m6 149 rfl) rfl
theorem q1472 : (Jvm.Cond.selects "SelahGenerator" ({ cls := "SelahGenerator", name := "expected", desc := "()I" } : Jvm.MethodName) ({ cls := "SelahGenerator", name := "expected", desc := "()I" } : Jvm.MethodName)) ∈ lw_all := lw_g (lw_at lw_m6 150 rfl) rfl
theorem q1473 : (Jvm.Cond.code ({ cls := "SelahGenerator", name := "expected", desc := "()I" } : Jvm.MethodName) prog_1_method_45_code (1 : Nat) (Option.some Jvm.ClassFile.FieldType.int)) ∈ lw_all := lw_g (lw_at lw_m6 151 rfl) rfl
theorem q1474 : (Jvm.Cond.methodLink "SelahGenerator" (241 : Nat) ({ cls := "SelahGenerator$Parse", name := "expected", desc := "()I" } : Jvm.MethodName)) ∈ lw_all := lw_g (lw_at lw_m6 152 rfl) rfl
theorem q1502 : (Jvm.Cond.instanceMethod ({ cls := "SelahGenerator", name := "appliedCount", desc := "()I" } : Jvm.MethodName)) ∈ lw_all := lw_g (lw_at lw_m6 180 rfl) rfl
theorem q1503 : (Jvm.Cond.selects "SelahGenerator" ({ cls := "SelahGenerator", name := "appliedCount", desc := "()I" } : Jvm.MethodName) ({ cls := "SelahGenerator", name := "appliedCount", desc := "()I" } : Jvm.MethodName)) ∈ lw_all := lw_g (lw_at lw_m6 181 rfl) rfl
theorem q1504 : (Jvm.Cond.code ({ cls := "SelahGenerator", name := "appliedCount", desc := "()I" } : Jvm.MethodName) prog_1_method_46_code (1 : Nat) (Option.some Jvm.ClassFile.FieldType.int)) ∈ lw_all := lw_g (lw_at lw_m6 182 rfl) rfl
theorem q1506 : (Jvm.Cond.instanceMethod ({ cls := "SelahGenerator", name := "appliedRule", desc := "(I)I" } : Jvm.MethodName)) ∈ lw_all := lw_g (lw_at lw_m6 184 rfl) rfl
theorem q1507 : (Jvm.Cond.selects "SelahGenerator" ({ cls := "SelahGenerator", name := "appliedRule", desc := "(I)I" } : Jvm.MethodName) ({ cls := "SelahGenerator", name := "appliedRule", desc := "(I)I" } : Jvm.MethodName)) ∈ lw_all := lw_g (lw_at lw_m6 185 rfl) rfl
theorem q1508 : (Jvm.Cond.code ({ cls := "SelahGenerator", name := "appliedRule", desc := "(I)I" } : Jvm.MethodName) prog_1_method_47_code (2 : Nat) (Option.some Jvm.ClassFile.FieldType.int)) ∈ lw_all := lw_g (lw_at lw_m6 186 rfl) rfl
theorem q1509 : (Jvm.Cond.methodLink "SelahGenerator" (247 : Nat) ({ cls := "SelahGenerator", name := "appliedCount", desc := "()I" } : Jvm.MethodName)) ∈ lw_all := lw_g (lw_at lw_m6 187 rfl) rfl
theorem q1510 : (Jvm.Cond.interfaceEntry "SelahGenerator" (64 : Nat)) ∈ lw_tbl := lw_at lw_m6 188 rfl
theorem q1511 : (Jvm.Cond.methodLink "SelahGenerator" (64 : Nat) ({ cls := "java/util/List", name := "get", desc := "(I)Ljava/lang/Object;" } : Jvm.MethodName)) ∈ lw_all := lw_g (lw_at lw_m6 189 rfl) rfl
theorem q1513 : (Jvm.Cond.instanceMethod ({ cls := "SelahGenerator", name := "errorCount", desc := "()I" } : Jvm.MethodName)) ∈ lw_all := lw_g (lw_at lw_m6 191 rfl) rfl
theorem q1514 : (Jvm.Cond.selects "SelahGenerator" ({ cls := "SelahGenerator", name := "errorCount", desc := "()I" } : Jvm.MethodName) ({ cls := "SelahGenerator", name := "errorCount", desc := "()I" } : Jvm.MethodName)) ∈ lw_all := lw_g (lw_at lw_m6 192 rfl) rfl
theorem q1515 : (Jvm.Cond.code ({ cls := "SelahGenerator", name := "errorCount", desc := "()I" } : Jvm.MethodName) prog_1_method_48_code (1 : Nat) (Option.some Jvm.ClassFile.FieldType.int)) ∈ lw_all := lw_g (lw_at lw_m6 193 rfl) rfl
theorem q1517 : (Jvm.Cond.instanceMethod ({ cls := "SelahGenerator", name := "disagreements", desc := "()I" } : Jvm.MethodName)) ∈ lw_all := lw_g (lw_at lw_m6 195 rfl) rfl
theorem q1518 : (Jvm.Cond.selects "SelahGenerator" ({ cls := "SelahGenerator", name := "disagreements", desc := "()I" } : Jvm.MethodName) ({ cls := "SelahGenerator", name := "disagreements", desc := "()I" } : Jvm.MethodName)) ∈ lw_all := lw_g (lw_at lw_m6 196 rfl) rfl
theorem q1519 : (Jvm.Cond.code ({ cls := "SelahGenerator", name := "disagreements", desc := "()I" } : Jvm.MethodName) prog_1_method_55_code (1 : Nat) (Option.some Jvm.ClassFile.FieldType.int)) ∈ lw_all := lw_g (lw_at lw_m6 197 rfl) rfl
theorem q1520 : (Jvm.Cond.methodLink "SelahGenerator" (282 : Nat) ({ cls := "SelahGenerator", name := "parseState", desc := "()I" } : Jvm.MethodName)) ∈ lw_all := lw_g (lw_at lw_m6 198 rfl) rfl
theorem q1521 : (Jvm.Cond.methodLink "SelahGenerator" (271 : Nat) ({ cls := "SelahGenerator", name := "canCount", desc := "()Z" } : Jvm.MethodName)) ∈ lw_all := lw_g (lw_at lw_m6 199 rfl) rfl
theorem q1522 : (Jvm.Cond.privateMethod ({ cls := "SelahGenerator", name := "canCount", desc := "()Z" } : Jvm.MethodName)) ∈ lw_tbl := lw_at lw_m6 200 rfl
theorem q1523 : (Jvm.Cond.instanceMethod ({ cls := "SelahGenerator", name := "canCount", desc := "()Z" } : Jvm.MethodName)) ∈ lw_all := lw_g (lw_at lw_m6 201 rfl) rfl
theorem q1524 : (Jvm.Cond.code ({ cls := "SelahGenerator", name := "canCount", desc := "()Z" } : Jvm.MethodName) prog_1_method_53_code (2 : Nat) (Option.some Jvm.ClassFile.FieldType.boolean)) ∈ lw_all := lw_g (lw_at lw_m6 202 rfl) rfl
theorem q1525 : (Jvm.Cond.methodLink "SelahGenerator" (172 : Nat) ({ cls := "SelahGenerator$Sets", name := "isLeftRecursive", desc := "(I)Z" } : Jvm.MethodName)) ∈ lw_all := lw_g (lw_at lw_m6 203 rfl) rfl
theorem q1529 : (Jvm.Cond.methodLink "SelahGenerator" (285 : Nat) ({ cls := "SelahGenerator", name := "derivations", desc := "()I" } : Jvm.MethodName)) ∈ lw_all := lw_g (lw_at lw_m6 207 rfl) rfl
theorem q1530 : (Jvm.Cond.instanceMethod ({ cls := "SelahGenerator", name := "derivations", desc := "()I" } : Jvm.MethodName)) ∈ lw_all := lw_g (lw_at lw_m6 208 rfl) rfl
theorem q1531 : (Jvm.Cond.selects "SelahGenerator" ({ cls := "SelahGenerator", name := "derivations", desc := "()I" } : Jvm.MethodName) ({ cls := "SelahGenerator", name := "derivations", desc := "()I" } : Jvm.MethodName)) ∈ lw_all := lw_g (lw_at lw_m6 209 rfl) rfl
theorem q1532 : (Jvm.Cond.code ({ cls := "SelahGenerator", name := "derivations", desc := "()I" } : Jvm.MethodName) prog_1_method_54_code (1 : Nat) (Option.some Jvm.ClassFile.FieldType.int)) ∈ lw_all := lw_g (lw_at lw_m6 210 rfl) rfl
theorem q1533 : (Jvm.Cond.methodLink "SelahGenerator" (79 : Nat) ({ cls := "SelahGenerator", name := "may", desc := "(Z)V" } : Jvm.MethodName)) ∈ lw_all := lw_g (lw_at lw_m6 211 rfl) rfl
theorem q1534 : (Jvm.Cond.static ({ cls := "SelahGenerator", name := "may", desc := "(Z)V" } : Jvm.MethodName)) ∈ lw_all := lw_g (lw_at lw_m6 212 rfl) rfl
theorem q1535 : (Jvm.Cond.code ({ cls := "SelahGenerator", name := "may", desc := "(Z)V" } : Jvm.MethodName) prog_1_method_13_code (1 : Nat) (Option.none : Option Jvm.ClassFile.FieldType)) ∈ lw_all := lw_g (lw_at lw_m6 213 rfl) rfl
theorem q1536 : (Jvm.Cond.classLink "SelahGenerator" (73 : Nat) "java/lang/IllegalStateException") ∈ lw_all := lw_g (lw_at lw_m6 214 rfl) rfl
theorem q1545 : (Jvm.Cond.methodLink "SelahGenerator" (75 : Nat) ({ cls := "java/lang/IllegalStateException", name := "<init>", desc := "()V" } : Jvm.MethodName)) ∈ lw_all := lw_g (lw_at lw_m6 223 rfl) rfl
theorem q1551 : (Jvm.Cond.classLink "SelahGenerator" (274 : Nat) "SelahGenerator$Backtracking") ∈ lw_all := lw_g (lw_at lw_m6 229 rfl) rfl
theorem q1553 : (Jvm.Cond.methodLink "SelahGenerator" (276 : Nat) ({ cls := "SelahGenerator$Backtracking", name := "<init>", desc := "(LSelahGenerator;Ljava/util/List;)V" } : Jvm.MethodName)) ∈ lw_all := lw_g (lw_at lw_m6 231 rfl) rfl
theorem q1568 : (Jvm.Cond.methodLink "SelahGenerator" (279 : Nat) ({ cls := "SelahGenerator$Backtracking", name := "count", desc := "()I" } : Jvm.MethodName)) ∈ lw_all := lw_g (lw_at lw_m7 6 rfl) rfl
theorem q1606 : (Jvm.Cond.methodLink "SelahGenerator" (253 : Nat) ({ cls := "SelahGenerator", name := "errorCount", desc := "()I" } : Jvm.MethodName)) ∈ lw_all := lw_g (lw_at lw_m7 44 rfl) rfl
theorem q1608 : (Jvm.Cond.instanceMethod ({ cls := "SelahGenerator", name := "meanLength", desc := "()D" } : Jvm.MethodName)) ∈ lw_all := lw_g (lw_at lw_m7 46 rfl) rfl
theorem q1609 : (Jvm.Cond.selects "SelahGenerator" ({ cls := "SelahGenerator", name := "meanLength", desc := "()D" } : Jvm.MethodName) ({ cls := "SelahGenerator", name := "meanLength", desc := "()D" } : Jvm.MethodName)) ∈ lw_all := lw_g (lw_at lw_m7 47 rfl) rfl
theorem q1610 : (Jvm.Cond.code ({ cls := "SelahGenerator", name := "meanLength", desc := "()D" } : Jvm.MethodName) prog_1_method_56_code (4 : Nat) (Option.some Jvm.ClassFile.FieldType.double)) ∈ lw_all := lw_g (lw_at lw_m7 48 rfl) rfl
theorem q1611 : (Jvm.Cond.interfaceEntry "SelahGenerator" (288 : Nat)) ∈ lw_tbl := lw_at lw_m7 49 rfl
theorem q1612 : (Jvm.Cond.methodLink "SelahGenerator" (288 : Nat) ({ cls := "java/util/List", name := "iterator", desc := "()Ljava/util/Iterator;" } : Jvm.MethodName)) ∈ lw_all := lw_g (lw_at lw_m7 50 rfl) rfl
theorem q1613 : (Jvm.Cond.interfaceEntry "SelahGenerator" (289 : Nat)) ∈ lw_tbl := lw_at lw_m7 51 rfl
theorem q1614 : (Jvm.Cond.methodLink "SelahGenerator" (289 : Nat) ({ cls := "java/util/Iterator", name := "hasNext", desc := "()Z" } : Jvm.MethodName)) ∈ lw_all := lw_g (lw_at lw_m7 52 rfl) rfl
theorem q1615 : (Jvm.Cond.classLink "SelahGenerator" (68 : Nat) "SelahGenerator$Rule") ∈ lw_all := lw_g (lw_at lw_m7 53 rfl) rfl
theorem q1616 : (Jvm.Cond.interfaceEntry "SelahGenerator" (192 : Nat)) ∈ lw_tbl := lw_at lw_m7 54 rfl
theorem q1617 : (Jvm.Cond.methodLink "SelahGenerator" (192 : Nat) ({ cls := "java/util/List", name := "isEmpty", desc := "()Z" } : Jvm.MethodName)) ∈ lw_all := lw_g (lw_at lw_m7 55 rfl) rfl
theorem q1626 : (Jvm.Cond.instanceMethod ({ cls := "SelahGenerator", name := "tableShare", desc := "()F" } : Jvm.MethodName)) ∈ lw_all := lw_g (lw_at lw_m7 64 rfl) rfl
theorem q1627 : (Jvm.Cond.selects "SelahGenerator" ({ cls := "SelahGenerator", name := "tableShare", desc := "()F" } : Jvm.MethodName) ({ cls := "SelahGenerator", name := "tableShare", desc := "()F" } : Jvm.MethodName)) ∈ lw_all := lw_g (lw_at lw_m7 65 rfl) rfl
theorem q1628 : (Jvm.Cond.code ({ cls := "SelahGenerator", name := "tableShare", desc := "()F" } : Jvm.MethodName) prog_1_method_57_code (4 : Nat) (Option.some Jvm.ClassFile.FieldType.float)) ∈ lw_all := lw_g (lw_at lw_m7 66 rfl) rfl
theorem q1629 : (Jvm.Cond.interfaceEntry "SelahGenerator" (296 : Nat)) ∈ lw_tbl := lw_at lw_m7 67 rfl
theorem q1630 : (Jvm.Cond.methodLink "SelahGenerator" (296 : Nat) ({ cls := "java/util/Map", name := "size", desc := "()I" } : Jvm.MethodName)) ∈ lw_all := lw_g (lw_at lw_m7 68 rfl) rfl
theorem q1636 : (Jvm.Cond.methodLink "SelahGenerator" (299 : Nat) ({ cls := "java/lang/Integer", name := "bitCount", desc := "(I)I" } : Jvm.MethodName)) ∈ lw_all := lw_g (lw_at lw_m7 74 rfl) rfl
theorem q1643 : (Jvm.Cond.instanceMethod ({ cls := "SelahGenerator", name := "outputByte", desc := "(I)I" } : Jvm.MethodName)) ∈ lw_all := lw_g (lw_at lw_m7 81 rfl) rfl
theorem q1644 : (Jvm.Cond.selects "SelahGenerator" ({ cls := "SelahGenerator", name := "outputByte", desc := "(I)I" } : Jvm.MethodName) ({ cls := "SelahGenerator", name := "outputByte", desc := "(I)I" } : Jvm.MethodName)) ∈ lw_all := lw_g (lw_at lw_m7 82 rfl) rfl
theorem q1645 : (Jvm.Cond.code ({ cls := "SelahGenerator", name := "outputByte", desc := "(I)I" } : Jvm.MethodName) prog_1_method_60_code (2 : Nat) (Option.some Jvm.ClassFile.FieldType.int)) ∈ lw_all := lw_g (lw_at lw_m7 83 rfl) rfl
theorem q1646 : (Jvm.Cond.methodLink "SelahGenerator" (314 : Nat) ({ cls := "java/lang/StringBuilder", name := "length", desc := "()I" } : Jvm.MethodName)) ∈ lw_all := lw_g (lw_at lw_m7 84 rfl) rfl
theorem q1653 : (Jvm.Cond.methodLink "SelahGenerator" (317 : Nat) ({ cls := "java/lang/StringBuilder", name := "charAt", desc := "(I)C" } : Jvm.MethodName)) ∈ lw_all := lw_g (lw_at lw_m7 91 rfl) rfl
theorem q1703 : (Jvm.Cond.instanceMethod ({ cls := "SelahGenerator", name := "addRule", desc := "(I)I" } : Jvm.MethodName)) ∈ lw_all := lw_g (lw_at lw_m7 141 rfl) rfl
theorem q1704 : (Jvm.Cond.selects "SelahGenerator" ({ cls := "SelahGenerator", name := "addRule", desc := "(I)I" } : Jvm.MethodName) ({ cls := "SelahGenerator", name := "addRule", desc := "(I)I" } : Jvm.MethodName)) ∈ lw_all := lw_g (lw_at lw_m7 142 rfl) rfl
theorem q1705 : (Jvm.Cond.code ({ cls := "SelahGenerator", name := "addRule", desc := "(I)I" } : Jvm.MethodName) prog_1_method_14_code (3 : Nat) (Option.some Jvm.ClassFile.FieldType.int)) ∈ lw_all := lw_g (lw_at lw_m7 143 rfl) rfl
theorem q1706 : (Jvm.Cond.methodLink "SelahGenerator" (76 : Nat) ({ cls := "SelahGenerator", name := "index", desc := "(I)I" } : Jvm.MethodName)) ∈ lw_all := lw_g (lw_at lw_m7 144 rfl) rfl
theorem q1707 : (Jvm.Cond.static ({ cls := "SelahGenerator", name := "index", desc := "(I)I" } : Jvm.MethodName)) ∈ lw_all := lw_g (lw_at lw_m7 145 rfl) rfl
theorem q1708 : (Jvm.Cond.code ({ cls := "SelahGenerator", name := "index", desc := "(I)I" } : Jvm.MethodName) prog_1_method_8_code (1 : Nat) (Option.some Jvm.ClassFile.FieldType.int)) ∈ lw_all := lw_g (lw_at lw_m7 146 rfl) rfl
theorem q1709 : (Jvm.Cond.methodLink "SelahGenerator" (50 : Nat) ({ cls := "SelahGenerator", name := "valid", desc := "(III)I" } : Jvm.MethodName)) ∈ lw_all := lw_g (lw_at lw_m7 147 rfl) rfl
theorem q1710 : (Jvm.Cond.static ({ cls := "SelahGenerator", name := "valid", desc := "(III)I" } : Jvm.MethodName)) ∈ lw_all := lw_g (lw_at lw_m7 148 rfl) rfl
theorem q1711 : (Jvm.Cond.code ({ cls := "SelahGenerator", name := "valid", desc := "(III)I" } : Jvm.MethodName) prog_1_method_7_code (3 : Nat) (Option.some Jvm.ClassFile.FieldType.int)) ∈ lw_all := lw_g (lw_at lw_m7 149 rfl) rfl
theorem q1712 : (Jvm.Cond.classLink "SelahGenerator" (47 : Nat) "java/lang/IndexOutOfBoundsException") ∈ lw_all := lw_g (lw_at lw_m7 150 rfl) rfl
theorem q1721 : (Jvm.Cond.methodLink "SelahGenerator" (49 : Nat) ({ cls := "java/lang/IndexOutOfBoundsException", name := "<init>", desc := "()V" } : Jvm.MethodName)) ∈ lw_all := lw_g (lw_at lw_m7 159 rfl) rfl
theorem q1728 : (Jvm.Cond.methodLink "SelahGenerator" (83 : Nat) ({ cls := "SelahGenerator$Rule", name := "<init>", desc := "(I[I)V" } : Jvm.MethodName)) ∈ lw_all := lw_g (lw_at lw_m7 166 rfl) rfl
theorem q1738 : (Jvm.Cond.fieldLinkNest "SelahGenerator" (118 : Nat) "SelahGenerator$Rule" "left" "I" "SelahGenerator") ∈ lw_tbl := lw_at lw_m7 176 rfl
theorem q1745 : (Jvm.Cond.fieldLinkNest "SelahGenerator" (104 : Nat) "SelahGenerator$Rule" "right" "[I" "SelahGenerator") ∈ lw_tbl := lw_at lw_m7 183 rfl
theorem q1751 : (Jvm.Cond.interfaceEntry "SelahGenerator" (86 : Nat)) ∈ lw_tbl := lw_at lw_m7 189 rfl
theorem q1752 : (Jvm.Cond.methodLink "SelahGenerator" (86 : Nat) ({ cls := "java/util/List", name := "add", desc := "(Ljava/lang/Object;)Z" } : Jvm.MethodName)) ∈ lw_all := lw_g (lw_at lw_m7 190 rfl) rfl
theorem q1776 : (Jvm.Cond.methodLink "SelahGenerator" (90 : Nat) ({ cls := "SelahGenerator", name := "changed", desc := "(I)I" } : Jvm.MethodName)) ∈ lw_all := lw_g (lw_at lw_m7 214 rfl) rfl
theorem q1777 : (Jvm.Cond.privateMethod ({ cls := "SelahGenerator", name := "changed", desc := "(I)I" } : Jvm.MethodName)) ∈ lw_tbl := lw_at lw_m7 215 rfl
theorem q1778 : (Jvm.Cond.instanceMethod ({ cls := "SelahGenerator", name := "changed", desc := "(I)I" } : Jvm.MethodName)) ∈ lw_all := lw_g (lw_at lw_m7 216 rfl) rfl
theorem q1779 : (Jvm.Cond.code ({ cls := "SelahGenerator", name := "changed", desc := "(I)I" } : Jvm.MethodName) prog_1_method_6_code (2 : Nat) (Option.some Jvm.ClassFile.FieldType.int)) ∈ lw_all := lw_g (lw_at lw_m7 217 rfl) rfl
theorem q1785 : (Jvm.Cond.instanceMethod ({ cls := "SelahGenerator", name := "append", desc := "(II)I" } : Jvm.MethodName)) ∈ lw_all := lw_g (lw_at lw_m7 223 rfl) rfl
theorem q1786 : (Jvm.Cond.selects "SelahGenerator" ({ cls := "SelahGenerator", name := "append", desc := "(II)I" } : Jvm.MethodName) ({ cls := "SelahGenerator", name := "append", desc := "(II)I" } : Jvm.MethodName)) ∈ lw_all := lw_g (lw_at lw_m7 224 rfl) rfl
theorem q1787 : (Jvm.Cond.code ({ cls := "SelahGenerator", name := "append", desc := "(II)I" } : Jvm.MethodName) prog_1_method_15_code (5 : Nat) (Option.some Jvm.ClassFile.FieldType.int)) ∈ lw_all := lw_g (lw_at lw_m7 225 rfl) rfl
theorem q1788 : (Jvm.Cond.methodLink "SelahGenerator" (93 : Nat) ({ cls := "SelahGenerator", name := "rule", desc := "(I)LSelahGenerator$Rule;" } : Jvm.MethodName)) ∈ lw_all := lw_g (lw_at lw_m7 226 rfl) rfl
theorem q1789 : (Jvm.Cond.privateMethod ({ cls := "SelahGenerator", name := "rule", desc := "(I)LSelahGenerator$Rule;" } : Jvm.MethodName)) ∈ lw_tbl := lw_at lw_m7 227 rfl
theorem q1790 : (Jvm.Cond.instanceMethod ({ cls := "SelahGenerator", name := "rule", desc := "(I)LSelahGenerator$Rule;" } : Jvm.MethodName)) ∈ lw_all := lw_g (lw_at lw_m7 228 rfl) rfl
theorem q1791 : (Jvm.Cond.code ({ cls := "SelahGenerator", name := "rule", desc := "(I)LSelahGenerator$Rule;" } : Jvm.MethodName) prog_1_method_11_code (2 : Nat) (Option.some (Jvm.ClassFile.FieldType.object "SelahGenerator$Rule"))) ∈ lw_all := lw_g (lw_at lw_m7 229 rfl) rfl
theorem q1792 : (Jvm.Cond.methodLink "SelahGenerator" (60 : Nat) ({ cls := "SelahGenerator", name := "number", desc := "(I)I" } : Jvm.MethodName)) ∈ lw_all := lw_g (lw_at lw_m7 230 rfl) rfl
theorem q1793 : (Jvm.Cond.privateMethod ({ cls := "SelahGenerator", name := "number", desc := "(I)I" } : Jvm.MethodName)) ∈ lw_tbl := lw_at lw_m7 231 rfl
theorem q1794 : (Jvm.Cond.instanceMethod ({ cls := "SelahGenerator", name := "number", desc := "(I)I" } : Jvm.MethodName)) ∈ lw_all := lw_g (lw_at lw_m7 232 rfl) rfl
theorem q1795 : (Jvm.Cond.code ({ cls := "SelahGenerator", name := "number", desc := "(I)I" } : Jvm.MethodName) prog_1_method_10_code (2 : Nat) (Option.some Jvm.ClassFile.FieldType.int)) ∈ lw_all := lw_g (lw_at lw_m7 233 rfl) rfl
theorem q1796 : (Jvm.Cond.methodLink "SelahGenerator" (97 : Nat) ({ cls := "SelahGenerator", name := "isNonterminal", desc := "(I)Z" } : Jvm.MethodName)) ∈ lw_all := lw_g (lw_at lw_m7 234 rfl) rfl
theorem q1797 : (Jvm.Cond.methodLink "SelahGenerator" (101 : Nat) ({ cls := "SelahGenerator", name := "argument", desc := "(Z)V" } : Jvm.MethodName)) ∈ lw_all := lw_g (lw_at lw_m7 235 rfl) rfl
theorem q1798 : (Jvm.Cond.static ({ cls := "SelahGenerator", name := "argument", desc := "(Z)V" } : Jvm.MethodName)) ∈ lw_all := lw_g (lw_at lw_m7 236 rfl) rfl
theorem q1799 : (Jvm.Cond.code ({ cls := "SelahGenerator", name := "argument", desc := "(Z)V" } : Jvm.MethodName) prog_1_method_12_code (1 : Nat) (Option.none : Option Jvm.ClassFile.FieldType)) ∈ lw_all := lw_g (lw_at lw_m7 237 rfl) rfl
theorem q1800 : (Jvm.Cond.classLink "SelahGenerator" (70 : Nat) "java/lang/IllegalArgumentException") ∈ lw_all := lw_g (lw_at lw_m7 238 rfl) rfl
theorem q1801 : (Jvm.Cond.methodLink "SelahGenerator" (72 : Nat) ({ cls := "java/lang/IllegalArgumentException", name := "<init>", desc := "()V" } : Jvm.MethodName)) ∈ lw_all := lw_g (lw_at lw_m7 239 rfl) rfl
theorem q1802 : (Jvm.Cond.methodLink "SelahGenerator" (108 : Nat) ({ cls := "SelahGenerator$Rule", name := "with", desc := "(I)LSelahGenerator$Rule;" } : Jvm.MethodName)) ∈ lw_all := lw_g (lw_at lw_m8 0 rfl) rfl
theorem q1813 : (Jvm.Cond.interfaceEntry "SelahGenerator" (111 : Nat)) ∈ lw_tbl := lw_at lw_m8 11 rfl
theorem q1814 : (Jvm.Cond.methodLink "SelahGenerator" (111 : Nat) ({ cls := "java/util/List", name := "set", desc := "(ILjava/lang/Object;)Ljava/lang/Object;" } : Jvm.MethodName)) ∈ lw_all := lw_g (lw_at lw_m8 12 rfl) rfl
theorem q1826 : (Jvm.Cond.instanceMethod ({ cls := "SelahGenerator", name := "removeRule", desc := "(I)I" } : Jvm.MethodName)) ∈ lw_all := lw_g (lw_at lw_m8 24 rfl) rfl
theorem q1827 : (Jvm.Cond.selects "SelahGenerator" ({ cls := "SelahGenerator", name := "removeRule", desc := "(I)I" } : Jvm.MethodName) ({ cls := "SelahGenerator", name := "removeRule", desc := "(I)I" } : Jvm.MethodName)) ∈ lw_all := lw_g (lw_at lw_m8 25 rfl) rfl
theorem q1828 : (Jvm.Cond.code ({ cls := "SelahGenerator", name := "removeRule", desc := "(I)I" } : Jvm.MethodName) prog_1_method_16_code (3 : Nat) (Option.some Jvm.ClassFile.FieldType.int)) ∈ lw_all := lw_g (lw_at lw_m8 26 rfl) rfl
theorem q1829 : (Jvm.Cond.interfaceEntry "SelahGenerator" (115 : Nat)) ∈ lw_tbl := lw_at lw_m8 27 rfl
theorem q1830 : (Jvm.Cond.methodLink "SelahGenerator" (115 : Nat) ({ cls := "java/util/List", name := "remove", desc := "(I)Ljava/lang/Object;" } : Jvm.MethodName)) ∈ lw_all := lw_g (lw_at lw_m8 28 rfl) rfl
theorem q1847 : (Jvm.Cond.instanceMethod ({ cls := "SelahGenerator", name := "leftOf", desc := "(I)I" } : Jvm.MethodName)) ∈ lw_all := lw_g (lw_at lw_m8 45 rfl) rfl
theorem q1848 : (Jvm.Cond.selects "SelahGenerator" ({ cls := "SelahGenerator", name := "leftOf", desc := "(I)I" } : Jvm.MethodName) ({ cls := "SelahGenerator", name := "leftOf", desc := "(I)I" } : Jvm.MethodName)) ∈ lw_all := lw_g (lw_at lw_m8 46 rfl) rfl
theorem q1849 : (Jvm.Cond.code ({ cls := "SelahGenerator", name := "leftOf", desc := "(I)I" } : Jvm.MethodName) prog_1_method_18_code (2 : Nat) (Option.some Jvm.ClassFile.FieldType.int)) ∈ lw_all := lw_g (lw_at lw_m8 47 rfl) rfl
theorem q1854 : (Jvm.Cond.instanceMethod ({ cls := "SelahGenerator", name := "lengthOf", desc := "(I)I" } : Jvm.MethodName)) ∈ lw_all := lw_g (lw_at lw_m8 52 rfl) rfl
theorem q1855 : (Jvm.Cond.selects "SelahGenerator" ({ cls := "SelahGenerator", name := "lengthOf", desc := "(I)I" } : Jvm.MethodName) ({ cls := "SelahGenerator", name := "lengthOf", desc := "(I)I" } : Jvm.MethodName)) ∈ lw_all := lw_g (lw_at lw_m8 53 rfl) rfl
theorem q1856 : (Jvm.Cond.code ({ cls := "SelahGenerator", name := "lengthOf", desc := "(I)I" } : Jvm.MethodName) prog_1_method_19_code (2 : Nat) (Option.some Jvm.ClassFile.FieldType.int)) ∈ lw_all := lw_g (lw_at lw_m8 54 rfl) rfl
theorem q1861 : (Jvm.Cond.instanceMethod ({ cls := "SelahGenerator", name := "symbolAt", desc := "(II)I" } : Jvm.MethodName)) ∈ lw_all := lw_g (lw_at lw_m8 59 rfl) rfl
theorem q1862 : (Jvm.Cond.selects "SelahGenerator" ({ cls := "SelahGenerator", name := "symbolAt", desc := "(II)I" } : Jvm.MethodName) ({ cls := "SelahGenerator", name := "symbolAt", desc := "(II)I" } : Jvm.MethodName)) ∈ lw_all := lw_g (lw_at lw_m8 60 rfl) rfl
theorem q1863 : (Jvm.Cond.code ({ cls := "SelahGenerator", name := "symbolAt", desc := "(II)I" } : Jvm.MethodName) prog_1_method_20_code (4 : Nat) (Option.some Jvm.ClassFile.FieldType.int)) ∈ lw_all := lw_g (lw_at lw_m8 61 rfl) rfl
theorem q1868 : (Jvm.Cond.instanceMethod ({ cls := "SelahGenerator", name := "isNullable", desc := "(I)Z" } : Jvm.MethodName)) ∈ lw_all := lw_g (lw_at lw_m8 66 rfl) rfl
theorem q1869 : (Jvm.Cond.selects "SelahGenerator" ({ cls := "SelahGenerator", name := "isNullable", desc := "(I)Z" } : Jvm.MethodName) ({ cls := "SelahGenerator", name := "isNullable", desc := "(I)Z" } : Jvm.MethodName)) ∈ lw_all := lw_g (lw_at lw_m8 67 rfl) rfl
theorem q1870 : (Jvm.Cond.code ({ cls := "SelahGenerator", name := "isNullable", desc := "(I)Z" } : Jvm.MethodName) prog_1_method_22_code (2 : Nat) (Option.some Jvm.ClassFile.FieldType.boolean)) ∈ lw_all := lw_g (lw_at lw_m8 68 rfl) rfl
theorem q1871 : (Jvm.Cond.methodLink "SelahGenerator" (131 : Nat) ({ cls := "SelahGenerator$Sets", name := "isNullable", desc := "(I)Z" } : Jvm.MethodName)) ∈ lw_all := lw_g (lw_at lw_m8 69 rfl) rfl
theorem q1876 : (Jvm.Cond.instanceMethod ({ cls := "SelahGenerator", name := "firstOf", desc := "(I)I" } : Jvm.MethodName)) ∈ lw_all := lw_g (lw_at lw_m8 74 rfl) rfl
theorem q1877 : (Jvm.Cond.selects "SelahGenerator" ({ cls := "SelahGenerator", name := "firstOf", desc := "(I)I" } : Jvm.MethodName) ({ cls := "SelahGenerator", name := "firstOf", desc := "(I)I" } : Jvm.MethodName)) ∈ lw_all := lw_g (lw_at lw_m8 75 rfl) rfl
theorem q1878 : (Jvm.Cond.code ({ cls := "SelahGenerator", name := "firstOf", desc := "(I)I" } : Jvm.MethodName) prog_1_method_23_code (2 : Nat) (Option.some Jvm.ClassFile.FieldType.int)) ∈ lw_all := lw_g (lw_at lw_m8 76 rfl) rfl
theorem q1883 : (Jvm.Cond.instanceMethod ({ cls := "SelahGenerator", name := "followOf", desc := "(I)I" } : Jvm.MethodName)) ∈ lw_all := lw_g (lw_at lw_m8 81 rfl) rfl
theorem q1884 : (Jvm.Cond.selects "SelahGenerator" ({ cls := "SelahGenerator", name := "followOf", desc := "(I)I" } : Jvm.MethodName) ({ cls := "SelahGenerator", name := "followOf", desc := "(I)I" } : Jvm.MethodName)) ∈ lw_all := lw_g (lw_at lw_m8 82 rfl) rfl
theorem q1885 : (Jvm.Cond.code ({ cls := "SelahGenerator", name := "followOf", desc := "(I)I" } : Jvm.MethodName) prog_1_method_24_code (2 : Nat) (Option.some Jvm.ClassFile.FieldType.int)) ∈ lw_all := lw_g (lw_at lw_m8 83 rfl) rfl
theorem q1890 : (Jvm.Cond.instanceMethod ({ cls := "SelahGenerator", name := "shortestOf", desc := "(I)I" } : Jvm.MethodName)) ∈ lw_all := lw_g (lw_at lw_m8 88 rfl) rfl
theorem q1891 : (Jvm.Cond.selects "SelahGenerator" ({ cls := "SelahGenerator", name := "shortestOf", desc := "(I)I" } : Jvm.MethodName) ({ cls := "SelahGenerator", name := "shortestOf", desc := "(I)I" } : Jvm.MethodName)) ∈ lw_all := lw_g (lw_at lw_m8 89 rfl) rfl
theorem q1892 : (Jvm.Cond.code ({ cls := "SelahGenerator", name := "shortestOf", desc := "(I)I" } : Jvm.MethodName) prog_1_method_26_code (2 : Nat) (Option.some Jvm.ClassFile.FieldType.int)) ∈ lw_all := lw_g (lw_at lw_m8 90 rfl) rfl
theorem q1897 : (Jvm.Cond.instanceMethod ({ cls := "SelahGenerator", name := "predictionOf", desc := "(I)I" } : Jvm.MethodName)) ∈ lw_all := lw_g (lw_at lw_m8 95 rfl) rfl
theorem q1898 : (Jvm.Cond.selects "SelahGenerator" ({ cls := "SelahGenerator", name := "predictionOf", desc := "(I)I" } : Jvm.MethodName) ({ cls := "SelahGenerator", name := "predictionOf", desc := "(I)I" } : Jvm.MethodName)) ∈ lw_all := lw_g (lw_at lw_m8 96 rfl) rfl
theorem q1899 : (Jvm.Cond.code ({ cls := "SelahGenerator", name := "predictionOf", desc := "(I)I" } : Jvm.MethodName) prog_1_method_27_code (2 : Nat) (Option.some Jvm.ClassFile.FieldType.int)) ∈ lw_all := lw_g (lw_at lw_m8 97 rfl) rfl
theorem q1904 : (Jvm.Cond.instanceMethod ({ cls := "SelahGenerator", name := "predicted", desc := "(II)I" } : Jvm.MethodName)) ∈ lw_all := lw_g (lw_at lw_m8 102 rfl) rfl
theorem q1905 : (Jvm.Cond.selects "SelahGenerator" ({ cls := "SelahGenerator", name := "predicted", desc := "(II)I" } : Jvm.MethodName) ({ cls := "SelahGenerator", name := "predicted", desc := "(II)I" } : Jvm.MethodName)) ∈ lw_all := lw_g (lw_at lw_m8 103 rfl) rfl
theorem q1906 : (Jvm.Cond.code ({ cls := "SelahGenerator", name := "predicted", desc := "(II)I" } : Jvm.MethodName) prog_1_method_28_code (3 : Nat) (Option.some Jvm.ClassFile.FieldType.int)) ∈ lw_all := lw_g (lw_at lw_m8 104 rfl) rfl
theorem q1907 : (Jvm.Cond.methodLink "SelahGenerator" (149 : Nat) ({ cls := "SelahGenerator", name := "token", desc := "(I)I" } : Jvm.MethodName)) ∈ lw_all := lw_g (lw_at lw_m8 105 rfl) rfl
theorem q1908 : (Jvm.Cond.static ({ cls := "SelahGenerator", name := "token", desc := "(I)I" } : Jvm.MethodName)) ∈ lw_all := lw_g (lw_at lw_m8 106 rfl) rfl
theorem q1909 : (Jvm.Cond.code ({ cls := "SelahGenerator", name := "token", desc := "(I)I" } : Jvm.MethodName) prog_1_method_9_code (1 : Nat) (Option.some Jvm.ClassFile.FieldType.int)) ∈ lw_all := lw_g (lw_at lw_m8 107 rfl) rfl
theorem q1910 : (Jvm.Cond.methodLink "SelahGenerator" (152 : Nat) ({ cls := "SelahGenerator$Sets", name := "predicted", desc := "(II)I" } : Jvm.MethodName)) ∈ lw_all := lw_g (lw_at lw_m8 108 rfl) rfl
theorem q1935 : (Jvm.Cond.instanceMethod ({ cls := "SelahGenerator", name := "pairCount", desc := "(I)I" } : Jvm.MethodName)) ∈ lw_all := lw_g (lw_at lw_m8 133 rfl) rfl
theorem q1936 : (Jvm.Cond.selects "SelahGenerator" ({ cls := "SelahGenerator", name := "pairCount", desc := "(I)I" } : Jvm.MethodName) ({ cls := "SelahGenerator", name := "pairCount", desc := "(I)I" } : Jvm.MethodName)) ∈ lw_all := lw_g (lw_at lw_m8 134 rfl) rfl
theorem q1937 : (Jvm.Cond.code ({ cls := "SelahGenerator", name := "pairCount", desc := "(I)I" } : Jvm.MethodName) prog_1_method_31_code (2 : Nat) (Option.some Jvm.ClassFile.FieldType.int)) ∈ lw_all := lw_g (lw_at lw_m8 135 rfl) rfl
theorem q1938 : (Jvm.Cond.methodLink "SelahGenerator" (165 : Nat) ({ cls := "SelahGenerator$Strings", name := "pairs", desc := "()I" } : Jvm.MethodName)) ∈ lw_all := lw_g (lw_at lw_m8 136 rfl) rfl
theorem q1946 : (Jvm.Cond.instanceMethod ({ cls := "SelahGenerator", name := "predictedByPair", desc := "(III)I" } : Jvm.MethodName)) ∈ lw_all := lw_g (lw_at lw_m8 144 rfl) rfl
theorem q1947 : (Jvm.Cond.selects "SelahGenerator" ({ cls := "SelahGenerator", name := "predictedByPair", desc := "(III)I" } : Jvm.MethodName) ({ cls := "SelahGenerator", name := "predictedByPair", desc := "(III)I" } : Jvm.MethodName)) ∈ lw_all := lw_g (lw_at lw_m8 145 rfl) rfl
theorem q1948 : (Jvm.Cond.code ({ cls := "SelahGenerator", name := "predictedByPair", desc := "(III)I" } : Jvm.MethodName) prog_1_method_32_code (4 : Nat) (Option.some Jvm.ClassFile.FieldType.int)) ∈ lw_all := lw_g (lw_at lw_m8 146 rfl) rfl
theorem q1949 : (Jvm.Cond.methodLink "SelahGenerator" (169 : Nat) ({ cls := "SelahGenerator$Pairs", name := "predicted", desc := "(III)I" } : Jvm.MethodName)) ∈ lw_all := lw_g (lw_at lw_m8 147 rfl) rfl
theorem q1958 : (Jvm.Cond.instanceMethod ({ cls := "SelahGenerator", name := "isLeftRecursive", desc := "(I)Z" } : Jvm.MethodName)) ∈ lw_all := lw_g (lw_at lw_m8 156 rfl) rfl
theorem q1959 : (Jvm.Cond.selects "SelahGenerator" ({ cls := "SelahGenerator", name := "isLeftRecursive", desc := "(I)Z" } : Jvm.MethodName) ({ cls := "SelahGenerator", name := "isLeftRecursive", desc := "(I)Z" } : Jvm.MethodName)) ∈ lw_all := lw_g (lw_at lw_m8 157 rfl) rfl
theorem q1960 : (Jvm.Cond.code ({ cls := "SelahGenerator", name := "isLeftRecursive", desc := "(I)Z" } : Jvm.MethodName) prog_1_method_35_code (2 : Nat) (Option.some Jvm.ClassFile.FieldType.boolean)) ∈ lw_all := lw_g (lw_at lw_m8 158 rfl) rfl
theorem q1965 : (Jvm.Cond.instanceMethod ({ cls := "SelahGenerator", name := "removeLeftRecursion", desc := "()I" } : Jvm.MethodName)) ∈ lw_all := lw_g (lw_at lw_m8 163 rfl) rfl
theorem q1966 : (Jvm.Cond.selects "SelahGenerator" ({ cls := "SelahGenerator", name := "removeLeftRecursion", desc := "()I" } : Jvm.MethodName) ({ cls := "SelahGenerator", name := "removeLeftRecursion", desc := "()I" } : Jvm.MethodName)) ∈ lw_all := lw_g (lw_at lw_m8 164 rfl) rfl
theorem q1967 : (Jvm.Cond.codeWith ({ cls := "SelahGenerator", name := "removeLeftRecursion", desc := "()I" } : Jvm.MethodName) prog_1_method_37_code (3 : Nat) (Option.some Jvm.ClassFile.FieldType.int) [((12 : Nat), (16 : Nat), (19 : Nat), (183 : Nat))]) ∈ lw_all := lw_g (lw_at lw_m8 165 rfl) rfl
theorem q1968 : (Jvm.Cond.classLink "SelahGenerator" (183 : Nat) "SelahGenerator$Failed") ∈ lw_all := lw_g (lw_at lw_m8 166 rfl) rfl
theorem q1969 : (Jvm.Cond.classLink "SelahGenerator" (123 : Nat) "SelahGenerator$Workshop") ∈ lw_all := lw_g (lw_at lw_m8 167 rfl) rfl
theorem q1971 : (Jvm.Cond.methodLink "SelahGenerator" (179 : Nat) ({ cls := "SelahGenerator$Workshop", name := "<init>", desc := "(Ljava/util/List;)V" } : Jvm.MethodName)) ∈ lw_all := lw_g (lw_at lw_m8 169 rfl) rfl
theorem q2202 : (Jvm.Cond.fieldLinkNest "SelahGenerator" (175 : Nat) "SelahGenerator$Workshop" "rules" "Ljava/util/List;" "SelahGenerator") ∈ lw_tbl := lw_at lw_m9 160 rfl
theorem q2204 : (Jvm.Cond.fieldLinkNest "SelahGenerator" (176 : Nat) "SelahGenerator$Workshop" "made" "I" "SelahGenerator") ∈ lw_tbl := lw_at lw_m9 162 rfl
theorem q2213 : (Jvm.Cond.methodLink "SelahGenerator" (180 : Nat) ({ cls := "SelahGenerator$Workshop", name := "removeLeftRecursion", desc := "()V" } : Jvm.MethodName)) ∈ lw_all := lw_g (lw_at lw_m9 171 rfl) rfl
theorem q2316 : (Jvm.Cond.methodLink "SelahGenerator" (185 : Nat) ({ cls := "SelahGenerator", name := "kept", desc := "(LSelahGenerator$Workshop;)I" } : Jvm.MethodName)) ∈ lw_all := lw_g (lw_at lw_m10 34 rfl) rfl
theorem q2317 : (Jvm.Cond.privateMethod ({ cls := "SelahGenerator", name := "kept", desc := "(LSelahGenerator$Workshop;)I" } : Jvm.MethodName)) ∈ lw_tbl := lw_at lw_m10 35 rfl
theorem q2318 : (Jvm.Cond.instanceMethod ({ cls := "SelahGenerator", name := "kept", desc := "(LSelahGenerator$Workshop;)I" } : Jvm.MethodName)) ∈ lw_all := lw_g (lw_at lw_m10 36 rfl) rfl
theorem q2319 : (Jvm.Cond.code ({ cls := "SelahGenerator", name := "kept", desc := "(LSelahGenerator$Workshop;)I" } : Jvm.MethodName) prog_1_method_36_code (2 : Nat) (Option.some Jvm.ClassFile.FieldType.int)) ∈ lw_all := lw_g (lw_at lw_m10 37 rfl) rfl
theorem q2324 : (Jvm.Cond.instanceMethod ({ cls := "SelahGenerator", name := "factorOut", desc := "()I" } : Jvm.MethodName)) ∈ lw_all := lw_g (lw_at lw_m10 42 rfl) rfl
theorem q2325 : (Jvm.Cond.selects "SelahGenerator" ({ cls := "SelahGenerator", name := "factorOut", desc := "()I" } : Jvm.MethodName) ({ cls := "SelahGenerator", name := "factorOut", desc := "()I" } : Jvm.MethodName)) ∈ lw_all := lw_g (lw_at lw_m10 43 rfl) rfl
theorem q2326 : (Jvm.Cond.codeWith ({ cls := "SelahGenerator", name := "factorOut", desc := "()I" } : Jvm.MethodName) prog_1_method_38_code (3 : Nat) (Option.some Jvm.ClassFile.FieldType.int) [((12 : Nat), (16 : Nat), (19 : Nat), (183 : Nat))]) ∈ lw_all := lw_g (lw_at lw_m10 44 rfl) rfl
theorem q2327 : (Jvm.Cond.methodLink "SelahGenerator" (189 : Nat) ({ cls := "SelahGenerator$Workshop", name := "factorOut", desc := "()V" } : Jvm.MethodName)) ∈ lw_all := lw_g (lw_at lw_m10 45 rfl) rfl
theorem q2359 : (Jvm.Cond.selects "SelahGenerator" ({ cls := "java/lang/Object", name := "equals", desc := "(Ljava/lang/Object;)Z" } : Jvm.MethodName) ({ cls := "java/lang/Object", name := "equals", desc := "(Ljava/lang/Object;)Z" } : Jvm.MethodName)) ∈ lw_all := lw_g (lw_at lw_m10 77 rfl) rfl
theorem q2405 : (Jvm.Cond.instanceMethod ({ cls := "SelahGenerator", name := "start", desc := "(I)I" } : Jvm.MethodName)) ∈ lw_all := lw_g (lw_at lw_m10 123 rfl) rfl
theorem q2406 : (Jvm.Cond.selects "SelahGenerator" ({ cls := "SelahGenerator", name := "start", desc := "(I)I" } : Jvm.MethodName) ({ cls := "SelahGenerator", name := "start", desc := "(I)I" } : Jvm.MethodName)) ∈ lw_all := lw_g (lw_at lw_m10 124 rfl) rfl
theorem q2407 : (Jvm.Cond.code ({ cls := "SelahGenerator", name := "start", desc := "(I)I" } : Jvm.MethodName) prog_1_method_39_code (2 : Nat) (Option.some Jvm.ClassFile.FieldType.int)) ∈ lw_all := lw_g (lw_at lw_m10 125 rfl) rfl
theorem q2408 : (Jvm.Cond.methodLink "SelahGenerator" (196 : Nat) ({ cls := "SelahGenerator", name := "isLL1", desc := "()Z" } : Jvm.MethodName)) ∈ lw_all := lw_g (lw_at lw_m10 126 rfl) rfl
theorem q2409 : (Jvm.Cond.methodLink "SelahGenerator" (199 : Nat) ({ cls := "SelahGenerator", name := "isStrongLL2", desc := "()Z" } : Jvm.MethodName)) ∈ lw_all := lw_g (lw_at lw_m10 127 rfl) rfl
theorem q2410 : (Jvm.Cond.classLink "SelahGenerator" (202 : Nat) "SelahGenerator$Parse") ∈ lw_all := lw_g (lw_at lw_m10 128 rfl) rfl
theorem q2412 : (Jvm.Cond.methodLink "SelahGenerator" (204 : Nat) ({ cls := "SelahGenerator$Parse", name := "<init>", desc := "(LSelahGenerator;I)V" } : Jvm.MethodName)) ∈ lw_all := lw_g (lw_at lw_m10 130 rfl) rfl
theorem q2467 : (Jvm.Cond.fieldLinkNest "SelahGenerator" (216 : Nat) "SelahGenerator$Parse" "stack" "Ljava/util/ArrayDeque;" "SelahGenerator") ∈ lw_tbl := lw_at lw_m10 185 rfl
theorem q2469 : (Jvm.Cond.fieldLinkNest "SelahGenerator" (210 : Nat) "SelahGenerator$Parse" "tokens" "Ljava/util/List;" "SelahGenerator") ∈ lw_tbl := lw_at lw_m10 187 rfl
theorem q2471 : (Jvm.Cond.fieldLinkNest "SelahGenerator" (244 : Nat) "SelahGenerator$Parse" "applied" "Ljava/util/List;" "SelahGenerator") ∈ lw_tbl := lw_at lw_m10 189 rfl
theorem q2473 : (Jvm.Cond.fieldLinkNest "SelahGenerator" (250 : Nat) "SelahGenerator$Parse" "faults" "Ljava/util/List;" "SelahGenerator") ∈ lw_tbl := lw_at lw_m10 191 rfl
theorem q2475 : (Jvm.Cond.fieldLinkNest "SelahGenerator" (207 : Nat) "SelahGenerator$Parse" "state" "I" "SelahGenerator") ∈ lw_tbl := lw_at lw_m10 193 rfl
theorem q2499 : (Jvm.Cond.instanceMethod ({ cls := "SelahGenerator", name := "give", desc := "(I)I" } : Jvm.MethodName)) ∈ lw_all := lw_g (lw_at lw_m10 217 rfl) rfl
theorem q2500 : (Jvm.Cond.selects "SelahGenerator" ({ cls := "SelahGenerator", name := "give", desc := "(I)I" } : Jvm.MethodName) ({ cls := "SelahGenerator", name := "give", desc := "(I)I" } : Jvm.MethodName)) ∈ lw_all := lw_g (lw_at lw_m10 218 rfl) rfl
theorem q2501 : (Jvm.Cond.code ({ cls := "SelahGenerator", name := "give", desc := "(I)I" } : Jvm.MethodName) prog_1_method_40_code (3 : Nat) (Option.some Jvm.ClassFile.FieldType.int)) ∈ lw_all := lw_g (lw_at lw_m10 219 rfl) rfl
theorem q2502 : (Jvm.Cond.methodLink "SelahGenerator" (213 : Nat) ({ cls := "SelahGenerator$Parse", name := "give", desc := "(I)I" } : Jvm.MethodName)) ∈ lw_all := lw_g (lw_at lw_m10 220 rfl) rfl
theorem q2527 : (Jvm.Cond.fieldLinkNest "SelahGenerator" (262 : Nat) "SelahGenerator$Fault" "token" "I" "SelahGenerator") ∈ lw_tbl := lw_at lw_m11 5 rfl
theorem q2529 : (Jvm.Cond.fieldLinkNest "SelahGenerator" (264 : Nat) "SelahGenerator$Fault" "symbol" "I" "SelahGenerator") ∈ lw_tbl := lw_at lw_m11 7 rfl
theorem q2531 : (Jvm.Cond.fieldLinkNest "SelahGenerator" (267 : Nat) "SelahGenerator$Fault" "skipped" "Z" "SelahGenerator") ∈ lw_tbl := lw_at lw_m11 9 rfl
theorem q2561 : (Jvm.Cond.instanceMethod ({ cls := "SelahGenerator", name := "errorToken", desc := "(I)I" } : Jvm.MethodName)) ∈ lw_all := lw_g (lw_at lw_m11 39 rfl) rfl
theorem q2562 : (Jvm.Cond.selects "SelahGenerator" ({ cls := "SelahGenerator", name := "errorToken", desc := "(I)I" } : Jvm.MethodName) ({ cls := "SelahGenerator", name := "errorToken", desc := "(I)I" } : Jvm.MethodName)) ∈ lw_all := lw_g (lw_at lw_m11 40 rfl) rfl
theorem q2563 : (Jvm.Cond.code ({ cls := "SelahGenerator", name := "errorToken", desc := "(I)I" } : Jvm.MethodName) prog_1_method_50_code (2 : Nat) (Option.some Jvm.ClassFile.FieldType.int)) ∈ lw_all := lw_g (lw_at lw_m11 41 rfl) rfl
theorem q2564 : (Jvm.Cond.methodLink "SelahGenerator" (258 : Nat) ({ cls := "SelahGenerator", name := "fault", desc := "(I)LSelahGenerator$Fault;" } : Jvm.MethodName)) ∈ lw_all := lw_g (lw_at lw_m11 42 rfl) rfl
theorem q2565 : (Jvm.Cond.privateMethod ({ cls := "SelahGenerator", name := "fault", desc := "(I)LSelahGenerator$Fault;" } : Jvm.MethodName)) ∈ lw_tbl := lw_at lw_m11 43 rfl
theorem q2566 : (Jvm.Cond.instanceMethod ({ cls := "SelahGenerator", name := "fault", desc := "(I)LSelahGenerator$Fault;" } : Jvm.MethodName)) ∈ lw_all := lw_g (lw_at lw_m11 44 rfl) rfl
theorem q2567 : (Jvm.Cond.code ({ cls := "SelahGenerator", name := "fault", desc := "(I)LSelahGenerator$Fault;" } : Jvm.MethodName) prog_1_method_49_code (3 : Nat) (Option.some (Jvm.ClassFile.FieldType.object "SelahGenerator$Fault"))) ∈ lw_all := lw_g (lw_at lw_m11 45 rfl) rfl
theorem q2568 : (Jvm.Cond.classLink "SelahGenerator" (256 : Nat) "SelahGenerator$Fault") ∈ lw_all := lw_g (lw_at lw_m11 46 rfl) rfl
theorem q2573 : (Jvm.Cond.instanceMethod ({ cls := "SelahGenerator", name := "errorSymbol", desc := "(I)I" } : Jvm.MethodName)) ∈ lw_all := lw_g (lw_at lw_m11 51 rfl) rfl
theorem q2574 : (Jvm.Cond.selects "SelahGenerator" ({ cls := "SelahGenerator", name := "errorSymbol", desc := "(I)I" } : Jvm.MethodName) ({ cls := "SelahGenerator", name := "errorSymbol", desc := "(I)I" } : Jvm.MethodName)) ∈ lw_all := lw_g (lw_at lw_m11 52 rfl) rfl
theorem q2575 : (Jvm.Cond.code ({ cls := "SelahGenerator", name := "errorSymbol", desc := "(I)I" } : Jvm.MethodName) prog_1_method_51_code (2 : Nat) (Option.some Jvm.ClassFile.FieldType.int)) ∈ lw_all := lw_g (lw_at lw_m11 53 rfl) rfl
theorem q2580 : (Jvm.Cond.instanceMethod ({ cls := "SelahGenerator", name := "wasSkipped", desc := "(I)Z" } : Jvm.MethodName)) ∈ lw_all := lw_g (lw_at lw_m11 58 rfl) rfl
theorem q2581 : (Jvm.Cond.selects "SelahGenerator" ({ cls := "SelahGenerator", name := "wasSkipped", desc := "(I)Z" } : Jvm.MethodName) ({ cls := "SelahGenerator", name := "wasSkipped", desc := "(I)Z" } : Jvm.MethodName)) ∈ lw_all := lw_g (lw_at lw_m11 59 rfl) rfl
theorem q2582 : (Jvm.Cond.code ({ cls := "SelahGenerator", name := "wasSkipped", desc := "(I)Z" } : Jvm.MethodName) prog_1_method_52_code (2 : Nat) (Option.some Jvm.ClassFile.FieldType.boolean)) ∈ lw_all := lw_g (lw_at lw_m11 60 rfl) rfl
theorem q2591 : (Jvm.Cond.instanceMethod ({ cls := "SelahGenerator", name := "writeRule", desc := "(I)I" } : Jvm.MethodName)) ∈ lw_all := lw_g (lw_at lw_m11 69 rfl) rfl
theorem q2592 : (Jvm.Cond.selects "SelahGenerator" ({ cls := "SelahGenerator", name := "writeRule", desc := "(I)I" } : Jvm.MethodName) ({ cls := "SelahGenerator", name := "writeRule", desc := "(I)I" } : Jvm.MethodName)) ∈ lw_all := lw_g (lw_at lw_m11 70 rfl) rfl
theorem q2593 : (Jvm.Cond.code ({ cls := "SelahGenerator", name := "writeRule", desc := "(I)I" } : Jvm.MethodName) prog_1_method_59_code (7 : Nat) (Option.some Jvm.ClassFile.FieldType.int)) ∈ lw_all := lw_g (lw_at lw_m11 71 rfl) rfl
theorem q2594 : (Jvm.Cond.methodLink "SelahGenerator" (302 : Nat) ({ cls := "java/lang/StringBuilder", name := "setLength", desc := "(I)V" } : Jvm.MethodName)) ∈ lw_all := lw_g (lw_at lw_m11 72 rfl) rfl
theorem q2646 : (Jvm.Cond.methodLink "SelahGenerator" (306 : Nat) ({ cls := "SelahGenerator", name := "letter", desc := "(I)C" } : Jvm.MethodName)) ∈ lw_all := lw_g (lw_at lw_m11 124 rfl) rfl
theorem q2647 : (Jvm.Cond.static ({ cls := "SelahGenerator", name := "letter", desc := "(I)C" } : Jvm.MethodName)) ∈ lw_all := lw_g (lw_at lw_m11 125 rfl) rfl
theorem q2648 : (Jvm.Cond.code ({ cls := "SelahGenerator", name := "letter", desc := "(I)C" } : Jvm.MethodName) prog_1_method_58_code (1 : Nat) (Option.some Jvm.ClassFile.FieldType.char)) ∈ lw_all := lw_g (lw_at lw_m11 126 rfl) rfl
theorem q2649 : (Jvm.Cond.methodLink "SelahGenerator" (310 : Nat) ({ cls := "java/lang/StringBuilder", name := "append", desc := "(C)Ljava/lang/StringBuilder;" } : Jvm.MethodName)) ∈ lw_all := lw_g (lw_at lw_m11 127 rfl) rfl
theorem q3294 : (Jvm.Cond.castable "SelahGenerator" "java/lang/Object") ∈ lw_tbl := lw_at lw_m14 52 rfl
theorem in_X1 : ∀ w ∈ wsX10, w ∈ lw_all := lw_in wsX10 [252, 254, 256, 258, 260] (by decide +kernel) (by decide +kernel)
/-! SelahGenerator$Rule -/
set_option maxRecDepth 100000
def RX3 : String := "SelahGenerator$Rule"
def TX3 : u_T := fun k => match k with
  | 0 => ("SelahGenerator$Rule", "left", "I", true)
  | _ => ("SelahGenerator$Rule", "right", "[I", true)
def tyX3 : Nat → FieldType := fun k => match k with
  | 0 => .int
  | _ => .array .int
abbrev wsX30 : List Cond := u_ws RX3 TX3 2
theorem nmX3 : ∀ a, a < 2 → ∀ b, b < 2 → a ≠ b → (TX3 a).2.1 ≠ (TX3 b).2.1 := by decide +kernel
theorem tyX3_ok : ∀ k, k < 2 → parseFieldDescriptor (TX3 k).2.2.1 = some (tyX3 k) := by decide +kernel
abbrev cX3_all : ByteArray := prog_8_method_3_code
def yX3_all : MethodName := ⟨RX3, "all", "(IILSelahGenerator$Test;)Z"⟩
def dkwX3_all_1 : List UInt8 := [154, 0, 5, 3, 172, 132, 4, 1, 167, 255, 229, 4, 172]
abbrev dktX3_all_1 : List UInt8 := dkwX3_all_1 ++ []
def dkwX3_all_0 : List UInt8 := [27, 54, 4, 21, 4, 28, 162, 0, 27, 45, 42, 180, 0, 13, 21, 4, 46, 185, 0, 17, 2, 0]
abbrev dktX3_all_0 : List UInt8 := dkwX3_all_0 ++ dktX3_all_1
theorem dksX3_all_0 : cX3_all.data.toList.drop 0 = dktX3_all_0 := by decide +kernel
theorem dksX3_all_1 : cX3_all.data.toList.drop 22 = dktX3_all_1 := dk_seg dksX3_all_0 22 rfl rfl
theorem dX3_all_0 : decode cX3_all 0 = .ok (.iload_n 1, 1) := dk_27 (dk_at dksX3_all_0 0 rfl rfl)
theorem dX3_all_1 : decode cX3_all 1 = .ok (.istore 4, 2) := dk_54 4 (dk_at dksX3_all_0 1 rfl rfl)
theorem dX3_all_3 : decode cX3_all 3 = .ok (.iload 4, 2) := dk_21 4 (dk_at dksX3_all_0 3 rfl rfl)
theorem dX3_all_5 : decode cX3_all 5 = .ok (.iload_n 2, 1) := dk_28 (dk_at dksX3_all_0 5 rfl rfl)
theorem dX3_all_6 : decode cX3_all 6 = .ok (.if_icmp .ge 27, 3) := dk_162 0 27 (dk_at dksX3_all_0 6 rfl rfl)
theorem dX3_all_9 : decode cX3_all 9 = .ok (.aload_n 3, 1) := dk_45 (dk_at dksX3_all_0 9 rfl rfl)
theorem dX3_all_10 : decode cX3_all 10 = .ok (.aload_n 0, 1) := dk_42 (dk_at dksX3_all_0 10 rfl rfl)
theorem dX3_all_11 : decode cX3_all 11 = .ok (.getfield 13, 3) := dk_180 0 13 (dk_at dksX3_all_0 11 rfl rfl)
theorem dX3_all_14 : decode cX3_all 14 = .ok (.iload 4, 2) := dk_21 4 (dk_at dksX3_all_0 14 rfl rfl)
theorem dX3_all_16 : decode cX3_all 16 = .ok (.iaload, 1) := dk_46 (dk_at dksX3_all_0 16 rfl rfl)
theorem dX3_all_17 : decode cX3_all 17 = .ok (.invokeinterface 17 2, 5) := by decide +kernel
theorem dX3_all_22 : decode cX3_all 22 = .ok (.ifCond .ne 5, 3) := dk_154 0 5 (dk_at dksX3_all_1 0 rfl rfl)
theorem dX3_all_25 : decode cX3_all 25 = .ok (.iconst 0, 1) := dk_3 (dk_at dksX3_all_1 3 rfl rfl)
theorem dX3_all_26 : decode cX3_all 26 = .ok (.ireturn, 1) := dk_172 (dk_at dksX3_all_1 4 rfl rfl)
theorem dX3_all_27 : decode cX3_all 27 = .ok (.iinc 4 1, 3) := dk_132 4 1 (dk_at dksX3_all_1 5 rfl rfl)
theorem dX3_all_30 : decode cX3_all 30 = .ok (.goto (-27), 3) := dk_167 255 229 (dk_at dksX3_all_1 8 rfl rfl)
theorem dX3_all_33 : decode cX3_all 33 = .ok (.iconst 1, 1) := dk_4 (dk_at dksX3_all_1 11 rfl rfl)
theorem dX3_all_34 : decode cX3_all 34 = .ok (.ireturn, 1) := dk_172 (dk_at dksX3_all_1 12 rfl rfl)
abbrev cX3_init : ByteArray := prog_8_method_1_code
def yX3_init : MethodName := ⟨RX3, "<init>", "(I[I)V"⟩
def dkwX3_init_0 : List UInt8 := [42, 183, 0, 1, 42, 27, 181, 0, 7, 42, 44, 181, 0, 13, 177]
abbrev dktX3_init_0 : List UInt8 := dkwX3_init_0 ++ []
theorem dksX3_init_0 : cX3_init.data.toList.drop 0 = dktX3_init_0 := by decide +kernel
theorem dX3_init_0 : decode cX3_init 0 = .ok (.aload_n 0, 1) := dk_42 (dk_at dksX3_init_0 0 rfl rfl)
theorem dX3_init_1 : decode cX3_init 1 = .ok (.invokespecial 1, 3) := dk_183 0 1 (dk_at dksX3_init_0 1 rfl rfl)
theorem dX3_init_4 : decode cX3_init 4 = .ok (.aload_n 0, 1) := dk_42 (dk_at dksX3_init_0 4 rfl rfl)
theorem dX3_init_5 : decode cX3_init 5 = .ok (.iload_n 1, 1) := dk_27 (dk_at dksX3_init_0 5 rfl rfl)
theorem dX3_init_6 : decode cX3_init 6 = .ok (.putfield 7, 3) := dk_181 0 7 (dk_at dksX3_init_0 6 rfl rfl)
theorem dX3_init_9 : decode cX3_init 9 = .ok (.aload_n 0, 1) := dk_42 (dk_at dksX3_init_0 9 rfl rfl)
theorem dX3_init_10 : decode cX3_init 10 = .ok (.aload_n 2, 1) := dk_44 (dk_at dksX3_init_0 10 rfl rfl)
theorem dX3_init_11 : decode cX3_init 11 = .ok (.putfield 13, 3) := dk_181 0 13 (dk_at dksX3_init_0 11 rfl rfl)
theorem dX3_init_14 : decode cX3_init 14 = .ok (.return_, 1) := dk_177 (dk_at dksX3_init_0 14 rfl rfl)
abbrev cX3_with : ByteArray := prog_8_method_5_code
def yX3_with : MethodName := ⟨RX3, "with", "(I)LSelahGenerator$Rule;"⟩
def dkwX3_with_1 : List UInt8 := [187, 0, 8, 89, 42, 180, 0, 7, 44, 183, 0, 29, 176]
abbrev dktX3_with_1 : List UInt8 := dkwX3_with_1 ++ []
def dkwX3_with_0 : List UInt8 := [42, 180, 0, 13, 42, 180, 0, 13, 190, 4, 96, 184, 0, 23, 77, 44, 42, 180, 0, 13, 190, 27, 79]
abbrev dktX3_with_0 : List UInt8 := dkwX3_with_0 ++ dktX3_with_1
theorem dksX3_with_0 : cX3_with.data.toList.drop 0 = dktX3_with_0 := by decide +kernel
theorem dksX3_with_1 : cX3_with.data.toList.drop 23 = dktX3_with_1 := dk_seg dksX3_with_0 23 rfl rfl
theorem dX3_with_0 : decode cX3_with 0 = .ok (.aload_n 0, 1) := dk_42 (dk_at dksX3_with_0 0 rfl rfl)
theorem dX3_with_1 : decode cX3_with 1 = .ok (.getfield 13, 3) := dk_180 0 13 (dk_at dksX3_with_0 1 rfl rfl)
theorem dX3_with_4 : decode cX3_with 4 = .ok (.aload_n 0, 1) := dk_42 (dk_at dksX3_with_0 4 rfl rfl)
theorem dX3_with_5 : decode cX3_with 5 = .ok (.getfield 13, 3) := dk_180 0 13 (dk_at dksX3_with_0 5 rfl rfl)
theorem dX3_with_8 : decode cX3_with 8 = .ok (.arraylength, 1) := dk_190 (dk_at dksX3_with_0 8 rfl rfl)
theorem dX3_with_9 : decode cX3_with 9 = .ok (.iconst 1, 1) := dk_4 (dk_at dksX3_with_0 9 rfl rfl)
theorem dX3_with_10 : decode cX3_with 10 = .ok (.iadd, 1) := dk_96 (dk_at dksX3_with_0 10 rfl rfl)
theorem dX3_with_11 : decode cX3_with 11 = .ok (.invokestatic 23, 3) := dk_184 0 23 (dk_at dksX3_with_0 11 rfl rfl)
theorem dX3_with_14 : decode cX3_with 14 = .ok (.astore_n 2, 1) := dk_77 (dk_at dksX3_with_0 14 rfl rfl)
theorem dX3_with_15 : decode cX3_with 15 = .ok (.aload_n 2, 1) := dk_44 (dk_at dksX3_with_0 15 rfl rfl)
theorem dX3_with_16 : decode cX3_with 16 = .ok (.aload_n 0, 1) := dk_42 (dk_at dksX3_with_0 16 rfl rfl)
theorem dX3_with_17 : decode cX3_with 17 = .ok (.getfield 13, 3) := dk_180 0 13 (dk_at dksX3_with_0 17 rfl rfl)
theorem dX3_with_20 : decode cX3_with 20 = .ok (.arraylength, 1) := dk_190 (dk_at dksX3_with_0 20 rfl rfl)
theorem dX3_with_21 : decode cX3_with 21 = .ok (.iload_n 1, 1) := dk_27 (dk_at dksX3_with_0 21 rfl rfl)
theorem dX3_with_22 : decode cX3_with 22 = .ok (.iastore, 1) := dk_79 (dk_at dksX3_with_0 22 rfl rfl)
theorem dX3_with_23 : decode cX3_with 23 = .ok (.new 8, 3) := dk_187 0 8 (dk_at dksX3_with_1 0 rfl rfl)
theorem dX3_with_26 : decode cX3_with 26 = .ok (.dup, 1) := dk_89 (dk_at dksX3_with_1 3 rfl rfl)
theorem dX3_with_27 : decode cX3_with 27 = .ok (.aload_n 0, 1) := dk_42 (dk_at dksX3_with_1 4 rfl rfl)
theorem dX3_with_28 : decode cX3_with 28 = .ok (.getfield 7, 3) := dk_180 0 7 (dk_at dksX3_with_1 5 rfl rfl)
theorem dX3_with_31 : decode cX3_with 31 = .ok (.aload_n 2, 1) := dk_44 (dk_at dksX3_with_1 8 rfl rfl)
theorem dX3_with_32 : decode cX3_with 32 = .ok (.invokespecial 29, 3) := dk_183 0 29 (dk_at dksX3_with_1 9 rfl rfl)
theorem dX3_with_35 : decode cX3_with 35 = .ok (.areturn, 1) := dk_176 (dk_at dksX3_with_1 12 rfl rfl)
abbrev cX3_rest : ByteArray := prog_8_method_4_code
def yX3_rest : MethodName := ⟨RX3, "rest", "(I[I)[I"⟩
def dkwX3_rest_2 : List UInt8 := [167, 255, 227, 45, 176]
abbrev dktX3_rest_2 : List UInt8 := dkwX3_rest_2 ++ []
def dkwX3_rest_1 : List UInt8 := [190, 162, 0, 25, 45, 44, 190, 21, 4, 96, 27, 100, 42, 180, 0, 13, 21, 4, 46, 79, 132, 4, 1]
abbrev dktX3_rest_1 : List UInt8 := dkwX3_rest_1 ++ dktX3_rest_2
def dkwX3_rest_0 : List UInt8 := [44, 44, 190, 42, 180, 0, 13, 190, 96, 27, 100, 184, 0, 23, 78, 27, 54, 4, 21, 4, 42, 180, 0, 13]
abbrev dktX3_rest_0 : List UInt8 := dkwX3_rest_0 ++ dktX3_rest_1
theorem dksX3_rest_0 : cX3_rest.data.toList.drop 0 = dktX3_rest_0 := by decide +kernel
theorem dksX3_rest_1 : cX3_rest.data.toList.drop 24 = dktX3_rest_1 := dk_seg dksX3_rest_0 24 rfl rfl
theorem dksX3_rest_2 : cX3_rest.data.toList.drop 47 = dktX3_rest_2 := dk_seg dksX3_rest_1 23 rfl rfl
theorem dX3_rest_0 : decode cX3_rest 0 = .ok (.aload_n 2, 1) := dk_44 (dk_at dksX3_rest_0 0 rfl rfl)
theorem dX3_rest_1 : decode cX3_rest 1 = .ok (.aload_n 2, 1) := dk_44 (dk_at dksX3_rest_0 1 rfl rfl)
theorem dX3_rest_2 : decode cX3_rest 2 = .ok (.arraylength, 1) := dk_190 (dk_at dksX3_rest_0 2 rfl rfl)
theorem dX3_rest_3 : decode cX3_rest 3 = .ok (.aload_n 0, 1) := dk_42 (dk_at dksX3_rest_0 3 rfl rfl)
theorem dX3_rest_4 : decode cX3_rest 4 = .ok (.getfield 13, 3) := dk_180 0 13 (dk_at dksX3_rest_0 4 rfl rfl)
theorem dX3_rest_7 : decode cX3_rest 7 = .ok (.arraylength, 1) := dk_190 (dk_at dksX3_rest_0 7 rfl rfl)
theorem dX3_rest_8 : decode cX3_rest 8 = .ok (.iadd, 1) := dk_96 (dk_at dksX3_rest_0 8 rfl rfl)
theorem dX3_rest_9 : decode cX3_rest 9 = .ok (.iload_n 1, 1) := dk_27 (dk_at dksX3_rest_0 9 rfl rfl)
theorem dX3_rest_10 : decode cX3_rest 10 = .ok (.isub, 1) := dk_100 (dk_at dksX3_rest_0 10 rfl rfl)
theorem dX3_rest_11 : decode cX3_rest 11 = .ok (.invokestatic 23, 3) := dk_184 0 23 (dk_at dksX3_rest_0 11 rfl rfl)
theorem dX3_rest_14 : decode cX3_rest 14 = .ok (.astore_n 3, 1) := dk_78 (dk_at dksX3_rest_0 14 rfl rfl)
theorem dX3_rest_15 : decode cX3_rest 15 = .ok (.iload_n 1, 1) := dk_27 (dk_at dksX3_rest_0 15 rfl rfl)
theorem dX3_rest_16 : decode cX3_rest 16 = .ok (.istore 4, 2) := dk_54 4 (dk_at dksX3_rest_0 16 rfl rfl)
theorem dX3_rest_18 : decode cX3_rest 18 = .ok (.iload 4, 2) := dk_21 4 (dk_at dksX3_rest_0 18 rfl rfl)
theorem dX3_rest_20 : decode cX3_rest 20 = .ok (.aload_n 0, 1) := dk_42 (dk_at dksX3_rest_0 20 rfl rfl)
theorem dX3_rest_21 : decode cX3_rest 21 = .ok (.getfield 13, 3) := dk_180 0 13 (dk_at dksX3_rest_0 21 rfl rfl)
theorem dX3_rest_24 : decode cX3_rest 24 = .ok (.arraylength, 1) := dk_190 (dk_at dksX3_rest_1 0 rfl rfl)
theorem dX3_rest_25 : decode cX3_rest 25 = .ok (.if_icmp .ge 25, 3) := dk_162 0 25 (dk_at dksX3_rest_1 1 rfl rfl)
theorem dX3_rest_28 : decode cX3_rest 28 = .ok (.aload_n 3, 1) := dk_45 (dk_at dksX3_rest_1 4 rfl rfl)
theorem dX3_rest_29 : decode cX3_rest 29 = .ok (.aload_n 2, 1) := dk_44 (dk_at dksX3_rest_1 5 rfl rfl)
theorem dX3_rest_30 : decode cX3_rest 30 = .ok (.arraylength, 1) := dk_190 (dk_at dksX3_rest_1 6 rfl rfl)
theorem dX3_rest_31 : decode cX3_rest 31 = .ok (.iload 4, 2) := dk_21 4 (dk_at dksX3_rest_1 7 rfl rfl)
theorem dX3_rest_33 : decode cX3_rest 33 = .ok (.iadd, 1) := dk_96 (dk_at dksX3_rest_1 9 rfl rfl)
theorem dX3_rest_34 : decode cX3_rest 34 = .ok (.iload_n 1, 1) := dk_27 (dk_at dksX3_rest_1 10 rfl rfl)
theorem dX3_rest_35 : decode cX3_rest 35 = .ok (.isub, 1) := dk_100 (dk_at dksX3_rest_1 11 rfl rfl)
theorem dX3_rest_36 : decode cX3_rest 36 = .ok (.aload_n 0, 1) := dk_42 (dk_at dksX3_rest_1 12 rfl rfl)
theorem dX3_rest_37 : decode cX3_rest 37 = .ok (.getfield 13, 3) := dk_180 0 13 (dk_at dksX3_rest_1 13 rfl rfl)
theorem dX3_rest_40 : decode cX3_rest 40 = .ok (.iload 4, 2) := dk_21 4 (dk_at dksX3_rest_1 16 rfl rfl)
theorem dX3_rest_42 : decode cX3_rest 42 = .ok (.iaload, 1) := dk_46 (dk_at dksX3_rest_1 18 rfl rfl)
theorem dX3_rest_43 : decode cX3_rest 43 = .ok (.iastore, 1) := dk_79 (dk_at dksX3_rest_1 19 rfl rfl)
theorem dX3_rest_44 : decode cX3_rest 44 = .ok (.iinc 4 1, 3) := dk_132 4 1 (dk_at dksX3_rest_1 20 rfl rfl)
theorem dX3_rest_47 : decode cX3_rest 47 = .ok (.goto (-29), 3) := dk_167 255 227 (dk_at dksX3_rest_2 0 rfl rfl)
theorem dX3_rest_50 : decode cX3_rest 50 = .ok (.aload_n 3, 1) := dk_45 (dk_at dksX3_rest_2 3 rfl rfl)
theorem dX3_rest_51 : decode cX3_rest 51 = .ok (.areturn, 1) := dk_176 (dk_at dksX3_rest_2 4 rfl rfl)
abbrev cX3_beginsWith : ByteArray := prog_8_method_2_code
def yX3_beginsWith : MethodName := ⟨RX3, "beginsWith", "(I)Z"⟩
def dkwX3_beginsWith_0 : List UInt8 := [42, 180, 0, 13, 190, 158, 0, 17, 42, 180, 0, 13, 3, 46, 27, 160, 0, 7, 4, 167, 0, 4, 3, 172]
abbrev dktX3_beginsWith_0 : List UInt8 := dkwX3_beginsWith_0 ++ []
theorem dksX3_beginsWith_0 : cX3_beginsWith.data.toList.drop 0 = dktX3_beginsWith_0 := by decide +kernel
theorem dX3_beginsWith_0 : decode cX3_beginsWith 0 = .ok (.aload_n 0, 1) := dk_42 (dk_at dksX3_beginsWith_0 0 rfl rfl)
theorem dX3_beginsWith_1 : decode cX3_beginsWith 1 = .ok (.getfield 13, 3) := dk_180 0 13 (dk_at dksX3_beginsWith_0 1 rfl rfl)
theorem dX3_beginsWith_4 : decode cX3_beginsWith 4 = .ok (.arraylength, 1) := dk_190 (dk_at dksX3_beginsWith_0 4 rfl rfl)
theorem dX3_beginsWith_5 : decode cX3_beginsWith 5 = .ok (.ifCond .le 17, 3) := dk_158 0 17 (dk_at dksX3_beginsWith_0 5 rfl rfl)
theorem dX3_beginsWith_8 : decode cX3_beginsWith 8 = .ok (.aload_n 0, 1) := dk_42 (dk_at dksX3_beginsWith_0 8 rfl rfl)
theorem dX3_beginsWith_9 : decode cX3_beginsWith 9 = .ok (.getfield 13, 3) := dk_180 0 13 (dk_at dksX3_beginsWith_0 9 rfl rfl)
theorem dX3_beginsWith_12 : decode cX3_beginsWith 12 = .ok (.iconst 0, 1) := dk_3 (dk_at dksX3_beginsWith_0 12 rfl rfl)
theorem dX3_beginsWith_13 : decode cX3_beginsWith 13 = .ok (.iaload, 1) := dk_46 (dk_at dksX3_beginsWith_0 13 rfl rfl)
theorem dX3_beginsWith_14 : decode cX3_beginsWith 14 = .ok (.iload_n 1, 1) := dk_27 (dk_at dksX3_beginsWith_0 14 rfl rfl)
theorem dX3_beginsWith_15 : decode cX3_beginsWith 15 = .ok (.if_icmp .ne 7, 3) := dk_160 0 7 (dk_at dksX3_beginsWith_0 15 rfl rfl)
theorem dX3_beginsWith_18 : decode cX3_beginsWith 18 = .ok (.iconst 1, 1) := dk_4 (dk_at dksX3_beginsWith_0 18 rfl rfl)
theorem dX3_beginsWith_19 : decode cX3_beginsWith 19 = .ok (.goto 4, 3) := dk_167 0 4 (dk_at dksX3_beginsWith_0 19 rfl rfl)
theorem dX3_beginsWith_22 : decode cX3_beginsWith 22 = .ok (.iconst 0, 1) := dk_3 (dk_at dksX3_beginsWith_0 22 rfl rfl)
theorem dX3_beginsWith_23 : decode cX3_beginsWith 23 = .ok (.ireturn, 1) := dk_172 (dk_at dksX3_beginsWith_0 23 rfl rfl)
theorem q138 : (Jvm.Cond.initialized "SelahGenerator$Rule") ∈ lw_all := lw_g (lw_at lw_m1 16 rfl) rfl
theorem q478 : (Jvm.Cond.instanceMethod ({ cls := "SelahGenerator$Rule", name := "all", desc := "(IILSelahGenerator$Test;)Z" } : Jvm.MethodName)) ∈ lw_all := lw_g (lw_at lw_m2 116 rfl) rfl
theorem q479 : (Jvm.Cond.selects "SelahGenerator$Rule" ({ cls := "SelahGenerator$Rule", name := "all", desc := "(IILSelahGenerator$Test;)Z" } : Jvm.MethodName) ({ cls := "SelahGenerator$Rule", name := "all", desc := "(IILSelahGenerator$Test;)Z" } : Jvm.MethodName)) ∈ lw_all := lw_g (lw_at lw_m2 117 rfl) rfl
theorem q480 : (Jvm.Cond.code ({ cls := "SelahGenerator$Rule", name := "all", desc := "(IILSelahGenerator$Test;)Z" } : Jvm.MethodName) prog_8_method_3_code (5 : Nat) (Option.some Jvm.ClassFile.FieldType.boolean)) ∈ lw_all := lw_g (lw_at lw_m2 118 rfl) rfl
theorem q481 : (Jvm.Cond.interfaceEntry "SelahGenerator$Rule" (17 : Nat)) ∈ lw_tbl := lw_at lw_m2 119 rfl
theorem q482 : (Jvm.Cond.methodLink "SelahGenerator$Rule" (17 : Nat) ({ cls := "SelahGenerator$Test", name := "holds", desc := "(I)Z" } : Jvm.MethodName)) ∈ lw_all := lw_g (lw_at lw_m2 120 rfl) rfl
theorem q783 : (Jvm.Cond.selects "SelahGenerator$Rule" ({ cls := "java/lang/Object", name := "getClass", desc := "()Ljava/lang/Class;" } : Jvm.MethodName) ({ cls := "java/lang/Object", name := "getClass", desc := "()Ljava/lang/Class;" } : Jvm.MethodName)) ∈ lw_all := lw_g (lw_at lw_m3 181 rfl) rfl
theorem q1727 : (Jvm.Cond.instantiable "SelahGenerator$Rule" (2 : Nat)) ∈ lw_all := lw_g (lw_at lw_m7 165 rfl) rfl
theorem q1729 : (Jvm.Cond.instanceMethod ({ cls := "SelahGenerator$Rule", name := "<init>", desc := "(I[I)V" } : Jvm.MethodName)) ∈ lw_all := lw_g (lw_at lw_m7 167 rfl) rfl
theorem q1730 : (Jvm.Cond.code ({ cls := "SelahGenerator$Rule", name := "<init>", desc := "(I[I)V" } : Jvm.MethodName) prog_8_method_1_code (3 : Nat) (Option.none : Option Jvm.ClassFile.FieldType)) ∈ lw_all := lw_g (lw_at lw_m7 168 rfl) rfl
theorem q1731 : (Jvm.Cond.methodLink "SelahGenerator$Rule" (1 : Nat) ({ cls := "java/lang/Object", name := "<init>", desc := "()V" } : Jvm.MethodName)) ∈ lw_all := lw_g (lw_at lw_m7 169 rfl) rfl
theorem q1732 : (Jvm.Cond.fieldLink "SelahGenerator$Rule" (7 : Nat) "SelahGenerator$Rule" "left" "I") ∈ lw_all := lw_g (lw_at lw_m7 170 rfl) rfl
theorem q1739 : (Jvm.Cond.fieldLink "SelahGenerator$Rule" (13 : Nat) "SelahGenerator$Rule" "right" "[I") ∈ lw_all := lw_g (lw_at lw_m7 177 rfl) rfl
theorem q1746 : (Jvm.Cond.laysFinal "SelahGenerator$Rule" "SelahGenerator$Rule" "left" "I") ∈ lw_all := lw_g (lw_at lw_m7 184 rfl) rfl
theorem q1747 : (Jvm.Cond.soleField "SelahGenerator$Rule" "left") ∈ lw_all := lw_g (lw_at lw_m7 185 rfl) rfl
theorem q1748 : (Jvm.Cond.laysFinal "SelahGenerator$Rule" "SelahGenerator$Rule" "right" "[I") ∈ lw_all := lw_g (lw_at lw_m7 186 rfl) rfl
theorem q1749 : (Jvm.Cond.soleField "SelahGenerator$Rule" "right") ∈ lw_all := lw_g (lw_at lw_m7 187 rfl) rfl
theorem q1750 : (Jvm.Cond.superclass "SelahGenerator$Rule" "java/lang/Object") ∈ lw_all := lw_g (lw_at lw_m7 188 rfl) rfl
theorem q1803 : (Jvm.Cond.instanceMethod ({ cls := "SelahGenerator$Rule", name := "with", desc := "(I)LSelahGenerator$Rule;" } : Jvm.MethodName)) ∈ lw_all := lw_g (lw_at lw_m8 1 rfl) rfl
theorem q1804 : (Jvm.Cond.selects "SelahGenerator$Rule" ({ cls := "SelahGenerator$Rule", name := "with", desc := "(I)LSelahGenerator$Rule;" } : Jvm.MethodName) ({ cls := "SelahGenerator$Rule", name := "with", desc := "(I)LSelahGenerator$Rule;" } : Jvm.MethodName)) ∈ lw_all := lw_g (lw_at lw_m8 2 rfl) rfl
theorem q1805 : (Jvm.Cond.code ({ cls := "SelahGenerator$Rule", name := "with", desc := "(I)LSelahGenerator$Rule;" } : Jvm.MethodName) prog_8_method_5_code (3 : Nat) (Option.some (Jvm.ClassFile.FieldType.object "SelahGenerator$Rule"))) ∈ lw_all := lw_g (lw_at lw_m8 3 rfl) rfl
theorem q1806 : (Jvm.Cond.methodLink "SelahGenerator$Rule" (23 : Nat) ({ cls := "java/util/Arrays", name := "copyOf", desc := "([II)[I" } : Jvm.MethodName)) ∈ lw_all := lw_g (lw_at lw_m8 4 rfl) rfl
theorem q1811 : (Jvm.Cond.classLink "SelahGenerator$Rule" (8 : Nat) "SelahGenerator$Rule") ∈ lw_all := lw_g (lw_at lw_m8 9 rfl) rfl
theorem q1812 : (Jvm.Cond.methodLink "SelahGenerator$Rule" (29 : Nat) ({ cls := "SelahGenerator$Rule", name := "<init>", desc := "(I[I)V" } : Jvm.MethodName)) ∈ lw_all := lw_g (lw_at lw_m8 10 rfl) rfl
theorem q2250 : (Jvm.Cond.instanceMethod ({ cls := "SelahGenerator$Rule", name := "rest", desc := "(I[I)[I" } : Jvm.MethodName)) ∈ lw_all := lw_g (lw_at lw_m9 208 rfl) rfl
theorem q2251 : (Jvm.Cond.selects "SelahGenerator$Rule" ({ cls := "SelahGenerator$Rule", name := "rest", desc := "(I[I)[I" } : Jvm.MethodName) ({ cls := "SelahGenerator$Rule", name := "rest", desc := "(I[I)[I" } : Jvm.MethodName)) ∈ lw_all := lw_g (lw_at lw_m9 209 rfl) rfl
theorem q2252 : (Jvm.Cond.code ({ cls := "SelahGenerator$Rule", name := "rest", desc := "(I[I)[I" } : Jvm.MethodName) prog_8_method_4_code (5 : Nat) (Option.some (Jvm.ClassFile.FieldType.array Jvm.ClassFile.FieldType.int))) ∈ lw_all := lw_g (lw_at lw_m9 210 rfl) rfl
theorem q2289 : (Jvm.Cond.instanceMethod ({ cls := "SelahGenerator$Rule", name := "beginsWith", desc := "(I)Z" } : Jvm.MethodName)) ∈ lw_all := lw_g (lw_at lw_m10 7 rfl) rfl
theorem q2290 : (Jvm.Cond.selects "SelahGenerator$Rule" ({ cls := "SelahGenerator$Rule", name := "beginsWith", desc := "(I)Z" } : Jvm.MethodName) ({ cls := "SelahGenerator$Rule", name := "beginsWith", desc := "(I)Z" } : Jvm.MethodName)) ∈ lw_all := lw_g (lw_at lw_m10 8 rfl) rfl
theorem q2291 : (Jvm.Cond.code ({ cls := "SelahGenerator$Rule", name := "beginsWith", desc := "(I)Z" } : Jvm.MethodName) prog_8_method_2_code (2 : Nat) (Option.some Jvm.ClassFile.FieldType.boolean)) ∈ lw_all := lw_g (lw_at lw_m10 9 rfl) rfl
theorem q2366 : (Jvm.Cond.selects "SelahGenerator$Rule" ({ cls := "java/lang/Object", name := "equals", desc := "(Ljava/lang/Object;)Z" } : Jvm.MethodName) ({ cls := "java/lang/Object", name := "equals", desc := "(Ljava/lang/Object;)Z" } : Jvm.MethodName)) ∈ lw_all := lw_g (lw_at lw_m10 84 rfl) rfl
theorem q3301 : (Jvm.Cond.castable "SelahGenerator$Rule" "java/lang/Object") ∈ lw_tbl := lw_at lw_m14 59 rfl
theorem in_X3 : ∀ w ∈ wsX30, w ∈ lw_all := lw_in wsX30 [1746, 1748] (by decide +kernel) (by decide +kernel)
/-! SelahGenerator$Workshop -/
set_option maxRecDepth 100000
def RX4 : String := "SelahGenerator$Workshop"
def TX4 : u_T := fun k => match k with
  | 0 => ("SelahGenerator$Workshop", "rules", "Ljava/util/List;", true)
  | 1 => ("SelahGenerator$Workshop", "made", "I", false)
  | _ => ("SelahGenerator$Workshop", "replaced", "I", false)
def tyX4 : Nat → FieldType := fun k => match k with
  | 0 => .object "java/util/List"
  | 1 => .int
  | _ => .int
abbrev wsX40 : List Cond := u_ws RX4 TX4 3
theorem nmX4 : ∀ a, a < 3 → ∀ b, b < 3 → a ≠ b → (TX4 a).2.1 ≠ (TX4 b).2.1 := by decide +kernel
theorem tyX4_ok : ∀ k, k < 3 → parseFieldDescriptor (TX4 k).2.2.1 = some (tyX4 k) := by decide +kernel
abbrev cX4_used : ByteArray := prog_12_method_2_code
def yX4_used : MethodName := ⟨RX4, "used", "(Ljava/util/List;)I"⟩
def dkwX4_used_4 : List UInt8 := [167, 255, 173, 27, 172]
abbrev dktX4_used_4 : List UInt8 := dkwX4_used_4 ++ []
def dkwX4_used_3 : List UInt8 := [184, 0, 46, 153, 0, 13, 27, 4, 21, 7, 16, 20, 100, 120, 128, 60, 132, 6, 1, 167, 255, 221]
abbrev dktX4_used_3 : List UInt8 := dkwX4_used_3 ++ dktX4_used_4
def dkwX4_used_2 : List UInt8 := [190, 54, 5, 3, 54, 6, 21, 6, 21, 5, 162, 0, 34, 25, 4, 21, 6, 46, 54, 7, 21, 7]
abbrev dktX4_used_2 : List UInt8 := dkwX4_used_2 ++ dktX4_used_3
def dkwX4_used_1 : List UInt8 := [192, 0, 36, 78, 27, 4, 45, 180, 0, 38, 16, 20, 100, 120, 128, 60, 45, 180, 0, 42, 58, 4, 25, 4]
abbrev dktX4_used_1 : List UInt8 := dkwX4_used_1 ++ dktX4_used_2
def dkwX4_used_0 : List UInt8 := [4, 60, 42, 185, 0, 20, 1, 0, 77, 44, 185, 0, 26, 1, 0, 153, 0, 80, 44, 185, 0, 32, 1, 0]
abbrev dktX4_used_0 : List UInt8 := dkwX4_used_0 ++ dktX4_used_1
theorem dksX4_used_0 : cX4_used.data.toList.drop 0 = dktX4_used_0 := by decide +kernel
theorem dksX4_used_1 : cX4_used.data.toList.drop 24 = dktX4_used_1 := dk_seg dksX4_used_0 24 rfl rfl
theorem dksX4_used_2 : cX4_used.data.toList.drop 48 = dktX4_used_2 := dk_seg dksX4_used_1 24 rfl rfl
theorem dksX4_used_3 : cX4_used.data.toList.drop 70 = dktX4_used_3 := dk_seg dksX4_used_2 22 rfl rfl
theorem dksX4_used_4 : cX4_used.data.toList.drop 92 = dktX4_used_4 := dk_seg dksX4_used_3 22 rfl rfl
theorem dX4_used_0 : decode cX4_used 0 = .ok (.iconst 1, 1) := dk_4 (dk_at dksX4_used_0 0 rfl rfl)
theorem dX4_used_1 : decode cX4_used 1 = .ok (.istore_n 1, 1) := dk_60 (dk_at dksX4_used_0 1 rfl rfl)
theorem dX4_used_2 : decode cX4_used 2 = .ok (.aload_n 0, 1) := dk_42 (dk_at dksX4_used_0 2 rfl rfl)
theorem dX4_used_3 : decode cX4_used 3 = .ok (.invokeinterface 20 1, 5) := by decide +kernel
theorem dX4_used_8 : decode cX4_used 8 = .ok (.astore_n 2, 1) := dk_77 (dk_at dksX4_used_0 8 rfl rfl)
theorem dX4_used_9 : decode cX4_used 9 = .ok (.aload_n 2, 1) := dk_44 (dk_at dksX4_used_0 9 rfl rfl)
theorem dX4_used_10 : decode cX4_used 10 = .ok (.invokeinterface 26 1, 5) := by decide +kernel
theorem dX4_used_15 : decode cX4_used 15 = .ok (.ifCond .eq 80, 3) := dk_153 0 80 (dk_at dksX4_used_0 15 rfl rfl)
theorem dX4_used_18 : decode cX4_used 18 = .ok (.aload_n 2, 1) := dk_44 (dk_at dksX4_used_0 18 rfl rfl)
theorem dX4_used_19 : decode cX4_used 19 = .ok (.invokeinterface 32 1, 5) := by decide +kernel
theorem dX4_used_24 : decode cX4_used 24 = .ok (.checkcast 36, 3) := dk_192 0 36 (dk_at dksX4_used_1 0 rfl rfl)
theorem dX4_used_27 : decode cX4_used 27 = .ok (.astore_n 3, 1) := dk_78 (dk_at dksX4_used_1 3 rfl rfl)
theorem dX4_used_28 : decode cX4_used 28 = .ok (.iload_n 1, 1) := dk_27 (dk_at dksX4_used_1 4 rfl rfl)
theorem dX4_used_29 : decode cX4_used 29 = .ok (.iconst 1, 1) := dk_4 (dk_at dksX4_used_1 5 rfl rfl)
theorem dX4_used_30 : decode cX4_used 30 = .ok (.aload_n 3, 1) := dk_45 (dk_at dksX4_used_1 6 rfl rfl)
theorem dX4_used_31 : decode cX4_used 31 = .ok (.getfield 38, 3) := dk_180 0 38 (dk_at dksX4_used_1 7 rfl rfl)
theorem dX4_used_34 : decode cX4_used 34 = .ok (.bipush 20, 2) := dk_16 20 (dk_at dksX4_used_1 10 rfl rfl)
theorem dX4_used_36 : decode cX4_used 36 = .ok (.isub, 1) := dk_100 (dk_at dksX4_used_1 12 rfl rfl)
theorem dX4_used_37 : decode cX4_used 37 = .ok (.ishl, 1) := dk_120 (dk_at dksX4_used_1 13 rfl rfl)
theorem dX4_used_38 : decode cX4_used 38 = .ok (.ior, 1) := dk_128 (dk_at dksX4_used_1 14 rfl rfl)
theorem dX4_used_39 : decode cX4_used 39 = .ok (.istore_n 1, 1) := dk_60 (dk_at dksX4_used_1 15 rfl rfl)
theorem dX4_used_40 : decode cX4_used 40 = .ok (.aload_n 3, 1) := dk_45 (dk_at dksX4_used_1 16 rfl rfl)
theorem dX4_used_41 : decode cX4_used 41 = .ok (.getfield 42, 3) := dk_180 0 42 (dk_at dksX4_used_1 17 rfl rfl)
theorem dX4_used_44 : decode cX4_used 44 = .ok (.astore 4, 2) := dk_58 4 (dk_at dksX4_used_1 20 rfl rfl)
theorem dX4_used_46 : decode cX4_used 46 = .ok (.aload 4, 2) := dk_25 4 (dk_at dksX4_used_1 22 rfl rfl)
theorem dX4_used_48 : decode cX4_used 48 = .ok (.arraylength, 1) := dk_190 (dk_at dksX4_used_2 0 rfl rfl)
theorem dX4_used_49 : decode cX4_used 49 = .ok (.istore 5, 2) := dk_54 5 (dk_at dksX4_used_2 1 rfl rfl)
theorem dX4_used_51 : decode cX4_used 51 = .ok (.iconst 0, 1) := dk_3 (dk_at dksX4_used_2 3 rfl rfl)
theorem dX4_used_52 : decode cX4_used 52 = .ok (.istore 6, 2) := dk_54 6 (dk_at dksX4_used_2 4 rfl rfl)
theorem dX4_used_54 : decode cX4_used 54 = .ok (.iload 6, 2) := dk_21 6 (dk_at dksX4_used_2 6 rfl rfl)
theorem dX4_used_56 : decode cX4_used 56 = .ok (.iload 5, 2) := dk_21 5 (dk_at dksX4_used_2 8 rfl rfl)
theorem dX4_used_58 : decode cX4_used 58 = .ok (.if_icmp .ge 34, 3) := dk_162 0 34 (dk_at dksX4_used_2 10 rfl rfl)
theorem dX4_used_61 : decode cX4_used 61 = .ok (.aload 4, 2) := dk_25 4 (dk_at dksX4_used_2 13 rfl rfl)
theorem dX4_used_63 : decode cX4_used 63 = .ok (.iload 6, 2) := dk_21 6 (dk_at dksX4_used_2 15 rfl rfl)
theorem dX4_used_65 : decode cX4_used 65 = .ok (.iaload, 1) := dk_46 (dk_at dksX4_used_2 17 rfl rfl)
theorem dX4_used_66 : decode cX4_used 66 = .ok (.istore 7, 2) := dk_54 7 (dk_at dksX4_used_2 18 rfl rfl)
theorem dX4_used_68 : decode cX4_used 68 = .ok (.iload 7, 2) := dk_21 7 (dk_at dksX4_used_2 20 rfl rfl)
theorem dX4_used_70 : decode cX4_used 70 = .ok (.invokestatic 46, 3) := dk_184 0 46 (dk_at dksX4_used_3 0 rfl rfl)
theorem dX4_used_73 : decode cX4_used 73 = .ok (.ifCond .eq 13, 3) := dk_153 0 13 (dk_at dksX4_used_3 3 rfl rfl)
theorem dX4_used_76 : decode cX4_used 76 = .ok (.iload_n 1, 1) := dk_27 (dk_at dksX4_used_3 6 rfl rfl)
theorem dX4_used_77 : decode cX4_used 77 = .ok (.iconst 1, 1) := dk_4 (dk_at dksX4_used_3 7 rfl rfl)
theorem dX4_used_78 : decode cX4_used 78 = .ok (.iload 7, 2) := dk_21 7 (dk_at dksX4_used_3 8 rfl rfl)
theorem dX4_used_80 : decode cX4_used 80 = .ok (.bipush 20, 2) := dk_16 20 (dk_at dksX4_used_3 10 rfl rfl)
theorem dX4_used_82 : decode cX4_used 82 = .ok (.isub, 1) := dk_100 (dk_at dksX4_used_3 12 rfl rfl)
theorem dX4_used_83 : decode cX4_used 83 = .ok (.ishl, 1) := dk_120 (dk_at dksX4_used_3 13 rfl rfl)
theorem dX4_used_84 : decode cX4_used 84 = .ok (.ior, 1) := dk_128 (dk_at dksX4_used_3 14 rfl rfl)
theorem dX4_used_85 : decode cX4_used 85 = .ok (.istore_n 1, 1) := dk_60 (dk_at dksX4_used_3 15 rfl rfl)
theorem dX4_used_86 : decode cX4_used 86 = .ok (.iinc 6 1, 3) := dk_132 6 1 (dk_at dksX4_used_3 16 rfl rfl)
theorem dX4_used_89 : decode cX4_used 89 = .ok (.goto (-35), 3) := dk_167 255 221 (dk_at dksX4_used_3 19 rfl rfl)
theorem dX4_used_92 : decode cX4_used 92 = .ok (.goto (-83), 3) := dk_167 255 173 (dk_at dksX4_used_4 0 rfl rfl)
theorem dX4_used_95 : decode cX4_used 95 = .ok (.iload_n 1, 1) := dk_27 (dk_at dksX4_used_4 3 rfl rfl)
theorem dX4_used_96 : decode cX4_used 96 = .ok (.ireturn, 1) := dk_172 (dk_at dksX4_used_4 4 rfl rfl)
abbrev cX4_init : ByteArray := prog_12_method_1_code
def yX4_init : MethodName := ⟨RX4, "<init>", "(Ljava/util/List;)V"⟩
def dkwX4_init_0 : List UInt8 := [42, 183, 0, 3, 42, 187, 0, 9, 89, 43, 183, 0, 11, 181, 0, 14, 177]
abbrev dktX4_init_0 : List UInt8 := dkwX4_init_0 ++ []
theorem dksX4_init_0 : cX4_init.data.toList.drop 0 = dktX4_init_0 := by decide +kernel
theorem dX4_init_0 : decode cX4_init 0 = .ok (.aload_n 0, 1) := dk_42 (dk_at dksX4_init_0 0 rfl rfl)
theorem dX4_init_1 : decode cX4_init 1 = .ok (.invokespecial 3, 3) := dk_183 0 3 (dk_at dksX4_init_0 1 rfl rfl)
theorem dX4_init_4 : decode cX4_init 4 = .ok (.aload_n 0, 1) := dk_42 (dk_at dksX4_init_0 4 rfl rfl)
theorem dX4_init_5 : decode cX4_init 5 = .ok (.new 9, 3) := dk_187 0 9 (dk_at dksX4_init_0 5 rfl rfl)
theorem dX4_init_8 : decode cX4_init 8 = .ok (.dup, 1) := dk_89 (dk_at dksX4_init_0 8 rfl rfl)
theorem dX4_init_9 : decode cX4_init 9 = .ok (.aload_n 1, 1) := dk_43 (dk_at dksX4_init_0 9 rfl rfl)
theorem dX4_init_10 : decode cX4_init 10 = .ok (.invokespecial 11, 3) := dk_183 0 11 (dk_at dksX4_init_0 10 rfl rfl)
theorem dX4_init_13 : decode cX4_init 13 = .ok (.putfield 14, 3) := dk_181 0 14 (dk_at dksX4_init_0 13 rfl rfl)
theorem dX4_init_16 : decode cX4_init 16 = .ok (.return_, 1) := dk_177 (dk_at dksX4_init_0 16 rfl rfl)
abbrev cX4_removeLeftRecursion : ByteArray := prog_12_method_6_code
def yX4_removeLeftRecursion : MethodName := ⟨RX4, "removeLeftRecursion", "()V"⟩
def dkwX4_removeLeftRecursion_4 : List UInt8 := [16, 20, 28, 96, 182, 0, 76, 42, 182, 0, 73, 132, 2, 1, 167, 255, 197, 177]
abbrev dktX4_removeLeftRecursion_4 : List UInt8 := dkwX4_removeLeftRecursion_4 ++ []
def dkwX4_removeLeftRecursion_3 : List UInt8 := [100, 126, 62, 42, 16, 20, 28, 96, 29, 182, 0, 69, 153, 0, 10, 42, 182, 0, 73, 167, 255, 240, 42]
abbrev dktX4_removeLeftRecursion_3 : List UInt8 := dkwX4_removeLeftRecursion_3 ++ dktX4_removeLeftRecursion_4
def dkwX4_removeLeftRecursion_2 : List UInt8 := [3, 61, 28, 16, 12, 162, 0, 59, 27, 28, 122, 4, 126, 154, 0, 6, 167, 0, 42, 27, 4, 28, 120, 4]
abbrev dktX4_removeLeftRecursion_2 : List UInt8 := dkwX4_removeLeftRecursion_2 ++ dktX4_removeLeftRecursion_3
def dkwX4_removeLeftRecursion_1 : List UInt8 := [185, 0, 32, 1, 0, 192, 0, 36, 78, 27, 4, 45, 180, 0, 38, 16, 20, 100, 120, 128, 60, 167, 255, 225]
abbrev dktX4_removeLeftRecursion_1 : List UInt8 := dkwX4_removeLeftRecursion_1 ++ dktX4_removeLeftRecursion_2
def dkwX4_removeLeftRecursion_0 : List UInt8 := [3, 60, 42, 180, 0, 14, 185, 0, 20, 1, 0, 77, 44, 185, 0, 26, 1, 0, 153, 0, 28, 44]
abbrev dktX4_removeLeftRecursion_0 : List UInt8 := dkwX4_removeLeftRecursion_0 ++ dktX4_removeLeftRecursion_1
theorem dksX4_removeLeftRecursion_0 : cX4_removeLeftRecursion.data.toList.drop 0 = dktX4_removeLeftRecursion_0 := by decide +kernel
theorem dksX4_removeLeftRecursion_1 : cX4_removeLeftRecursion.data.toList.drop 22 = dktX4_removeLeftRecursion_1 := dk_seg dksX4_removeLeftRecursion_0 22 rfl rfl
theorem dksX4_removeLeftRecursion_2 : cX4_removeLeftRecursion.data.toList.drop 46 = dktX4_removeLeftRecursion_2 := dk_seg dksX4_removeLeftRecursion_1 24 rfl rfl
theorem dksX4_removeLeftRecursion_3 : cX4_removeLeftRecursion.data.toList.drop 70 = dktX4_removeLeftRecursion_3 := dk_seg dksX4_removeLeftRecursion_2 24 rfl rfl
theorem dksX4_removeLeftRecursion_4 : cX4_removeLeftRecursion.data.toList.drop 93 = dktX4_removeLeftRecursion_4 := dk_seg dksX4_removeLeftRecursion_3 23 rfl rfl
theorem dX4_removeLeftRecursion_0 : decode cX4_removeLeftRecursion 0 = .ok (.iconst 0, 1) := dk_3 (dk_at dksX4_removeLeftRecursion_0 0 rfl rfl)
theorem dX4_removeLeftRecursion_1 : decode cX4_removeLeftRecursion 1 = .ok (.istore_n 1, 1) := dk_60 (dk_at dksX4_removeLeftRecursion_0 1 rfl rfl)
theorem dX4_removeLeftRecursion_2 : decode cX4_removeLeftRecursion 2 = .ok (.aload_n 0, 1) := dk_42 (dk_at dksX4_removeLeftRecursion_0 2 rfl rfl)
theorem dX4_removeLeftRecursion_3 : decode cX4_removeLeftRecursion 3 = .ok (.getfield 14, 3) := dk_180 0 14 (dk_at dksX4_removeLeftRecursion_0 3 rfl rfl)
theorem dX4_removeLeftRecursion_6 : decode cX4_removeLeftRecursion 6 = .ok (.invokeinterface 20 1, 5) := by decide +kernel
theorem dX4_removeLeftRecursion_11 : decode cX4_removeLeftRecursion 11 = .ok (.astore_n 2, 1) := dk_77 (dk_at dksX4_removeLeftRecursion_0 11 rfl rfl)
theorem dX4_removeLeftRecursion_12 : decode cX4_removeLeftRecursion 12 = .ok (.aload_n 2, 1) := dk_44 (dk_at dksX4_removeLeftRecursion_0 12 rfl rfl)
theorem dX4_removeLeftRecursion_13 : decode cX4_removeLeftRecursion 13 = .ok (.invokeinterface 26 1, 5) := by decide +kernel
theorem dX4_removeLeftRecursion_18 : decode cX4_removeLeftRecursion 18 = .ok (.ifCond .eq 28, 3) := dk_153 0 28 (dk_at dksX4_removeLeftRecursion_0 18 rfl rfl)
theorem dX4_removeLeftRecursion_21 : decode cX4_removeLeftRecursion 21 = .ok (.aload_n 2, 1) := dk_44 (dk_at dksX4_removeLeftRecursion_0 21 rfl rfl)
theorem dX4_removeLeftRecursion_22 : decode cX4_removeLeftRecursion 22 = .ok (.invokeinterface 32 1, 5) := by decide +kernel
theorem dX4_removeLeftRecursion_27 : decode cX4_removeLeftRecursion 27 = .ok (.checkcast 36, 3) := dk_192 0 36 (dk_at dksX4_removeLeftRecursion_1 5 rfl rfl)
theorem dX4_removeLeftRecursion_30 : decode cX4_removeLeftRecursion 30 = .ok (.astore_n 3, 1) := dk_78 (dk_at dksX4_removeLeftRecursion_1 8 rfl rfl)
theorem dX4_removeLeftRecursion_31 : decode cX4_removeLeftRecursion 31 = .ok (.iload_n 1, 1) := dk_27 (dk_at dksX4_removeLeftRecursion_1 9 rfl rfl)
theorem dX4_removeLeftRecursion_32 : decode cX4_removeLeftRecursion 32 = .ok (.iconst 1, 1) := dk_4 (dk_at dksX4_removeLeftRecursion_1 10 rfl rfl)
theorem dX4_removeLeftRecursion_33 : decode cX4_removeLeftRecursion 33 = .ok (.aload_n 3, 1) := dk_45 (dk_at dksX4_removeLeftRecursion_1 11 rfl rfl)
theorem dX4_removeLeftRecursion_34 : decode cX4_removeLeftRecursion 34 = .ok (.getfield 38, 3) := dk_180 0 38 (dk_at dksX4_removeLeftRecursion_1 12 rfl rfl)
theorem dX4_removeLeftRecursion_37 : decode cX4_removeLeftRecursion 37 = .ok (.bipush 20, 2) := dk_16 20 (dk_at dksX4_removeLeftRecursion_1 15 rfl rfl)
theorem dX4_removeLeftRecursion_39 : decode cX4_removeLeftRecursion 39 = .ok (.isub, 1) := dk_100 (dk_at dksX4_removeLeftRecursion_1 17 rfl rfl)
theorem dX4_removeLeftRecursion_40 : decode cX4_removeLeftRecursion 40 = .ok (.ishl, 1) := dk_120 (dk_at dksX4_removeLeftRecursion_1 18 rfl rfl)
theorem dX4_removeLeftRecursion_41 : decode cX4_removeLeftRecursion 41 = .ok (.ior, 1) := dk_128 (dk_at dksX4_removeLeftRecursion_1 19 rfl rfl)
theorem dX4_removeLeftRecursion_42 : decode cX4_removeLeftRecursion 42 = .ok (.istore_n 1, 1) := dk_60 (dk_at dksX4_removeLeftRecursion_1 20 rfl rfl)
theorem dX4_removeLeftRecursion_43 : decode cX4_removeLeftRecursion 43 = .ok (.goto (-31), 3) := dk_167 255 225 (dk_at dksX4_removeLeftRecursion_1 21 rfl rfl)
theorem dX4_removeLeftRecursion_46 : decode cX4_removeLeftRecursion 46 = .ok (.iconst 0, 1) := dk_3 (dk_at dksX4_removeLeftRecursion_2 0 rfl rfl)
theorem dX4_removeLeftRecursion_47 : decode cX4_removeLeftRecursion 47 = .ok (.istore_n 2, 1) := dk_61 (dk_at dksX4_removeLeftRecursion_2 1 rfl rfl)
theorem dX4_removeLeftRecursion_48 : decode cX4_removeLeftRecursion 48 = .ok (.iload_n 2, 1) := dk_28 (dk_at dksX4_removeLeftRecursion_2 2 rfl rfl)
theorem dX4_removeLeftRecursion_49 : decode cX4_removeLeftRecursion 49 = .ok (.bipush 12, 2) := dk_16 12 (dk_at dksX4_removeLeftRecursion_2 3 rfl rfl)
theorem dX4_removeLeftRecursion_51 : decode cX4_removeLeftRecursion 51 = .ok (.if_icmp .ge 59, 3) := dk_162 0 59 (dk_at dksX4_removeLeftRecursion_2 5 rfl rfl)
theorem dX4_removeLeftRecursion_54 : decode cX4_removeLeftRecursion 54 = .ok (.iload_n 1, 1) := dk_27 (dk_at dksX4_removeLeftRecursion_2 8 rfl rfl)
theorem dX4_removeLeftRecursion_55 : decode cX4_removeLeftRecursion 55 = .ok (.iload_n 2, 1) := dk_28 (dk_at dksX4_removeLeftRecursion_2 9 rfl rfl)
theorem dX4_removeLeftRecursion_56 : decode cX4_removeLeftRecursion 56 = .ok (.ishr, 1) := dk_122 (dk_at dksX4_removeLeftRecursion_2 10 rfl rfl)
theorem dX4_removeLeftRecursion_57 : decode cX4_removeLeftRecursion 57 = .ok (.iconst 1, 1) := dk_4 (dk_at dksX4_removeLeftRecursion_2 11 rfl rfl)
theorem dX4_removeLeftRecursion_58 : decode cX4_removeLeftRecursion 58 = .ok (.iand, 1) := dk_126 (dk_at dksX4_removeLeftRecursion_2 12 rfl rfl)
theorem dX4_removeLeftRecursion_59 : decode cX4_removeLeftRecursion 59 = .ok (.ifCond .ne 6, 3) := dk_154 0 6 (dk_at dksX4_removeLeftRecursion_2 13 rfl rfl)
theorem dX4_removeLeftRecursion_62 : decode cX4_removeLeftRecursion 62 = .ok (.goto 42, 3) := dk_167 0 42 (dk_at dksX4_removeLeftRecursion_2 16 rfl rfl)
theorem dX4_removeLeftRecursion_65 : decode cX4_removeLeftRecursion 65 = .ok (.iload_n 1, 1) := dk_27 (dk_at dksX4_removeLeftRecursion_2 19 rfl rfl)
theorem dX4_removeLeftRecursion_66 : decode cX4_removeLeftRecursion 66 = .ok (.iconst 1, 1) := dk_4 (dk_at dksX4_removeLeftRecursion_2 20 rfl rfl)
theorem dX4_removeLeftRecursion_67 : decode cX4_removeLeftRecursion 67 = .ok (.iload_n 2, 1) := dk_28 (dk_at dksX4_removeLeftRecursion_2 21 rfl rfl)
theorem dX4_removeLeftRecursion_68 : decode cX4_removeLeftRecursion 68 = .ok (.ishl, 1) := dk_120 (dk_at dksX4_removeLeftRecursion_2 22 rfl rfl)
theorem dX4_removeLeftRecursion_69 : decode cX4_removeLeftRecursion 69 = .ok (.iconst 1, 1) := dk_4 (dk_at dksX4_removeLeftRecursion_2 23 rfl rfl)
theorem dX4_removeLeftRecursion_70 : decode cX4_removeLeftRecursion 70 = .ok (.isub, 1) := dk_100 (dk_at dksX4_removeLeftRecursion_3 0 rfl rfl)
theorem dX4_removeLeftRecursion_71 : decode cX4_removeLeftRecursion 71 = .ok (.iand, 1) := dk_126 (dk_at dksX4_removeLeftRecursion_3 1 rfl rfl)
theorem dX4_removeLeftRecursion_72 : decode cX4_removeLeftRecursion 72 = .ok (.istore_n 3, 1) := dk_62 (dk_at dksX4_removeLeftRecursion_3 2 rfl rfl)
theorem dX4_removeLeftRecursion_73 : decode cX4_removeLeftRecursion 73 = .ok (.aload_n 0, 1) := dk_42 (dk_at dksX4_removeLeftRecursion_3 3 rfl rfl)
theorem dX4_removeLeftRecursion_74 : decode cX4_removeLeftRecursion 74 = .ok (.bipush 20, 2) := dk_16 20 (dk_at dksX4_removeLeftRecursion_3 4 rfl rfl)
theorem dX4_removeLeftRecursion_76 : decode cX4_removeLeftRecursion 76 = .ok (.iload_n 2, 1) := dk_28 (dk_at dksX4_removeLeftRecursion_3 6 rfl rfl)
theorem dX4_removeLeftRecursion_77 : decode cX4_removeLeftRecursion 77 = .ok (.iadd, 1) := dk_96 (dk_at dksX4_removeLeftRecursion_3 7 rfl rfl)
theorem dX4_removeLeftRecursion_78 : decode cX4_removeLeftRecursion 78 = .ok (.iload_n 3, 1) := dk_29 (dk_at dksX4_removeLeftRecursion_3 8 rfl rfl)
theorem dX4_removeLeftRecursion_79 : decode cX4_removeLeftRecursion 79 = .ok (.invokevirtual 69, 3) := dk_182 0 69 (dk_at dksX4_removeLeftRecursion_3 9 rfl rfl)
theorem dX4_removeLeftRecursion_82 : decode cX4_removeLeftRecursion 82 = .ok (.ifCond .eq 10, 3) := dk_153 0 10 (dk_at dksX4_removeLeftRecursion_3 12 rfl rfl)
theorem dX4_removeLeftRecursion_85 : decode cX4_removeLeftRecursion 85 = .ok (.aload_n 0, 1) := dk_42 (dk_at dksX4_removeLeftRecursion_3 15 rfl rfl)
theorem dX4_removeLeftRecursion_86 : decode cX4_removeLeftRecursion 86 = .ok (.invokevirtual 73, 3) := dk_182 0 73 (dk_at dksX4_removeLeftRecursion_3 16 rfl rfl)
theorem dX4_removeLeftRecursion_89 : decode cX4_removeLeftRecursion 89 = .ok (.goto (-16), 3) := dk_167 255 240 (dk_at dksX4_removeLeftRecursion_3 19 rfl rfl)
theorem dX4_removeLeftRecursion_92 : decode cX4_removeLeftRecursion 92 = .ok (.aload_n 0, 1) := dk_42 (dk_at dksX4_removeLeftRecursion_3 22 rfl rfl)
theorem dX4_removeLeftRecursion_93 : decode cX4_removeLeftRecursion 93 = .ok (.bipush 20, 2) := dk_16 20 (dk_at dksX4_removeLeftRecursion_4 0 rfl rfl)
theorem dX4_removeLeftRecursion_95 : decode cX4_removeLeftRecursion 95 = .ok (.iload_n 2, 1) := dk_28 (dk_at dksX4_removeLeftRecursion_4 2 rfl rfl)
theorem dX4_removeLeftRecursion_96 : decode cX4_removeLeftRecursion 96 = .ok (.iadd, 1) := dk_96 (dk_at dksX4_removeLeftRecursion_4 3 rfl rfl)
theorem dX4_removeLeftRecursion_97 : decode cX4_removeLeftRecursion 97 = .ok (.invokevirtual 76, 3) := dk_182 0 76 (dk_at dksX4_removeLeftRecursion_4 4 rfl rfl)
theorem dX4_removeLeftRecursion_100 : decode cX4_removeLeftRecursion 100 = .ok (.aload_n 0, 1) := dk_42 (dk_at dksX4_removeLeftRecursion_4 7 rfl rfl)
theorem dX4_removeLeftRecursion_101 : decode cX4_removeLeftRecursion 101 = .ok (.invokevirtual 73, 3) := dk_182 0 73 (dk_at dksX4_removeLeftRecursion_4 8 rfl rfl)
theorem dX4_removeLeftRecursion_104 : decode cX4_removeLeftRecursion 104 = .ok (.iinc 2 1, 3) := dk_132 2 1 (dk_at dksX4_removeLeftRecursion_4 11 rfl rfl)
theorem dX4_removeLeftRecursion_107 : decode cX4_removeLeftRecursion 107 = .ok (.goto (-59), 3) := dk_167 255 197 (dk_at dksX4_removeLeftRecursion_4 14 rfl rfl)
theorem dX4_removeLeftRecursion_110 : decode cX4_removeLeftRecursion 110 = .ok (.return_, 1) := dk_177 (dk_at dksX4_removeLeftRecursion_4 17 rfl rfl)
abbrev cX4_replaceFirst : ByteArray := prog_12_method_7_code
def yX4_replaceFirst : MethodName := ⟨RX4, "replaceFirst", "(II)Z"⟩
def dkwX4_replaceFirst_9 : List UInt8 := [167, 255, 54, 3, 172]
abbrev dktX4_replaceFirst_9 : List UInt8 := dkwX4_replaceFirst_9 ++ []
def dkwX4_replaceFirst_8 : List UInt8 := [182, 0, 94, 183, 0, 98, 185, 0, 101, 3, 0, 132, 7, 1, 167, 255, 199, 4, 172, 132, 3, 1]
abbrev dktX4_replaceFirst_8 : List UInt8 := dkwX4_replaceFirst_8 ++ dktX4_replaceFirst_9
def dkwX4_replaceFirst_7 : List UInt8 := [187, 0, 36, 89, 27, 25, 6, 4, 25, 5, 21, 7, 185, 0, 80, 2, 0, 192, 0, 36, 180, 0, 42]
abbrev dktX4_replaceFirst_7 : List UInt8 := dkwX4_replaceFirst_7 ++ dktX4_replaceFirst_8
def dkwX4_replaceFirst_6 : List UInt8 := [54, 7, 21, 7, 25, 5, 185, 0, 60, 1, 0, 162, 0, 51, 42, 180, 0, 14, 29, 21, 7, 96]
abbrev dktX4_replaceFirst_6 : List UInt8 := dkwX4_replaceFirst_6 ++ dktX4_replaceFirst_7
def dkwX4_replaceFirst_5 : List UInt8 := [3, 46, 182, 0, 87, 58, 5, 42, 180, 0, 14, 29, 185, 0, 91, 2, 0, 192, 0, 36, 58, 6, 3]
abbrev dktX4_replaceFirst_5 : List UInt8 := dkwX4_replaceFirst_5 ++ dktX4_replaceFirst_6
def dkwX4_replaceFirst_4 : List UInt8 := [187, 0, 54, 89, 183, 0, 56, 191, 42, 89, 180, 0, 84, 4, 96, 181, 0, 84, 42, 25, 4, 180, 0, 42]
abbrev dktX4_replaceFirst_4 : List UInt8 := dkwX4_replaceFirst_4 ++ dktX4_replaceFirst_5
def dkwX4_replaceFirst_3 : List UInt8 := [46, 16, 20, 100, 122, 4, 126, 154, 0, 6, 167, 0, 123, 42, 180, 0, 84, 16, 100, 160, 0, 11]
abbrev dktX4_replaceFirst_3 : List UInt8 := dkwX4_replaceFirst_3 ++ dktX4_replaceFirst_4
def dkwX4_replaceFirst_2 : List UInt8 := [190, 153, 0, 156, 25, 4, 180, 0, 42, 3, 46, 184, 0, 46, 153, 0, 143, 28, 25, 4, 180, 0, 42, 3]
abbrev dktX4_replaceFirst_2 : List UInt8 := dkwX4_replaceFirst_2 ++ dktX4_replaceFirst_3
def dkwX4_replaceFirst_1 : List UInt8 := [185, 0, 80, 2, 0, 192, 0, 36, 58, 4, 25, 4, 180, 0, 38, 27, 160, 0, 165, 25, 4, 180, 0, 42]
abbrev dktX4_replaceFirst_1 : List UInt8 := dkwX4_replaceFirst_1 ++ dktX4_replaceFirst_2
def dkwX4_replaceFirst_0 : List UInt8 := [3, 62, 29, 42, 180, 0, 14, 185, 0, 60, 1, 0, 162, 0, 195, 42, 180, 0, 14, 29]
abbrev dktX4_replaceFirst_0 : List UInt8 := dkwX4_replaceFirst_0 ++ dktX4_replaceFirst_1
theorem dksX4_replaceFirst_0 : cX4_replaceFirst.data.toList.drop 0 = dktX4_replaceFirst_0 := by decide +kernel
theorem dksX4_replaceFirst_1 : cX4_replaceFirst.data.toList.drop 20 = dktX4_replaceFirst_1 := dk_seg dksX4_replaceFirst_0 20 rfl rfl
theorem dksX4_replaceFirst_2 : cX4_replaceFirst.data.toList.drop 44 = dktX4_replaceFirst_2 := dk_seg dksX4_replaceFirst_1 24 rfl rfl
theorem dksX4_replaceFirst_3 : cX4_replaceFirst.data.toList.drop 68 = dktX4_replaceFirst_3 := dk_seg dksX4_replaceFirst_2 24 rfl rfl
theorem dksX4_replaceFirst_4 : cX4_replaceFirst.data.toList.drop 90 = dktX4_replaceFirst_4 := dk_seg dksX4_replaceFirst_3 22 rfl rfl
theorem dksX4_replaceFirst_5 : cX4_replaceFirst.data.toList.drop 114 = dktX4_replaceFirst_5 := dk_seg dksX4_replaceFirst_4 24 rfl rfl
theorem dksX4_replaceFirst_6 : cX4_replaceFirst.data.toList.drop 137 = dktX4_replaceFirst_6 := dk_seg dksX4_replaceFirst_5 23 rfl rfl
theorem dksX4_replaceFirst_7 : cX4_replaceFirst.data.toList.drop 159 = dktX4_replaceFirst_7 := dk_seg dksX4_replaceFirst_6 22 rfl rfl
theorem dksX4_replaceFirst_8 : cX4_replaceFirst.data.toList.drop 182 = dktX4_replaceFirst_8 := dk_seg dksX4_replaceFirst_7 23 rfl rfl
theorem dksX4_replaceFirst_9 : cX4_replaceFirst.data.toList.drop 204 = dktX4_replaceFirst_9 := dk_seg dksX4_replaceFirst_8 22 rfl rfl
theorem dX4_replaceFirst_0 : decode cX4_replaceFirst 0 = .ok (.iconst 0, 1) := dk_3 (dk_at dksX4_replaceFirst_0 0 rfl rfl)
theorem dX4_replaceFirst_1 : decode cX4_replaceFirst 1 = .ok (.istore_n 3, 1) := dk_62 (dk_at dksX4_replaceFirst_0 1 rfl rfl)
theorem dX4_replaceFirst_2 : decode cX4_replaceFirst 2 = .ok (.iload_n 3, 1) := dk_29 (dk_at dksX4_replaceFirst_0 2 rfl rfl)
theorem dX4_replaceFirst_3 : decode cX4_replaceFirst 3 = .ok (.aload_n 0, 1) := dk_42 (dk_at dksX4_replaceFirst_0 3 rfl rfl)
theorem dX4_replaceFirst_4 : decode cX4_replaceFirst 4 = .ok (.getfield 14, 3) := dk_180 0 14 (dk_at dksX4_replaceFirst_0 4 rfl rfl)
theorem dX4_replaceFirst_7 : decode cX4_replaceFirst 7 = .ok (.invokeinterface 60 1, 5) := by decide +kernel
theorem dX4_replaceFirst_12 : decode cX4_replaceFirst 12 = .ok (.if_icmp .ge 195, 3) := dk_162 0 195 (dk_at dksX4_replaceFirst_0 12 rfl rfl)
theorem dX4_replaceFirst_15 : decode cX4_replaceFirst 15 = .ok (.aload_n 0, 1) := dk_42 (dk_at dksX4_replaceFirst_0 15 rfl rfl)
theorem dX4_replaceFirst_16 : decode cX4_replaceFirst 16 = .ok (.getfield 14, 3) := dk_180 0 14 (dk_at dksX4_replaceFirst_0 16 rfl rfl)
theorem dX4_replaceFirst_19 : decode cX4_replaceFirst 19 = .ok (.iload_n 3, 1) := dk_29 (dk_at dksX4_replaceFirst_0 19 rfl rfl)
theorem dX4_replaceFirst_20 : decode cX4_replaceFirst 20 = .ok (.invokeinterface 80 2, 5) := by decide +kernel
theorem dX4_replaceFirst_25 : decode cX4_replaceFirst 25 = .ok (.checkcast 36, 3) := dk_192 0 36 (dk_at dksX4_replaceFirst_1 5 rfl rfl)
theorem dX4_replaceFirst_28 : decode cX4_replaceFirst 28 = .ok (.astore 4, 2) := dk_58 4 (dk_at dksX4_replaceFirst_1 8 rfl rfl)
theorem dX4_replaceFirst_30 : decode cX4_replaceFirst 30 = .ok (.aload 4, 2) := dk_25 4 (dk_at dksX4_replaceFirst_1 10 rfl rfl)
theorem dX4_replaceFirst_32 : decode cX4_replaceFirst 32 = .ok (.getfield 38, 3) := dk_180 0 38 (dk_at dksX4_replaceFirst_1 12 rfl rfl)
theorem dX4_replaceFirst_35 : decode cX4_replaceFirst 35 = .ok (.iload_n 1, 1) := dk_27 (dk_at dksX4_replaceFirst_1 15 rfl rfl)
theorem dX4_replaceFirst_36 : decode cX4_replaceFirst 36 = .ok (.if_icmp .ne 165, 3) := dk_160 0 165 (dk_at dksX4_replaceFirst_1 16 rfl rfl)
theorem dX4_replaceFirst_39 : decode cX4_replaceFirst 39 = .ok (.aload 4, 2) := dk_25 4 (dk_at dksX4_replaceFirst_1 19 rfl rfl)
theorem dX4_replaceFirst_41 : decode cX4_replaceFirst 41 = .ok (.getfield 42, 3) := dk_180 0 42 (dk_at dksX4_replaceFirst_1 21 rfl rfl)
theorem dX4_replaceFirst_44 : decode cX4_replaceFirst 44 = .ok (.arraylength, 1) := dk_190 (dk_at dksX4_replaceFirst_2 0 rfl rfl)
theorem dX4_replaceFirst_45 : decode cX4_replaceFirst 45 = .ok (.ifCond .eq 156, 3) := dk_153 0 156 (dk_at dksX4_replaceFirst_2 1 rfl rfl)
theorem dX4_replaceFirst_48 : decode cX4_replaceFirst 48 = .ok (.aload 4, 2) := dk_25 4 (dk_at dksX4_replaceFirst_2 4 rfl rfl)
theorem dX4_replaceFirst_50 : decode cX4_replaceFirst 50 = .ok (.getfield 42, 3) := dk_180 0 42 (dk_at dksX4_replaceFirst_2 6 rfl rfl)
theorem dX4_replaceFirst_53 : decode cX4_replaceFirst 53 = .ok (.iconst 0, 1) := dk_3 (dk_at dksX4_replaceFirst_2 9 rfl rfl)
theorem dX4_replaceFirst_54 : decode cX4_replaceFirst 54 = .ok (.iaload, 1) := dk_46 (dk_at dksX4_replaceFirst_2 10 rfl rfl)
theorem dX4_replaceFirst_55 : decode cX4_replaceFirst 55 = .ok (.invokestatic 46, 3) := dk_184 0 46 (dk_at dksX4_replaceFirst_2 11 rfl rfl)
theorem dX4_replaceFirst_58 : decode cX4_replaceFirst 58 = .ok (.ifCond .eq 143, 3) := dk_153 0 143 (dk_at dksX4_replaceFirst_2 14 rfl rfl)
theorem dX4_replaceFirst_61 : decode cX4_replaceFirst 61 = .ok (.iload_n 2, 1) := dk_28 (dk_at dksX4_replaceFirst_2 17 rfl rfl)
theorem dX4_replaceFirst_62 : decode cX4_replaceFirst 62 = .ok (.aload 4, 2) := dk_25 4 (dk_at dksX4_replaceFirst_2 18 rfl rfl)
theorem dX4_replaceFirst_64 : decode cX4_replaceFirst 64 = .ok (.getfield 42, 3) := dk_180 0 42 (dk_at dksX4_replaceFirst_2 20 rfl rfl)
theorem dX4_replaceFirst_67 : decode cX4_replaceFirst 67 = .ok (.iconst 0, 1) := dk_3 (dk_at dksX4_replaceFirst_2 23 rfl rfl)
theorem dX4_replaceFirst_68 : decode cX4_replaceFirst 68 = .ok (.iaload, 1) := dk_46 (dk_at dksX4_replaceFirst_3 0 rfl rfl)
theorem dX4_replaceFirst_69 : decode cX4_replaceFirst 69 = .ok (.bipush 20, 2) := dk_16 20 (dk_at dksX4_replaceFirst_3 1 rfl rfl)
theorem dX4_replaceFirst_71 : decode cX4_replaceFirst 71 = .ok (.isub, 1) := dk_100 (dk_at dksX4_replaceFirst_3 3 rfl rfl)
theorem dX4_replaceFirst_72 : decode cX4_replaceFirst 72 = .ok (.ishr, 1) := dk_122 (dk_at dksX4_replaceFirst_3 4 rfl rfl)
theorem dX4_replaceFirst_73 : decode cX4_replaceFirst 73 = .ok (.iconst 1, 1) := dk_4 (dk_at dksX4_replaceFirst_3 5 rfl rfl)
theorem dX4_replaceFirst_74 : decode cX4_replaceFirst 74 = .ok (.iand, 1) := dk_126 (dk_at dksX4_replaceFirst_3 6 rfl rfl)
theorem dX4_replaceFirst_75 : decode cX4_replaceFirst 75 = .ok (.ifCond .ne 6, 3) := dk_154 0 6 (dk_at dksX4_replaceFirst_3 7 rfl rfl)
theorem dX4_replaceFirst_78 : decode cX4_replaceFirst 78 = .ok (.goto 123, 3) := dk_167 0 123 (dk_at dksX4_replaceFirst_3 10 rfl rfl)
theorem dX4_replaceFirst_81 : decode cX4_replaceFirst 81 = .ok (.aload_n 0, 1) := dk_42 (dk_at dksX4_replaceFirst_3 13 rfl rfl)
theorem dX4_replaceFirst_82 : decode cX4_replaceFirst 82 = .ok (.getfield 84, 3) := dk_180 0 84 (dk_at dksX4_replaceFirst_3 14 rfl rfl)
theorem dX4_replaceFirst_85 : decode cX4_replaceFirst 85 = .ok (.bipush 100, 2) := dk_16 100 (dk_at dksX4_replaceFirst_3 17 rfl rfl)
theorem dX4_replaceFirst_87 : decode cX4_replaceFirst 87 = .ok (.if_icmp .ne 11, 3) := dk_160 0 11 (dk_at dksX4_replaceFirst_3 19 rfl rfl)
theorem dX4_replaceFirst_90 : decode cX4_replaceFirst 90 = .ok (.new 54, 3) := dk_187 0 54 (dk_at dksX4_replaceFirst_4 0 rfl rfl)
theorem dX4_replaceFirst_93 : decode cX4_replaceFirst 93 = .ok (.dup, 1) := dk_89 (dk_at dksX4_replaceFirst_4 3 rfl rfl)
theorem dX4_replaceFirst_94 : decode cX4_replaceFirst 94 = .ok (.invokespecial 56, 3) := dk_183 0 56 (dk_at dksX4_replaceFirst_4 4 rfl rfl)
theorem dX4_replaceFirst_97 : decode cX4_replaceFirst 97 = .ok (.athrow, 1) := dk_191 (dk_at dksX4_replaceFirst_4 7 rfl rfl)
theorem dX4_replaceFirst_98 : decode cX4_replaceFirst 98 = .ok (.aload_n 0, 1) := dk_42 (dk_at dksX4_replaceFirst_4 8 rfl rfl)
theorem dX4_replaceFirst_99 : decode cX4_replaceFirst 99 = .ok (.dup, 1) := dk_89 (dk_at dksX4_replaceFirst_4 9 rfl rfl)
theorem dX4_replaceFirst_100 : decode cX4_replaceFirst 100 = .ok (.getfield 84, 3) := dk_180 0 84 (dk_at dksX4_replaceFirst_4 10 rfl rfl)
theorem dX4_replaceFirst_103 : decode cX4_replaceFirst 103 = .ok (.iconst 1, 1) := dk_4 (dk_at dksX4_replaceFirst_4 13 rfl rfl)
theorem dX4_replaceFirst_104 : decode cX4_replaceFirst 104 = .ok (.iadd, 1) := dk_96 (dk_at dksX4_replaceFirst_4 14 rfl rfl)
theorem dX4_replaceFirst_105 : decode cX4_replaceFirst 105 = .ok (.putfield 84, 3) := dk_181 0 84 (dk_at dksX4_replaceFirst_4 15 rfl rfl)
theorem dX4_replaceFirst_108 : decode cX4_replaceFirst 108 = .ok (.aload_n 0, 1) := dk_42 (dk_at dksX4_replaceFirst_4 18 rfl rfl)
theorem dX4_replaceFirst_109 : decode cX4_replaceFirst 109 = .ok (.aload 4, 2) := dk_25 4 (dk_at dksX4_replaceFirst_4 19 rfl rfl)
theorem dX4_replaceFirst_111 : decode cX4_replaceFirst 111 = .ok (.getfield 42, 3) := dk_180 0 42 (dk_at dksX4_replaceFirst_4 21 rfl rfl)
theorem dX4_replaceFirst_114 : decode cX4_replaceFirst 114 = .ok (.iconst 0, 1) := dk_3 (dk_at dksX4_replaceFirst_5 0 rfl rfl)
theorem dX4_replaceFirst_115 : decode cX4_replaceFirst 115 = .ok (.iaload, 1) := dk_46 (dk_at dksX4_replaceFirst_5 1 rfl rfl)
theorem dX4_replaceFirst_116 : decode cX4_replaceFirst 116 = .ok (.invokevirtual 87, 3) := dk_182 0 87 (dk_at dksX4_replaceFirst_5 2 rfl rfl)
theorem dX4_replaceFirst_119 : decode cX4_replaceFirst 119 = .ok (.astore 5, 2) := dk_58 5 (dk_at dksX4_replaceFirst_5 5 rfl rfl)
theorem dX4_replaceFirst_121 : decode cX4_replaceFirst 121 = .ok (.aload_n 0, 1) := dk_42 (dk_at dksX4_replaceFirst_5 7 rfl rfl)
theorem dX4_replaceFirst_122 : decode cX4_replaceFirst 122 = .ok (.getfield 14, 3) := dk_180 0 14 (dk_at dksX4_replaceFirst_5 8 rfl rfl)
theorem dX4_replaceFirst_125 : decode cX4_replaceFirst 125 = .ok (.iload_n 3, 1) := dk_29 (dk_at dksX4_replaceFirst_5 11 rfl rfl)
theorem dX4_replaceFirst_126 : decode cX4_replaceFirst 126 = .ok (.invokeinterface 91 2, 5) := by decide +kernel
theorem dX4_replaceFirst_131 : decode cX4_replaceFirst 131 = .ok (.checkcast 36, 3) := dk_192 0 36 (dk_at dksX4_replaceFirst_5 17 rfl rfl)
theorem dX4_replaceFirst_134 : decode cX4_replaceFirst 134 = .ok (.astore 6, 2) := dk_58 6 (dk_at dksX4_replaceFirst_5 20 rfl rfl)
theorem dX4_replaceFirst_136 : decode cX4_replaceFirst 136 = .ok (.iconst 0, 1) := dk_3 (dk_at dksX4_replaceFirst_5 22 rfl rfl)
theorem dX4_replaceFirst_137 : decode cX4_replaceFirst 137 = .ok (.istore 7, 2) := dk_54 7 (dk_at dksX4_replaceFirst_6 0 rfl rfl)
theorem dX4_replaceFirst_139 : decode cX4_replaceFirst 139 = .ok (.iload 7, 2) := dk_21 7 (dk_at dksX4_replaceFirst_6 2 rfl rfl)
theorem dX4_replaceFirst_141 : decode cX4_replaceFirst 141 = .ok (.aload 5, 2) := dk_25 5 (dk_at dksX4_replaceFirst_6 4 rfl rfl)
theorem dX4_replaceFirst_143 : decode cX4_replaceFirst 143 = .ok (.invokeinterface 60 1, 5) := by decide +kernel
theorem dX4_replaceFirst_148 : decode cX4_replaceFirst 148 = .ok (.if_icmp .ge 51, 3) := dk_162 0 51 (dk_at dksX4_replaceFirst_6 11 rfl rfl)
theorem dX4_replaceFirst_151 : decode cX4_replaceFirst 151 = .ok (.aload_n 0, 1) := dk_42 (dk_at dksX4_replaceFirst_6 14 rfl rfl)
theorem dX4_replaceFirst_152 : decode cX4_replaceFirst 152 = .ok (.getfield 14, 3) := dk_180 0 14 (dk_at dksX4_replaceFirst_6 15 rfl rfl)
theorem dX4_replaceFirst_155 : decode cX4_replaceFirst 155 = .ok (.iload_n 3, 1) := dk_29 (dk_at dksX4_replaceFirst_6 18 rfl rfl)
theorem dX4_replaceFirst_156 : decode cX4_replaceFirst 156 = .ok (.iload 7, 2) := dk_21 7 (dk_at dksX4_replaceFirst_6 19 rfl rfl)
theorem dX4_replaceFirst_158 : decode cX4_replaceFirst 158 = .ok (.iadd, 1) := dk_96 (dk_at dksX4_replaceFirst_6 21 rfl rfl)
theorem dX4_replaceFirst_159 : decode cX4_replaceFirst 159 = .ok (.new 36, 3) := dk_187 0 36 (dk_at dksX4_replaceFirst_7 0 rfl rfl)
theorem dX4_replaceFirst_162 : decode cX4_replaceFirst 162 = .ok (.dup, 1) := dk_89 (dk_at dksX4_replaceFirst_7 3 rfl rfl)
theorem dX4_replaceFirst_163 : decode cX4_replaceFirst 163 = .ok (.iload_n 1, 1) := dk_27 (dk_at dksX4_replaceFirst_7 4 rfl rfl)
theorem dX4_replaceFirst_164 : decode cX4_replaceFirst 164 = .ok (.aload 6, 2) := dk_25 6 (dk_at dksX4_replaceFirst_7 5 rfl rfl)
theorem dX4_replaceFirst_166 : decode cX4_replaceFirst 166 = .ok (.iconst 1, 1) := dk_4 (dk_at dksX4_replaceFirst_7 7 rfl rfl)
theorem dX4_replaceFirst_167 : decode cX4_replaceFirst 167 = .ok (.aload 5, 2) := dk_25 5 (dk_at dksX4_replaceFirst_7 8 rfl rfl)
theorem dX4_replaceFirst_169 : decode cX4_replaceFirst 169 = .ok (.iload 7, 2) := dk_21 7 (dk_at dksX4_replaceFirst_7 10 rfl rfl)
theorem dX4_replaceFirst_171 : decode cX4_replaceFirst 171 = .ok (.invokeinterface 80 2, 5) := by decide +kernel
theorem dX4_replaceFirst_176 : decode cX4_replaceFirst 176 = .ok (.checkcast 36, 3) := dk_192 0 36 (dk_at dksX4_replaceFirst_7 17 rfl rfl)
theorem dX4_replaceFirst_179 : decode cX4_replaceFirst 179 = .ok (.getfield 42, 3) := dk_180 0 42 (dk_at dksX4_replaceFirst_7 20 rfl rfl)
theorem dX4_replaceFirst_182 : decode cX4_replaceFirst 182 = .ok (.invokevirtual 94, 3) := dk_182 0 94 (dk_at dksX4_replaceFirst_8 0 rfl rfl)
theorem dX4_replaceFirst_185 : decode cX4_replaceFirst 185 = .ok (.invokespecial 98, 3) := dk_183 0 98 (dk_at dksX4_replaceFirst_8 3 rfl rfl)
theorem dX4_replaceFirst_188 : decode cX4_replaceFirst 188 = .ok (.invokeinterface 101 3, 5) := by decide +kernel
theorem dX4_replaceFirst_193 : decode cX4_replaceFirst 193 = .ok (.iinc 7 1, 3) := dk_132 7 1 (dk_at dksX4_replaceFirst_8 11 rfl rfl)
theorem dX4_replaceFirst_196 : decode cX4_replaceFirst 196 = .ok (.goto (-57), 3) := dk_167 255 199 (dk_at dksX4_replaceFirst_8 14 rfl rfl)
theorem dX4_replaceFirst_199 : decode cX4_replaceFirst 199 = .ok (.iconst 1, 1) := dk_4 (dk_at dksX4_replaceFirst_8 17 rfl rfl)
theorem dX4_replaceFirst_200 : decode cX4_replaceFirst 200 = .ok (.ireturn, 1) := dk_172 (dk_at dksX4_replaceFirst_8 18 rfl rfl)
theorem dX4_replaceFirst_201 : decode cX4_replaceFirst 201 = .ok (.iinc 3 1, 3) := dk_132 3 1 (dk_at dksX4_replaceFirst_8 19 rfl rfl)
theorem dX4_replaceFirst_204 : decode cX4_replaceFirst 204 = .ok (.goto (-202), 3) := dk_167 255 54 (dk_at dksX4_replaceFirst_9 0 rfl rfl)
theorem dX4_replaceFirst_207 : decode cX4_replaceFirst 207 = .ok (.iconst 0, 1) := dk_3 (dk_at dksX4_replaceFirst_9 3 rfl rfl)
theorem dX4_replaceFirst_208 : decode cX4_replaceFirst 208 = .ok (.ireturn, 1) := dk_172 (dk_at dksX4_replaceFirst_9 4 rfl rfl)
abbrev cX4_of : ByteArray := prog_12_method_5_code
def yX4_of : MethodName := ⟨RX4, "of", "(I)Ljava/util/List;"⟩
def dkwX4_of_2 : List UInt8 := [25, 4, 185, 0, 65, 2, 0, 87, 167, 255, 218, 44, 176]
abbrev dktX4_of_2 : List UInt8 := dkwX4_of_2 ++ []
def dkwX4_of_1 : List UInt8 := [153, 0, 35, 45, 185, 0, 32, 1, 0, 192, 0, 36, 58, 4, 25, 4, 180, 0, 38, 27, 160, 0, 12, 44]
abbrev dktX4_of_1 : List UInt8 := dkwX4_of_1 ++ dktX4_of_2
def dkwX4_of_0 : List UInt8 := [187, 0, 9, 89, 183, 0, 64, 77, 42, 180, 0, 14, 185, 0, 20, 1, 0, 78, 45, 185, 0, 26, 1, 0]
abbrev dktX4_of_0 : List UInt8 := dkwX4_of_0 ++ dktX4_of_1
theorem dksX4_of_0 : cX4_of.data.toList.drop 0 = dktX4_of_0 := by decide +kernel
theorem dksX4_of_1 : cX4_of.data.toList.drop 24 = dktX4_of_1 := dk_seg dksX4_of_0 24 rfl rfl
theorem dksX4_of_2 : cX4_of.data.toList.drop 48 = dktX4_of_2 := dk_seg dksX4_of_1 24 rfl rfl
theorem dX4_of_0 : decode cX4_of 0 = .ok (.new 9, 3) := dk_187 0 9 (dk_at dksX4_of_0 0 rfl rfl)
theorem dX4_of_3 : decode cX4_of 3 = .ok (.dup, 1) := dk_89 (dk_at dksX4_of_0 3 rfl rfl)
theorem dX4_of_4 : decode cX4_of 4 = .ok (.invokespecial 64, 3) := dk_183 0 64 (dk_at dksX4_of_0 4 rfl rfl)
theorem dX4_of_7 : decode cX4_of 7 = .ok (.astore_n 2, 1) := dk_77 (dk_at dksX4_of_0 7 rfl rfl)
theorem dX4_of_8 : decode cX4_of 8 = .ok (.aload_n 0, 1) := dk_42 (dk_at dksX4_of_0 8 rfl rfl)
theorem dX4_of_9 : decode cX4_of 9 = .ok (.getfield 14, 3) := dk_180 0 14 (dk_at dksX4_of_0 9 rfl rfl)
theorem dX4_of_12 : decode cX4_of 12 = .ok (.invokeinterface 20 1, 5) := by decide +kernel
theorem dX4_of_17 : decode cX4_of 17 = .ok (.astore_n 3, 1) := dk_78 (dk_at dksX4_of_0 17 rfl rfl)
theorem dX4_of_18 : decode cX4_of 18 = .ok (.aload_n 3, 1) := dk_45 (dk_at dksX4_of_0 18 rfl rfl)
theorem dX4_of_19 : decode cX4_of 19 = .ok (.invokeinterface 26 1, 5) := by decide +kernel
theorem dX4_of_24 : decode cX4_of 24 = .ok (.ifCond .eq 35, 3) := dk_153 0 35 (dk_at dksX4_of_1 0 rfl rfl)
theorem dX4_of_27 : decode cX4_of 27 = .ok (.aload_n 3, 1) := dk_45 (dk_at dksX4_of_1 3 rfl rfl)
theorem dX4_of_28 : decode cX4_of 28 = .ok (.invokeinterface 32 1, 5) := by decide +kernel
theorem dX4_of_33 : decode cX4_of 33 = .ok (.checkcast 36, 3) := dk_192 0 36 (dk_at dksX4_of_1 9 rfl rfl)
theorem dX4_of_36 : decode cX4_of 36 = .ok (.astore 4, 2) := dk_58 4 (dk_at dksX4_of_1 12 rfl rfl)
theorem dX4_of_38 : decode cX4_of 38 = .ok (.aload 4, 2) := dk_25 4 (dk_at dksX4_of_1 14 rfl rfl)
theorem dX4_of_40 : decode cX4_of 40 = .ok (.getfield 38, 3) := dk_180 0 38 (dk_at dksX4_of_1 16 rfl rfl)
theorem dX4_of_43 : decode cX4_of 43 = .ok (.iload_n 1, 1) := dk_27 (dk_at dksX4_of_1 19 rfl rfl)
theorem dX4_of_44 : decode cX4_of 44 = .ok (.if_icmp .ne 12, 3) := dk_160 0 12 (dk_at dksX4_of_1 20 rfl rfl)
theorem dX4_of_47 : decode cX4_of 47 = .ok (.aload_n 2, 1) := dk_44 (dk_at dksX4_of_1 23 rfl rfl)
theorem dX4_of_48 : decode cX4_of 48 = .ok (.aload 4, 2) := dk_25 4 (dk_at dksX4_of_2 0 rfl rfl)
theorem dX4_of_50 : decode cX4_of 50 = .ok (.invokeinterface 65 2, 5) := by decide +kernel
theorem dX4_of_55 : decode cX4_of 55 = .ok (.pop, 1) := dk_87 (dk_at dksX4_of_2 7 rfl rfl)
theorem dX4_of_56 : decode cX4_of 56 = .ok (.goto (-38), 3) := dk_167 255 218 (dk_at dksX4_of_2 8 rfl rfl)
theorem dX4_of_59 : decode cX4_of 59 = .ok (.aload_n 2, 1) := dk_44 (dk_at dksX4_of_2 11 rfl rfl)
theorem dX4_of_60 : decode cX4_of 60 = .ok (.areturn, 1) := dk_176 (dk_at dksX4_of_2 12 rfl rfl)
abbrev cX4_check : ByteArray := prog_12_method_4_code
def yX4_check : MethodName := ⟨RX4, "check", "()V"⟩
def dkwX4_check_3 : List UInt8 := [167, 255, 219, 177]
abbrev dktX4_check_3 : List UInt8 := dkwX4_check_3 ++ []
def dkwX4_check_2 : List UInt8 := [192, 0, 36, 77, 44, 180, 0, 42, 190, 16, 10, 164, 0, 11, 187, 0, 54, 89, 183, 0, 56, 191]
abbrev dktX4_check_2 : List UInt8 := dkwX4_check_2 ++ dktX4_check_3
def dkwX4_check_1 : List UInt8 := [180, 0, 14, 185, 0, 20, 1, 0, 76, 43, 185, 0, 26, 1, 0, 153, 0, 34, 43, 185, 0, 32, 1, 0]
abbrev dktX4_check_1 : List UInt8 := dkwX4_check_1 ++ dktX4_check_2
def dkwX4_check_0 : List UInt8 := [42, 180, 0, 14, 185, 0, 60, 1, 0, 16, 48, 164, 0, 11, 187, 0, 54, 89, 183, 0, 56, 191, 42]
abbrev dktX4_check_0 : List UInt8 := dkwX4_check_0 ++ dktX4_check_1
theorem dksX4_check_0 : cX4_check.data.toList.drop 0 = dktX4_check_0 := by decide +kernel
theorem dksX4_check_1 : cX4_check.data.toList.drop 23 = dktX4_check_1 := dk_seg dksX4_check_0 23 rfl rfl
theorem dksX4_check_2 : cX4_check.data.toList.drop 47 = dktX4_check_2 := dk_seg dksX4_check_1 24 rfl rfl
theorem dksX4_check_3 : cX4_check.data.toList.drop 69 = dktX4_check_3 := dk_seg dksX4_check_2 22 rfl rfl
theorem dX4_check_0 : decode cX4_check 0 = .ok (.aload_n 0, 1) := dk_42 (dk_at dksX4_check_0 0 rfl rfl)
theorem dX4_check_1 : decode cX4_check 1 = .ok (.getfield 14, 3) := dk_180 0 14 (dk_at dksX4_check_0 1 rfl rfl)
theorem dX4_check_4 : decode cX4_check 4 = .ok (.invokeinterface 60 1, 5) := by decide +kernel
theorem dX4_check_9 : decode cX4_check 9 = .ok (.bipush 48, 2) := dk_16 48 (dk_at dksX4_check_0 9 rfl rfl)
theorem dX4_check_11 : decode cX4_check 11 = .ok (.if_icmp .le 11, 3) := dk_164 0 11 (dk_at dksX4_check_0 11 rfl rfl)
theorem dX4_check_14 : decode cX4_check 14 = .ok (.new 54, 3) := dk_187 0 54 (dk_at dksX4_check_0 14 rfl rfl)
theorem dX4_check_17 : decode cX4_check 17 = .ok (.dup, 1) := dk_89 (dk_at dksX4_check_0 17 rfl rfl)
theorem dX4_check_18 : decode cX4_check 18 = .ok (.invokespecial 56, 3) := dk_183 0 56 (dk_at dksX4_check_0 18 rfl rfl)
theorem dX4_check_21 : decode cX4_check 21 = .ok (.athrow, 1) := dk_191 (dk_at dksX4_check_0 21 rfl rfl)
theorem dX4_check_22 : decode cX4_check 22 = .ok (.aload_n 0, 1) := dk_42 (dk_at dksX4_check_0 22 rfl rfl)
theorem dX4_check_23 : decode cX4_check 23 = .ok (.getfield 14, 3) := dk_180 0 14 (dk_at dksX4_check_1 0 rfl rfl)
theorem dX4_check_26 : decode cX4_check 26 = .ok (.invokeinterface 20 1, 5) := by decide +kernel
theorem dX4_check_31 : decode cX4_check 31 = .ok (.astore_n 1, 1) := dk_76 (dk_at dksX4_check_1 8 rfl rfl)
theorem dX4_check_32 : decode cX4_check 32 = .ok (.aload_n 1, 1) := dk_43 (dk_at dksX4_check_1 9 rfl rfl)
theorem dX4_check_33 : decode cX4_check 33 = .ok (.invokeinterface 26 1, 5) := by decide +kernel
theorem dX4_check_38 : decode cX4_check 38 = .ok (.ifCond .eq 34, 3) := dk_153 0 34 (dk_at dksX4_check_1 15 rfl rfl)
theorem dX4_check_41 : decode cX4_check 41 = .ok (.aload_n 1, 1) := dk_43 (dk_at dksX4_check_1 18 rfl rfl)
theorem dX4_check_42 : decode cX4_check 42 = .ok (.invokeinterface 32 1, 5) := by decide +kernel
theorem dX4_check_47 : decode cX4_check 47 = .ok (.checkcast 36, 3) := dk_192 0 36 (dk_at dksX4_check_2 0 rfl rfl)
theorem dX4_check_50 : decode cX4_check 50 = .ok (.astore_n 2, 1) := dk_77 (dk_at dksX4_check_2 3 rfl rfl)
theorem dX4_check_51 : decode cX4_check 51 = .ok (.aload_n 2, 1) := dk_44 (dk_at dksX4_check_2 4 rfl rfl)
theorem dX4_check_52 : decode cX4_check 52 = .ok (.getfield 42, 3) := dk_180 0 42 (dk_at dksX4_check_2 5 rfl rfl)
theorem dX4_check_55 : decode cX4_check 55 = .ok (.arraylength, 1) := dk_190 (dk_at dksX4_check_2 8 rfl rfl)
theorem dX4_check_56 : decode cX4_check 56 = .ok (.bipush 10, 2) := dk_16 10 (dk_at dksX4_check_2 9 rfl rfl)
theorem dX4_check_58 : decode cX4_check 58 = .ok (.if_icmp .le 11, 3) := dk_164 0 11 (dk_at dksX4_check_2 11 rfl rfl)
theorem dX4_check_61 : decode cX4_check 61 = .ok (.new 54, 3) := dk_187 0 54 (dk_at dksX4_check_2 14 rfl rfl)
theorem dX4_check_64 : decode cX4_check 64 = .ok (.dup, 1) := dk_89 (dk_at dksX4_check_2 17 rfl rfl)
theorem dX4_check_65 : decode cX4_check 65 = .ok (.invokespecial 56, 3) := dk_183 0 56 (dk_at dksX4_check_2 18 rfl rfl)
theorem dX4_check_68 : decode cX4_check 68 = .ok (.athrow, 1) := dk_191 (dk_at dksX4_check_2 21 rfl rfl)
theorem dX4_check_69 : decode cX4_check 69 = .ok (.goto (-37), 3) := dk_167 255 219 (dk_at dksX4_check_3 0 rfl rfl)
theorem dX4_check_72 : decode cX4_check 72 = .ok (.return_, 1) := dk_177 (dk_at dksX4_check_3 3 rfl rfl)
abbrev cX4_removeDirect : ByteArray := prog_12_method_8_code
def yX4_removeDirect : MethodName := ⟨RX4, "removeDirect", "(I)V"⟩
def dkwX4_removeDirect_11 : List UInt8 := [187, 0, 36, 89, 29, 3, 188, 10, 183, 0, 98, 185, 0, 65, 2, 0, 87, 177]
abbrev dktX4_removeDirect_11 : List UInt8 := dkwX4_removeDirect_11 ++ []
def dkwX4_removeDirect_10 : List UInt8 := [185, 0, 117, 2, 0, 87, 42, 180, 0, 14, 25, 5, 185, 0, 117, 2, 0, 87, 42, 180, 0, 14]
abbrev dktX4_removeDirect_10 : List UInt8 := dkwX4_removeDirect_10 ++ dktX4_removeDirect_11
def dkwX4_removeDirect_9 : List UInt8 := [185, 0, 65, 2, 0, 87, 167, 255, 147, 42, 180, 0, 14, 185, 0, 114, 1, 0, 42, 180, 0, 14, 25, 4]
abbrev dktX4_removeDirect_9 : List UInt8 := dkwX4_removeDirect_9 ++ dktX4_removeDirect_10
def dkwX4_removeDirect_8 : List UInt8 := [187, 0, 36, 89, 29, 25, 7, 4, 3, 188, 10, 182, 0, 94, 183, 0, 98, 29, 182, 0, 110]
abbrev dktX4_removeDirect_8 : List UInt8 := dkwX4_removeDirect_8 ++ dktX4_removeDirect_9
def dkwX4_removeDirect_7 : List UInt8 := [182, 0, 110, 185, 0, 65, 2, 0, 87, 167, 0, 42, 25, 7, 180, 0, 42, 190, 4, 164, 0, 32, 25, 5]
abbrev dktX4_removeDirect_7 : List UInt8 := dkwX4_removeDirect_7 ++ dktX4_removeDirect_8
def dkwX4_removeDirect_6 : List UInt8 := [185, 0, 65, 2, 0, 87, 167, 0, 68, 25, 7, 27, 182, 0, 104, 154, 0, 20, 25, 4, 25, 7, 29]
abbrev dktX4_removeDirect_6 : List UInt8 := dkwX4_removeDirect_6 ++ dktX4_removeDirect_7
def dkwX4_removeDirect_5 : List UInt8 := [185, 0, 32, 1, 0, 192, 0, 36, 58, 7, 25, 7, 180, 0, 38, 27, 159, 0, 16, 25, 4, 25, 7]
abbrev dktX4_removeDirect_5 : List UInt8 := dkwX4_removeDirect_5 ++ dktX4_removeDirect_6
def dkwX4_removeDirect_4 : List UInt8 := [180, 0, 14, 185, 0, 20, 1, 0, 58, 6, 25, 6, 185, 0, 26, 1, 0, 153, 0, 105, 25, 6]
abbrev dktX4_removeDirect_4 : List UInt8 := dkwX4_removeDirect_4 ++ dktX4_removeDirect_5
def dkwX4_removeDirect_3 : List UInt8 := [182, 0, 107, 62, 187, 0, 9, 89, 183, 0, 64, 58, 4, 187, 0, 9, 89, 183, 0, 64, 58, 5, 42]
abbrev dktX4_removeDirect_3 : List UInt8 := dkwX4_removeDirect_3 ++ dktX4_removeDirect_4
def dkwX4_removeDirect_2 : List UInt8 := [182, 0, 104, 153, 0, 7, 4, 167, 0, 4, 3, 128, 61, 167, 255, 210, 28, 154, 0, 4, 177, 42]
abbrev dktX4_removeDirect_2 : List UInt8 := dkwX4_removeDirect_2 ++ dktX4_removeDirect_3
def dkwX4_removeDirect_1 : List UInt8 := [185, 0, 32, 1, 0, 192, 0, 36, 58, 4, 28, 25, 4, 180, 0, 38, 27, 160, 0, 16, 25, 4, 27]
abbrev dktX4_removeDirect_1 : List UInt8 := dkwX4_removeDirect_1 ++ dktX4_removeDirect_2
def dkwX4_removeDirect_0 : List UInt8 := [3, 61, 42, 180, 0, 14, 185, 0, 20, 1, 0, 78, 45, 185, 0, 26, 1, 0, 153, 0, 43, 45]
abbrev dktX4_removeDirect_0 : List UInt8 := dkwX4_removeDirect_0 ++ dktX4_removeDirect_1
theorem dksX4_removeDirect_0 : cX4_removeDirect.data.toList.drop 0 = dktX4_removeDirect_0 := by decide +kernel
theorem dksX4_removeDirect_1 : cX4_removeDirect.data.toList.drop 22 = dktX4_removeDirect_1 := dk_seg dksX4_removeDirect_0 22 rfl rfl
theorem dksX4_removeDirect_2 : cX4_removeDirect.data.toList.drop 45 = dktX4_removeDirect_2 := dk_seg dksX4_removeDirect_1 23 rfl rfl
theorem dksX4_removeDirect_3 : cX4_removeDirect.data.toList.drop 67 = dktX4_removeDirect_3 := dk_seg dksX4_removeDirect_2 22 rfl rfl
theorem dksX4_removeDirect_4 : cX4_removeDirect.data.toList.drop 90 = dktX4_removeDirect_4 := dk_seg dksX4_removeDirect_3 23 rfl rfl
theorem dksX4_removeDirect_5 : cX4_removeDirect.data.toList.drop 112 = dktX4_removeDirect_5 := dk_seg dksX4_removeDirect_4 22 rfl rfl
theorem dksX4_removeDirect_6 : cX4_removeDirect.data.toList.drop 135 = dktX4_removeDirect_6 := dk_seg dksX4_removeDirect_5 23 rfl rfl
theorem dksX4_removeDirect_7 : cX4_removeDirect.data.toList.drop 158 = dktX4_removeDirect_7 := dk_seg dksX4_removeDirect_6 23 rfl rfl
theorem dksX4_removeDirect_8 : cX4_removeDirect.data.toList.drop 182 = dktX4_removeDirect_8 := dk_seg dksX4_removeDirect_7 24 rfl rfl
theorem dksX4_removeDirect_9 : cX4_removeDirect.data.toList.drop 203 = dktX4_removeDirect_9 := dk_seg dksX4_removeDirect_8 21 rfl rfl
theorem dksX4_removeDirect_10 : cX4_removeDirect.data.toList.drop 227 = dktX4_removeDirect_10 := dk_seg dksX4_removeDirect_9 24 rfl rfl
theorem dksX4_removeDirect_11 : cX4_removeDirect.data.toList.drop 249 = dktX4_removeDirect_11 := dk_seg dksX4_removeDirect_10 22 rfl rfl
theorem dX4_removeDirect_0 : decode cX4_removeDirect 0 = .ok (.iconst 0, 1) := dk_3 (dk_at dksX4_removeDirect_0 0 rfl rfl)
theorem dX4_removeDirect_1 : decode cX4_removeDirect 1 = .ok (.istore_n 2, 1) := dk_61 (dk_at dksX4_removeDirect_0 1 rfl rfl)
theorem dX4_removeDirect_2 : decode cX4_removeDirect 2 = .ok (.aload_n 0, 1) := dk_42 (dk_at dksX4_removeDirect_0 2 rfl rfl)
theorem dX4_removeDirect_3 : decode cX4_removeDirect 3 = .ok (.getfield 14, 3) := dk_180 0 14 (dk_at dksX4_removeDirect_0 3 rfl rfl)
theorem dX4_removeDirect_6 : decode cX4_removeDirect 6 = .ok (.invokeinterface 20 1, 5) := by decide +kernel
theorem dX4_removeDirect_11 : decode cX4_removeDirect 11 = .ok (.astore_n 3, 1) := dk_78 (dk_at dksX4_removeDirect_0 11 rfl rfl)
theorem dX4_removeDirect_12 : decode cX4_removeDirect 12 = .ok (.aload_n 3, 1) := dk_45 (dk_at dksX4_removeDirect_0 12 rfl rfl)
theorem dX4_removeDirect_13 : decode cX4_removeDirect 13 = .ok (.invokeinterface 26 1, 5) := by decide +kernel
theorem dX4_removeDirect_18 : decode cX4_removeDirect 18 = .ok (.ifCond .eq 43, 3) := dk_153 0 43 (dk_at dksX4_removeDirect_0 18 rfl rfl)
theorem dX4_removeDirect_21 : decode cX4_removeDirect 21 = .ok (.aload_n 3, 1) := dk_45 (dk_at dksX4_removeDirect_0 21 rfl rfl)
theorem dX4_removeDirect_22 : decode cX4_removeDirect 22 = .ok (.invokeinterface 32 1, 5) := by decide +kernel
theorem dX4_removeDirect_27 : decode cX4_removeDirect 27 = .ok (.checkcast 36, 3) := dk_192 0 36 (dk_at dksX4_removeDirect_1 5 rfl rfl)
theorem dX4_removeDirect_30 : decode cX4_removeDirect 30 = .ok (.astore 4, 2) := dk_58 4 (dk_at dksX4_removeDirect_1 8 rfl rfl)
theorem dX4_removeDirect_32 : decode cX4_removeDirect 32 = .ok (.iload_n 2, 1) := dk_28 (dk_at dksX4_removeDirect_1 10 rfl rfl)
theorem dX4_removeDirect_33 : decode cX4_removeDirect 33 = .ok (.aload 4, 2) := dk_25 4 (dk_at dksX4_removeDirect_1 11 rfl rfl)
theorem dX4_removeDirect_35 : decode cX4_removeDirect 35 = .ok (.getfield 38, 3) := dk_180 0 38 (dk_at dksX4_removeDirect_1 13 rfl rfl)
theorem dX4_removeDirect_38 : decode cX4_removeDirect 38 = .ok (.iload_n 1, 1) := dk_27 (dk_at dksX4_removeDirect_1 16 rfl rfl)
theorem dX4_removeDirect_39 : decode cX4_removeDirect 39 = .ok (.if_icmp .ne 16, 3) := dk_160 0 16 (dk_at dksX4_removeDirect_1 17 rfl rfl)
theorem dX4_removeDirect_42 : decode cX4_removeDirect 42 = .ok (.aload 4, 2) := dk_25 4 (dk_at dksX4_removeDirect_1 20 rfl rfl)
theorem dX4_removeDirect_44 : decode cX4_removeDirect 44 = .ok (.iload_n 1, 1) := dk_27 (dk_at dksX4_removeDirect_1 22 rfl rfl)
theorem dX4_removeDirect_45 : decode cX4_removeDirect 45 = .ok (.invokevirtual 104, 3) := dk_182 0 104 (dk_at dksX4_removeDirect_2 0 rfl rfl)
theorem dX4_removeDirect_48 : decode cX4_removeDirect 48 = .ok (.ifCond .eq 7, 3) := dk_153 0 7 (dk_at dksX4_removeDirect_2 3 rfl rfl)
theorem dX4_removeDirect_51 : decode cX4_removeDirect 51 = .ok (.iconst 1, 1) := dk_4 (dk_at dksX4_removeDirect_2 6 rfl rfl)
theorem dX4_removeDirect_52 : decode cX4_removeDirect 52 = .ok (.goto 4, 3) := dk_167 0 4 (dk_at dksX4_removeDirect_2 7 rfl rfl)
theorem dX4_removeDirect_55 : decode cX4_removeDirect 55 = .ok (.iconst 0, 1) := dk_3 (dk_at dksX4_removeDirect_2 10 rfl rfl)
theorem dX4_removeDirect_56 : decode cX4_removeDirect 56 = .ok (.ior, 1) := dk_128 (dk_at dksX4_removeDirect_2 11 rfl rfl)
theorem dX4_removeDirect_57 : decode cX4_removeDirect 57 = .ok (.istore_n 2, 1) := dk_61 (dk_at dksX4_removeDirect_2 12 rfl rfl)
theorem dX4_removeDirect_58 : decode cX4_removeDirect 58 = .ok (.goto (-46), 3) := dk_167 255 210 (dk_at dksX4_removeDirect_2 13 rfl rfl)
theorem dX4_removeDirect_61 : decode cX4_removeDirect 61 = .ok (.iload_n 2, 1) := dk_28 (dk_at dksX4_removeDirect_2 16 rfl rfl)
theorem dX4_removeDirect_62 : decode cX4_removeDirect 62 = .ok (.ifCond .ne 4, 3) := dk_154 0 4 (dk_at dksX4_removeDirect_2 17 rfl rfl)
theorem dX4_removeDirect_65 : decode cX4_removeDirect 65 = .ok (.return_, 1) := dk_177 (dk_at dksX4_removeDirect_2 20 rfl rfl)
theorem dX4_removeDirect_66 : decode cX4_removeDirect 66 = .ok (.aload_n 0, 1) := dk_42 (dk_at dksX4_removeDirect_2 21 rfl rfl)
theorem dX4_removeDirect_67 : decode cX4_removeDirect 67 = .ok (.invokevirtual 107, 3) := dk_182 0 107 (dk_at dksX4_removeDirect_3 0 rfl rfl)
theorem dX4_removeDirect_70 : decode cX4_removeDirect 70 = .ok (.istore_n 3, 1) := dk_62 (dk_at dksX4_removeDirect_3 3 rfl rfl)
theorem dX4_removeDirect_71 : decode cX4_removeDirect 71 = .ok (.new 9, 3) := dk_187 0 9 (dk_at dksX4_removeDirect_3 4 rfl rfl)
theorem dX4_removeDirect_74 : decode cX4_removeDirect 74 = .ok (.dup, 1) := dk_89 (dk_at dksX4_removeDirect_3 7 rfl rfl)
theorem dX4_removeDirect_75 : decode cX4_removeDirect 75 = .ok (.invokespecial 64, 3) := dk_183 0 64 (dk_at dksX4_removeDirect_3 8 rfl rfl)
theorem dX4_removeDirect_78 : decode cX4_removeDirect 78 = .ok (.astore 4, 2) := dk_58 4 (dk_at dksX4_removeDirect_3 11 rfl rfl)
theorem dX4_removeDirect_80 : decode cX4_removeDirect 80 = .ok (.new 9, 3) := dk_187 0 9 (dk_at dksX4_removeDirect_3 13 rfl rfl)
theorem dX4_removeDirect_83 : decode cX4_removeDirect 83 = .ok (.dup, 1) := dk_89 (dk_at dksX4_removeDirect_3 16 rfl rfl)
theorem dX4_removeDirect_84 : decode cX4_removeDirect 84 = .ok (.invokespecial 64, 3) := dk_183 0 64 (dk_at dksX4_removeDirect_3 17 rfl rfl)
theorem dX4_removeDirect_87 : decode cX4_removeDirect 87 = .ok (.astore 5, 2) := dk_58 5 (dk_at dksX4_removeDirect_3 20 rfl rfl)
theorem dX4_removeDirect_89 : decode cX4_removeDirect 89 = .ok (.aload_n 0, 1) := dk_42 (dk_at dksX4_removeDirect_3 22 rfl rfl)
theorem dX4_removeDirect_90 : decode cX4_removeDirect 90 = .ok (.getfield 14, 3) := dk_180 0 14 (dk_at dksX4_removeDirect_4 0 rfl rfl)
theorem dX4_removeDirect_93 : decode cX4_removeDirect 93 = .ok (.invokeinterface 20 1, 5) := by decide +kernel
theorem dX4_removeDirect_98 : decode cX4_removeDirect 98 = .ok (.astore 6, 2) := dk_58 6 (dk_at dksX4_removeDirect_4 8 rfl rfl)
theorem dX4_removeDirect_100 : decode cX4_removeDirect 100 = .ok (.aload 6, 2) := dk_25 6 (dk_at dksX4_removeDirect_4 10 rfl rfl)
theorem dX4_removeDirect_102 : decode cX4_removeDirect 102 = .ok (.invokeinterface 26 1, 5) := by decide +kernel
theorem dX4_removeDirect_107 : decode cX4_removeDirect 107 = .ok (.ifCond .eq 105, 3) := dk_153 0 105 (dk_at dksX4_removeDirect_4 17 rfl rfl)
theorem dX4_removeDirect_110 : decode cX4_removeDirect 110 = .ok (.aload 6, 2) := dk_25 6 (dk_at dksX4_removeDirect_4 20 rfl rfl)
theorem dX4_removeDirect_112 : decode cX4_removeDirect 112 = .ok (.invokeinterface 32 1, 5) := by decide +kernel
theorem dX4_removeDirect_117 : decode cX4_removeDirect 117 = .ok (.checkcast 36, 3) := dk_192 0 36 (dk_at dksX4_removeDirect_5 5 rfl rfl)
theorem dX4_removeDirect_120 : decode cX4_removeDirect 120 = .ok (.astore 7, 2) := dk_58 7 (dk_at dksX4_removeDirect_5 8 rfl rfl)
theorem dX4_removeDirect_122 : decode cX4_removeDirect 122 = .ok (.aload 7, 2) := dk_25 7 (dk_at dksX4_removeDirect_5 10 rfl rfl)
theorem dX4_removeDirect_124 : decode cX4_removeDirect 124 = .ok (.getfield 38, 3) := dk_180 0 38 (dk_at dksX4_removeDirect_5 12 rfl rfl)
theorem dX4_removeDirect_127 : decode cX4_removeDirect 127 = .ok (.iload_n 1, 1) := dk_27 (dk_at dksX4_removeDirect_5 15 rfl rfl)
theorem dX4_removeDirect_128 : decode cX4_removeDirect 128 = .ok (.if_icmp .eq 16, 3) := dk_159 0 16 (dk_at dksX4_removeDirect_5 16 rfl rfl)
theorem dX4_removeDirect_131 : decode cX4_removeDirect 131 = .ok (.aload 4, 2) := dk_25 4 (dk_at dksX4_removeDirect_5 19 rfl rfl)
theorem dX4_removeDirect_133 : decode cX4_removeDirect 133 = .ok (.aload 7, 2) := dk_25 7 (dk_at dksX4_removeDirect_5 21 rfl rfl)
theorem dX4_removeDirect_135 : decode cX4_removeDirect 135 = .ok (.invokeinterface 65 2, 5) := by decide +kernel
theorem dX4_removeDirect_140 : decode cX4_removeDirect 140 = .ok (.pop, 1) := dk_87 (dk_at dksX4_removeDirect_6 5 rfl rfl)
theorem dX4_removeDirect_141 : decode cX4_removeDirect 141 = .ok (.goto 68, 3) := dk_167 0 68 (dk_at dksX4_removeDirect_6 6 rfl rfl)
theorem dX4_removeDirect_144 : decode cX4_removeDirect 144 = .ok (.aload 7, 2) := dk_25 7 (dk_at dksX4_removeDirect_6 9 rfl rfl)
theorem dX4_removeDirect_146 : decode cX4_removeDirect 146 = .ok (.iload_n 1, 1) := dk_27 (dk_at dksX4_removeDirect_6 11 rfl rfl)
theorem dX4_removeDirect_147 : decode cX4_removeDirect 147 = .ok (.invokevirtual 104, 3) := dk_182 0 104 (dk_at dksX4_removeDirect_6 12 rfl rfl)
theorem dX4_removeDirect_150 : decode cX4_removeDirect 150 = .ok (.ifCond .ne 20, 3) := dk_154 0 20 (dk_at dksX4_removeDirect_6 15 rfl rfl)
theorem dX4_removeDirect_153 : decode cX4_removeDirect 153 = .ok (.aload 4, 2) := dk_25 4 (dk_at dksX4_removeDirect_6 18 rfl rfl)
theorem dX4_removeDirect_155 : decode cX4_removeDirect 155 = .ok (.aload 7, 2) := dk_25 7 (dk_at dksX4_removeDirect_6 20 rfl rfl)
theorem dX4_removeDirect_157 : decode cX4_removeDirect 157 = .ok (.iload_n 3, 1) := dk_29 (dk_at dksX4_removeDirect_6 22 rfl rfl)
theorem dX4_removeDirect_158 : decode cX4_removeDirect 158 = .ok (.invokevirtual 110, 3) := dk_182 0 110 (dk_at dksX4_removeDirect_7 0 rfl rfl)
theorem dX4_removeDirect_161 : decode cX4_removeDirect 161 = .ok (.invokeinterface 65 2, 5) := by decide +kernel
theorem dX4_removeDirect_166 : decode cX4_removeDirect 166 = .ok (.pop, 1) := dk_87 (dk_at dksX4_removeDirect_7 8 rfl rfl)
theorem dX4_removeDirect_167 : decode cX4_removeDirect 167 = .ok (.goto 42, 3) := dk_167 0 42 (dk_at dksX4_removeDirect_7 9 rfl rfl)
theorem dX4_removeDirect_170 : decode cX4_removeDirect 170 = .ok (.aload 7, 2) := dk_25 7 (dk_at dksX4_removeDirect_7 12 rfl rfl)
theorem dX4_removeDirect_172 : decode cX4_removeDirect 172 = .ok (.getfield 42, 3) := dk_180 0 42 (dk_at dksX4_removeDirect_7 14 rfl rfl)
theorem dX4_removeDirect_175 : decode cX4_removeDirect 175 = .ok (.arraylength, 1) := dk_190 (dk_at dksX4_removeDirect_7 17 rfl rfl)
theorem dX4_removeDirect_176 : decode cX4_removeDirect 176 = .ok (.iconst 1, 1) := dk_4 (dk_at dksX4_removeDirect_7 18 rfl rfl)
theorem dX4_removeDirect_177 : decode cX4_removeDirect 177 = .ok (.if_icmp .le 32, 3) := dk_164 0 32 (dk_at dksX4_removeDirect_7 19 rfl rfl)
theorem dX4_removeDirect_180 : decode cX4_removeDirect 180 = .ok (.aload 5, 2) := dk_25 5 (dk_at dksX4_removeDirect_7 22 rfl rfl)
theorem dX4_removeDirect_182 : decode cX4_removeDirect 182 = .ok (.new 36, 3) := dk_187 0 36 (dk_at dksX4_removeDirect_8 0 rfl rfl)
theorem dX4_removeDirect_185 : decode cX4_removeDirect 185 = .ok (.dup, 1) := dk_89 (dk_at dksX4_removeDirect_8 3 rfl rfl)
theorem dX4_removeDirect_186 : decode cX4_removeDirect 186 = .ok (.iload_n 3, 1) := dk_29 (dk_at dksX4_removeDirect_8 4 rfl rfl)
theorem dX4_removeDirect_187 : decode cX4_removeDirect 187 = .ok (.aload 7, 2) := dk_25 7 (dk_at dksX4_removeDirect_8 5 rfl rfl)
theorem dX4_removeDirect_189 : decode cX4_removeDirect 189 = .ok (.iconst 1, 1) := dk_4 (dk_at dksX4_removeDirect_8 7 rfl rfl)
theorem dX4_removeDirect_190 : decode cX4_removeDirect 190 = .ok (.iconst 0, 1) := dk_3 (dk_at dksX4_removeDirect_8 8 rfl rfl)
theorem dX4_removeDirect_191 : decode cX4_removeDirect 191 = .ok (.newarray .int, 2) := dk_188_10 (dk_at dksX4_removeDirect_8 9 rfl rfl)
theorem dX4_removeDirect_193 : decode cX4_removeDirect 193 = .ok (.invokevirtual 94, 3) := dk_182 0 94 (dk_at dksX4_removeDirect_8 11 rfl rfl)
theorem dX4_removeDirect_196 : decode cX4_removeDirect 196 = .ok (.invokespecial 98, 3) := dk_183 0 98 (dk_at dksX4_removeDirect_8 14 rfl rfl)
theorem dX4_removeDirect_199 : decode cX4_removeDirect 199 = .ok (.iload_n 3, 1) := dk_29 (dk_at dksX4_removeDirect_8 17 rfl rfl)
theorem dX4_removeDirect_200 : decode cX4_removeDirect 200 = .ok (.invokevirtual 110, 3) := dk_182 0 110 (dk_at dksX4_removeDirect_8 18 rfl rfl)
theorem dX4_removeDirect_203 : decode cX4_removeDirect 203 = .ok (.invokeinterface 65 2, 5) := by decide +kernel
theorem dX4_removeDirect_208 : decode cX4_removeDirect 208 = .ok (.pop, 1) := dk_87 (dk_at dksX4_removeDirect_9 5 rfl rfl)
theorem dX4_removeDirect_209 : decode cX4_removeDirect 209 = .ok (.goto (-109), 3) := dk_167 255 147 (dk_at dksX4_removeDirect_9 6 rfl rfl)
theorem dX4_removeDirect_212 : decode cX4_removeDirect 212 = .ok (.aload_n 0, 1) := dk_42 (dk_at dksX4_removeDirect_9 9 rfl rfl)
theorem dX4_removeDirect_213 : decode cX4_removeDirect 213 = .ok (.getfield 14, 3) := dk_180 0 14 (dk_at dksX4_removeDirect_9 10 rfl rfl)
theorem dX4_removeDirect_216 : decode cX4_removeDirect 216 = .ok (.invokeinterface 114 1, 5) := by decide +kernel
theorem dX4_removeDirect_221 : decode cX4_removeDirect 221 = .ok (.aload_n 0, 1) := dk_42 (dk_at dksX4_removeDirect_9 18 rfl rfl)
theorem dX4_removeDirect_222 : decode cX4_removeDirect 222 = .ok (.getfield 14, 3) := dk_180 0 14 (dk_at dksX4_removeDirect_9 19 rfl rfl)
theorem dX4_removeDirect_225 : decode cX4_removeDirect 225 = .ok (.aload 4, 2) := dk_25 4 (dk_at dksX4_removeDirect_9 22 rfl rfl)
theorem dX4_removeDirect_227 : decode cX4_removeDirect 227 = .ok (.invokeinterface 117 2, 5) := by decide +kernel
theorem dX4_removeDirect_232 : decode cX4_removeDirect 232 = .ok (.pop, 1) := dk_87 (dk_at dksX4_removeDirect_10 5 rfl rfl)
theorem dX4_removeDirect_233 : decode cX4_removeDirect 233 = .ok (.aload_n 0, 1) := dk_42 (dk_at dksX4_removeDirect_10 6 rfl rfl)
theorem dX4_removeDirect_234 : decode cX4_removeDirect 234 = .ok (.getfield 14, 3) := dk_180 0 14 (dk_at dksX4_removeDirect_10 7 rfl rfl)
theorem dX4_removeDirect_237 : decode cX4_removeDirect 237 = .ok (.aload 5, 2) := dk_25 5 (dk_at dksX4_removeDirect_10 10 rfl rfl)
theorem dX4_removeDirect_239 : decode cX4_removeDirect 239 = .ok (.invokeinterface 117 2, 5) := by decide +kernel
theorem dX4_removeDirect_244 : decode cX4_removeDirect 244 = .ok (.pop, 1) := dk_87 (dk_at dksX4_removeDirect_10 17 rfl rfl)
theorem dX4_removeDirect_245 : decode cX4_removeDirect 245 = .ok (.aload_n 0, 1) := dk_42 (dk_at dksX4_removeDirect_10 18 rfl rfl)
theorem dX4_removeDirect_246 : decode cX4_removeDirect 246 = .ok (.getfield 14, 3) := dk_180 0 14 (dk_at dksX4_removeDirect_10 19 rfl rfl)
theorem dX4_removeDirect_249 : decode cX4_removeDirect 249 = .ok (.new 36, 3) := dk_187 0 36 (dk_at dksX4_removeDirect_11 0 rfl rfl)
theorem dX4_removeDirect_252 : decode cX4_removeDirect 252 = .ok (.dup, 1) := dk_89 (dk_at dksX4_removeDirect_11 3 rfl rfl)
theorem dX4_removeDirect_253 : decode cX4_removeDirect 253 = .ok (.iload_n 3, 1) := dk_29 (dk_at dksX4_removeDirect_11 4 rfl rfl)
theorem dX4_removeDirect_254 : decode cX4_removeDirect 254 = .ok (.iconst 0, 1) := dk_3 (dk_at dksX4_removeDirect_11 5 rfl rfl)
theorem dX4_removeDirect_255 : decode cX4_removeDirect 255 = .ok (.newarray .int, 2) := dk_188_10 (dk_at dksX4_removeDirect_11 6 rfl rfl)
theorem dX4_removeDirect_257 : decode cX4_removeDirect 257 = .ok (.invokespecial 98, 3) := dk_183 0 98 (dk_at dksX4_removeDirect_11 8 rfl rfl)
theorem dX4_removeDirect_260 : decode cX4_removeDirect 260 = .ok (.invokeinterface 65 2, 5) := by decide +kernel
theorem dX4_removeDirect_265 : decode cX4_removeDirect 265 = .ok (.pop, 1) := dk_87 (dk_at dksX4_removeDirect_11 16 rfl rfl)
theorem dX4_removeDirect_266 : decode cX4_removeDirect 266 = .ok (.return_, 1) := dk_177 (dk_at dksX4_removeDirect_11 17 rfl rfl)
abbrev cX4_unused : ByteArray := prog_12_method_3_code
def yX4_unused : MethodName := ⟨RX4, "unused", "()I"⟩
def dkwX4_unused_2 : List UInt8 := [89, 180, 0, 57, 4, 96, 181, 0, 57, 16, 20, 28, 96, 172]
abbrev dktX4_unused_2 : List UInt8 := dkwX4_unused_2 ++ []
def dkwX4_unused_1 : List UInt8 := [160, 0, 9, 132, 2, 1, 167, 255, 238, 28, 16, 12, 160, 0, 11, 187, 0, 54, 89, 183, 0, 56, 191, 42]
abbrev dktX4_unused_1 : List UInt8 := dkwX4_unused_1 ++ dktX4_unused_2
def dkwX4_unused_0 : List UInt8 := [42, 180, 0, 14, 184, 0, 50, 60, 3, 61, 28, 16, 12, 162, 0, 18, 27, 28, 122, 4, 126, 4]
abbrev dktX4_unused_0 : List UInt8 := dkwX4_unused_0 ++ dktX4_unused_1
theorem dksX4_unused_0 : cX4_unused.data.toList.drop 0 = dktX4_unused_0 := by decide +kernel
theorem dksX4_unused_1 : cX4_unused.data.toList.drop 22 = dktX4_unused_1 := dk_seg dksX4_unused_0 22 rfl rfl
theorem dksX4_unused_2 : cX4_unused.data.toList.drop 46 = dktX4_unused_2 := dk_seg dksX4_unused_1 24 rfl rfl
theorem dX4_unused_0 : decode cX4_unused 0 = .ok (.aload_n 0, 1) := dk_42 (dk_at dksX4_unused_0 0 rfl rfl)
theorem dX4_unused_1 : decode cX4_unused 1 = .ok (.getfield 14, 3) := dk_180 0 14 (dk_at dksX4_unused_0 1 rfl rfl)
theorem dX4_unused_4 : decode cX4_unused 4 = .ok (.invokestatic 50, 3) := dk_184 0 50 (dk_at dksX4_unused_0 4 rfl rfl)
theorem dX4_unused_7 : decode cX4_unused 7 = .ok (.istore_n 1, 1) := dk_60 (dk_at dksX4_unused_0 7 rfl rfl)
theorem dX4_unused_8 : decode cX4_unused 8 = .ok (.iconst 0, 1) := dk_3 (dk_at dksX4_unused_0 8 rfl rfl)
theorem dX4_unused_9 : decode cX4_unused 9 = .ok (.istore_n 2, 1) := dk_61 (dk_at dksX4_unused_0 9 rfl rfl)
theorem dX4_unused_10 : decode cX4_unused 10 = .ok (.iload_n 2, 1) := dk_28 (dk_at dksX4_unused_0 10 rfl rfl)
theorem dX4_unused_11 : decode cX4_unused 11 = .ok (.bipush 12, 2) := dk_16 12 (dk_at dksX4_unused_0 11 rfl rfl)
theorem dX4_unused_13 : decode cX4_unused 13 = .ok (.if_icmp .ge 18, 3) := dk_162 0 18 (dk_at dksX4_unused_0 13 rfl rfl)
theorem dX4_unused_16 : decode cX4_unused 16 = .ok (.iload_n 1, 1) := dk_27 (dk_at dksX4_unused_0 16 rfl rfl)
theorem dX4_unused_17 : decode cX4_unused 17 = .ok (.iload_n 2, 1) := dk_28 (dk_at dksX4_unused_0 17 rfl rfl)
theorem dX4_unused_18 : decode cX4_unused 18 = .ok (.ishr, 1) := dk_122 (dk_at dksX4_unused_0 18 rfl rfl)
theorem dX4_unused_19 : decode cX4_unused 19 = .ok (.iconst 1, 1) := dk_4 (dk_at dksX4_unused_0 19 rfl rfl)
theorem dX4_unused_20 : decode cX4_unused 20 = .ok (.iand, 1) := dk_126 (dk_at dksX4_unused_0 20 rfl rfl)
theorem dX4_unused_21 : decode cX4_unused 21 = .ok (.iconst 1, 1) := dk_4 (dk_at dksX4_unused_0 21 rfl rfl)
theorem dX4_unused_22 : decode cX4_unused 22 = .ok (.if_icmp .ne 9, 3) := dk_160 0 9 (dk_at dksX4_unused_1 0 rfl rfl)
theorem dX4_unused_25 : decode cX4_unused 25 = .ok (.iinc 2 1, 3) := dk_132 2 1 (dk_at dksX4_unused_1 3 rfl rfl)
theorem dX4_unused_28 : decode cX4_unused 28 = .ok (.goto (-18), 3) := dk_167 255 238 (dk_at dksX4_unused_1 6 rfl rfl)
theorem dX4_unused_31 : decode cX4_unused 31 = .ok (.iload_n 2, 1) := dk_28 (dk_at dksX4_unused_1 9 rfl rfl)
theorem dX4_unused_32 : decode cX4_unused 32 = .ok (.bipush 12, 2) := dk_16 12 (dk_at dksX4_unused_1 10 rfl rfl)
theorem dX4_unused_34 : decode cX4_unused 34 = .ok (.if_icmp .ne 11, 3) := dk_160 0 11 (dk_at dksX4_unused_1 12 rfl rfl)
theorem dX4_unused_37 : decode cX4_unused 37 = .ok (.new 54, 3) := dk_187 0 54 (dk_at dksX4_unused_1 15 rfl rfl)
theorem dX4_unused_40 : decode cX4_unused 40 = .ok (.dup, 1) := dk_89 (dk_at dksX4_unused_1 18 rfl rfl)
theorem dX4_unused_41 : decode cX4_unused 41 = .ok (.invokespecial 56, 3) := dk_183 0 56 (dk_at dksX4_unused_1 19 rfl rfl)
theorem dX4_unused_44 : decode cX4_unused 44 = .ok (.athrow, 1) := dk_191 (dk_at dksX4_unused_1 22 rfl rfl)
theorem dX4_unused_45 : decode cX4_unused 45 = .ok (.aload_n 0, 1) := dk_42 (dk_at dksX4_unused_1 23 rfl rfl)
theorem dX4_unused_46 : decode cX4_unused 46 = .ok (.dup, 1) := dk_89 (dk_at dksX4_unused_2 0 rfl rfl)
theorem dX4_unused_47 : decode cX4_unused 47 = .ok (.getfield 57, 3) := dk_180 0 57 (dk_at dksX4_unused_2 1 rfl rfl)
theorem dX4_unused_50 : decode cX4_unused 50 = .ok (.iconst 1, 1) := dk_4 (dk_at dksX4_unused_2 4 rfl rfl)
theorem dX4_unused_51 : decode cX4_unused 51 = .ok (.iadd, 1) := dk_96 (dk_at dksX4_unused_2 5 rfl rfl)
theorem dX4_unused_52 : decode cX4_unused 52 = .ok (.putfield 57, 3) := dk_181 0 57 (dk_at dksX4_unused_2 6 rfl rfl)
theorem dX4_unused_55 : decode cX4_unused 55 = .ok (.bipush 20, 2) := dk_16 20 (dk_at dksX4_unused_2 9 rfl rfl)
theorem dX4_unused_57 : decode cX4_unused 57 = .ok (.iload_n 2, 1) := dk_28 (dk_at dksX4_unused_2 11 rfl rfl)
theorem dX4_unused_58 : decode cX4_unused 58 = .ok (.iadd, 1) := dk_96 (dk_at dksX4_unused_2 12 rfl rfl)
theorem dX4_unused_59 : decode cX4_unused 59 = .ok (.ireturn, 1) := dk_172 (dk_at dksX4_unused_2 13 rfl rfl)
abbrev cX4_factorOut : ByteArray := prog_12_method_10_code
def yX4_factorOut : MethodName := ⟨RX4, "factorOut", "()V"⟩
def dkwX4_factorOut_1 : List UInt8 := [167, 0, 15, 42, 44, 182, 0, 124, 42, 182, 0, 73, 16, 20, 60, 167, 255, 221, 177]
abbrev dktX4_factorOut_1 : List UInt8 := dkwX4_factorOut_1 ++ []
def dkwX4_factorOut_0 : List UInt8 := [16, 20, 60, 27, 184, 0, 46, 153, 0, 34, 42, 27, 182, 0, 121, 77, 44, 199, 0, 9, 132, 1, 1]
abbrev dktX4_factorOut_0 : List UInt8 := dkwX4_factorOut_0 ++ dktX4_factorOut_1
theorem dksX4_factorOut_0 : cX4_factorOut.data.toList.drop 0 = dktX4_factorOut_0 := by decide +kernel
theorem dksX4_factorOut_1 : cX4_factorOut.data.toList.drop 23 = dktX4_factorOut_1 := dk_seg dksX4_factorOut_0 23 rfl rfl
theorem dX4_factorOut_0 : decode cX4_factorOut 0 = .ok (.bipush 20, 2) := dk_16 20 (dk_at dksX4_factorOut_0 0 rfl rfl)
theorem dX4_factorOut_2 : decode cX4_factorOut 2 = .ok (.istore_n 1, 1) := dk_60 (dk_at dksX4_factorOut_0 2 rfl rfl)
theorem dX4_factorOut_3 : decode cX4_factorOut 3 = .ok (.iload_n 1, 1) := dk_27 (dk_at dksX4_factorOut_0 3 rfl rfl)
theorem dX4_factorOut_4 : decode cX4_factorOut 4 = .ok (.invokestatic 46, 3) := dk_184 0 46 (dk_at dksX4_factorOut_0 4 rfl rfl)
theorem dX4_factorOut_7 : decode cX4_factorOut 7 = .ok (.ifCond .eq 34, 3) := dk_153 0 34 (dk_at dksX4_factorOut_0 7 rfl rfl)
theorem dX4_factorOut_10 : decode cX4_factorOut 10 = .ok (.aload_n 0, 1) := dk_42 (dk_at dksX4_factorOut_0 10 rfl rfl)
theorem dX4_factorOut_11 : decode cX4_factorOut 11 = .ok (.iload_n 1, 1) := dk_27 (dk_at dksX4_factorOut_0 11 rfl rfl)
theorem dX4_factorOut_12 : decode cX4_factorOut 12 = .ok (.invokevirtual 121, 3) := dk_182 0 121 (dk_at dksX4_factorOut_0 12 rfl rfl)
theorem dX4_factorOut_15 : decode cX4_factorOut 15 = .ok (.astore_n 2, 1) := dk_77 (dk_at dksX4_factorOut_0 15 rfl rfl)
theorem dX4_factorOut_16 : decode cX4_factorOut 16 = .ok (.aload_n 2, 1) := dk_44 (dk_at dksX4_factorOut_0 16 rfl rfl)
theorem dX4_factorOut_17 : decode cX4_factorOut 17 = .ok (.ifnonnull 9, 3) := dk_199 0 9 (dk_at dksX4_factorOut_0 17 rfl rfl)
theorem dX4_factorOut_20 : decode cX4_factorOut 20 = .ok (.iinc 1 1, 3) := dk_132 1 1 (dk_at dksX4_factorOut_0 20 rfl rfl)
theorem dX4_factorOut_23 : decode cX4_factorOut 23 = .ok (.goto 15, 3) := dk_167 0 15 (dk_at dksX4_factorOut_1 0 rfl rfl)
theorem dX4_factorOut_26 : decode cX4_factorOut 26 = .ok (.aload_n 0, 1) := dk_42 (dk_at dksX4_factorOut_1 3 rfl rfl)
theorem dX4_factorOut_27 : decode cX4_factorOut 27 = .ok (.aload_n 2, 1) := dk_44 (dk_at dksX4_factorOut_1 4 rfl rfl)
theorem dX4_factorOut_28 : decode cX4_factorOut 28 = .ok (.invokevirtual 124, 3) := dk_182 0 124 (dk_at dksX4_factorOut_1 5 rfl rfl)
theorem dX4_factorOut_31 : decode cX4_factorOut 31 = .ok (.aload_n 0, 1) := dk_42 (dk_at dksX4_factorOut_1 8 rfl rfl)
theorem dX4_factorOut_32 : decode cX4_factorOut 32 = .ok (.invokevirtual 73, 3) := dk_182 0 73 (dk_at dksX4_factorOut_1 9 rfl rfl)
theorem dX4_factorOut_35 : decode cX4_factorOut 35 = .ok (.bipush 20, 2) := dk_16 20 (dk_at dksX4_factorOut_1 12 rfl rfl)
theorem dX4_factorOut_37 : decode cX4_factorOut 37 = .ok (.istore_n 1, 1) := dk_60 (dk_at dksX4_factorOut_1 14 rfl rfl)
theorem dX4_factorOut_38 : decode cX4_factorOut 38 = .ok (.goto (-35), 3) := dk_167 255 221 (dk_at dksX4_factorOut_1 15 rfl rfl)
theorem dX4_factorOut_41 : decode cX4_factorOut 41 = .ok (.return_, 1) := dk_177 (dk_at dksX4_factorOut_1 18 rfl rfl)
abbrev cX4_sharing : ByteArray := prog_12_method_9_code
def yX4_sharing : MethodName := ⟨RX4, "sharing", "(I)LSelahGenerator$Rule;"⟩
def dkwX4_sharing_4 : List UInt8 := [132, 3, 1, 167, 255, 173, 1, 176]
abbrev dktX4_sharing_4 : List UInt8 := dkwX4_sharing_4 ++ []
def dkwX4_sharing_3 : List UInt8 := [25, 4, 180, 0, 42, 3, 46, 182, 0, 104, 153, 0, 6, 25, 4, 176, 132, 5, 1, 167, 255, 206]
abbrev dktX4_sharing_3 : List UInt8 := dkwX4_sharing_3 ++ dktX4_sharing_4
def dkwX4_sharing_2 : List UInt8 := [162, 0, 45, 25, 4, 180, 0, 42, 190, 158, 0, 36, 44, 21, 5, 185, 0, 80, 2, 0, 192, 0, 36]
abbrev dktX4_sharing_2 : List UInt8 := dkwX4_sharing_2 ++ dktX4_sharing_3
def dkwX4_sharing_1 : List UInt8 := [185, 0, 80, 2, 0, 192, 0, 36, 58, 4, 29, 4, 96, 54, 5, 21, 5, 44, 185, 0, 60, 1, 0]
abbrev dktX4_sharing_1 : List UInt8 := dkwX4_sharing_1 ++ dktX4_sharing_2
def dkwX4_sharing_0 : List UInt8 := [42, 27, 182, 0, 87, 77, 3, 62, 29, 44, 185, 0, 60, 1, 0, 162, 0, 79, 44, 29]
abbrev dktX4_sharing_0 : List UInt8 := dkwX4_sharing_0 ++ dktX4_sharing_1
theorem dksX4_sharing_0 : cX4_sharing.data.toList.drop 0 = dktX4_sharing_0 := by decide +kernel
theorem dksX4_sharing_1 : cX4_sharing.data.toList.drop 20 = dktX4_sharing_1 := dk_seg dksX4_sharing_0 20 rfl rfl
theorem dksX4_sharing_2 : cX4_sharing.data.toList.drop 43 = dktX4_sharing_2 := dk_seg dksX4_sharing_1 23 rfl rfl
theorem dksX4_sharing_3 : cX4_sharing.data.toList.drop 66 = dktX4_sharing_3 := dk_seg dksX4_sharing_2 23 rfl rfl
theorem dksX4_sharing_4 : cX4_sharing.data.toList.drop 88 = dktX4_sharing_4 := dk_seg dksX4_sharing_3 22 rfl rfl
theorem dX4_sharing_0 : decode cX4_sharing 0 = .ok (.aload_n 0, 1) := dk_42 (dk_at dksX4_sharing_0 0 rfl rfl)
theorem dX4_sharing_1 : decode cX4_sharing 1 = .ok (.iload_n 1, 1) := dk_27 (dk_at dksX4_sharing_0 1 rfl rfl)
theorem dX4_sharing_2 : decode cX4_sharing 2 = .ok (.invokevirtual 87, 3) := dk_182 0 87 (dk_at dksX4_sharing_0 2 rfl rfl)
theorem dX4_sharing_5 : decode cX4_sharing 5 = .ok (.astore_n 2, 1) := dk_77 (dk_at dksX4_sharing_0 5 rfl rfl)
theorem dX4_sharing_6 : decode cX4_sharing 6 = .ok (.iconst 0, 1) := dk_3 (dk_at dksX4_sharing_0 6 rfl rfl)
theorem dX4_sharing_7 : decode cX4_sharing 7 = .ok (.istore_n 3, 1) := dk_62 (dk_at dksX4_sharing_0 7 rfl rfl)
theorem dX4_sharing_8 : decode cX4_sharing 8 = .ok (.iload_n 3, 1) := dk_29 (dk_at dksX4_sharing_0 8 rfl rfl)
theorem dX4_sharing_9 : decode cX4_sharing 9 = .ok (.aload_n 2, 1) := dk_44 (dk_at dksX4_sharing_0 9 rfl rfl)
theorem dX4_sharing_10 : decode cX4_sharing 10 = .ok (.invokeinterface 60 1, 5) := by decide +kernel
theorem dX4_sharing_15 : decode cX4_sharing 15 = .ok (.if_icmp .ge 79, 3) := dk_162 0 79 (dk_at dksX4_sharing_0 15 rfl rfl)
theorem dX4_sharing_18 : decode cX4_sharing 18 = .ok (.aload_n 2, 1) := dk_44 (dk_at dksX4_sharing_0 18 rfl rfl)
theorem dX4_sharing_19 : decode cX4_sharing 19 = .ok (.iload_n 3, 1) := dk_29 (dk_at dksX4_sharing_0 19 rfl rfl)
theorem dX4_sharing_20 : decode cX4_sharing 20 = .ok (.invokeinterface 80 2, 5) := by decide +kernel
theorem dX4_sharing_25 : decode cX4_sharing 25 = .ok (.checkcast 36, 3) := dk_192 0 36 (dk_at dksX4_sharing_1 5 rfl rfl)
theorem dX4_sharing_28 : decode cX4_sharing 28 = .ok (.astore 4, 2) := dk_58 4 (dk_at dksX4_sharing_1 8 rfl rfl)
theorem dX4_sharing_30 : decode cX4_sharing 30 = .ok (.iload_n 3, 1) := dk_29 (dk_at dksX4_sharing_1 10 rfl rfl)
theorem dX4_sharing_31 : decode cX4_sharing 31 = .ok (.iconst 1, 1) := dk_4 (dk_at dksX4_sharing_1 11 rfl rfl)
theorem dX4_sharing_32 : decode cX4_sharing 32 = .ok (.iadd, 1) := dk_96 (dk_at dksX4_sharing_1 12 rfl rfl)
theorem dX4_sharing_33 : decode cX4_sharing 33 = .ok (.istore 5, 2) := dk_54 5 (dk_at dksX4_sharing_1 13 rfl rfl)
theorem dX4_sharing_35 : decode cX4_sharing 35 = .ok (.iload 5, 2) := dk_21 5 (dk_at dksX4_sharing_1 15 rfl rfl)
theorem dX4_sharing_37 : decode cX4_sharing 37 = .ok (.aload_n 2, 1) := dk_44 (dk_at dksX4_sharing_1 17 rfl rfl)
theorem dX4_sharing_38 : decode cX4_sharing 38 = .ok (.invokeinterface 60 1, 5) := by decide +kernel
theorem dX4_sharing_43 : decode cX4_sharing 43 = .ok (.if_icmp .ge 45, 3) := dk_162 0 45 (dk_at dksX4_sharing_2 0 rfl rfl)
theorem dX4_sharing_46 : decode cX4_sharing 46 = .ok (.aload 4, 2) := dk_25 4 (dk_at dksX4_sharing_2 3 rfl rfl)
theorem dX4_sharing_48 : decode cX4_sharing 48 = .ok (.getfield 42, 3) := dk_180 0 42 (dk_at dksX4_sharing_2 5 rfl rfl)
theorem dX4_sharing_51 : decode cX4_sharing 51 = .ok (.arraylength, 1) := dk_190 (dk_at dksX4_sharing_2 8 rfl rfl)
theorem dX4_sharing_52 : decode cX4_sharing 52 = .ok (.ifCond .le 36, 3) := dk_158 0 36 (dk_at dksX4_sharing_2 9 rfl rfl)
theorem dX4_sharing_55 : decode cX4_sharing 55 = .ok (.aload_n 2, 1) := dk_44 (dk_at dksX4_sharing_2 12 rfl rfl)
theorem dX4_sharing_56 : decode cX4_sharing 56 = .ok (.iload 5, 2) := dk_21 5 (dk_at dksX4_sharing_2 13 rfl rfl)
theorem dX4_sharing_58 : decode cX4_sharing 58 = .ok (.invokeinterface 80 2, 5) := by decide +kernel
theorem dX4_sharing_63 : decode cX4_sharing 63 = .ok (.checkcast 36, 3) := dk_192 0 36 (dk_at dksX4_sharing_2 20 rfl rfl)
theorem dX4_sharing_66 : decode cX4_sharing 66 = .ok (.aload 4, 2) := dk_25 4 (dk_at dksX4_sharing_3 0 rfl rfl)
theorem dX4_sharing_68 : decode cX4_sharing 68 = .ok (.getfield 42, 3) := dk_180 0 42 (dk_at dksX4_sharing_3 2 rfl rfl)
theorem dX4_sharing_71 : decode cX4_sharing 71 = .ok (.iconst 0, 1) := dk_3 (dk_at dksX4_sharing_3 5 rfl rfl)
theorem dX4_sharing_72 : decode cX4_sharing 72 = .ok (.iaload, 1) := dk_46 (dk_at dksX4_sharing_3 6 rfl rfl)
theorem dX4_sharing_73 : decode cX4_sharing 73 = .ok (.invokevirtual 104, 3) := dk_182 0 104 (dk_at dksX4_sharing_3 7 rfl rfl)
theorem dX4_sharing_76 : decode cX4_sharing 76 = .ok (.ifCond .eq 6, 3) := dk_153 0 6 (dk_at dksX4_sharing_3 10 rfl rfl)
theorem dX4_sharing_79 : decode cX4_sharing 79 = .ok (.aload 4, 2) := dk_25 4 (dk_at dksX4_sharing_3 13 rfl rfl)
theorem dX4_sharing_81 : decode cX4_sharing 81 = .ok (.areturn, 1) := dk_176 (dk_at dksX4_sharing_3 15 rfl rfl)
theorem dX4_sharing_82 : decode cX4_sharing 82 = .ok (.iinc 5 1, 3) := dk_132 5 1 (dk_at dksX4_sharing_3 16 rfl rfl)
theorem dX4_sharing_85 : decode cX4_sharing 85 = .ok (.goto (-50), 3) := dk_167 255 206 (dk_at dksX4_sharing_3 19 rfl rfl)
theorem dX4_sharing_88 : decode cX4_sharing 88 = .ok (.iinc 3 1, 3) := dk_132 3 1 (dk_at dksX4_sharing_4 0 rfl rfl)
theorem dX4_sharing_91 : decode cX4_sharing 91 = .ok (.goto (-83), 3) := dk_167 255 173 (dk_at dksX4_sharing_4 3 rfl rfl)
theorem dX4_sharing_94 : decode cX4_sharing 94 = .ok (.aconst_null, 1) := dk_1 (dk_at dksX4_sharing_4 6 rfl rfl)
theorem dX4_sharing_95 : decode cX4_sharing 95 = .ok (.areturn, 1) := dk_176 (dk_at dksX4_sharing_4 7 rfl rfl)
abbrev cX4_factor : ByteArray := prog_12_method_11_code
def yX4_factor : MethodName := ⟨RX4, "factor", "(LSelahGenerator$Rule;)V"⟩
def dkwX4_factor_10 : List UInt8 := [185, 0, 65, 2, 0, 87, 167, 255, 206, 177]
abbrev dktX4_factor_10 : List UInt8 := dkwX4_factor_10 ++ []
def dkwX4_factor_9 : List UInt8 := [42, 180, 0, 14, 187, 0, 36, 89, 21, 4, 25, 7, 29, 3, 188, 10, 182, 0, 94, 183, 0, 98]
abbrev dktX4_factor_9 : List UInt8 := dkwX4_factor_9 ++ dktX4_factor_10
def dkwX4_factor_8 : List UInt8 := [58, 6, 25, 6, 185, 0, 26, 1, 0, 153, 0, 46, 25, 6, 185, 0, 32, 1, 0, 192, 0, 36, 58, 7]
abbrev dktX4_factor_8 : List UInt8 := dkwX4_factor_8 ++ dktX4_factor_9
def dkwX4_factor_7 : List UInt8 := [185, 0, 80, 2, 0, 185, 0, 146, 2, 0, 87, 132, 6, 1, 167, 255, 224, 44, 185, 0, 20, 1, 0]
abbrev dktX4_factor_7 : List UInt8 := dkwX4_factor_7 ++ dktX4_factor_8
def dkwX4_factor_6 : List UInt8 := [87, 4, 54, 6, 21, 6, 44, 185, 0, 60, 1, 0, 162, 0, 27, 42, 180, 0, 14, 44, 21, 6]
abbrev dktX4_factor_6 : List UInt8 := dkwX4_factor_6 ++ dktX4_factor_7
def dkwX4_factor_5 : List UInt8 := [180, 0, 38, 43, 180, 0, 42, 29, 184, 0, 136, 183, 0, 98, 21, 4, 182, 0, 110, 185, 0, 142, 3, 0]
abbrev dktX4_factor_5 : List UInt8 := dkwX4_factor_5 ++ dktX4_factor_6
def dkwX4_factor_4 : List UInt8 := [180, 0, 14, 43, 185, 0, 132, 2, 0, 54, 5, 42, 180, 0, 14, 21, 5, 187, 0, 36, 89, 43]
abbrev dktX4_factor_4 : List UInt8 := dkwX4_factor_4 ++ dktX4_factor_5
def dkwX4_factor_3 : List UInt8 := [62, 44, 29, 184, 0, 128, 153, 0, 9, 132, 3, 1, 167, 255, 245, 42, 182, 0, 107, 54, 4, 42]
abbrev dktX4_factor_3 : List UInt8 := dkwX4_factor_3 ++ dktX4_factor_4
def dkwX4_factor_2 : List UInt8 := [180, 0, 42, 3, 46, 182, 0, 104, 153, 0, 12, 44, 25, 4, 185, 0, 65, 2, 0, 87, 167, 255, 213, 4]
abbrev dktX4_factor_2 : List UInt8 := dkwX4_factor_2 ++ dktX4_factor_3
def dkwX4_factor_1 : List UInt8 := [185, 0, 26, 1, 0, 153, 0, 40, 45, 185, 0, 32, 1, 0, 192, 0, 36, 58, 4, 25, 4, 43]
abbrev dktX4_factor_1 : List UInt8 := dkwX4_factor_1 ++ dktX4_factor_2
def dkwX4_factor_0 : List UInt8 := [187, 0, 9, 89, 183, 0, 64, 77, 42, 43, 180, 0, 38, 182, 0, 87, 185, 0, 20, 1, 0, 78, 45]
abbrev dktX4_factor_0 : List UInt8 := dkwX4_factor_0 ++ dktX4_factor_1
theorem dksX4_factor_0 : cX4_factor.data.toList.drop 0 = dktX4_factor_0 := by decide +kernel
theorem dksX4_factor_1 : cX4_factor.data.toList.drop 23 = dktX4_factor_1 := dk_seg dksX4_factor_0 23 rfl rfl
theorem dksX4_factor_2 : cX4_factor.data.toList.drop 45 = dktX4_factor_2 := dk_seg dksX4_factor_1 22 rfl rfl
theorem dksX4_factor_3 : cX4_factor.data.toList.drop 69 = dktX4_factor_3 := dk_seg dksX4_factor_2 24 rfl rfl
theorem dksX4_factor_4 : cX4_factor.data.toList.drop 91 = dktX4_factor_4 := dk_seg dksX4_factor_3 22 rfl rfl
theorem dksX4_factor_5 : cX4_factor.data.toList.drop 113 = dktX4_factor_5 := dk_seg dksX4_factor_4 22 rfl rfl
theorem dksX4_factor_6 : cX4_factor.data.toList.drop 137 = dktX4_factor_6 := dk_seg dksX4_factor_5 24 rfl rfl
theorem dksX4_factor_7 : cX4_factor.data.toList.drop 159 = dktX4_factor_7 := dk_seg dksX4_factor_6 22 rfl rfl
theorem dksX4_factor_8 : cX4_factor.data.toList.drop 182 = dktX4_factor_8 := dk_seg dksX4_factor_7 23 rfl rfl
theorem dksX4_factor_9 : cX4_factor.data.toList.drop 206 = dktX4_factor_9 := dk_seg dksX4_factor_8 24 rfl rfl
theorem dksX4_factor_10 : cX4_factor.data.toList.drop 228 = dktX4_factor_10 := dk_seg dksX4_factor_9 22 rfl rfl
theorem dX4_factor_0 : decode cX4_factor 0 = .ok (.new 9, 3) := dk_187 0 9 (dk_at dksX4_factor_0 0 rfl rfl)
theorem dX4_factor_3 : decode cX4_factor 3 = .ok (.dup, 1) := dk_89 (dk_at dksX4_factor_0 3 rfl rfl)
theorem dX4_factor_4 : decode cX4_factor 4 = .ok (.invokespecial 64, 3) := dk_183 0 64 (dk_at dksX4_factor_0 4 rfl rfl)
theorem dX4_factor_7 : decode cX4_factor 7 = .ok (.astore_n 2, 1) := dk_77 (dk_at dksX4_factor_0 7 rfl rfl)
theorem dX4_factor_8 : decode cX4_factor 8 = .ok (.aload_n 0, 1) := dk_42 (dk_at dksX4_factor_0 8 rfl rfl)
theorem dX4_factor_9 : decode cX4_factor 9 = .ok (.aload_n 1, 1) := dk_43 (dk_at dksX4_factor_0 9 rfl rfl)
theorem dX4_factor_10 : decode cX4_factor 10 = .ok (.getfield 38, 3) := dk_180 0 38 (dk_at dksX4_factor_0 10 rfl rfl)
theorem dX4_factor_13 : decode cX4_factor 13 = .ok (.invokevirtual 87, 3) := dk_182 0 87 (dk_at dksX4_factor_0 13 rfl rfl)
theorem dX4_factor_16 : decode cX4_factor 16 = .ok (.invokeinterface 20 1, 5) := by decide +kernel
theorem dX4_factor_21 : decode cX4_factor 21 = .ok (.astore_n 3, 1) := dk_78 (dk_at dksX4_factor_0 21 rfl rfl)
theorem dX4_factor_22 : decode cX4_factor 22 = .ok (.aload_n 3, 1) := dk_45 (dk_at dksX4_factor_0 22 rfl rfl)
theorem dX4_factor_23 : decode cX4_factor 23 = .ok (.invokeinterface 26 1, 5) := by decide +kernel
theorem dX4_factor_28 : decode cX4_factor 28 = .ok (.ifCond .eq 40, 3) := dk_153 0 40 (dk_at dksX4_factor_1 5 rfl rfl)
theorem dX4_factor_31 : decode cX4_factor 31 = .ok (.aload_n 3, 1) := dk_45 (dk_at dksX4_factor_1 8 rfl rfl)
theorem dX4_factor_32 : decode cX4_factor 32 = .ok (.invokeinterface 32 1, 5) := by decide +kernel
theorem dX4_factor_37 : decode cX4_factor 37 = .ok (.checkcast 36, 3) := dk_192 0 36 (dk_at dksX4_factor_1 14 rfl rfl)
theorem dX4_factor_40 : decode cX4_factor 40 = .ok (.astore 4, 2) := dk_58 4 (dk_at dksX4_factor_1 17 rfl rfl)
theorem dX4_factor_42 : decode cX4_factor 42 = .ok (.aload 4, 2) := dk_25 4 (dk_at dksX4_factor_1 19 rfl rfl)
theorem dX4_factor_44 : decode cX4_factor 44 = .ok (.aload_n 1, 1) := dk_43 (dk_at dksX4_factor_1 21 rfl rfl)
theorem dX4_factor_45 : decode cX4_factor 45 = .ok (.getfield 42, 3) := dk_180 0 42 (dk_at dksX4_factor_2 0 rfl rfl)
theorem dX4_factor_48 : decode cX4_factor 48 = .ok (.iconst 0, 1) := dk_3 (dk_at dksX4_factor_2 3 rfl rfl)
theorem dX4_factor_49 : decode cX4_factor 49 = .ok (.iaload, 1) := dk_46 (dk_at dksX4_factor_2 4 rfl rfl)
theorem dX4_factor_50 : decode cX4_factor 50 = .ok (.invokevirtual 104, 3) := dk_182 0 104 (dk_at dksX4_factor_2 5 rfl rfl)
theorem dX4_factor_53 : decode cX4_factor 53 = .ok (.ifCond .eq 12, 3) := dk_153 0 12 (dk_at dksX4_factor_2 8 rfl rfl)
theorem dX4_factor_56 : decode cX4_factor 56 = .ok (.aload_n 2, 1) := dk_44 (dk_at dksX4_factor_2 11 rfl rfl)
theorem dX4_factor_57 : decode cX4_factor 57 = .ok (.aload 4, 2) := dk_25 4 (dk_at dksX4_factor_2 12 rfl rfl)
theorem dX4_factor_59 : decode cX4_factor 59 = .ok (.invokeinterface 65 2, 5) := by decide +kernel
theorem dX4_factor_64 : decode cX4_factor 64 = .ok (.pop, 1) := dk_87 (dk_at dksX4_factor_2 19 rfl rfl)
theorem dX4_factor_65 : decode cX4_factor 65 = .ok (.goto (-43), 3) := dk_167 255 213 (dk_at dksX4_factor_2 20 rfl rfl)
theorem dX4_factor_68 : decode cX4_factor 68 = .ok (.iconst 1, 1) := dk_4 (dk_at dksX4_factor_2 23 rfl rfl)
theorem dX4_factor_69 : decode cX4_factor 69 = .ok (.istore_n 3, 1) := dk_62 (dk_at dksX4_factor_3 0 rfl rfl)
theorem dX4_factor_70 : decode cX4_factor 70 = .ok (.aload_n 2, 1) := dk_44 (dk_at dksX4_factor_3 1 rfl rfl)
theorem dX4_factor_71 : decode cX4_factor 71 = .ok (.iload_n 3, 1) := dk_29 (dk_at dksX4_factor_3 2 rfl rfl)
theorem dX4_factor_72 : decode cX4_factor 72 = .ok (.invokestatic 128, 3) := dk_184 0 128 (dk_at dksX4_factor_3 3 rfl rfl)
theorem dX4_factor_75 : decode cX4_factor 75 = .ok (.ifCond .eq 9, 3) := dk_153 0 9 (dk_at dksX4_factor_3 6 rfl rfl)
theorem dX4_factor_78 : decode cX4_factor 78 = .ok (.iinc 3 1, 3) := dk_132 3 1 (dk_at dksX4_factor_3 9 rfl rfl)
theorem dX4_factor_81 : decode cX4_factor 81 = .ok (.goto (-11), 3) := dk_167 255 245 (dk_at dksX4_factor_3 12 rfl rfl)
theorem dX4_factor_84 : decode cX4_factor 84 = .ok (.aload_n 0, 1) := dk_42 (dk_at dksX4_factor_3 15 rfl rfl)
theorem dX4_factor_85 : decode cX4_factor 85 = .ok (.invokevirtual 107, 3) := dk_182 0 107 (dk_at dksX4_factor_3 16 rfl rfl)
theorem dX4_factor_88 : decode cX4_factor 88 = .ok (.istore 4, 2) := dk_54 4 (dk_at dksX4_factor_3 19 rfl rfl)
theorem dX4_factor_90 : decode cX4_factor 90 = .ok (.aload_n 0, 1) := dk_42 (dk_at dksX4_factor_3 21 rfl rfl)
theorem dX4_factor_91 : decode cX4_factor 91 = .ok (.getfield 14, 3) := dk_180 0 14 (dk_at dksX4_factor_4 0 rfl rfl)
theorem dX4_factor_94 : decode cX4_factor 94 = .ok (.aload_n 1, 1) := dk_43 (dk_at dksX4_factor_4 3 rfl rfl)
theorem dX4_factor_95 : decode cX4_factor 95 = .ok (.invokeinterface 132 2, 5) := by decide +kernel
theorem dX4_factor_100 : decode cX4_factor 100 = .ok (.istore 5, 2) := dk_54 5 (dk_at dksX4_factor_4 9 rfl rfl)
theorem dX4_factor_102 : decode cX4_factor 102 = .ok (.aload_n 0, 1) := dk_42 (dk_at dksX4_factor_4 11 rfl rfl)
theorem dX4_factor_103 : decode cX4_factor 103 = .ok (.getfield 14, 3) := dk_180 0 14 (dk_at dksX4_factor_4 12 rfl rfl)
theorem dX4_factor_106 : decode cX4_factor 106 = .ok (.iload 5, 2) := dk_21 5 (dk_at dksX4_factor_4 15 rfl rfl)
theorem dX4_factor_108 : decode cX4_factor 108 = .ok (.new 36, 3) := dk_187 0 36 (dk_at dksX4_factor_4 17 rfl rfl)
theorem dX4_factor_111 : decode cX4_factor 111 = .ok (.dup, 1) := dk_89 (dk_at dksX4_factor_4 20 rfl rfl)
theorem dX4_factor_112 : decode cX4_factor 112 = .ok (.aload_n 1, 1) := dk_43 (dk_at dksX4_factor_4 21 rfl rfl)
theorem dX4_factor_113 : decode cX4_factor 113 = .ok (.getfield 38, 3) := dk_180 0 38 (dk_at dksX4_factor_5 0 rfl rfl)
theorem dX4_factor_116 : decode cX4_factor 116 = .ok (.aload_n 1, 1) := dk_43 (dk_at dksX4_factor_5 3 rfl rfl)
theorem dX4_factor_117 : decode cX4_factor 117 = .ok (.getfield 42, 3) := dk_180 0 42 (dk_at dksX4_factor_5 4 rfl rfl)
theorem dX4_factor_120 : decode cX4_factor 120 = .ok (.iload_n 3, 1) := dk_29 (dk_at dksX4_factor_5 7 rfl rfl)
theorem dX4_factor_121 : decode cX4_factor 121 = .ok (.invokestatic 136, 3) := dk_184 0 136 (dk_at dksX4_factor_5 8 rfl rfl)
theorem dX4_factor_124 : decode cX4_factor 124 = .ok (.invokespecial 98, 3) := dk_183 0 98 (dk_at dksX4_factor_5 11 rfl rfl)
theorem dX4_factor_127 : decode cX4_factor 127 = .ok (.iload 4, 2) := dk_21 4 (dk_at dksX4_factor_5 14 rfl rfl)
theorem dX4_factor_129 : decode cX4_factor 129 = .ok (.invokevirtual 110, 3) := dk_182 0 110 (dk_at dksX4_factor_5 16 rfl rfl)
theorem dX4_factor_132 : decode cX4_factor 132 = .ok (.invokeinterface 142 3, 5) := by decide +kernel
theorem dX4_factor_137 : decode cX4_factor 137 = .ok (.pop, 1) := dk_87 (dk_at dksX4_factor_6 0 rfl rfl)
theorem dX4_factor_138 : decode cX4_factor 138 = .ok (.iconst 1, 1) := dk_4 (dk_at dksX4_factor_6 1 rfl rfl)
theorem dX4_factor_139 : decode cX4_factor 139 = .ok (.istore 6, 2) := dk_54 6 (dk_at dksX4_factor_6 2 rfl rfl)
theorem dX4_factor_141 : decode cX4_factor 141 = .ok (.iload 6, 2) := dk_21 6 (dk_at dksX4_factor_6 4 rfl rfl)
theorem dX4_factor_143 : decode cX4_factor 143 = .ok (.aload_n 2, 1) := dk_44 (dk_at dksX4_factor_6 6 rfl rfl)
theorem dX4_factor_144 : decode cX4_factor 144 = .ok (.invokeinterface 60 1, 5) := by decide +kernel
theorem dX4_factor_149 : decode cX4_factor 149 = .ok (.if_icmp .ge 27, 3) := dk_162 0 27 (dk_at dksX4_factor_6 12 rfl rfl)
theorem dX4_factor_152 : decode cX4_factor 152 = .ok (.aload_n 0, 1) := dk_42 (dk_at dksX4_factor_6 15 rfl rfl)
theorem dX4_factor_153 : decode cX4_factor 153 = .ok (.getfield 14, 3) := dk_180 0 14 (dk_at dksX4_factor_6 16 rfl rfl)
theorem dX4_factor_156 : decode cX4_factor 156 = .ok (.aload_n 2, 1) := dk_44 (dk_at dksX4_factor_6 19 rfl rfl)
theorem dX4_factor_157 : decode cX4_factor 157 = .ok (.iload 6, 2) := dk_21 6 (dk_at dksX4_factor_6 20 rfl rfl)
theorem dX4_factor_159 : decode cX4_factor 159 = .ok (.invokeinterface 80 2, 5) := by decide +kernel
theorem dX4_factor_164 : decode cX4_factor 164 = .ok (.invokeinterface 146 2, 5) := by decide +kernel
theorem dX4_factor_169 : decode cX4_factor 169 = .ok (.pop, 1) := dk_87 (dk_at dksX4_factor_7 10 rfl rfl)
theorem dX4_factor_170 : decode cX4_factor 170 = .ok (.iinc 6 1, 3) := dk_132 6 1 (dk_at dksX4_factor_7 11 rfl rfl)
theorem dX4_factor_173 : decode cX4_factor 173 = .ok (.goto (-32), 3) := dk_167 255 224 (dk_at dksX4_factor_7 14 rfl rfl)
theorem dX4_factor_176 : decode cX4_factor 176 = .ok (.aload_n 2, 1) := dk_44 (dk_at dksX4_factor_7 17 rfl rfl)
theorem dX4_factor_177 : decode cX4_factor 177 = .ok (.invokeinterface 20 1, 5) := by decide +kernel
theorem dX4_factor_182 : decode cX4_factor 182 = .ok (.astore 6, 2) := dk_58 6 (dk_at dksX4_factor_8 0 rfl rfl)
theorem dX4_factor_184 : decode cX4_factor 184 = .ok (.aload 6, 2) := dk_25 6 (dk_at dksX4_factor_8 2 rfl rfl)
theorem dX4_factor_186 : decode cX4_factor 186 = .ok (.invokeinterface 26 1, 5) := by decide +kernel
theorem dX4_factor_191 : decode cX4_factor 191 = .ok (.ifCond .eq 46, 3) := dk_153 0 46 (dk_at dksX4_factor_8 9 rfl rfl)
theorem dX4_factor_194 : decode cX4_factor 194 = .ok (.aload 6, 2) := dk_25 6 (dk_at dksX4_factor_8 12 rfl rfl)
theorem dX4_factor_196 : decode cX4_factor 196 = .ok (.invokeinterface 32 1, 5) := by decide +kernel
theorem dX4_factor_201 : decode cX4_factor 201 = .ok (.checkcast 36, 3) := dk_192 0 36 (dk_at dksX4_factor_8 19 rfl rfl)
theorem dX4_factor_204 : decode cX4_factor 204 = .ok (.astore 7, 2) := dk_58 7 (dk_at dksX4_factor_8 22 rfl rfl)
theorem dX4_factor_206 : decode cX4_factor 206 = .ok (.aload_n 0, 1) := dk_42 (dk_at dksX4_factor_9 0 rfl rfl)
theorem dX4_factor_207 : decode cX4_factor 207 = .ok (.getfield 14, 3) := dk_180 0 14 (dk_at dksX4_factor_9 1 rfl rfl)
theorem dX4_factor_210 : decode cX4_factor 210 = .ok (.new 36, 3) := dk_187 0 36 (dk_at dksX4_factor_9 4 rfl rfl)
theorem dX4_factor_213 : decode cX4_factor 213 = .ok (.dup, 1) := dk_89 (dk_at dksX4_factor_9 7 rfl rfl)
theorem dX4_factor_214 : decode cX4_factor 214 = .ok (.iload 4, 2) := dk_21 4 (dk_at dksX4_factor_9 8 rfl rfl)
theorem dX4_factor_216 : decode cX4_factor 216 = .ok (.aload 7, 2) := dk_25 7 (dk_at dksX4_factor_9 10 rfl rfl)
theorem dX4_factor_218 : decode cX4_factor 218 = .ok (.iload_n 3, 1) := dk_29 (dk_at dksX4_factor_9 12 rfl rfl)
theorem dX4_factor_219 : decode cX4_factor 219 = .ok (.iconst 0, 1) := dk_3 (dk_at dksX4_factor_9 13 rfl rfl)
theorem dX4_factor_220 : decode cX4_factor 220 = .ok (.newarray .int, 2) := dk_188_10 (dk_at dksX4_factor_9 14 rfl rfl)
theorem dX4_factor_222 : decode cX4_factor 222 = .ok (.invokevirtual 94, 3) := dk_182 0 94 (dk_at dksX4_factor_9 16 rfl rfl)
theorem dX4_factor_225 : decode cX4_factor 225 = .ok (.invokespecial 98, 3) := dk_183 0 98 (dk_at dksX4_factor_9 19 rfl rfl)
theorem dX4_factor_228 : decode cX4_factor 228 = .ok (.invokeinterface 65 2, 5) := by decide +kernel
theorem dX4_factor_233 : decode cX4_factor 233 = .ok (.pop, 1) := dk_87 (dk_at dksX4_factor_10 5 rfl rfl)
theorem dX4_factor_234 : decode cX4_factor 234 = .ok (.goto (-50), 3) := dk_167 255 206 (dk_at dksX4_factor_10 6 rfl rfl)
theorem dX4_factor_237 : decode cX4_factor 237 = .ok (.return_, 1) := dk_177 (dk_at dksX4_factor_10 9 rfl rfl)
abbrev cX4_isCommon : ByteArray := prog_12_method_12_code
def yX4_isCommon : MethodName := ⟨RX4, "isCommon", "(Ljava/util/List;I)Z"⟩
def dkwX4_isCommon_2 : List UInt8 := [185, 0, 80, 2, 0, 192, 0, 36, 180, 0, 42, 27, 46, 159, 0, 5, 3, 172, 167, 255, 202, 4, 172]
abbrev dktX4_isCommon_2 : List UInt8 := dkwX4_isCommon_2 ++ []
def dkwX4_isCommon_1 : List UInt8 := [192, 0, 36, 78, 45, 180, 0, 42, 190, 27, 164, 0, 27, 45, 180, 0, 42, 27, 46, 42, 3]
abbrev dktX4_isCommon_1 : List UInt8 := dkwX4_isCommon_1 ++ dktX4_isCommon_2
def dkwX4_isCommon_0 : List UInt8 := [42, 185, 0, 20, 1, 0, 77, 44, 185, 0, 26, 1, 0, 153, 0, 51, 44, 185, 0, 32, 1, 0]
abbrev dktX4_isCommon_0 : List UInt8 := dkwX4_isCommon_0 ++ dktX4_isCommon_1
theorem dksX4_isCommon_0 : cX4_isCommon.data.toList.drop 0 = dktX4_isCommon_0 := by decide +kernel
theorem dksX4_isCommon_1 : cX4_isCommon.data.toList.drop 22 = dktX4_isCommon_1 := dk_seg dksX4_isCommon_0 22 rfl rfl
theorem dksX4_isCommon_2 : cX4_isCommon.data.toList.drop 43 = dktX4_isCommon_2 := dk_seg dksX4_isCommon_1 21 rfl rfl
theorem dX4_isCommon_0 : decode cX4_isCommon 0 = .ok (.aload_n 0, 1) := dk_42 (dk_at dksX4_isCommon_0 0 rfl rfl)
theorem dX4_isCommon_1 : decode cX4_isCommon 1 = .ok (.invokeinterface 20 1, 5) := by decide +kernel
theorem dX4_isCommon_6 : decode cX4_isCommon 6 = .ok (.astore_n 2, 1) := dk_77 (dk_at dksX4_isCommon_0 6 rfl rfl)
theorem dX4_isCommon_7 : decode cX4_isCommon 7 = .ok (.aload_n 2, 1) := dk_44 (dk_at dksX4_isCommon_0 7 rfl rfl)
theorem dX4_isCommon_8 : decode cX4_isCommon 8 = .ok (.invokeinterface 26 1, 5) := by decide +kernel
theorem dX4_isCommon_13 : decode cX4_isCommon 13 = .ok (.ifCond .eq 51, 3) := dk_153 0 51 (dk_at dksX4_isCommon_0 13 rfl rfl)
theorem dX4_isCommon_16 : decode cX4_isCommon 16 = .ok (.aload_n 2, 1) := dk_44 (dk_at dksX4_isCommon_0 16 rfl rfl)
theorem dX4_isCommon_17 : decode cX4_isCommon 17 = .ok (.invokeinterface 32 1, 5) := by decide +kernel
theorem dX4_isCommon_22 : decode cX4_isCommon 22 = .ok (.checkcast 36, 3) := dk_192 0 36 (dk_at dksX4_isCommon_1 0 rfl rfl)
theorem dX4_isCommon_25 : decode cX4_isCommon 25 = .ok (.astore_n 3, 1) := dk_78 (dk_at dksX4_isCommon_1 3 rfl rfl)
theorem dX4_isCommon_26 : decode cX4_isCommon 26 = .ok (.aload_n 3, 1) := dk_45 (dk_at dksX4_isCommon_1 4 rfl rfl)
theorem dX4_isCommon_27 : decode cX4_isCommon 27 = .ok (.getfield 42, 3) := dk_180 0 42 (dk_at dksX4_isCommon_1 5 rfl rfl)
theorem dX4_isCommon_30 : decode cX4_isCommon 30 = .ok (.arraylength, 1) := dk_190 (dk_at dksX4_isCommon_1 8 rfl rfl)
theorem dX4_isCommon_31 : decode cX4_isCommon 31 = .ok (.iload_n 1, 1) := dk_27 (dk_at dksX4_isCommon_1 9 rfl rfl)
theorem dX4_isCommon_32 : decode cX4_isCommon 32 = .ok (.if_icmp .le 27, 3) := dk_164 0 27 (dk_at dksX4_isCommon_1 10 rfl rfl)
theorem dX4_isCommon_35 : decode cX4_isCommon 35 = .ok (.aload_n 3, 1) := dk_45 (dk_at dksX4_isCommon_1 13 rfl rfl)
theorem dX4_isCommon_36 : decode cX4_isCommon 36 = .ok (.getfield 42, 3) := dk_180 0 42 (dk_at dksX4_isCommon_1 14 rfl rfl)
theorem dX4_isCommon_39 : decode cX4_isCommon 39 = .ok (.iload_n 1, 1) := dk_27 (dk_at dksX4_isCommon_1 17 rfl rfl)
theorem dX4_isCommon_40 : decode cX4_isCommon 40 = .ok (.iaload, 1) := dk_46 (dk_at dksX4_isCommon_1 18 rfl rfl)
theorem dX4_isCommon_41 : decode cX4_isCommon 41 = .ok (.aload_n 0, 1) := dk_42 (dk_at dksX4_isCommon_1 19 rfl rfl)
theorem dX4_isCommon_42 : decode cX4_isCommon 42 = .ok (.iconst 0, 1) := dk_3 (dk_at dksX4_isCommon_1 20 rfl rfl)
theorem dX4_isCommon_43 : decode cX4_isCommon 43 = .ok (.invokeinterface 80 2, 5) := by decide +kernel
theorem dX4_isCommon_48 : decode cX4_isCommon 48 = .ok (.checkcast 36, 3) := dk_192 0 36 (dk_at dksX4_isCommon_2 5 rfl rfl)
theorem dX4_isCommon_51 : decode cX4_isCommon 51 = .ok (.getfield 42, 3) := dk_180 0 42 (dk_at dksX4_isCommon_2 8 rfl rfl)
theorem dX4_isCommon_54 : decode cX4_isCommon 54 = .ok (.iload_n 1, 1) := dk_27 (dk_at dksX4_isCommon_2 11 rfl rfl)
theorem dX4_isCommon_55 : decode cX4_isCommon 55 = .ok (.iaload, 1) := dk_46 (dk_at dksX4_isCommon_2 12 rfl rfl)
theorem dX4_isCommon_56 : decode cX4_isCommon 56 = .ok (.if_icmp .eq 5, 3) := dk_159 0 5 (dk_at dksX4_isCommon_2 13 rfl rfl)
theorem dX4_isCommon_59 : decode cX4_isCommon 59 = .ok (.iconst 0, 1) := dk_3 (dk_at dksX4_isCommon_2 16 rfl rfl)
theorem dX4_isCommon_60 : decode cX4_isCommon 60 = .ok (.ireturn, 1) := dk_172 (dk_at dksX4_isCommon_2 17 rfl rfl)
theorem dX4_isCommon_61 : decode cX4_isCommon 61 = .ok (.goto (-54), 3) := dk_167 255 202 (dk_at dksX4_isCommon_2 18 rfl rfl)
theorem dX4_isCommon_64 : decode cX4_isCommon 64 = .ok (.iconst 1, 1) := dk_4 (dk_at dksX4_isCommon_2 21 rfl rfl)
theorem dX4_isCommon_65 : decode cX4_isCommon 65 = .ok (.ireturn, 1) := dk_172 (dk_at dksX4_isCommon_2 22 rfl rfl)
theorem q146 : (Jvm.Cond.initialized "SelahGenerator$Workshop") ∈ lw_all := lw_g (lw_at lw_m1 24 rfl) rfl
theorem q282 : (Jvm.Cond.static ({ cls := "SelahGenerator$Workshop", name := "used", desc := "(Ljava/util/List;)I" } : Jvm.MethodName)) ∈ lw_all := lw_g (lw_at lw_m1 160 rfl) rfl
theorem q283 : (Jvm.Cond.code ({ cls := "SelahGenerator$Workshop", name := "used", desc := "(Ljava/util/List;)I" } : Jvm.MethodName) prog_12_method_2_code (8 : Nat) (Option.some Jvm.ClassFile.FieldType.int)) ∈ lw_all := lw_g (lw_at lw_m1 161 rfl) rfl
theorem q284 : (Jvm.Cond.interfaceEntry "SelahGenerator$Workshop" (20 : Nat)) ∈ lw_tbl := lw_at lw_m1 162 rfl
theorem q285 : (Jvm.Cond.methodLink "SelahGenerator$Workshop" (20 : Nat) ({ cls := "java/util/List", name := "iterator", desc := "()Ljava/util/Iterator;" } : Jvm.MethodName)) ∈ lw_all := lw_g (lw_at lw_m1 163 rfl) rfl
theorem q312 : (Jvm.Cond.interfaceEntry "SelahGenerator$Workshop" (26 : Nat)) ∈ lw_tbl := lw_at lw_m1 190 rfl
theorem q313 : (Jvm.Cond.methodLink "SelahGenerator$Workshop" (26 : Nat) ({ cls := "java/util/Iterator", name := "hasNext", desc := "()Z" } : Jvm.MethodName)) ∈ lw_all := lw_g (lw_at lw_m1 191 rfl) rfl
theorem q344 : (Jvm.Cond.interfaceEntry "SelahGenerator$Workshop" (32 : Nat)) ∈ lw_tbl := lw_at lw_m1 222 rfl
theorem q345 : (Jvm.Cond.methodLink "SelahGenerator$Workshop" (32 : Nat) ({ cls := "java/util/Iterator", name := "next", desc := "()Ljava/lang/Object;" } : Jvm.MethodName)) ∈ lw_all := lw_g (lw_at lw_m1 223 rfl) rfl
theorem q399 : (Jvm.Cond.classLink "SelahGenerator$Workshop" (36 : Nat) "SelahGenerator$Rule") ∈ lw_all := lw_g (lw_at lw_m2 37 rfl) rfl
theorem q400 : (Jvm.Cond.methodLinkNest "SelahGenerator$Workshop" (46 : Nat) ({ cls := "SelahGenerator", name := "isNonterminal", desc := "(I)Z" } : Jvm.MethodName) "SelahGenerator") ∈ lw_tbl := lw_at lw_m2 38 rfl
theorem q786 : (Jvm.Cond.selects "SelahGenerator$Workshop" ({ cls := "java/lang/Object", name := "getClass", desc := "()Ljava/lang/Class;" } : Jvm.MethodName) ({ cls := "java/lang/Object", name := "getClass", desc := "()Ljava/lang/Class;" } : Jvm.MethodName)) ∈ lw_all := lw_g (lw_at lw_m3 184 rfl) rfl
theorem q1734 : (Jvm.Cond.fieldLinkNest "SelahGenerator$Workshop" (38 : Nat) "SelahGenerator$Rule" "left" "I" "SelahGenerator") ∈ lw_tbl := lw_at lw_m7 172 rfl
theorem q1740 : (Jvm.Cond.fieldLinkNest "SelahGenerator$Workshop" (42 : Nat) "SelahGenerator$Rule" "right" "[I" "SelahGenerator") ∈ lw_tbl := lw_at lw_m7 178 rfl
theorem q1970 : (Jvm.Cond.instantiable "SelahGenerator$Workshop" (3 : Nat)) ∈ lw_all := lw_g (lw_at lw_m8 168 rfl) rfl
theorem q1972 : (Jvm.Cond.instanceMethod ({ cls := "SelahGenerator$Workshop", name := "<init>", desc := "(Ljava/util/List;)V" } : Jvm.MethodName)) ∈ lw_all := lw_g (lw_at lw_m8 170 rfl) rfl
theorem q1973 : (Jvm.Cond.code ({ cls := "SelahGenerator$Workshop", name := "<init>", desc := "(Ljava/util/List;)V" } : Jvm.MethodName) prog_12_method_1_code (2 : Nat) (Option.none : Option Jvm.ClassFile.FieldType)) ∈ lw_all := lw_g (lw_at lw_m8 171 rfl) rfl
theorem q1974 : (Jvm.Cond.methodLink "SelahGenerator$Workshop" (3 : Nat) ({ cls := "java/lang/Object", name := "<init>", desc := "()V" } : Jvm.MethodName)) ∈ lw_all := lw_g (lw_at lw_m8 172 rfl) rfl
theorem q1975 : (Jvm.Cond.classLink "SelahGenerator$Workshop" (9 : Nat) "java/util/ArrayList") ∈ lw_all := lw_g (lw_at lw_m8 173 rfl) rfl
theorem q1976 : (Jvm.Cond.methodLink "SelahGenerator$Workshop" (11 : Nat) ({ cls := "java/util/ArrayList", name := "<init>", desc := "(Ljava/util/Collection;)V" } : Jvm.MethodName)) ∈ lw_all := lw_g (lw_at lw_m8 174 rfl) rfl
theorem q2201 : (Jvm.Cond.fieldLink "SelahGenerator$Workshop" (14 : Nat) "SelahGenerator$Workshop" "rules" "Ljava/util/List;") ∈ lw_all := lw_g (lw_at lw_m9 159 rfl) rfl
theorem q2203 : (Jvm.Cond.fieldLink "SelahGenerator$Workshop" (57 : Nat) "SelahGenerator$Workshop" "made" "I") ∈ lw_all := lw_g (lw_at lw_m9 161 rfl) rfl
theorem q2205 : (Jvm.Cond.fieldLink "SelahGenerator$Workshop" (84 : Nat) "SelahGenerator$Workshop" "replaced" "I") ∈ lw_all := lw_g (lw_at lw_m9 163 rfl) rfl
theorem q2206 : (Jvm.Cond.laysFinal "SelahGenerator$Workshop" "SelahGenerator$Workshop" "rules" "Ljava/util/List;") ∈ lw_all := lw_g (lw_at lw_m9 164 rfl) rfl
theorem q2207 : (Jvm.Cond.soleField "SelahGenerator$Workshop" "rules") ∈ lw_all := lw_g (lw_at lw_m9 165 rfl) rfl
theorem q2208 : (Jvm.Cond.lays "SelahGenerator$Workshop" "SelahGenerator$Workshop" "made" "I") ∈ lw_all := lw_g (lw_at lw_m9 166 rfl) rfl
theorem q2209 : (Jvm.Cond.soleField "SelahGenerator$Workshop" "made") ∈ lw_all := lw_g (lw_at lw_m9 167 rfl) rfl
theorem q2210 : (Jvm.Cond.lays "SelahGenerator$Workshop" "SelahGenerator$Workshop" "replaced" "I") ∈ lw_all := lw_g (lw_at lw_m9 168 rfl) rfl
theorem q2211 : (Jvm.Cond.soleField "SelahGenerator$Workshop" "replaced") ∈ lw_all := lw_g (lw_at lw_m9 169 rfl) rfl
theorem q2212 : (Jvm.Cond.superclass "SelahGenerator$Workshop" "java/lang/Object") ∈ lw_all := lw_g (lw_at lw_m9 170 rfl) rfl
theorem q2214 : (Jvm.Cond.instanceMethod ({ cls := "SelahGenerator$Workshop", name := "removeLeftRecursion", desc := "()V" } : Jvm.MethodName)) ∈ lw_all := lw_g (lw_at lw_m9 172 rfl) rfl
theorem q2215 : (Jvm.Cond.selects "SelahGenerator$Workshop" ({ cls := "SelahGenerator$Workshop", name := "removeLeftRecursion", desc := "()V" } : Jvm.MethodName) ({ cls := "SelahGenerator$Workshop", name := "removeLeftRecursion", desc := "()V" } : Jvm.MethodName)) ∈ lw_all := lw_g (lw_at lw_m9 173 rfl) rfl
theorem q2216 : (Jvm.Cond.code ({ cls := "SelahGenerator$Workshop", name := "removeLeftRecursion", desc := "()V" } : Jvm.MethodName) prog_12_method_6_code (4 : Nat) (Option.none : Option Jvm.ClassFile.FieldType)) ∈ lw_all := lw_g (lw_at lw_m9 174 rfl) rfl
theorem q2217 : (Jvm.Cond.methodLink "SelahGenerator$Workshop" (69 : Nat) ({ cls := "SelahGenerator$Workshop", name := "replaceFirst", desc := "(II)Z" } : Jvm.MethodName)) ∈ lw_all := lw_g (lw_at lw_m9 175 rfl) rfl
theorem q2218 : (Jvm.Cond.privateMethod ({ cls := "SelahGenerator$Workshop", name := "replaceFirst", desc := "(II)Z" } : Jvm.MethodName)) ∈ lw_tbl := lw_at lw_m9 176 rfl
theorem q2219 : (Jvm.Cond.instanceMethod ({ cls := "SelahGenerator$Workshop", name := "replaceFirst", desc := "(II)Z" } : Jvm.MethodName)) ∈ lw_all := lw_g (lw_at lw_m9 177 rfl) rfl
theorem q2220 : (Jvm.Cond.code ({ cls := "SelahGenerator$Workshop", name := "replaceFirst", desc := "(II)Z" } : Jvm.MethodName) prog_12_method_7_code (8 : Nat) (Option.some Jvm.ClassFile.FieldType.boolean)) ∈ lw_all := lw_g (lw_at lw_m9 178 rfl) rfl
theorem q2221 : (Jvm.Cond.interfaceEntry "SelahGenerator$Workshop" (60 : Nat)) ∈ lw_tbl := lw_at lw_m9 179 rfl
theorem q2222 : (Jvm.Cond.methodLink "SelahGenerator$Workshop" (60 : Nat) ({ cls := "java/util/List", name := "size", desc := "()I" } : Jvm.MethodName)) ∈ lw_all := lw_g (lw_at lw_m9 180 rfl) rfl
theorem q2223 : (Jvm.Cond.interfaceEntry "SelahGenerator$Workshop" (80 : Nat)) ∈ lw_tbl := lw_at lw_m9 181 rfl
theorem q2224 : (Jvm.Cond.methodLink "SelahGenerator$Workshop" (80 : Nat) ({ cls := "java/util/List", name := "get", desc := "(I)Ljava/lang/Object;" } : Jvm.MethodName)) ∈ lw_all := lw_g (lw_at lw_m9 182 rfl) rfl
theorem q2225 : (Jvm.Cond.classLink "SelahGenerator$Workshop" (54 : Nat) "SelahGenerator$Failed") ∈ lw_all := lw_g (lw_at lw_m9 183 rfl) rfl
theorem q2234 : (Jvm.Cond.methodLinkNest "SelahGenerator$Workshop" (56 : Nat) ({ cls := "SelahGenerator$Failed", name := "<init>", desc := "()V" } : Jvm.MethodName) "SelahGenerator") ∈ lw_tbl := lw_at lw_m9 192 rfl
theorem q2240 : (Jvm.Cond.methodLink "SelahGenerator$Workshop" (87 : Nat) ({ cls := "SelahGenerator$Workshop", name := "of", desc := "(I)Ljava/util/List;" } : Jvm.MethodName)) ∈ lw_all := lw_g (lw_at lw_m9 198 rfl) rfl
theorem q2241 : (Jvm.Cond.privateMethod ({ cls := "SelahGenerator$Workshop", name := "of", desc := "(I)Ljava/util/List;" } : Jvm.MethodName)) ∈ lw_tbl := lw_at lw_m9 199 rfl
theorem q2242 : (Jvm.Cond.instanceMethod ({ cls := "SelahGenerator$Workshop", name := "of", desc := "(I)Ljava/util/List;" } : Jvm.MethodName)) ∈ lw_all := lw_g (lw_at lw_m9 200 rfl) rfl
theorem q2243 : (Jvm.Cond.code ({ cls := "SelahGenerator$Workshop", name := "of", desc := "(I)Ljava/util/List;" } : Jvm.MethodName) prog_12_method_5_code (5 : Nat) (Option.some (Jvm.ClassFile.FieldType.object "java/util/List"))) ∈ lw_all := lw_g (lw_at lw_m9 201 rfl) rfl
theorem q2244 : (Jvm.Cond.methodLink "SelahGenerator$Workshop" (64 : Nat) ({ cls := "java/util/ArrayList", name := "<init>", desc := "()V" } : Jvm.MethodName)) ∈ lw_all := lw_g (lw_at lw_m9 202 rfl) rfl
theorem q2245 : (Jvm.Cond.interfaceEntry "SelahGenerator$Workshop" (65 : Nat)) ∈ lw_tbl := lw_at lw_m9 203 rfl
theorem q2246 : (Jvm.Cond.methodLink "SelahGenerator$Workshop" (65 : Nat) ({ cls := "java/util/List", name := "add", desc := "(Ljava/lang/Object;)Z" } : Jvm.MethodName)) ∈ lw_all := lw_g (lw_at lw_m9 204 rfl) rfl
theorem q2247 : (Jvm.Cond.interfaceEntry "SelahGenerator$Workshop" (91 : Nat)) ∈ lw_tbl := lw_at lw_m9 205 rfl
theorem q2248 : (Jvm.Cond.methodLink "SelahGenerator$Workshop" (91 : Nat) ({ cls := "java/util/List", name := "remove", desc := "(I)Ljava/lang/Object;" } : Jvm.MethodName)) ∈ lw_all := lw_g (lw_at lw_m9 206 rfl) rfl
theorem q2249 : (Jvm.Cond.methodLink "SelahGenerator$Workshop" (94 : Nat) ({ cls := "SelahGenerator$Rule", name := "rest", desc := "(I[I)[I" } : Jvm.MethodName)) ∈ lw_all := lw_g (lw_at lw_m9 207 rfl) rfl
theorem q2253 : (Jvm.Cond.methodLink "SelahGenerator$Workshop" (98 : Nat) ({ cls := "SelahGenerator$Rule", name := "<init>", desc := "(I[I)V" } : Jvm.MethodName)) ∈ lw_all := lw_g (lw_at lw_m9 211 rfl) rfl
theorem q2254 : (Jvm.Cond.interfaceEntry "SelahGenerator$Workshop" (101 : Nat)) ∈ lw_tbl := lw_at lw_m9 212 rfl
theorem q2255 : (Jvm.Cond.methodLink "SelahGenerator$Workshop" (101 : Nat) ({ cls := "java/util/List", name := "add", desc := "(ILjava/lang/Object;)V" } : Jvm.MethodName)) ∈ lw_all := lw_g (lw_at lw_m9 213 rfl) rfl
theorem q2280 : (Jvm.Cond.methodLink "SelahGenerator$Workshop" (73 : Nat) ({ cls := "SelahGenerator$Workshop", name := "check", desc := "()V" } : Jvm.MethodName)) ∈ lw_all := lw_g (lw_at lw_m9 238 rfl) rfl
theorem q2281 : (Jvm.Cond.privateMethod ({ cls := "SelahGenerator$Workshop", name := "check", desc := "()V" } : Jvm.MethodName)) ∈ lw_tbl := lw_at lw_m9 239 rfl
theorem q2282 : (Jvm.Cond.instanceMethod ({ cls := "SelahGenerator$Workshop", name := "check", desc := "()V" } : Jvm.MethodName)) ∈ lw_all := lw_g (lw_at lw_m10 0 rfl) rfl
theorem q2283 : (Jvm.Cond.code ({ cls := "SelahGenerator$Workshop", name := "check", desc := "()V" } : Jvm.MethodName) prog_12_method_4_code (3 : Nat) (Option.none : Option Jvm.ClassFile.FieldType)) ∈ lw_all := lw_g (lw_at lw_m10 1 rfl) rfl
theorem q2284 : (Jvm.Cond.methodLink "SelahGenerator$Workshop" (76 : Nat) ({ cls := "SelahGenerator$Workshop", name := "removeDirect", desc := "(I)V" } : Jvm.MethodName)) ∈ lw_all := lw_g (lw_at lw_m10 2 rfl) rfl
theorem q2285 : (Jvm.Cond.privateMethod ({ cls := "SelahGenerator$Workshop", name := "removeDirect", desc := "(I)V" } : Jvm.MethodName)) ∈ lw_tbl := lw_at lw_m10 3 rfl
theorem q2286 : (Jvm.Cond.instanceMethod ({ cls := "SelahGenerator$Workshop", name := "removeDirect", desc := "(I)V" } : Jvm.MethodName)) ∈ lw_all := lw_g (lw_at lw_m10 4 rfl) rfl
theorem q2287 : (Jvm.Cond.code ({ cls := "SelahGenerator$Workshop", name := "removeDirect", desc := "(I)V" } : Jvm.MethodName) prog_12_method_8_code (8 : Nat) (Option.none : Option Jvm.ClassFile.FieldType)) ∈ lw_all := lw_g (lw_at lw_m10 5 rfl) rfl
theorem q2288 : (Jvm.Cond.methodLink "SelahGenerator$Workshop" (104 : Nat) ({ cls := "SelahGenerator$Rule", name := "beginsWith", desc := "(I)Z" } : Jvm.MethodName)) ∈ lw_all := lw_g (lw_at lw_m10 6 rfl) rfl
theorem q2292 : (Jvm.Cond.methodLink "SelahGenerator$Workshop" (107 : Nat) ({ cls := "SelahGenerator$Workshop", name := "unused", desc := "()I" } : Jvm.MethodName)) ∈ lw_all := lw_g (lw_at lw_m10 10 rfl) rfl
theorem q2293 : (Jvm.Cond.privateMethod ({ cls := "SelahGenerator$Workshop", name := "unused", desc := "()I" } : Jvm.MethodName)) ∈ lw_tbl := lw_at lw_m10 11 rfl
theorem q2294 : (Jvm.Cond.instanceMethod ({ cls := "SelahGenerator$Workshop", name := "unused", desc := "()I" } : Jvm.MethodName)) ∈ lw_all := lw_g (lw_at lw_m10 12 rfl) rfl
theorem q2295 : (Jvm.Cond.code ({ cls := "SelahGenerator$Workshop", name := "unused", desc := "()I" } : Jvm.MethodName) prog_12_method_3_code (3 : Nat) (Option.some Jvm.ClassFile.FieldType.int)) ∈ lw_all := lw_g (lw_at lw_m10 13 rfl) rfl
theorem q2296 : (Jvm.Cond.methodLink "SelahGenerator$Workshop" (50 : Nat) ({ cls := "SelahGenerator$Workshop", name := "used", desc := "(Ljava/util/List;)I" } : Jvm.MethodName)) ∈ lw_all := lw_g (lw_at lw_m10 14 rfl) rfl
theorem q2297 : (Jvm.Cond.methodLink "SelahGenerator$Workshop" (110 : Nat) ({ cls := "SelahGenerator$Rule", name := "with", desc := "(I)LSelahGenerator$Rule;" } : Jvm.MethodName)) ∈ lw_all := lw_g (lw_at lw_m10 15 rfl) rfl
theorem q2298 : (Jvm.Cond.interfaceEntry "SelahGenerator$Workshop" (114 : Nat)) ∈ lw_tbl := lw_at lw_m10 16 rfl
theorem q2299 : (Jvm.Cond.methodLink "SelahGenerator$Workshop" (114 : Nat) ({ cls := "java/util/List", name := "clear", desc := "()V" } : Jvm.MethodName)) ∈ lw_all := lw_g (lw_at lw_m10 17 rfl) rfl
theorem q2307 : (Jvm.Cond.interfaceEntry "SelahGenerator$Workshop" (117 : Nat)) ∈ lw_tbl := lw_at lw_m10 25 rfl
theorem q2308 : (Jvm.Cond.methodLink "SelahGenerator$Workshop" (117 : Nat) ({ cls := "java/util/List", name := "addAll", desc := "(Ljava/util/Collection;)Z" } : Jvm.MethodName)) ∈ lw_all := lw_g (lw_at lw_m10 26 rfl) rfl
theorem q2328 : (Jvm.Cond.instanceMethod ({ cls := "SelahGenerator$Workshop", name := "factorOut", desc := "()V" } : Jvm.MethodName)) ∈ lw_all := lw_g (lw_at lw_m10 46 rfl) rfl
theorem q2329 : (Jvm.Cond.selects "SelahGenerator$Workshop" ({ cls := "SelahGenerator$Workshop", name := "factorOut", desc := "()V" } : Jvm.MethodName) ({ cls := "SelahGenerator$Workshop", name := "factorOut", desc := "()V" } : Jvm.MethodName)) ∈ lw_all := lw_g (lw_at lw_m10 47 rfl) rfl
theorem q2330 : (Jvm.Cond.code ({ cls := "SelahGenerator$Workshop", name := "factorOut", desc := "()V" } : Jvm.MethodName) prog_12_method_10_code (3 : Nat) (Option.none : Option Jvm.ClassFile.FieldType)) ∈ lw_all := lw_g (lw_at lw_m10 48 rfl) rfl
theorem q2331 : (Jvm.Cond.methodLink "SelahGenerator$Workshop" (121 : Nat) ({ cls := "SelahGenerator$Workshop", name := "sharing", desc := "(I)LSelahGenerator$Rule;" } : Jvm.MethodName)) ∈ lw_all := lw_g (lw_at lw_m10 49 rfl) rfl
theorem q2332 : (Jvm.Cond.privateMethod ({ cls := "SelahGenerator$Workshop", name := "sharing", desc := "(I)LSelahGenerator$Rule;" } : Jvm.MethodName)) ∈ lw_tbl := lw_at lw_m10 50 rfl
theorem q2333 : (Jvm.Cond.instanceMethod ({ cls := "SelahGenerator$Workshop", name := "sharing", desc := "(I)LSelahGenerator$Rule;" } : Jvm.MethodName)) ∈ lw_all := lw_g (lw_at lw_m10 51 rfl) rfl
theorem q2334 : (Jvm.Cond.code ({ cls := "SelahGenerator$Workshop", name := "sharing", desc := "(I)LSelahGenerator$Rule;" } : Jvm.MethodName) prog_12_method_9_code (6 : Nat) (Option.some (Jvm.ClassFile.FieldType.object "SelahGenerator$Rule"))) ∈ lw_all := lw_g (lw_at lw_m10 52 rfl) rfl
theorem q2335 : (Jvm.Cond.methodLink "SelahGenerator$Workshop" (124 : Nat) ({ cls := "SelahGenerator$Workshop", name := "factor", desc := "(LSelahGenerator$Rule;)V" } : Jvm.MethodName)) ∈ lw_all := lw_g (lw_at lw_m10 53 rfl) rfl
theorem q2336 : (Jvm.Cond.privateMethod ({ cls := "SelahGenerator$Workshop", name := "factor", desc := "(LSelahGenerator$Rule;)V" } : Jvm.MethodName)) ∈ lw_tbl := lw_at lw_m10 54 rfl
theorem q2337 : (Jvm.Cond.instanceMethod ({ cls := "SelahGenerator$Workshop", name := "factor", desc := "(LSelahGenerator$Rule;)V" } : Jvm.MethodName)) ∈ lw_all := lw_g (lw_at lw_m10 55 rfl) rfl
theorem q2338 : (Jvm.Cond.code ({ cls := "SelahGenerator$Workshop", name := "factor", desc := "(LSelahGenerator$Rule;)V" } : Jvm.MethodName) prog_12_method_11_code (8 : Nat) (Option.none : Option Jvm.ClassFile.FieldType)) ∈ lw_all := lw_g (lw_at lw_m10 56 rfl) rfl
theorem q2339 : (Jvm.Cond.methodLink "SelahGenerator$Workshop" (128 : Nat) ({ cls := "SelahGenerator$Workshop", name := "isCommon", desc := "(Ljava/util/List;I)Z" } : Jvm.MethodName)) ∈ lw_all := lw_g (lw_at lw_m10 57 rfl) rfl
theorem q2340 : (Jvm.Cond.static ({ cls := "SelahGenerator$Workshop", name := "isCommon", desc := "(Ljava/util/List;I)Z" } : Jvm.MethodName)) ∈ lw_all := lw_g (lw_at lw_m10 58 rfl) rfl
theorem q2341 : (Jvm.Cond.code ({ cls := "SelahGenerator$Workshop", name := "isCommon", desc := "(Ljava/util/List;I)Z" } : Jvm.MethodName) prog_12_method_12_code (4 : Nat) (Option.some Jvm.ClassFile.FieldType.boolean)) ∈ lw_all := lw_g (lw_at lw_m10 59 rfl) rfl
theorem q2342 : (Jvm.Cond.interfaceEntry "SelahGenerator$Workshop" (132 : Nat)) ∈ lw_tbl := lw_at lw_m10 60 rfl
theorem q2343 : (Jvm.Cond.methodLink "SelahGenerator$Workshop" (132 : Nat) ({ cls := "java/util/List", name := "indexOf", desc := "(Ljava/lang/Object;)I" } : Jvm.MethodName)) ∈ lw_all := lw_g (lw_at lw_m10 61 rfl) rfl
theorem q2369 : (Jvm.Cond.selects "SelahGenerator$Workshop" ({ cls := "java/lang/Object", name := "equals", desc := "(Ljava/lang/Object;)Z" } : Jvm.MethodName) ({ cls := "java/lang/Object", name := "equals", desc := "(Ljava/lang/Object;)Z" } : Jvm.MethodName)) ∈ lw_all := lw_g (lw_at lw_m10 87 rfl) rfl
theorem q2389 : (Jvm.Cond.methodLink "SelahGenerator$Workshop" (136 : Nat) ({ cls := "java/util/Arrays", name := "copyOf", desc := "([II)[I" } : Jvm.MethodName)) ∈ lw_all := lw_g (lw_at lw_m10 107 rfl) rfl
theorem q2390 : (Jvm.Cond.interfaceEntry "SelahGenerator$Workshop" (142 : Nat)) ∈ lw_tbl := lw_at lw_m10 108 rfl
theorem q2391 : (Jvm.Cond.methodLink "SelahGenerator$Workshop" (142 : Nat) ({ cls := "java/util/List", name := "set", desc := "(ILjava/lang/Object;)Ljava/lang/Object;" } : Jvm.MethodName)) ∈ lw_all := lw_g (lw_at lw_m10 109 rfl) rfl
theorem q2392 : (Jvm.Cond.interfaceEntry "SelahGenerator$Workshop" (146 : Nat)) ∈ lw_tbl := lw_at lw_m10 110 rfl
theorem q2393 : (Jvm.Cond.methodLink "SelahGenerator$Workshop" (146 : Nat) ({ cls := "java/util/List", name := "remove", desc := "(Ljava/lang/Object;)Z" } : Jvm.MethodName)) ∈ lw_all := lw_g (lw_at lw_m10 111 rfl) rfl
theorem q3315 : (Jvm.Cond.castable "SelahGenerator$Workshop" "java/lang/Object") ∈ lw_tbl := lw_at lw_m14 73 rfl
theorem in_X4 : ∀ w ∈ wsX40, w ∈ lw_all := lw_in wsX40 [2206, 2208, 2210] (by decide +kernel) (by decide +kernel)
/-! SelahGenerator$Sets -/
set_option maxRecDepth 100000
def RX5 : String := "SelahGenerator$Sets"
def TX5 : u_T := fun k => match k with
  | 0 => ("SelahGenerator$Sets", "rules", "Ljava/util/List;", true)
  | 1 => ("SelahGenerator$Sets", "first", "[I", true)
  | 2 => ("SelahGenerator$Sets", "follow", "[I", true)
  | 3 => ("SelahGenerator$Sets", "shortest", "[I", true)
  | 4 => ("SelahGenerator$Sets", "begins", "[I", true)
  | 5 => ("SelahGenerator$Sets", "prediction", "[I", true)
  | 6 => ("SelahGenerator$Sets", "table", "Ljava/util/Map;", true)
  | 7 => ("SelahGenerator$Sets", "isNull", "LSelahGenerator$Test;", true)
  | 8 => ("SelahGenerator$Sets", "nullable", "I", false)
  | _ => ("SelahGenerator$Sets", "rounds", "I", false)
def tyX5 : Nat → FieldType := fun k => match k with
  | 0 => .object "java/util/List"
  | 1 => .array .int
  | 2 => .array .int
  | 3 => .array .int
  | 4 => .array .int
  | 5 => .array .int
  | 6 => .object "java/util/Map"
  | 7 => .object "SelahGenerator$Test"
  | 8 => .int
  | _ => .int
abbrev wsX50 : List Cond := u_ws RX5 TX5 10
theorem nmX5 : ∀ a, a < 10 → ∀ b, b < 10 → a ≠ b → (TX5 a).2.1 ≠ (TX5 b).2.1 := by decide +kernel
theorem tyX5_ok : ∀ k, k < 10 → parseFieldDescriptor (TX5 k).2.2.1 = some (tyX5 k) := by decide +kernel
abbrev cX5_init : ByteArray := prog_9_method_1_code
def yX5_init : MethodName := ⟨RX5, "<init>", "(Ljava/util/List;)V"⟩
def dkwX5_init_4 : List UInt8 := [182, 0, 67, 177]
abbrev dktX5_init_4 : List UInt8 := dkwX5_init_4 ++ []
def dkwX5_init_3 : List UInt8 := [181, 0, 49, 42, 182, 0, 52, 42, 182, 0, 55, 42, 182, 0, 58, 42, 182, 0, 61, 42, 182, 0, 64, 42]
abbrev dktX5_init_3 : List UInt8 := dkwX5_init_3 ++ dktX5_init_4
def dkwX5_init_2 : List UInt8 := [42, 42, 186, 0, 31, 0, 0, 181, 0, 35, 42, 43, 181, 0, 39, 42, 43, 185, 0, 43, 1, 0, 188, 10]
abbrev dktX5_init_2 : List UInt8 := dkwX5_init_2 ++ dktX5_init_3
def dkwX5_init_1 : List UInt8 := [188, 10, 181, 0, 18, 42, 16, 12, 188, 10, 181, 0, 21, 42, 187, 0, 24, 89, 183, 0, 26, 181, 0, 27]
abbrev dktX5_init_1 : List UInt8 := dkwX5_init_1 ++ dktX5_init_2
def dkwX5_init_0 : List UInt8 := [42, 183, 0, 3, 42, 16, 12, 188, 10, 181, 0, 9, 42, 16, 12, 188, 10, 181, 0, 15, 42, 16, 12]
abbrev dktX5_init_0 : List UInt8 := dkwX5_init_0 ++ dktX5_init_1
theorem dksX5_init_0 : cX5_init.data.toList.drop 0 = dktX5_init_0 := by decide +kernel
theorem dksX5_init_1 : cX5_init.data.toList.drop 23 = dktX5_init_1 := dk_seg dksX5_init_0 23 rfl rfl
theorem dksX5_init_2 : cX5_init.data.toList.drop 47 = dktX5_init_2 := dk_seg dksX5_init_1 24 rfl rfl
theorem dksX5_init_3 : cX5_init.data.toList.drop 71 = dktX5_init_3 := dk_seg dksX5_init_2 24 rfl rfl
theorem dksX5_init_4 : cX5_init.data.toList.drop 95 = dktX5_init_4 := dk_seg dksX5_init_3 24 rfl rfl
theorem dX5_init_0 : decode cX5_init 0 = .ok (.aload_n 0, 1) := dk_42 (dk_at dksX5_init_0 0 rfl rfl)
theorem dX5_init_1 : decode cX5_init 1 = .ok (.invokespecial 3, 3) := dk_183 0 3 (dk_at dksX5_init_0 1 rfl rfl)
theorem dX5_init_4 : decode cX5_init 4 = .ok (.aload_n 0, 1) := dk_42 (dk_at dksX5_init_0 4 rfl rfl)
theorem dX5_init_5 : decode cX5_init 5 = .ok (.bipush 12, 2) := dk_16 12 (dk_at dksX5_init_0 5 rfl rfl)
theorem dX5_init_7 : decode cX5_init 7 = .ok (.newarray .int, 2) := dk_188_10 (dk_at dksX5_init_0 7 rfl rfl)
theorem dX5_init_9 : decode cX5_init 9 = .ok (.putfield 9, 3) := dk_181 0 9 (dk_at dksX5_init_0 9 rfl rfl)
theorem dX5_init_12 : decode cX5_init 12 = .ok (.aload_n 0, 1) := dk_42 (dk_at dksX5_init_0 12 rfl rfl)
theorem dX5_init_13 : decode cX5_init 13 = .ok (.bipush 12, 2) := dk_16 12 (dk_at dksX5_init_0 13 rfl rfl)
theorem dX5_init_15 : decode cX5_init 15 = .ok (.newarray .int, 2) := dk_188_10 (dk_at dksX5_init_0 15 rfl rfl)
theorem dX5_init_17 : decode cX5_init 17 = .ok (.putfield 15, 3) := dk_181 0 15 (dk_at dksX5_init_0 17 rfl rfl)
theorem dX5_init_20 : decode cX5_init 20 = .ok (.aload_n 0, 1) := dk_42 (dk_at dksX5_init_0 20 rfl rfl)
theorem dX5_init_21 : decode cX5_init 21 = .ok (.bipush 12, 2) := dk_16 12 (dk_at dksX5_init_0 21 rfl rfl)
theorem dX5_init_23 : decode cX5_init 23 = .ok (.newarray .int, 2) := dk_188_10 (dk_at dksX5_init_1 0 rfl rfl)
theorem dX5_init_25 : decode cX5_init 25 = .ok (.putfield 18, 3) := dk_181 0 18 (dk_at dksX5_init_1 2 rfl rfl)
theorem dX5_init_28 : decode cX5_init 28 = .ok (.aload_n 0, 1) := dk_42 (dk_at dksX5_init_1 5 rfl rfl)
theorem dX5_init_29 : decode cX5_init 29 = .ok (.bipush 12, 2) := dk_16 12 (dk_at dksX5_init_1 6 rfl rfl)
theorem dX5_init_31 : decode cX5_init 31 = .ok (.newarray .int, 2) := dk_188_10 (dk_at dksX5_init_1 8 rfl rfl)
theorem dX5_init_33 : decode cX5_init 33 = .ok (.putfield 21, 3) := dk_181 0 21 (dk_at dksX5_init_1 10 rfl rfl)
theorem dX5_init_36 : decode cX5_init 36 = .ok (.aload_n 0, 1) := dk_42 (dk_at dksX5_init_1 13 rfl rfl)
theorem dX5_init_37 : decode cX5_init 37 = .ok (.new 24, 3) := dk_187 0 24 (dk_at dksX5_init_1 14 rfl rfl)
theorem dX5_init_40 : decode cX5_init 40 = .ok (.dup, 1) := dk_89 (dk_at dksX5_init_1 17 rfl rfl)
theorem dX5_init_41 : decode cX5_init 41 = .ok (.invokespecial 26, 3) := dk_183 0 26 (dk_at dksX5_init_1 18 rfl rfl)
theorem dX5_init_44 : decode cX5_init 44 = .ok (.putfield 27, 3) := dk_181 0 27 (dk_at dksX5_init_1 21 rfl rfl)
theorem dX5_init_47 : decode cX5_init 47 = .ok (.aload_n 0, 1) := dk_42 (dk_at dksX5_init_2 0 rfl rfl)
theorem dX5_init_48 : decode cX5_init 48 = .ok (.aload_n 0, 1) := dk_42 (dk_at dksX5_init_2 1 rfl rfl)
theorem dX5_init_49 : decode cX5_init 49 = .ok (.invokedynamic 31, 5) := by decide +kernel
theorem dX5_init_54 : decode cX5_init 54 = .ok (.putfield 35, 3) := dk_181 0 35 (dk_at dksX5_init_2 7 rfl rfl)
theorem dX5_init_57 : decode cX5_init 57 = .ok (.aload_n 0, 1) := dk_42 (dk_at dksX5_init_2 10 rfl rfl)
theorem dX5_init_58 : decode cX5_init 58 = .ok (.aload_n 1, 1) := dk_43 (dk_at dksX5_init_2 11 rfl rfl)
theorem dX5_init_59 : decode cX5_init 59 = .ok (.putfield 39, 3) := dk_181 0 39 (dk_at dksX5_init_2 12 rfl rfl)
theorem dX5_init_62 : decode cX5_init 62 = .ok (.aload_n 0, 1) := dk_42 (dk_at dksX5_init_2 15 rfl rfl)
theorem dX5_init_63 : decode cX5_init 63 = .ok (.aload_n 1, 1) := dk_43 (dk_at dksX5_init_2 16 rfl rfl)
theorem dX5_init_64 : decode cX5_init 64 = .ok (.invokeinterface 43 1, 5) := by decide +kernel
theorem dX5_init_69 : decode cX5_init 69 = .ok (.newarray .int, 2) := dk_188_10 (dk_at dksX5_init_2 22 rfl rfl)
theorem dX5_init_71 : decode cX5_init 71 = .ok (.putfield 49, 3) := dk_181 0 49 (dk_at dksX5_init_3 0 rfl rfl)
theorem dX5_init_74 : decode cX5_init 74 = .ok (.aload_n 0, 1) := dk_42 (dk_at dksX5_init_3 3 rfl rfl)
theorem dX5_init_75 : decode cX5_init 75 = .ok (.invokevirtual 52, 3) := dk_182 0 52 (dk_at dksX5_init_3 4 rfl rfl)
theorem dX5_init_78 : decode cX5_init 78 = .ok (.aload_n 0, 1) := dk_42 (dk_at dksX5_init_3 7 rfl rfl)
theorem dX5_init_79 : decode cX5_init 79 = .ok (.invokevirtual 55, 3) := dk_182 0 55 (dk_at dksX5_init_3 8 rfl rfl)
theorem dX5_init_82 : decode cX5_init 82 = .ok (.aload_n 0, 1) := dk_42 (dk_at dksX5_init_3 11 rfl rfl)
theorem dX5_init_83 : decode cX5_init 83 = .ok (.invokevirtual 58, 3) := dk_182 0 58 (dk_at dksX5_init_3 12 rfl rfl)
theorem dX5_init_86 : decode cX5_init 86 = .ok (.aload_n 0, 1) := dk_42 (dk_at dksX5_init_3 15 rfl rfl)
theorem dX5_init_87 : decode cX5_init 87 = .ok (.invokevirtual 61, 3) := dk_182 0 61 (dk_at dksX5_init_3 16 rfl rfl)
theorem dX5_init_90 : decode cX5_init 90 = .ok (.aload_n 0, 1) := dk_42 (dk_at dksX5_init_3 19 rfl rfl)
theorem dX5_init_91 : decode cX5_init 91 = .ok (.invokevirtual 64, 3) := dk_182 0 64 (dk_at dksX5_init_3 20 rfl rfl)
theorem dX5_init_94 : decode cX5_init 94 = .ok (.aload_n 0, 1) := dk_42 (dk_at dksX5_init_3 23 rfl rfl)
theorem dX5_init_95 : decode cX5_init 95 = .ok (.invokevirtual 67, 3) := dk_182 0 67 (dk_at dksX5_init_4 0 rfl rfl)
theorem dX5_init_98 : decode cX5_init 98 = .ok (.return_, 1) := dk_177 (dk_at dksX5_init_4 3 rfl rfl)
abbrev cX5_lambda_new_0 : ByteArray := prog_9_method_17_code
def yX5_lambda_new_0 : MethodName := ⟨RX5, "lambda$new$0", "(I)Z"⟩
def dkwX5_lambda_new_0_0 : List UInt8 := [42, 27, 182, 0, 108, 172]
abbrev dktX5_lambda_new_0_0 : List UInt8 := dkwX5_lambda_new_0_0 ++ []
theorem dksX5_lambda_new_0_0 : cX5_lambda_new_0.data.toList.drop 0 = dktX5_lambda_new_0_0 := by decide +kernel
theorem dX5_lambda_new_0_0 : decode cX5_lambda_new_0 0 = .ok (.aload_n 0, 1) := dk_42 (dk_at dksX5_lambda_new_0_0 0 rfl rfl)
theorem dX5_lambda_new_0_1 : decode cX5_lambda_new_0 1 = .ok (.iload_n 1, 1) := dk_27 (dk_at dksX5_lambda_new_0_0 1 rfl rfl)
theorem dX5_lambda_new_0_2 : decode cX5_lambda_new_0 2 = .ok (.invokevirtual 108, 3) := dk_182 0 108 (dk_at dksX5_lambda_new_0_0 2 rfl rfl)
theorem dX5_lambda_new_0_5 : decode cX5_lambda_new_0 5 = .ok (.ireturn, 1) := dk_172 (dk_at dksX5_lambda_new_0_0 5 rfl rfl)
abbrev cX5_isNullable : ByteArray := prog_9_method_2_code
def yX5_isNullable : MethodName := ⟨RX5, "isNullable", "(I)Z"⟩
def dkwX5_isNullable_1 : List UInt8 := [167, 0, 4, 3, 172]
abbrev dktX5_isNullable_1 : List UInt8 := dkwX5_isNullable_1 ++ []
def dkwX5_isNullable_0 : List UInt8 := [27, 184, 0, 70, 153, 0, 22, 42, 180, 0, 74, 27, 16, 20, 100, 122, 4, 126, 4, 160, 0, 7, 4]
abbrev dktX5_isNullable_0 : List UInt8 := dkwX5_isNullable_0 ++ dktX5_isNullable_1
theorem dksX5_isNullable_0 : cX5_isNullable.data.toList.drop 0 = dktX5_isNullable_0 := by decide +kernel
theorem dksX5_isNullable_1 : cX5_isNullable.data.toList.drop 23 = dktX5_isNullable_1 := dk_seg dksX5_isNullable_0 23 rfl rfl
theorem dX5_isNullable_0 : decode cX5_isNullable 0 = .ok (.iload_n 1, 1) := dk_27 (dk_at dksX5_isNullable_0 0 rfl rfl)
theorem dX5_isNullable_1 : decode cX5_isNullable 1 = .ok (.invokestatic 70, 3) := dk_184 0 70 (dk_at dksX5_isNullable_0 1 rfl rfl)
theorem dX5_isNullable_4 : decode cX5_isNullable 4 = .ok (.ifCond .eq 22, 3) := dk_153 0 22 (dk_at dksX5_isNullable_0 4 rfl rfl)
theorem dX5_isNullable_7 : decode cX5_isNullable 7 = .ok (.aload_n 0, 1) := dk_42 (dk_at dksX5_isNullable_0 7 rfl rfl)
theorem dX5_isNullable_8 : decode cX5_isNullable 8 = .ok (.getfield 74, 3) := dk_180 0 74 (dk_at dksX5_isNullable_0 8 rfl rfl)
theorem dX5_isNullable_11 : decode cX5_isNullable 11 = .ok (.iload_n 1, 1) := dk_27 (dk_at dksX5_isNullable_0 11 rfl rfl)
theorem dX5_isNullable_12 : decode cX5_isNullable 12 = .ok (.bipush 20, 2) := dk_16 20 (dk_at dksX5_isNullable_0 12 rfl rfl)
theorem dX5_isNullable_14 : decode cX5_isNullable 14 = .ok (.isub, 1) := dk_100 (dk_at dksX5_isNullable_0 14 rfl rfl)
theorem dX5_isNullable_15 : decode cX5_isNullable 15 = .ok (.ishr, 1) := dk_122 (dk_at dksX5_isNullable_0 15 rfl rfl)
theorem dX5_isNullable_16 : decode cX5_isNullable 16 = .ok (.iconst 1, 1) := dk_4 (dk_at dksX5_isNullable_0 16 rfl rfl)
theorem dX5_isNullable_17 : decode cX5_isNullable 17 = .ok (.iand, 1) := dk_126 (dk_at dksX5_isNullable_0 17 rfl rfl)
theorem dX5_isNullable_18 : decode cX5_isNullable 18 = .ok (.iconst 1, 1) := dk_4 (dk_at dksX5_isNullable_0 18 rfl rfl)
theorem dX5_isNullable_19 : decode cX5_isNullable 19 = .ok (.if_icmp .ne 7, 3) := dk_160 0 7 (dk_at dksX5_isNullable_0 19 rfl rfl)
theorem dX5_isNullable_22 : decode cX5_isNullable 22 = .ok (.iconst 1, 1) := dk_4 (dk_at dksX5_isNullable_0 22 rfl rfl)
theorem dX5_isNullable_23 : decode cX5_isNullable 23 = .ok (.goto 4, 3) := dk_167 0 4 (dk_at dksX5_isNullable_1 0 rfl rfl)
theorem dX5_isNullable_26 : decode cX5_isNullable 26 = .ok (.iconst 0, 1) := dk_3 (dk_at dksX5_isNullable_1 3 rfl rfl)
theorem dX5_isNullable_27 : decode cX5_isNullable 27 = .ok (.ireturn, 1) := dk_172 (dk_at dksX5_isNullable_1 4 rfl rfl)
abbrev cX5_findNullable : ByteArray := prog_9_method_3_code
def yX5_findNullable : MethodName := ⟨RX5, "findNullable", "()V"⟩
def dkwX5_findNullable_3 : List UInt8 := [16, 20, 100, 120, 128, 181, 0, 74, 167, 255, 202, 167, 255, 176, 177]
abbrev dktX5_findNullable_3 : List UInt8 := dkwX5_findNullable_3 ++ []
def dkwX5_findNullable_2 : List UInt8 := [180, 0, 94, 190, 42, 180, 0, 35, 182, 0, 97, 153, 0, 21, 42, 89, 180, 0, 74, 4, 45, 180, 0, 101]
abbrev dktX5_findNullable_2 : List UInt8 := dkwX5_findNullable_2 ++ dktX5_findNullable_3
def dkwX5_findNullable_1 : List UInt8 := [77, 44, 185, 0, 82, 1, 0, 153, 0, 51, 44, 185, 0, 88, 1, 0, 192, 0, 92, 78, 45, 3, 45]
abbrev dktX5_findNullable_1 : List UInt8 := dkwX5_findNullable_1 ++ dktX5_findNullable_2
def dkwX5_findNullable_0 : List UInt8 := [2, 60, 27, 42, 180, 0, 74, 159, 0, 78, 42, 180, 0, 74, 60, 42, 180, 0, 39, 185, 0, 78, 1, 0]
abbrev dktX5_findNullable_0 : List UInt8 := dkwX5_findNullable_0 ++ dktX5_findNullable_1
theorem dksX5_findNullable_0 : cX5_findNullable.data.toList.drop 0 = dktX5_findNullable_0 := by decide +kernel
theorem dksX5_findNullable_1 : cX5_findNullable.data.toList.drop 24 = dktX5_findNullable_1 := dk_seg dksX5_findNullable_0 24 rfl rfl
theorem dksX5_findNullable_2 : cX5_findNullable.data.toList.drop 47 = dktX5_findNullable_2 := dk_seg dksX5_findNullable_1 23 rfl rfl
theorem dksX5_findNullable_3 : cX5_findNullable.data.toList.drop 71 = dktX5_findNullable_3 := dk_seg dksX5_findNullable_2 24 rfl rfl
theorem dX5_findNullable_0 : decode cX5_findNullable 0 = .ok (.iconst (-1), 1) := dk_2 (dk_at dksX5_findNullable_0 0 rfl rfl)
theorem dX5_findNullable_1 : decode cX5_findNullable 1 = .ok (.istore_n 1, 1) := dk_60 (dk_at dksX5_findNullable_0 1 rfl rfl)
theorem dX5_findNullable_2 : decode cX5_findNullable 2 = .ok (.iload_n 1, 1) := dk_27 (dk_at dksX5_findNullable_0 2 rfl rfl)
theorem dX5_findNullable_3 : decode cX5_findNullable 3 = .ok (.aload_n 0, 1) := dk_42 (dk_at dksX5_findNullable_0 3 rfl rfl)
theorem dX5_findNullable_4 : decode cX5_findNullable 4 = .ok (.getfield 74, 3) := dk_180 0 74 (dk_at dksX5_findNullable_0 4 rfl rfl)
theorem dX5_findNullable_7 : decode cX5_findNullable 7 = .ok (.if_icmp .eq 78, 3) := dk_159 0 78 (dk_at dksX5_findNullable_0 7 rfl rfl)
theorem dX5_findNullable_10 : decode cX5_findNullable 10 = .ok (.aload_n 0, 1) := dk_42 (dk_at dksX5_findNullable_0 10 rfl rfl)
theorem dX5_findNullable_11 : decode cX5_findNullable 11 = .ok (.getfield 74, 3) := dk_180 0 74 (dk_at dksX5_findNullable_0 11 rfl rfl)
theorem dX5_findNullable_14 : decode cX5_findNullable 14 = .ok (.istore_n 1, 1) := dk_60 (dk_at dksX5_findNullable_0 14 rfl rfl)
theorem dX5_findNullable_15 : decode cX5_findNullable 15 = .ok (.aload_n 0, 1) := dk_42 (dk_at dksX5_findNullable_0 15 rfl rfl)
theorem dX5_findNullable_16 : decode cX5_findNullable 16 = .ok (.getfield 39, 3) := dk_180 0 39 (dk_at dksX5_findNullable_0 16 rfl rfl)
theorem dX5_findNullable_19 : decode cX5_findNullable 19 = .ok (.invokeinterface 78 1, 5) := by decide +kernel
theorem dX5_findNullable_24 : decode cX5_findNullable 24 = .ok (.astore_n 2, 1) := dk_77 (dk_at dksX5_findNullable_1 0 rfl rfl)
theorem dX5_findNullable_25 : decode cX5_findNullable 25 = .ok (.aload_n 2, 1) := dk_44 (dk_at dksX5_findNullable_1 1 rfl rfl)
theorem dX5_findNullable_26 : decode cX5_findNullable 26 = .ok (.invokeinterface 82 1, 5) := by decide +kernel
theorem dX5_findNullable_31 : decode cX5_findNullable 31 = .ok (.ifCond .eq 51, 3) := dk_153 0 51 (dk_at dksX5_findNullable_1 7 rfl rfl)
theorem dX5_findNullable_34 : decode cX5_findNullable 34 = .ok (.aload_n 2, 1) := dk_44 (dk_at dksX5_findNullable_1 10 rfl rfl)
theorem dX5_findNullable_35 : decode cX5_findNullable 35 = .ok (.invokeinterface 88 1, 5) := by decide +kernel
theorem dX5_findNullable_40 : decode cX5_findNullable 40 = .ok (.checkcast 92, 3) := dk_192 0 92 (dk_at dksX5_findNullable_1 16 rfl rfl)
theorem dX5_findNullable_43 : decode cX5_findNullable 43 = .ok (.astore_n 3, 1) := dk_78 (dk_at dksX5_findNullable_1 19 rfl rfl)
theorem dX5_findNullable_44 : decode cX5_findNullable 44 = .ok (.aload_n 3, 1) := dk_45 (dk_at dksX5_findNullable_1 20 rfl rfl)
theorem dX5_findNullable_45 : decode cX5_findNullable 45 = .ok (.iconst 0, 1) := dk_3 (dk_at dksX5_findNullable_1 21 rfl rfl)
theorem dX5_findNullable_46 : decode cX5_findNullable 46 = .ok (.aload_n 3, 1) := dk_45 (dk_at dksX5_findNullable_1 22 rfl rfl)
theorem dX5_findNullable_47 : decode cX5_findNullable 47 = .ok (.getfield 94, 3) := dk_180 0 94 (dk_at dksX5_findNullable_2 0 rfl rfl)
theorem dX5_findNullable_50 : decode cX5_findNullable 50 = .ok (.arraylength, 1) := dk_190 (dk_at dksX5_findNullable_2 3 rfl rfl)
theorem dX5_findNullable_51 : decode cX5_findNullable 51 = .ok (.aload_n 0, 1) := dk_42 (dk_at dksX5_findNullable_2 4 rfl rfl)
theorem dX5_findNullable_52 : decode cX5_findNullable 52 = .ok (.getfield 35, 3) := dk_180 0 35 (dk_at dksX5_findNullable_2 5 rfl rfl)
theorem dX5_findNullable_55 : decode cX5_findNullable 55 = .ok (.invokevirtual 97, 3) := dk_182 0 97 (dk_at dksX5_findNullable_2 8 rfl rfl)
theorem dX5_findNullable_58 : decode cX5_findNullable 58 = .ok (.ifCond .eq 21, 3) := dk_153 0 21 (dk_at dksX5_findNullable_2 11 rfl rfl)
theorem dX5_findNullable_61 : decode cX5_findNullable 61 = .ok (.aload_n 0, 1) := dk_42 (dk_at dksX5_findNullable_2 14 rfl rfl)
theorem dX5_findNullable_62 : decode cX5_findNullable 62 = .ok (.dup, 1) := dk_89 (dk_at dksX5_findNullable_2 15 rfl rfl)
theorem dX5_findNullable_63 : decode cX5_findNullable 63 = .ok (.getfield 74, 3) := dk_180 0 74 (dk_at dksX5_findNullable_2 16 rfl rfl)
theorem dX5_findNullable_66 : decode cX5_findNullable 66 = .ok (.iconst 1, 1) := dk_4 (dk_at dksX5_findNullable_2 19 rfl rfl)
theorem dX5_findNullable_67 : decode cX5_findNullable 67 = .ok (.aload_n 3, 1) := dk_45 (dk_at dksX5_findNullable_2 20 rfl rfl)
theorem dX5_findNullable_68 : decode cX5_findNullable 68 = .ok (.getfield 101, 3) := dk_180 0 101 (dk_at dksX5_findNullable_2 21 rfl rfl)
theorem dX5_findNullable_71 : decode cX5_findNullable 71 = .ok (.bipush 20, 2) := dk_16 20 (dk_at dksX5_findNullable_3 0 rfl rfl)
theorem dX5_findNullable_73 : decode cX5_findNullable 73 = .ok (.isub, 1) := dk_100 (dk_at dksX5_findNullable_3 2 rfl rfl)
theorem dX5_findNullable_74 : decode cX5_findNullable 74 = .ok (.ishl, 1) := dk_120 (dk_at dksX5_findNullable_3 3 rfl rfl)
theorem dX5_findNullable_75 : decode cX5_findNullable 75 = .ok (.ior, 1) := dk_128 (dk_at dksX5_findNullable_3 4 rfl rfl)
theorem dX5_findNullable_76 : decode cX5_findNullable 76 = .ok (.putfield 74, 3) := dk_181 0 74 (dk_at dksX5_findNullable_3 5 rfl rfl)
theorem dX5_findNullable_79 : decode cX5_findNullable 79 = .ok (.goto (-54), 3) := dk_167 255 202 (dk_at dksX5_findNullable_3 8 rfl rfl)
theorem dX5_findNullable_82 : decode cX5_findNullable 82 = .ok (.goto (-80), 3) := dk_167 255 176 (dk_at dksX5_findNullable_3 11 rfl rfl)
theorem dX5_findNullable_85 : decode cX5_findNullable 85 = .ok (.return_, 1) := dk_177 (dk_at dksX5_findNullable_3 14 rfl rfl)
abbrev cX5_findFirst : ByteArray := prog_9_method_6_code
def yX5_findFirst : MethodName := ⟨RX5, "findFirst", "()V"⟩
def dkwX5_findFirst_4 : List UInt8 := [180, 0, 9, 21, 4, 21, 5, 79, 167, 255, 183, 167, 255, 154, 177]
abbrev dktX5_findFirst_4 : List UInt8 := dkwX5_findFirst_4 ++ []
def dkwX5_findFirst_3 : List UInt8 := [54, 5, 27, 21, 5, 42, 180, 0, 9, 21, 4, 46, 159, 0, 7, 4, 167, 0, 4, 3, 128, 60, 42]
abbrev dktX5_findFirst_3 : List UInt8 := dkwX5_findFirst_3 ++ dktX5_findFirst_4
def dkwX5_findFirst_2 : List UInt8 := [78, 45, 180, 0, 101, 16, 20, 100, 54, 4, 42, 180, 0, 9, 21, 4, 46, 42, 45, 3, 182, 0, 114, 128]
abbrev dktX5_findFirst_2 : List UInt8 := dkwX5_findFirst_2 ++ dktX5_findFirst_3
def dkwX5_findFirst_1 : List UInt8 := [185, 0, 78, 1, 0, 77, 44, 185, 0, 82, 1, 0, 153, 0, 70, 44, 185, 0, 88, 1, 0, 192, 0, 92]
abbrev dktX5_findFirst_1 : List UInt8 := dkwX5_findFirst_1 ++ dktX5_findFirst_2
def dkwX5_findFirst_0 : List UInt8 := [4, 60, 27, 153, 0, 104, 3, 60, 42, 89, 180, 0, 111, 4, 96, 181, 0, 111, 42, 180, 0, 39]
abbrev dktX5_findFirst_0 : List UInt8 := dkwX5_findFirst_0 ++ dktX5_findFirst_1
theorem dksX5_findFirst_0 : cX5_findFirst.data.toList.drop 0 = dktX5_findFirst_0 := by decide +kernel
theorem dksX5_findFirst_1 : cX5_findFirst.data.toList.drop 22 = dktX5_findFirst_1 := dk_seg dksX5_findFirst_0 22 rfl rfl
theorem dksX5_findFirst_2 : cX5_findFirst.data.toList.drop 46 = dktX5_findFirst_2 := dk_seg dksX5_findFirst_1 24 rfl rfl
theorem dksX5_findFirst_3 : cX5_findFirst.data.toList.drop 70 = dktX5_findFirst_3 := dk_seg dksX5_findFirst_2 24 rfl rfl
theorem dksX5_findFirst_4 : cX5_findFirst.data.toList.drop 93 = dktX5_findFirst_4 := dk_seg dksX5_findFirst_3 23 rfl rfl
theorem dX5_findFirst_0 : decode cX5_findFirst 0 = .ok (.iconst 1, 1) := dk_4 (dk_at dksX5_findFirst_0 0 rfl rfl)
theorem dX5_findFirst_1 : decode cX5_findFirst 1 = .ok (.istore_n 1, 1) := dk_60 (dk_at dksX5_findFirst_0 1 rfl rfl)
theorem dX5_findFirst_2 : decode cX5_findFirst 2 = .ok (.iload_n 1, 1) := dk_27 (dk_at dksX5_findFirst_0 2 rfl rfl)
theorem dX5_findFirst_3 : decode cX5_findFirst 3 = .ok (.ifCond .eq 104, 3) := dk_153 0 104 (dk_at dksX5_findFirst_0 3 rfl rfl)
theorem dX5_findFirst_6 : decode cX5_findFirst 6 = .ok (.iconst 0, 1) := dk_3 (dk_at dksX5_findFirst_0 6 rfl rfl)
theorem dX5_findFirst_7 : decode cX5_findFirst 7 = .ok (.istore_n 1, 1) := dk_60 (dk_at dksX5_findFirst_0 7 rfl rfl)
theorem dX5_findFirst_8 : decode cX5_findFirst 8 = .ok (.aload_n 0, 1) := dk_42 (dk_at dksX5_findFirst_0 8 rfl rfl)
theorem dX5_findFirst_9 : decode cX5_findFirst 9 = .ok (.dup, 1) := dk_89 (dk_at dksX5_findFirst_0 9 rfl rfl)
theorem dX5_findFirst_10 : decode cX5_findFirst 10 = .ok (.getfield 111, 3) := dk_180 0 111 (dk_at dksX5_findFirst_0 10 rfl rfl)
theorem dX5_findFirst_13 : decode cX5_findFirst 13 = .ok (.iconst 1, 1) := dk_4 (dk_at dksX5_findFirst_0 13 rfl rfl)
theorem dX5_findFirst_14 : decode cX5_findFirst 14 = .ok (.iadd, 1) := dk_96 (dk_at dksX5_findFirst_0 14 rfl rfl)
theorem dX5_findFirst_15 : decode cX5_findFirst 15 = .ok (.putfield 111, 3) := dk_181 0 111 (dk_at dksX5_findFirst_0 15 rfl rfl)
theorem dX5_findFirst_18 : decode cX5_findFirst 18 = .ok (.aload_n 0, 1) := dk_42 (dk_at dksX5_findFirst_0 18 rfl rfl)
theorem dX5_findFirst_19 : decode cX5_findFirst 19 = .ok (.getfield 39, 3) := dk_180 0 39 (dk_at dksX5_findFirst_0 19 rfl rfl)
theorem dX5_findFirst_22 : decode cX5_findFirst 22 = .ok (.invokeinterface 78 1, 5) := by decide +kernel
theorem dX5_findFirst_27 : decode cX5_findFirst 27 = .ok (.astore_n 2, 1) := dk_77 (dk_at dksX5_findFirst_1 5 rfl rfl)
theorem dX5_findFirst_28 : decode cX5_findFirst 28 = .ok (.aload_n 2, 1) := dk_44 (dk_at dksX5_findFirst_1 6 rfl rfl)
theorem dX5_findFirst_29 : decode cX5_findFirst 29 = .ok (.invokeinterface 82 1, 5) := by decide +kernel
theorem dX5_findFirst_34 : decode cX5_findFirst 34 = .ok (.ifCond .eq 70, 3) := dk_153 0 70 (dk_at dksX5_findFirst_1 12 rfl rfl)
theorem dX5_findFirst_37 : decode cX5_findFirst 37 = .ok (.aload_n 2, 1) := dk_44 (dk_at dksX5_findFirst_1 15 rfl rfl)
theorem dX5_findFirst_38 : decode cX5_findFirst 38 = .ok (.invokeinterface 88 1, 5) := by decide +kernel
theorem dX5_findFirst_43 : decode cX5_findFirst 43 = .ok (.checkcast 92, 3) := dk_192 0 92 (dk_at dksX5_findFirst_1 21 rfl rfl)
theorem dX5_findFirst_46 : decode cX5_findFirst 46 = .ok (.astore_n 3, 1) := dk_78 (dk_at dksX5_findFirst_2 0 rfl rfl)
theorem dX5_findFirst_47 : decode cX5_findFirst 47 = .ok (.aload_n 3, 1) := dk_45 (dk_at dksX5_findFirst_2 1 rfl rfl)
theorem dX5_findFirst_48 : decode cX5_findFirst 48 = .ok (.getfield 101, 3) := dk_180 0 101 (dk_at dksX5_findFirst_2 2 rfl rfl)
theorem dX5_findFirst_51 : decode cX5_findFirst 51 = .ok (.bipush 20, 2) := dk_16 20 (dk_at dksX5_findFirst_2 5 rfl rfl)
theorem dX5_findFirst_53 : decode cX5_findFirst 53 = .ok (.isub, 1) := dk_100 (dk_at dksX5_findFirst_2 7 rfl rfl)
theorem dX5_findFirst_54 : decode cX5_findFirst 54 = .ok (.istore 4, 2) := dk_54 4 (dk_at dksX5_findFirst_2 8 rfl rfl)
theorem dX5_findFirst_56 : decode cX5_findFirst 56 = .ok (.aload_n 0, 1) := dk_42 (dk_at dksX5_findFirst_2 10 rfl rfl)
theorem dX5_findFirst_57 : decode cX5_findFirst 57 = .ok (.getfield 9, 3) := dk_180 0 9 (dk_at dksX5_findFirst_2 11 rfl rfl)
theorem dX5_findFirst_60 : decode cX5_findFirst 60 = .ok (.iload 4, 2) := dk_21 4 (dk_at dksX5_findFirst_2 14 rfl rfl)
theorem dX5_findFirst_62 : decode cX5_findFirst 62 = .ok (.iaload, 1) := dk_46 (dk_at dksX5_findFirst_2 16 rfl rfl)
theorem dX5_findFirst_63 : decode cX5_findFirst 63 = .ok (.aload_n 0, 1) := dk_42 (dk_at dksX5_findFirst_2 17 rfl rfl)
theorem dX5_findFirst_64 : decode cX5_findFirst 64 = .ok (.aload_n 3, 1) := dk_45 (dk_at dksX5_findFirst_2 18 rfl rfl)
theorem dX5_findFirst_65 : decode cX5_findFirst 65 = .ok (.iconst 0, 1) := dk_3 (dk_at dksX5_findFirst_2 19 rfl rfl)
theorem dX5_findFirst_66 : decode cX5_findFirst 66 = .ok (.invokevirtual 114, 3) := dk_182 0 114 (dk_at dksX5_findFirst_2 20 rfl rfl)
theorem dX5_findFirst_69 : decode cX5_findFirst 69 = .ok (.ior, 1) := dk_128 (dk_at dksX5_findFirst_2 23 rfl rfl)
theorem dX5_findFirst_70 : decode cX5_findFirst 70 = .ok (.istore 5, 2) := dk_54 5 (dk_at dksX5_findFirst_3 0 rfl rfl)
theorem dX5_findFirst_72 : decode cX5_findFirst 72 = .ok (.iload_n 1, 1) := dk_27 (dk_at dksX5_findFirst_3 2 rfl rfl)
theorem dX5_findFirst_73 : decode cX5_findFirst 73 = .ok (.iload 5, 2) := dk_21 5 (dk_at dksX5_findFirst_3 3 rfl rfl)
theorem dX5_findFirst_75 : decode cX5_findFirst 75 = .ok (.aload_n 0, 1) := dk_42 (dk_at dksX5_findFirst_3 5 rfl rfl)
theorem dX5_findFirst_76 : decode cX5_findFirst 76 = .ok (.getfield 9, 3) := dk_180 0 9 (dk_at dksX5_findFirst_3 6 rfl rfl)
theorem dX5_findFirst_79 : decode cX5_findFirst 79 = .ok (.iload 4, 2) := dk_21 4 (dk_at dksX5_findFirst_3 9 rfl rfl)
theorem dX5_findFirst_81 : decode cX5_findFirst 81 = .ok (.iaload, 1) := dk_46 (dk_at dksX5_findFirst_3 11 rfl rfl)
theorem dX5_findFirst_82 : decode cX5_findFirst 82 = .ok (.if_icmp .eq 7, 3) := dk_159 0 7 (dk_at dksX5_findFirst_3 12 rfl rfl)
theorem dX5_findFirst_85 : decode cX5_findFirst 85 = .ok (.iconst 1, 1) := dk_4 (dk_at dksX5_findFirst_3 15 rfl rfl)
theorem dX5_findFirst_86 : decode cX5_findFirst 86 = .ok (.goto 4, 3) := dk_167 0 4 (dk_at dksX5_findFirst_3 16 rfl rfl)
theorem dX5_findFirst_89 : decode cX5_findFirst 89 = .ok (.iconst 0, 1) := dk_3 (dk_at dksX5_findFirst_3 19 rfl rfl)
theorem dX5_findFirst_90 : decode cX5_findFirst 90 = .ok (.ior, 1) := dk_128 (dk_at dksX5_findFirst_3 20 rfl rfl)
theorem dX5_findFirst_91 : decode cX5_findFirst 91 = .ok (.istore_n 1, 1) := dk_60 (dk_at dksX5_findFirst_3 21 rfl rfl)
theorem dX5_findFirst_92 : decode cX5_findFirst 92 = .ok (.aload_n 0, 1) := dk_42 (dk_at dksX5_findFirst_3 22 rfl rfl)
theorem dX5_findFirst_93 : decode cX5_findFirst 93 = .ok (.getfield 9, 3) := dk_180 0 9 (dk_at dksX5_findFirst_4 0 rfl rfl)
theorem dX5_findFirst_96 : decode cX5_findFirst 96 = .ok (.iload 4, 2) := dk_21 4 (dk_at dksX5_findFirst_4 3 rfl rfl)
theorem dX5_findFirst_98 : decode cX5_findFirst 98 = .ok (.iload 5, 2) := dk_21 5 (dk_at dksX5_findFirst_4 5 rfl rfl)
theorem dX5_findFirst_100 : decode cX5_findFirst 100 = .ok (.iastore, 1) := dk_79 (dk_at dksX5_findFirst_4 7 rfl rfl)
theorem dX5_findFirst_101 : decode cX5_findFirst 101 = .ok (.goto (-73), 3) := dk_167 255 183 (dk_at dksX5_findFirst_4 8 rfl rfl)
theorem dX5_findFirst_104 : decode cX5_findFirst 104 = .ok (.goto (-102), 3) := dk_167 255 154 (dk_at dksX5_findFirst_4 11 rfl rfl)
theorem dX5_findFirst_107 : decode cX5_findFirst 107 = .ok (.return_, 1) := dk_177 (dk_at dksX5_findFirst_4 14 rfl rfl)
abbrev cX5_firstFrom : ByteArray := prog_9_method_5_code
def yX5_firstFrom : MethodName := ⟨RX5, "firstFrom", "(LSelahGenerator$Rule;I)I"⟩
def dkwX5_firstFrom_2 : List UInt8 := [167, 255, 213, 29, 172]
abbrev dktX5_firstFrom_2 : List UInt8 := dkwX5_firstFrom_2 ++ []
def dkwX5_firstFrom_1 : List UInt8 := [182, 0, 104, 128, 62, 42, 43, 180, 0, 94, 21, 4, 46, 182, 0, 108, 154, 0, 5, 29, 172, 132, 4, 1]
abbrev dktX5_firstFrom_1 : List UInt8 := dkwX5_firstFrom_1 ++ dktX5_firstFrom_2
def dkwX5_firstFrom_0 : List UInt8 := [3, 62, 28, 54, 4, 21, 4, 43, 180, 0, 94, 190, 162, 0, 39, 29, 42, 43, 180, 0, 94, 21, 4, 46]
abbrev dktX5_firstFrom_0 : List UInt8 := dkwX5_firstFrom_0 ++ dktX5_firstFrom_1
theorem dksX5_firstFrom_0 : cX5_firstFrom.data.toList.drop 0 = dktX5_firstFrom_0 := by decide +kernel
theorem dksX5_firstFrom_1 : cX5_firstFrom.data.toList.drop 24 = dktX5_firstFrom_1 := dk_seg dksX5_firstFrom_0 24 rfl rfl
theorem dksX5_firstFrom_2 : cX5_firstFrom.data.toList.drop 48 = dktX5_firstFrom_2 := dk_seg dksX5_firstFrom_1 24 rfl rfl
theorem dX5_firstFrom_0 : decode cX5_firstFrom 0 = .ok (.iconst 0, 1) := dk_3 (dk_at dksX5_firstFrom_0 0 rfl rfl)
theorem dX5_firstFrom_1 : decode cX5_firstFrom 1 = .ok (.istore_n 3, 1) := dk_62 (dk_at dksX5_firstFrom_0 1 rfl rfl)
theorem dX5_firstFrom_2 : decode cX5_firstFrom 2 = .ok (.iload_n 2, 1) := dk_28 (dk_at dksX5_firstFrom_0 2 rfl rfl)
theorem dX5_firstFrom_3 : decode cX5_firstFrom 3 = .ok (.istore 4, 2) := dk_54 4 (dk_at dksX5_firstFrom_0 3 rfl rfl)
theorem dX5_firstFrom_5 : decode cX5_firstFrom 5 = .ok (.iload 4, 2) := dk_21 4 (dk_at dksX5_firstFrom_0 5 rfl rfl)
theorem dX5_firstFrom_7 : decode cX5_firstFrom 7 = .ok (.aload_n 1, 1) := dk_43 (dk_at dksX5_firstFrom_0 7 rfl rfl)
theorem dX5_firstFrom_8 : decode cX5_firstFrom 8 = .ok (.getfield 94, 3) := dk_180 0 94 (dk_at dksX5_firstFrom_0 8 rfl rfl)
theorem dX5_firstFrom_11 : decode cX5_firstFrom 11 = .ok (.arraylength, 1) := dk_190 (dk_at dksX5_firstFrom_0 11 rfl rfl)
theorem dX5_firstFrom_12 : decode cX5_firstFrom 12 = .ok (.if_icmp .ge 39, 3) := dk_162 0 39 (dk_at dksX5_firstFrom_0 12 rfl rfl)
theorem dX5_firstFrom_15 : decode cX5_firstFrom 15 = .ok (.iload_n 3, 1) := dk_29 (dk_at dksX5_firstFrom_0 15 rfl rfl)
theorem dX5_firstFrom_16 : decode cX5_firstFrom 16 = .ok (.aload_n 0, 1) := dk_42 (dk_at dksX5_firstFrom_0 16 rfl rfl)
theorem dX5_firstFrom_17 : decode cX5_firstFrom 17 = .ok (.aload_n 1, 1) := dk_43 (dk_at dksX5_firstFrom_0 17 rfl rfl)
theorem dX5_firstFrom_18 : decode cX5_firstFrom 18 = .ok (.getfield 94, 3) := dk_180 0 94 (dk_at dksX5_firstFrom_0 18 rfl rfl)
theorem dX5_firstFrom_21 : decode cX5_firstFrom 21 = .ok (.iload 4, 2) := dk_21 4 (dk_at dksX5_firstFrom_0 21 rfl rfl)
theorem dX5_firstFrom_23 : decode cX5_firstFrom 23 = .ok (.iaload, 1) := dk_46 (dk_at dksX5_firstFrom_0 23 rfl rfl)
theorem dX5_firstFrom_24 : decode cX5_firstFrom 24 = .ok (.invokevirtual 104, 3) := dk_182 0 104 (dk_at dksX5_firstFrom_1 0 rfl rfl)
theorem dX5_firstFrom_27 : decode cX5_firstFrom 27 = .ok (.ior, 1) := dk_128 (dk_at dksX5_firstFrom_1 3 rfl rfl)
theorem dX5_firstFrom_28 : decode cX5_firstFrom 28 = .ok (.istore_n 3, 1) := dk_62 (dk_at dksX5_firstFrom_1 4 rfl rfl)
theorem dX5_firstFrom_29 : decode cX5_firstFrom 29 = .ok (.aload_n 0, 1) := dk_42 (dk_at dksX5_firstFrom_1 5 rfl rfl)
theorem dX5_firstFrom_30 : decode cX5_firstFrom 30 = .ok (.aload_n 1, 1) := dk_43 (dk_at dksX5_firstFrom_1 6 rfl rfl)
theorem dX5_firstFrom_31 : decode cX5_firstFrom 31 = .ok (.getfield 94, 3) := dk_180 0 94 (dk_at dksX5_firstFrom_1 7 rfl rfl)
theorem dX5_firstFrom_34 : decode cX5_firstFrom 34 = .ok (.iload 4, 2) := dk_21 4 (dk_at dksX5_firstFrom_1 10 rfl rfl)
theorem dX5_firstFrom_36 : decode cX5_firstFrom 36 = .ok (.iaload, 1) := dk_46 (dk_at dksX5_firstFrom_1 12 rfl rfl)
theorem dX5_firstFrom_37 : decode cX5_firstFrom 37 = .ok (.invokevirtual 108, 3) := dk_182 0 108 (dk_at dksX5_firstFrom_1 13 rfl rfl)
theorem dX5_firstFrom_40 : decode cX5_firstFrom 40 = .ok (.ifCond .ne 5, 3) := dk_154 0 5 (dk_at dksX5_firstFrom_1 16 rfl rfl)
theorem dX5_firstFrom_43 : decode cX5_firstFrom 43 = .ok (.iload_n 3, 1) := dk_29 (dk_at dksX5_firstFrom_1 19 rfl rfl)
theorem dX5_firstFrom_44 : decode cX5_firstFrom 44 = .ok (.ireturn, 1) := dk_172 (dk_at dksX5_firstFrom_1 20 rfl rfl)
theorem dX5_firstFrom_45 : decode cX5_firstFrom 45 = .ok (.iinc 4 1, 3) := dk_132 4 1 (dk_at dksX5_firstFrom_1 21 rfl rfl)
theorem dX5_firstFrom_48 : decode cX5_firstFrom 48 = .ok (.goto (-43), 3) := dk_167 255 213 (dk_at dksX5_firstFrom_2 0 rfl rfl)
theorem dX5_firstFrom_51 : decode cX5_firstFrom 51 = .ok (.iload_n 3, 1) := dk_29 (dk_at dksX5_firstFrom_2 3 rfl rfl)
theorem dX5_firstFrom_52 : decode cX5_firstFrom 52 = .ok (.ireturn, 1) := dk_172 (dk_at dksX5_firstFrom_2 4 rfl rfl)
abbrev cX5_firstOf : ByteArray := prog_9_method_4_code
def yX5_firstOf : MethodName := ⟨RX5, "firstOf", "(I)I"⟩
def dkwX5_firstOf_0 : List UInt8 := [27, 184, 0, 70, 153, 0, 15, 42, 180, 0, 9, 27, 16, 20, 100, 46, 167, 0, 6, 4, 27, 120, 172]
abbrev dktX5_firstOf_0 : List UInt8 := dkwX5_firstOf_0 ++ []
theorem dksX5_firstOf_0 : cX5_firstOf.data.toList.drop 0 = dktX5_firstOf_0 := by decide +kernel
theorem dX5_firstOf_0 : decode cX5_firstOf 0 = .ok (.iload_n 1, 1) := dk_27 (dk_at dksX5_firstOf_0 0 rfl rfl)
theorem dX5_firstOf_1 : decode cX5_firstOf 1 = .ok (.invokestatic 70, 3) := dk_184 0 70 (dk_at dksX5_firstOf_0 1 rfl rfl)
theorem dX5_firstOf_4 : decode cX5_firstOf 4 = .ok (.ifCond .eq 15, 3) := dk_153 0 15 (dk_at dksX5_firstOf_0 4 rfl rfl)
theorem dX5_firstOf_7 : decode cX5_firstOf 7 = .ok (.aload_n 0, 1) := dk_42 (dk_at dksX5_firstOf_0 7 rfl rfl)
theorem dX5_firstOf_8 : decode cX5_firstOf 8 = .ok (.getfield 9, 3) := dk_180 0 9 (dk_at dksX5_firstOf_0 8 rfl rfl)
theorem dX5_firstOf_11 : decode cX5_firstOf 11 = .ok (.iload_n 1, 1) := dk_27 (dk_at dksX5_firstOf_0 11 rfl rfl)
theorem dX5_firstOf_12 : decode cX5_firstOf 12 = .ok (.bipush 20, 2) := dk_16 20 (dk_at dksX5_firstOf_0 12 rfl rfl)
theorem dX5_firstOf_14 : decode cX5_firstOf 14 = .ok (.isub, 1) := dk_100 (dk_at dksX5_firstOf_0 14 rfl rfl)
theorem dX5_firstOf_15 : decode cX5_firstOf 15 = .ok (.iaload, 1) := dk_46 (dk_at dksX5_firstOf_0 15 rfl rfl)
theorem dX5_firstOf_16 : decode cX5_firstOf 16 = .ok (.goto 6, 3) := dk_167 0 6 (dk_at dksX5_firstOf_0 16 rfl rfl)
theorem dX5_firstOf_19 : decode cX5_firstOf 19 = .ok (.iconst 1, 1) := dk_4 (dk_at dksX5_firstOf_0 19 rfl rfl)
theorem dX5_firstOf_20 : decode cX5_firstOf 20 = .ok (.iload_n 1, 1) := dk_27 (dk_at dksX5_firstOf_0 20 rfl rfl)
theorem dX5_firstOf_21 : decode cX5_firstOf 21 = .ok (.ishl, 1) := dk_120 (dk_at dksX5_firstOf_0 21 rfl rfl)
theorem dX5_firstOf_22 : decode cX5_firstOf 22 = .ok (.ireturn, 1) := dk_172 (dk_at dksX5_firstOf_0 22 rfl rfl)
abbrev cX5_findFollow : ByteArray := prog_9_method_7_code
def yX5_findFollow : MethodName := ⟨RX5, "findFollow", "()V"⟩
def dkwX5_findFollow_5 : List UInt8 := [3, 60, 167, 255, 149, 177]
abbrev dktX5_findFollow_5 : List UInt8 := dkwX5_findFollow_5 ++ []
def dkwX5_findFollow_4 : List UInt8 := [132, 5, 1, 167, 255, 220, 167, 255, 194, 44, 42, 180, 0, 15, 184, 0, 126, 154, 0, 7, 4, 167, 0, 4]
abbrev dktX5_findFollow_4 : List UInt8 := dkwX5_findFollow_4 ++ dktX5_findFollow_5
def dkwX5_findFollow_3 : List UInt8 := [25, 4, 180, 0, 94, 21, 5, 46, 184, 0, 70, 153, 0, 11, 42, 25, 4, 21, 5, 182, 0, 122]
abbrev dktX5_findFollow_3 : List UInt8 := dkwX5_findFollow_3 ++ dktX5_findFollow_4
def dkwX5_findFollow_2 : List UInt8 := [185, 0, 88, 1, 0, 192, 0, 92, 58, 4, 3, 54, 5, 21, 5, 25, 4, 180, 0, 94, 190, 162, 0, 31]
abbrev dktX5_findFollow_2 : List UInt8 := dkwX5_findFollow_2 ++ dktX5_findFollow_3
def dkwX5_findFollow_1 : List UInt8 := [192, 0, 119, 77, 42, 180, 0, 39, 185, 0, 78, 1, 0, 78, 45, 185, 0, 82, 1, 0, 153, 0, 59, 45]
abbrev dktX5_findFollow_1 : List UInt8 := dkwX5_findFollow_1 ++ dktX5_findFollow_2
def dkwX5_findFollow_0 : List UInt8 := [42, 180, 0, 15, 3, 17, 16, 0, 79, 4, 60, 27, 153, 0, 109, 42, 180, 0, 15, 182, 0, 118]
abbrev dktX5_findFollow_0 : List UInt8 := dkwX5_findFollow_0 ++ dktX5_findFollow_1
theorem dksX5_findFollow_0 : cX5_findFollow.data.toList.drop 0 = dktX5_findFollow_0 := by decide +kernel
theorem dksX5_findFollow_1 : cX5_findFollow.data.toList.drop 22 = dktX5_findFollow_1 := dk_seg dksX5_findFollow_0 22 rfl rfl
theorem dksX5_findFollow_2 : cX5_findFollow.data.toList.drop 46 = dktX5_findFollow_2 := dk_seg dksX5_findFollow_1 24 rfl rfl
theorem dksX5_findFollow_3 : cX5_findFollow.data.toList.drop 70 = dktX5_findFollow_3 := dk_seg dksX5_findFollow_2 24 rfl rfl
theorem dksX5_findFollow_4 : cX5_findFollow.data.toList.drop 92 = dktX5_findFollow_4 := dk_seg dksX5_findFollow_3 22 rfl rfl
theorem dksX5_findFollow_5 : cX5_findFollow.data.toList.drop 116 = dktX5_findFollow_5 := dk_seg dksX5_findFollow_4 24 rfl rfl
theorem dX5_findFollow_0 : decode cX5_findFollow 0 = .ok (.aload_n 0, 1) := dk_42 (dk_at dksX5_findFollow_0 0 rfl rfl)
theorem dX5_findFollow_1 : decode cX5_findFollow 1 = .ok (.getfield 15, 3) := dk_180 0 15 (dk_at dksX5_findFollow_0 1 rfl rfl)
theorem dX5_findFollow_4 : decode cX5_findFollow 4 = .ok (.iconst 0, 1) := dk_3 (dk_at dksX5_findFollow_0 4 rfl rfl)
theorem dX5_findFollow_5 : decode cX5_findFollow 5 = .ok (.sipush 4096, 3) := dk_17 16 0 (dk_at dksX5_findFollow_0 5 rfl rfl)
theorem dX5_findFollow_8 : decode cX5_findFollow 8 = .ok (.iastore, 1) := dk_79 (dk_at dksX5_findFollow_0 8 rfl rfl)
theorem dX5_findFollow_9 : decode cX5_findFollow 9 = .ok (.iconst 1, 1) := dk_4 (dk_at dksX5_findFollow_0 9 rfl rfl)
theorem dX5_findFollow_10 : decode cX5_findFollow 10 = .ok (.istore_n 1, 1) := dk_60 (dk_at dksX5_findFollow_0 10 rfl rfl)
theorem dX5_findFollow_11 : decode cX5_findFollow 11 = .ok (.iload_n 1, 1) := dk_27 (dk_at dksX5_findFollow_0 11 rfl rfl)
theorem dX5_findFollow_12 : decode cX5_findFollow 12 = .ok (.ifCond .eq 109, 3) := dk_153 0 109 (dk_at dksX5_findFollow_0 12 rfl rfl)
theorem dX5_findFollow_15 : decode cX5_findFollow 15 = .ok (.aload_n 0, 1) := dk_42 (dk_at dksX5_findFollow_0 15 rfl rfl)
theorem dX5_findFollow_16 : decode cX5_findFollow 16 = .ok (.getfield 15, 3) := dk_180 0 15 (dk_at dksX5_findFollow_0 16 rfl rfl)
theorem dX5_findFollow_19 : decode cX5_findFollow 19 = .ok (.invokevirtual 118, 3) := dk_182 0 118 (dk_at dksX5_findFollow_0 19 rfl rfl)
theorem dX5_findFollow_22 : decode cX5_findFollow 22 = .ok (.checkcast 119, 3) := dk_192 0 119 (dk_at dksX5_findFollow_1 0 rfl rfl)
theorem dX5_findFollow_25 : decode cX5_findFollow 25 = .ok (.astore_n 2, 1) := dk_77 (dk_at dksX5_findFollow_1 3 rfl rfl)
theorem dX5_findFollow_26 : decode cX5_findFollow 26 = .ok (.aload_n 0, 1) := dk_42 (dk_at dksX5_findFollow_1 4 rfl rfl)
theorem dX5_findFollow_27 : decode cX5_findFollow 27 = .ok (.getfield 39, 3) := dk_180 0 39 (dk_at dksX5_findFollow_1 5 rfl rfl)
theorem dX5_findFollow_30 : decode cX5_findFollow 30 = .ok (.invokeinterface 78 1, 5) := by decide +kernel
theorem dX5_findFollow_35 : decode cX5_findFollow 35 = .ok (.astore_n 3, 1) := dk_78 (dk_at dksX5_findFollow_1 13 rfl rfl)
theorem dX5_findFollow_36 : decode cX5_findFollow 36 = .ok (.aload_n 3, 1) := dk_45 (dk_at dksX5_findFollow_1 14 rfl rfl)
theorem dX5_findFollow_37 : decode cX5_findFollow 37 = .ok (.invokeinterface 82 1, 5) := by decide +kernel
theorem dX5_findFollow_42 : decode cX5_findFollow 42 = .ok (.ifCond .eq 59, 3) := dk_153 0 59 (dk_at dksX5_findFollow_1 20 rfl rfl)
theorem dX5_findFollow_45 : decode cX5_findFollow 45 = .ok (.aload_n 3, 1) := dk_45 (dk_at dksX5_findFollow_1 23 rfl rfl)
theorem dX5_findFollow_46 : decode cX5_findFollow 46 = .ok (.invokeinterface 88 1, 5) := by decide +kernel
theorem dX5_findFollow_51 : decode cX5_findFollow 51 = .ok (.checkcast 92, 3) := dk_192 0 92 (dk_at dksX5_findFollow_2 5 rfl rfl)
theorem dX5_findFollow_54 : decode cX5_findFollow 54 = .ok (.astore 4, 2) := dk_58 4 (dk_at dksX5_findFollow_2 8 rfl rfl)
theorem dX5_findFollow_56 : decode cX5_findFollow 56 = .ok (.iconst 0, 1) := dk_3 (dk_at dksX5_findFollow_2 10 rfl rfl)
theorem dX5_findFollow_57 : decode cX5_findFollow 57 = .ok (.istore 5, 2) := dk_54 5 (dk_at dksX5_findFollow_2 11 rfl rfl)
theorem dX5_findFollow_59 : decode cX5_findFollow 59 = .ok (.iload 5, 2) := dk_21 5 (dk_at dksX5_findFollow_2 13 rfl rfl)
theorem dX5_findFollow_61 : decode cX5_findFollow 61 = .ok (.aload 4, 2) := dk_25 4 (dk_at dksX5_findFollow_2 15 rfl rfl)
theorem dX5_findFollow_63 : decode cX5_findFollow 63 = .ok (.getfield 94, 3) := dk_180 0 94 (dk_at dksX5_findFollow_2 17 rfl rfl)
theorem dX5_findFollow_66 : decode cX5_findFollow 66 = .ok (.arraylength, 1) := dk_190 (dk_at dksX5_findFollow_2 20 rfl rfl)
theorem dX5_findFollow_67 : decode cX5_findFollow 67 = .ok (.if_icmp .ge 31, 3) := dk_162 0 31 (dk_at dksX5_findFollow_2 21 rfl rfl)
theorem dX5_findFollow_70 : decode cX5_findFollow 70 = .ok (.aload 4, 2) := dk_25 4 (dk_at dksX5_findFollow_3 0 rfl rfl)
theorem dX5_findFollow_72 : decode cX5_findFollow 72 = .ok (.getfield 94, 3) := dk_180 0 94 (dk_at dksX5_findFollow_3 2 rfl rfl)
theorem dX5_findFollow_75 : decode cX5_findFollow 75 = .ok (.iload 5, 2) := dk_21 5 (dk_at dksX5_findFollow_3 5 rfl rfl)
theorem dX5_findFollow_77 : decode cX5_findFollow 77 = .ok (.iaload, 1) := dk_46 (dk_at dksX5_findFollow_3 7 rfl rfl)
theorem dX5_findFollow_78 : decode cX5_findFollow 78 = .ok (.invokestatic 70, 3) := dk_184 0 70 (dk_at dksX5_findFollow_3 8 rfl rfl)
theorem dX5_findFollow_81 : decode cX5_findFollow 81 = .ok (.ifCond .eq 11, 3) := dk_153 0 11 (dk_at dksX5_findFollow_3 11 rfl rfl)
theorem dX5_findFollow_84 : decode cX5_findFollow 84 = .ok (.aload_n 0, 1) := dk_42 (dk_at dksX5_findFollow_3 14 rfl rfl)
theorem dX5_findFollow_85 : decode cX5_findFollow 85 = .ok (.aload 4, 2) := dk_25 4 (dk_at dksX5_findFollow_3 15 rfl rfl)
theorem dX5_findFollow_87 : decode cX5_findFollow 87 = .ok (.iload 5, 2) := dk_21 5 (dk_at dksX5_findFollow_3 17 rfl rfl)
theorem dX5_findFollow_89 : decode cX5_findFollow 89 = .ok (.invokevirtual 122, 3) := dk_182 0 122 (dk_at dksX5_findFollow_3 19 rfl rfl)
theorem dX5_findFollow_92 : decode cX5_findFollow 92 = .ok (.iinc 5 1, 3) := dk_132 5 1 (dk_at dksX5_findFollow_4 0 rfl rfl)
theorem dX5_findFollow_95 : decode cX5_findFollow 95 = .ok (.goto (-36), 3) := dk_167 255 220 (dk_at dksX5_findFollow_4 3 rfl rfl)
theorem dX5_findFollow_98 : decode cX5_findFollow 98 = .ok (.goto (-62), 3) := dk_167 255 194 (dk_at dksX5_findFollow_4 6 rfl rfl)
theorem dX5_findFollow_101 : decode cX5_findFollow 101 = .ok (.aload_n 2, 1) := dk_44 (dk_at dksX5_findFollow_4 9 rfl rfl)
theorem dX5_findFollow_102 : decode cX5_findFollow 102 = .ok (.aload_n 0, 1) := dk_42 (dk_at dksX5_findFollow_4 10 rfl rfl)
theorem dX5_findFollow_103 : decode cX5_findFollow 103 = .ok (.getfield 15, 3) := dk_180 0 15 (dk_at dksX5_findFollow_4 11 rfl rfl)
theorem dX5_findFollow_106 : decode cX5_findFollow 106 = .ok (.invokestatic 126, 3) := dk_184 0 126 (dk_at dksX5_findFollow_4 14 rfl rfl)
theorem dX5_findFollow_109 : decode cX5_findFollow 109 = .ok (.ifCond .ne 7, 3) := dk_154 0 7 (dk_at dksX5_findFollow_4 17 rfl rfl)
theorem dX5_findFollow_112 : decode cX5_findFollow 112 = .ok (.iconst 1, 1) := dk_4 (dk_at dksX5_findFollow_4 20 rfl rfl)
theorem dX5_findFollow_113 : decode cX5_findFollow 113 = .ok (.goto 4, 3) := dk_167 0 4 (dk_at dksX5_findFollow_4 21 rfl rfl)
theorem dX5_findFollow_116 : decode cX5_findFollow 116 = .ok (.iconst 0, 1) := dk_3 (dk_at dksX5_findFollow_5 0 rfl rfl)
theorem dX5_findFollow_117 : decode cX5_findFollow 117 = .ok (.istore_n 1, 1) := dk_60 (dk_at dksX5_findFollow_5 1 rfl rfl)
theorem dX5_findFollow_118 : decode cX5_findFollow 118 = .ok (.goto (-107), 3) := dk_167 255 149 (dk_at dksX5_findFollow_5 2 rfl rfl)
theorem dX5_findFollow_121 : decode cX5_findFollow 121 = .ok (.return_, 1) := dk_177 (dk_at dksX5_findFollow_5 5 rfl rfl)
abbrev cX5_followIn : ByteArray := prog_9_method_8_code
def yX5_followIn : MethodName := ⟨RX5, "followIn", "(LSelahGenerator$Rule;I)V"⟩
def dkwX5_followIn_2 : List UInt8 := [180, 0, 15, 43, 180, 0, 94, 28, 46, 16, 20, 100, 92, 46, 29, 128, 79, 177]
abbrev dktX5_followIn_2 : List UInt8 := dkwX5_followIn_2 ++ []
def dkwX5_followIn_1 : List UInt8 := [182, 0, 97, 153, 0, 18, 29, 42, 180, 0, 15, 43, 180, 0, 101, 16, 20, 100, 46, 128, 62, 42]
abbrev dktX5_followIn_1 : List UInt8 := dkwX5_followIn_1 ++ dktX5_followIn_2
def dkwX5_followIn_0 : List UInt8 := [42, 43, 28, 4, 96, 182, 0, 114, 62, 43, 28, 4, 96, 43, 180, 0, 94, 190, 42, 180, 0, 35]
abbrev dktX5_followIn_0 : List UInt8 := dkwX5_followIn_0 ++ dktX5_followIn_1
theorem dksX5_followIn_0 : cX5_followIn.data.toList.drop 0 = dktX5_followIn_0 := by decide +kernel
theorem dksX5_followIn_1 : cX5_followIn.data.toList.drop 22 = dktX5_followIn_1 := dk_seg dksX5_followIn_0 22 rfl rfl
theorem dksX5_followIn_2 : cX5_followIn.data.toList.drop 44 = dktX5_followIn_2 := dk_seg dksX5_followIn_1 22 rfl rfl
theorem dX5_followIn_0 : decode cX5_followIn 0 = .ok (.aload_n 0, 1) := dk_42 (dk_at dksX5_followIn_0 0 rfl rfl)
theorem dX5_followIn_1 : decode cX5_followIn 1 = .ok (.aload_n 1, 1) := dk_43 (dk_at dksX5_followIn_0 1 rfl rfl)
theorem dX5_followIn_2 : decode cX5_followIn 2 = .ok (.iload_n 2, 1) := dk_28 (dk_at dksX5_followIn_0 2 rfl rfl)
theorem dX5_followIn_3 : decode cX5_followIn 3 = .ok (.iconst 1, 1) := dk_4 (dk_at dksX5_followIn_0 3 rfl rfl)
theorem dX5_followIn_4 : decode cX5_followIn 4 = .ok (.iadd, 1) := dk_96 (dk_at dksX5_followIn_0 4 rfl rfl)
theorem dX5_followIn_5 : decode cX5_followIn 5 = .ok (.invokevirtual 114, 3) := dk_182 0 114 (dk_at dksX5_followIn_0 5 rfl rfl)
theorem dX5_followIn_8 : decode cX5_followIn 8 = .ok (.istore_n 3, 1) := dk_62 (dk_at dksX5_followIn_0 8 rfl rfl)
theorem dX5_followIn_9 : decode cX5_followIn 9 = .ok (.aload_n 1, 1) := dk_43 (dk_at dksX5_followIn_0 9 rfl rfl)
theorem dX5_followIn_10 : decode cX5_followIn 10 = .ok (.iload_n 2, 1) := dk_28 (dk_at dksX5_followIn_0 10 rfl rfl)
theorem dX5_followIn_11 : decode cX5_followIn 11 = .ok (.iconst 1, 1) := dk_4 (dk_at dksX5_followIn_0 11 rfl rfl)
theorem dX5_followIn_12 : decode cX5_followIn 12 = .ok (.iadd, 1) := dk_96 (dk_at dksX5_followIn_0 12 rfl rfl)
theorem dX5_followIn_13 : decode cX5_followIn 13 = .ok (.aload_n 1, 1) := dk_43 (dk_at dksX5_followIn_0 13 rfl rfl)
theorem dX5_followIn_14 : decode cX5_followIn 14 = .ok (.getfield 94, 3) := dk_180 0 94 (dk_at dksX5_followIn_0 14 rfl rfl)
theorem dX5_followIn_17 : decode cX5_followIn 17 = .ok (.arraylength, 1) := dk_190 (dk_at dksX5_followIn_0 17 rfl rfl)
theorem dX5_followIn_18 : decode cX5_followIn 18 = .ok (.aload_n 0, 1) := dk_42 (dk_at dksX5_followIn_0 18 rfl rfl)
theorem dX5_followIn_19 : decode cX5_followIn 19 = .ok (.getfield 35, 3) := dk_180 0 35 (dk_at dksX5_followIn_0 19 rfl rfl)
theorem dX5_followIn_22 : decode cX5_followIn 22 = .ok (.invokevirtual 97, 3) := dk_182 0 97 (dk_at dksX5_followIn_1 0 rfl rfl)
theorem dX5_followIn_25 : decode cX5_followIn 25 = .ok (.ifCond .eq 18, 3) := dk_153 0 18 (dk_at dksX5_followIn_1 3 rfl rfl)
theorem dX5_followIn_28 : decode cX5_followIn 28 = .ok (.iload_n 3, 1) := dk_29 (dk_at dksX5_followIn_1 6 rfl rfl)
theorem dX5_followIn_29 : decode cX5_followIn 29 = .ok (.aload_n 0, 1) := dk_42 (dk_at dksX5_followIn_1 7 rfl rfl)
theorem dX5_followIn_30 : decode cX5_followIn 30 = .ok (.getfield 15, 3) := dk_180 0 15 (dk_at dksX5_followIn_1 8 rfl rfl)
theorem dX5_followIn_33 : decode cX5_followIn 33 = .ok (.aload_n 1, 1) := dk_43 (dk_at dksX5_followIn_1 11 rfl rfl)
theorem dX5_followIn_34 : decode cX5_followIn 34 = .ok (.getfield 101, 3) := dk_180 0 101 (dk_at dksX5_followIn_1 12 rfl rfl)
theorem dX5_followIn_37 : decode cX5_followIn 37 = .ok (.bipush 20, 2) := dk_16 20 (dk_at dksX5_followIn_1 15 rfl rfl)
theorem dX5_followIn_39 : decode cX5_followIn 39 = .ok (.isub, 1) := dk_100 (dk_at dksX5_followIn_1 17 rfl rfl)
theorem dX5_followIn_40 : decode cX5_followIn 40 = .ok (.iaload, 1) := dk_46 (dk_at dksX5_followIn_1 18 rfl rfl)
theorem dX5_followIn_41 : decode cX5_followIn 41 = .ok (.ior, 1) := dk_128 (dk_at dksX5_followIn_1 19 rfl rfl)
theorem dX5_followIn_42 : decode cX5_followIn 42 = .ok (.istore_n 3, 1) := dk_62 (dk_at dksX5_followIn_1 20 rfl rfl)
theorem dX5_followIn_43 : decode cX5_followIn 43 = .ok (.aload_n 0, 1) := dk_42 (dk_at dksX5_followIn_1 21 rfl rfl)
theorem dX5_followIn_44 : decode cX5_followIn 44 = .ok (.getfield 15, 3) := dk_180 0 15 (dk_at dksX5_followIn_2 0 rfl rfl)
theorem dX5_followIn_47 : decode cX5_followIn 47 = .ok (.aload_n 1, 1) := dk_43 (dk_at dksX5_followIn_2 3 rfl rfl)
theorem dX5_followIn_48 : decode cX5_followIn 48 = .ok (.getfield 94, 3) := dk_180 0 94 (dk_at dksX5_followIn_2 4 rfl rfl)
theorem dX5_followIn_51 : decode cX5_followIn 51 = .ok (.iload_n 2, 1) := dk_28 (dk_at dksX5_followIn_2 7 rfl rfl)
theorem dX5_followIn_52 : decode cX5_followIn 52 = .ok (.iaload, 1) := dk_46 (dk_at dksX5_followIn_2 8 rfl rfl)
theorem dX5_followIn_53 : decode cX5_followIn 53 = .ok (.bipush 20, 2) := dk_16 20 (dk_at dksX5_followIn_2 9 rfl rfl)
theorem dX5_followIn_55 : decode cX5_followIn 55 = .ok (.isub, 1) := dk_100 (dk_at dksX5_followIn_2 11 rfl rfl)
theorem dX5_followIn_56 : decode cX5_followIn 56 = .ok (.dup2, 1) := dk_92 (dk_at dksX5_followIn_2 12 rfl rfl)
theorem dX5_followIn_57 : decode cX5_followIn 57 = .ok (.iaload, 1) := dk_46 (dk_at dksX5_followIn_2 13 rfl rfl)
theorem dX5_followIn_58 : decode cX5_followIn 58 = .ok (.iload_n 3, 1) := dk_29 (dk_at dksX5_followIn_2 14 rfl rfl)
theorem dX5_followIn_59 : decode cX5_followIn 59 = .ok (.ior, 1) := dk_128 (dk_at dksX5_followIn_2 15 rfl rfl)
theorem dX5_followIn_60 : decode cX5_followIn 60 = .ok (.iastore, 1) := dk_79 (dk_at dksX5_followIn_2 16 rfl rfl)
theorem dX5_followIn_61 : decode cX5_followIn 61 = .ok (.return_, 1) := dk_177 (dk_at dksX5_followIn_2 17 rfl rfl)
abbrev cX5_findShortest : ByteArray := prog_9_method_10_code
def yX5_findShortest : MethodName := ⟨RX5, "findShortest", "()V"⟩
def dkwX5_findShortest_3 : List UInt8 := [167, 255, 207, 177]
abbrev dktX5_findShortest_3 : List UInt8 := dkwX5_findShortest_3 ++ []
def dkwX5_findShortest_2 : List UInt8 := [159, 0, 6, 167, 255, 228, 42, 180, 0, 18, 44, 180, 0, 158, 44, 180, 0, 161, 79, 42, 43, 182, 0, 146]
abbrev dktX5_findShortest_2 : List UInt8 := dkwX5_findShortest_2 ++ dktX5_findShortest_3
def dkwX5_findShortest_1 : List UInt8 := [182, 0, 150, 154, 0, 48, 43, 182, 0, 153, 192, 0, 156, 77, 42, 180, 0, 18, 44, 180, 0, 158, 46, 2]
abbrev dktX5_findShortest_1 : List UInt8 := dkwX5_findShortest_1 ++ dktX5_findShortest_2
def dkwX5_findShortest_0 : List UInt8 := [42, 180, 0, 18, 2, 184, 0, 139, 187, 0, 143, 89, 183, 0, 145, 76, 42, 43, 182, 0, 146, 43]
abbrev dktX5_findShortest_0 : List UInt8 := dkwX5_findShortest_0 ++ dktX5_findShortest_1
theorem dksX5_findShortest_0 : cX5_findShortest.data.toList.drop 0 = dktX5_findShortest_0 := by decide +kernel
theorem dksX5_findShortest_1 : cX5_findShortest.data.toList.drop 22 = dktX5_findShortest_1 := dk_seg dksX5_findShortest_0 22 rfl rfl
theorem dksX5_findShortest_2 : cX5_findShortest.data.toList.drop 46 = dktX5_findShortest_2 := dk_seg dksX5_findShortest_1 24 rfl rfl
theorem dksX5_findShortest_3 : cX5_findShortest.data.toList.drop 70 = dktX5_findShortest_3 := dk_seg dksX5_findShortest_2 24 rfl rfl
theorem dX5_findShortest_0 : decode cX5_findShortest 0 = .ok (.aload_n 0, 1) := dk_42 (dk_at dksX5_findShortest_0 0 rfl rfl)
theorem dX5_findShortest_1 : decode cX5_findShortest 1 = .ok (.getfield 18, 3) := dk_180 0 18 (dk_at dksX5_findShortest_0 1 rfl rfl)
theorem dX5_findShortest_4 : decode cX5_findShortest 4 = .ok (.iconst (-1), 1) := dk_2 (dk_at dksX5_findShortest_0 4 rfl rfl)
theorem dX5_findShortest_5 : decode cX5_findShortest 5 = .ok (.invokestatic 139, 3) := dk_184 0 139 (dk_at dksX5_findShortest_0 5 rfl rfl)
theorem dX5_findShortest_8 : decode cX5_findShortest 8 = .ok (.new 143, 3) := dk_187 0 143 (dk_at dksX5_findShortest_0 8 rfl rfl)
theorem dX5_findShortest_11 : decode cX5_findShortest 11 = .ok (.dup, 1) := dk_89 (dk_at dksX5_findShortest_0 11 rfl rfl)
theorem dX5_findShortest_12 : decode cX5_findShortest 12 = .ok (.invokespecial 145, 3) := dk_183 0 145 (dk_at dksX5_findShortest_0 12 rfl rfl)
theorem dX5_findShortest_15 : decode cX5_findShortest 15 = .ok (.astore_n 1, 1) := dk_76 (dk_at dksX5_findShortest_0 15 rfl rfl)
theorem dX5_findShortest_16 : decode cX5_findShortest 16 = .ok (.aload_n 0, 1) := dk_42 (dk_at dksX5_findShortest_0 16 rfl rfl)
theorem dX5_findShortest_17 : decode cX5_findShortest 17 = .ok (.aload_n 1, 1) := dk_43 (dk_at dksX5_findShortest_0 17 rfl rfl)
theorem dX5_findShortest_18 : decode cX5_findShortest 18 = .ok (.invokevirtual 146, 3) := dk_182 0 146 (dk_at dksX5_findShortest_0 18 rfl rfl)
theorem dX5_findShortest_21 : decode cX5_findShortest 21 = .ok (.aload_n 1, 1) := dk_43 (dk_at dksX5_findShortest_0 21 rfl rfl)
theorem dX5_findShortest_22 : decode cX5_findShortest 22 = .ok (.invokevirtual 150, 3) := dk_182 0 150 (dk_at dksX5_findShortest_1 0 rfl rfl)
theorem dX5_findShortest_25 : decode cX5_findShortest 25 = .ok (.ifCond .ne 48, 3) := dk_154 0 48 (dk_at dksX5_findShortest_1 3 rfl rfl)
theorem dX5_findShortest_28 : decode cX5_findShortest 28 = .ok (.aload_n 1, 1) := dk_43 (dk_at dksX5_findShortest_1 6 rfl rfl)
theorem dX5_findShortest_29 : decode cX5_findShortest 29 = .ok (.invokevirtual 153, 3) := dk_182 0 153 (dk_at dksX5_findShortest_1 7 rfl rfl)
theorem dX5_findShortest_32 : decode cX5_findShortest 32 = .ok (.checkcast 156, 3) := dk_192 0 156 (dk_at dksX5_findShortest_1 10 rfl rfl)
theorem dX5_findShortest_35 : decode cX5_findShortest 35 = .ok (.astore_n 2, 1) := dk_77 (dk_at dksX5_findShortest_1 13 rfl rfl)
theorem dX5_findShortest_36 : decode cX5_findShortest 36 = .ok (.aload_n 0, 1) := dk_42 (dk_at dksX5_findShortest_1 14 rfl rfl)
theorem dX5_findShortest_37 : decode cX5_findShortest 37 = .ok (.getfield 18, 3) := dk_180 0 18 (dk_at dksX5_findShortest_1 15 rfl rfl)
theorem dX5_findShortest_40 : decode cX5_findShortest 40 = .ok (.aload_n 2, 1) := dk_44 (dk_at dksX5_findShortest_1 18 rfl rfl)
theorem dX5_findShortest_41 : decode cX5_findShortest 41 = .ok (.getfield 158, 3) := dk_180 0 158 (dk_at dksX5_findShortest_1 19 rfl rfl)
theorem dX5_findShortest_44 : decode cX5_findShortest 44 = .ok (.iaload, 1) := dk_46 (dk_at dksX5_findShortest_1 22 rfl rfl)
theorem dX5_findShortest_45 : decode cX5_findShortest 45 = .ok (.iconst (-1), 1) := dk_2 (dk_at dksX5_findShortest_1 23 rfl rfl)
theorem dX5_findShortest_46 : decode cX5_findShortest 46 = .ok (.if_icmp .eq 6, 3) := dk_159 0 6 (dk_at dksX5_findShortest_2 0 rfl rfl)
theorem dX5_findShortest_49 : decode cX5_findShortest 49 = .ok (.goto (-28), 3) := dk_167 255 228 (dk_at dksX5_findShortest_2 3 rfl rfl)
theorem dX5_findShortest_52 : decode cX5_findShortest 52 = .ok (.aload_n 0, 1) := dk_42 (dk_at dksX5_findShortest_2 6 rfl rfl)
theorem dX5_findShortest_53 : decode cX5_findShortest 53 = .ok (.getfield 18, 3) := dk_180 0 18 (dk_at dksX5_findShortest_2 7 rfl rfl)
theorem dX5_findShortest_56 : decode cX5_findShortest 56 = .ok (.aload_n 2, 1) := dk_44 (dk_at dksX5_findShortest_2 10 rfl rfl)
theorem dX5_findShortest_57 : decode cX5_findShortest 57 = .ok (.getfield 158, 3) := dk_180 0 158 (dk_at dksX5_findShortest_2 11 rfl rfl)
theorem dX5_findShortest_60 : decode cX5_findShortest 60 = .ok (.aload_n 2, 1) := dk_44 (dk_at dksX5_findShortest_2 14 rfl rfl)
theorem dX5_findShortest_61 : decode cX5_findShortest 61 = .ok (.getfield 161, 3) := dk_180 0 161 (dk_at dksX5_findShortest_2 15 rfl rfl)
theorem dX5_findShortest_64 : decode cX5_findShortest 64 = .ok (.iastore, 1) := dk_79 (dk_at dksX5_findShortest_2 18 rfl rfl)
theorem dX5_findShortest_65 : decode cX5_findShortest 65 = .ok (.aload_n 0, 1) := dk_42 (dk_at dksX5_findShortest_2 19 rfl rfl)
theorem dX5_findShortest_66 : decode cX5_findShortest 66 = .ok (.aload_n 1, 1) := dk_43 (dk_at dksX5_findShortest_2 20 rfl rfl)
theorem dX5_findShortest_67 : decode cX5_findShortest 67 = .ok (.invokevirtual 146, 3) := dk_182 0 146 (dk_at dksX5_findShortest_2 21 rfl rfl)
theorem dX5_findShortest_70 : decode cX5_findShortest 70 = .ok (.goto (-49), 3) := dk_167 255 207 (dk_at dksX5_findShortest_3 0 rfl rfl)
theorem dX5_findShortest_73 : decode cX5_findShortest 73 = .ok (.return_, 1) := dk_177 (dk_at dksX5_findShortest_3 3 rfl rfl)
abbrev cX5_offer : ByteArray := prog_9_method_11_code
def yX5_offer : MethodName := ⟨RX5, "offer", "(Ljava/util/PriorityQueue;)V"⟩
def dkwX5_offer_3 : List UInt8 := [21, 4, 21, 5, 183, 0, 168, 182, 0, 171, 87, 167, 255, 188, 177]
abbrev dktX5_offer_3 : List UInt8 := dkwX5_offer_3 ++ []
def dkwX5_offer_2 : List UInt8 := [54, 5, 21, 5, 2, 159, 0, 30, 42, 180, 0, 18, 21, 4, 46, 2, 160, 0, 19, 43, 187, 0, 156, 89]
abbrev dktX5_offer_2 : List UInt8 := dkwX5_offer_2 ++ dktX5_offer_3
def dkwX5_offer_1 : List UInt8 := [185, 0, 88, 1, 0, 192, 0, 92, 78, 45, 180, 0, 101, 16, 20, 100, 54, 4, 42, 45, 182, 0, 164]
abbrev dktX5_offer_1 : List UInt8 := dkwX5_offer_1 ++ dktX5_offer_2
def dkwX5_offer_0 : List UInt8 := [42, 180, 0, 39, 185, 0, 78, 1, 0, 77, 44, 185, 0, 82, 1, 0, 153, 0, 65, 44]
abbrev dktX5_offer_0 : List UInt8 := dkwX5_offer_0 ++ dktX5_offer_1
theorem dksX5_offer_0 : cX5_offer.data.toList.drop 0 = dktX5_offer_0 := by decide +kernel
theorem dksX5_offer_1 : cX5_offer.data.toList.drop 20 = dktX5_offer_1 := dk_seg dksX5_offer_0 20 rfl rfl
theorem dksX5_offer_2 : cX5_offer.data.toList.drop 43 = dktX5_offer_2 := dk_seg dksX5_offer_1 23 rfl rfl
theorem dksX5_offer_3 : cX5_offer.data.toList.drop 67 = dktX5_offer_3 := dk_seg dksX5_offer_2 24 rfl rfl
theorem dX5_offer_0 : decode cX5_offer 0 = .ok (.aload_n 0, 1) := dk_42 (dk_at dksX5_offer_0 0 rfl rfl)
theorem dX5_offer_1 : decode cX5_offer 1 = .ok (.getfield 39, 3) := dk_180 0 39 (dk_at dksX5_offer_0 1 rfl rfl)
theorem dX5_offer_4 : decode cX5_offer 4 = .ok (.invokeinterface 78 1, 5) := by decide +kernel
theorem dX5_offer_9 : decode cX5_offer 9 = .ok (.astore_n 2, 1) := dk_77 (dk_at dksX5_offer_0 9 rfl rfl)
theorem dX5_offer_10 : decode cX5_offer 10 = .ok (.aload_n 2, 1) := dk_44 (dk_at dksX5_offer_0 10 rfl rfl)
theorem dX5_offer_11 : decode cX5_offer 11 = .ok (.invokeinterface 82 1, 5) := by decide +kernel
theorem dX5_offer_16 : decode cX5_offer 16 = .ok (.ifCond .eq 65, 3) := dk_153 0 65 (dk_at dksX5_offer_0 16 rfl rfl)
theorem dX5_offer_19 : decode cX5_offer 19 = .ok (.aload_n 2, 1) := dk_44 (dk_at dksX5_offer_0 19 rfl rfl)
theorem dX5_offer_20 : decode cX5_offer 20 = .ok (.invokeinterface 88 1, 5) := by decide +kernel
theorem dX5_offer_25 : decode cX5_offer 25 = .ok (.checkcast 92, 3) := dk_192 0 92 (dk_at dksX5_offer_1 5 rfl rfl)
theorem dX5_offer_28 : decode cX5_offer 28 = .ok (.astore_n 3, 1) := dk_78 (dk_at dksX5_offer_1 8 rfl rfl)
theorem dX5_offer_29 : decode cX5_offer 29 = .ok (.aload_n 3, 1) := dk_45 (dk_at dksX5_offer_1 9 rfl rfl)
theorem dX5_offer_30 : decode cX5_offer 30 = .ok (.getfield 101, 3) := dk_180 0 101 (dk_at dksX5_offer_1 10 rfl rfl)
theorem dX5_offer_33 : decode cX5_offer 33 = .ok (.bipush 20, 2) := dk_16 20 (dk_at dksX5_offer_1 13 rfl rfl)
theorem dX5_offer_35 : decode cX5_offer 35 = .ok (.isub, 1) := dk_100 (dk_at dksX5_offer_1 15 rfl rfl)
theorem dX5_offer_36 : decode cX5_offer 36 = .ok (.istore 4, 2) := dk_54 4 (dk_at dksX5_offer_1 16 rfl rfl)
theorem dX5_offer_38 : decode cX5_offer 38 = .ok (.aload_n 0, 1) := dk_42 (dk_at dksX5_offer_1 18 rfl rfl)
theorem dX5_offer_39 : decode cX5_offer 39 = .ok (.aload_n 3, 1) := dk_45 (dk_at dksX5_offer_1 19 rfl rfl)
theorem dX5_offer_40 : decode cX5_offer 40 = .ok (.invokevirtual 164, 3) := dk_182 0 164 (dk_at dksX5_offer_1 20 rfl rfl)
theorem dX5_offer_43 : decode cX5_offer 43 = .ok (.istore 5, 2) := dk_54 5 (dk_at dksX5_offer_2 0 rfl rfl)
theorem dX5_offer_45 : decode cX5_offer 45 = .ok (.iload 5, 2) := dk_21 5 (dk_at dksX5_offer_2 2 rfl rfl)
theorem dX5_offer_47 : decode cX5_offer 47 = .ok (.iconst (-1), 1) := dk_2 (dk_at dksX5_offer_2 4 rfl rfl)
theorem dX5_offer_48 : decode cX5_offer 48 = .ok (.if_icmp .eq 30, 3) := dk_159 0 30 (dk_at dksX5_offer_2 5 rfl rfl)
theorem dX5_offer_51 : decode cX5_offer 51 = .ok (.aload_n 0, 1) := dk_42 (dk_at dksX5_offer_2 8 rfl rfl)
theorem dX5_offer_52 : decode cX5_offer 52 = .ok (.getfield 18, 3) := dk_180 0 18 (dk_at dksX5_offer_2 9 rfl rfl)
theorem dX5_offer_55 : decode cX5_offer 55 = .ok (.iload 4, 2) := dk_21 4 (dk_at dksX5_offer_2 12 rfl rfl)
theorem dX5_offer_57 : decode cX5_offer 57 = .ok (.iaload, 1) := dk_46 (dk_at dksX5_offer_2 14 rfl rfl)
theorem dX5_offer_58 : decode cX5_offer 58 = .ok (.iconst (-1), 1) := dk_2 (dk_at dksX5_offer_2 15 rfl rfl)
theorem dX5_offer_59 : decode cX5_offer 59 = .ok (.if_icmp .ne 19, 3) := dk_160 0 19 (dk_at dksX5_offer_2 16 rfl rfl)
theorem dX5_offer_62 : decode cX5_offer 62 = .ok (.aload_n 1, 1) := dk_43 (dk_at dksX5_offer_2 19 rfl rfl)
theorem dX5_offer_63 : decode cX5_offer 63 = .ok (.new 156, 3) := dk_187 0 156 (dk_at dksX5_offer_2 20 rfl rfl)
theorem dX5_offer_66 : decode cX5_offer 66 = .ok (.dup, 1) := dk_89 (dk_at dksX5_offer_2 23 rfl rfl)
theorem dX5_offer_67 : decode cX5_offer 67 = .ok (.iload 4, 2) := dk_21 4 (dk_at dksX5_offer_3 0 rfl rfl)
theorem dX5_offer_69 : decode cX5_offer 69 = .ok (.iload 5, 2) := dk_21 5 (dk_at dksX5_offer_3 2 rfl rfl)
theorem dX5_offer_71 : decode cX5_offer 71 = .ok (.invokespecial 168, 3) := dk_183 0 168 (dk_at dksX5_offer_3 4 rfl rfl)
theorem dX5_offer_74 : decode cX5_offer 74 = .ok (.invokevirtual 171, 3) := dk_182 0 171 (dk_at dksX5_offer_3 7 rfl rfl)
theorem dX5_offer_77 : decode cX5_offer 77 = .ok (.pop, 1) := dk_87 (dk_at dksX5_offer_3 10 rfl rfl)
theorem dX5_offer_78 : decode cX5_offer 78 = .ok (.goto (-68), 3) := dk_167 255 188 (dk_at dksX5_offer_3 11 rfl rfl)
theorem dX5_offer_81 : decode cX5_offer 81 = .ok (.return_, 1) := dk_177 (dk_at dksX5_offer_3 14 rfl rfl)
abbrev cX5_lengthOf : ByteArray := prog_9_method_9_code
def yX5_lengthOf : MethodName := ⟨RX5, "lengthOf", "(LSelahGenerator$Rule;)I"⟩
def dkwX5_lengthOf_3 : List UInt8 := [167, 255, 198, 28, 172]
abbrev dktX5_lengthOf_3 : List UInt8 := dkwX5_lengthOf_3 ++ []
def dkwX5_lengthOf_2 : List UInt8 := [4, 54, 7, 21, 7, 2, 160, 0, 5, 2, 172, 18, 132, 28, 21, 7, 96, 184, 0, 133, 61, 132, 5, 1]
abbrev dktX5_lengthOf_2 : List UInt8 := dkwX5_lengthOf_2 ++ dktX5_lengthOf_3
def dkwX5_lengthOf_1 : List UInt8 := [46, 54, 6, 21, 6, 184, 0, 70, 153, 0, 16, 42, 180, 0, 18, 21, 6, 16, 20, 100, 46, 167, 0, 4]
abbrev dktX5_lengthOf_1 : List UInt8 := dkwX5_lengthOf_1 ++ dktX5_lengthOf_2
def dkwX5_lengthOf_0 : List UInt8 := [3, 61, 43, 180, 0, 94, 78, 45, 190, 54, 4, 3, 54, 5, 21, 5, 21, 4, 162, 0, 57, 45, 21, 5]
abbrev dktX5_lengthOf_0 : List UInt8 := dkwX5_lengthOf_0 ++ dktX5_lengthOf_1
theorem dksX5_lengthOf_0 : cX5_lengthOf.data.toList.drop 0 = dktX5_lengthOf_0 := by decide +kernel
theorem dksX5_lengthOf_1 : cX5_lengthOf.data.toList.drop 24 = dktX5_lengthOf_1 := dk_seg dksX5_lengthOf_0 24 rfl rfl
theorem dksX5_lengthOf_2 : cX5_lengthOf.data.toList.drop 48 = dktX5_lengthOf_2 := dk_seg dksX5_lengthOf_1 24 rfl rfl
theorem dksX5_lengthOf_3 : cX5_lengthOf.data.toList.drop 72 = dktX5_lengthOf_3 := dk_seg dksX5_lengthOf_2 24 rfl rfl
theorem dX5_lengthOf_0 : decode cX5_lengthOf 0 = .ok (.iconst 0, 1) := dk_3 (dk_at dksX5_lengthOf_0 0 rfl rfl)
theorem dX5_lengthOf_1 : decode cX5_lengthOf 1 = .ok (.istore_n 2, 1) := dk_61 (dk_at dksX5_lengthOf_0 1 rfl rfl)
theorem dX5_lengthOf_2 : decode cX5_lengthOf 2 = .ok (.aload_n 1, 1) := dk_43 (dk_at dksX5_lengthOf_0 2 rfl rfl)
theorem dX5_lengthOf_3 : decode cX5_lengthOf 3 = .ok (.getfield 94, 3) := dk_180 0 94 (dk_at dksX5_lengthOf_0 3 rfl rfl)
theorem dX5_lengthOf_6 : decode cX5_lengthOf 6 = .ok (.astore_n 3, 1) := dk_78 (dk_at dksX5_lengthOf_0 6 rfl rfl)
theorem dX5_lengthOf_7 : decode cX5_lengthOf 7 = .ok (.aload_n 3, 1) := dk_45 (dk_at dksX5_lengthOf_0 7 rfl rfl)
theorem dX5_lengthOf_8 : decode cX5_lengthOf 8 = .ok (.arraylength, 1) := dk_190 (dk_at dksX5_lengthOf_0 8 rfl rfl)
theorem dX5_lengthOf_9 : decode cX5_lengthOf 9 = .ok (.istore 4, 2) := dk_54 4 (dk_at dksX5_lengthOf_0 9 rfl rfl)
theorem dX5_lengthOf_11 : decode cX5_lengthOf 11 = .ok (.iconst 0, 1) := dk_3 (dk_at dksX5_lengthOf_0 11 rfl rfl)
theorem dX5_lengthOf_12 : decode cX5_lengthOf 12 = .ok (.istore 5, 2) := dk_54 5 (dk_at dksX5_lengthOf_0 12 rfl rfl)
theorem dX5_lengthOf_14 : decode cX5_lengthOf 14 = .ok (.iload 5, 2) := dk_21 5 (dk_at dksX5_lengthOf_0 14 rfl rfl)
theorem dX5_lengthOf_16 : decode cX5_lengthOf 16 = .ok (.iload 4, 2) := dk_21 4 (dk_at dksX5_lengthOf_0 16 rfl rfl)
theorem dX5_lengthOf_18 : decode cX5_lengthOf 18 = .ok (.if_icmp .ge 57, 3) := dk_162 0 57 (dk_at dksX5_lengthOf_0 18 rfl rfl)
theorem dX5_lengthOf_21 : decode cX5_lengthOf 21 = .ok (.aload_n 3, 1) := dk_45 (dk_at dksX5_lengthOf_0 21 rfl rfl)
theorem dX5_lengthOf_22 : decode cX5_lengthOf 22 = .ok (.iload 5, 2) := dk_21 5 (dk_at dksX5_lengthOf_0 22 rfl rfl)
theorem dX5_lengthOf_24 : decode cX5_lengthOf 24 = .ok (.iaload, 1) := dk_46 (dk_at dksX5_lengthOf_1 0 rfl rfl)
theorem dX5_lengthOf_25 : decode cX5_lengthOf 25 = .ok (.istore 6, 2) := dk_54 6 (dk_at dksX5_lengthOf_1 1 rfl rfl)
theorem dX5_lengthOf_27 : decode cX5_lengthOf 27 = .ok (.iload 6, 2) := dk_21 6 (dk_at dksX5_lengthOf_1 3 rfl rfl)
theorem dX5_lengthOf_29 : decode cX5_lengthOf 29 = .ok (.invokestatic 70, 3) := dk_184 0 70 (dk_at dksX5_lengthOf_1 5 rfl rfl)
theorem dX5_lengthOf_32 : decode cX5_lengthOf 32 = .ok (.ifCond .eq 16, 3) := dk_153 0 16 (dk_at dksX5_lengthOf_1 8 rfl rfl)
theorem dX5_lengthOf_35 : decode cX5_lengthOf 35 = .ok (.aload_n 0, 1) := dk_42 (dk_at dksX5_lengthOf_1 11 rfl rfl)
theorem dX5_lengthOf_36 : decode cX5_lengthOf 36 = .ok (.getfield 18, 3) := dk_180 0 18 (dk_at dksX5_lengthOf_1 12 rfl rfl)
theorem dX5_lengthOf_39 : decode cX5_lengthOf 39 = .ok (.iload 6, 2) := dk_21 6 (dk_at dksX5_lengthOf_1 15 rfl rfl)
theorem dX5_lengthOf_41 : decode cX5_lengthOf 41 = .ok (.bipush 20, 2) := dk_16 20 (dk_at dksX5_lengthOf_1 17 rfl rfl)
theorem dX5_lengthOf_43 : decode cX5_lengthOf 43 = .ok (.isub, 1) := dk_100 (dk_at dksX5_lengthOf_1 19 rfl rfl)
theorem dX5_lengthOf_44 : decode cX5_lengthOf 44 = .ok (.iaload, 1) := dk_46 (dk_at dksX5_lengthOf_1 20 rfl rfl)
theorem dX5_lengthOf_45 : decode cX5_lengthOf 45 = .ok (.goto 4, 3) := dk_167 0 4 (dk_at dksX5_lengthOf_1 21 rfl rfl)
theorem dX5_lengthOf_48 : decode cX5_lengthOf 48 = .ok (.iconst 1, 1) := dk_4 (dk_at dksX5_lengthOf_2 0 rfl rfl)
theorem dX5_lengthOf_49 : decode cX5_lengthOf 49 = .ok (.istore 7, 2) := dk_54 7 (dk_at dksX5_lengthOf_2 1 rfl rfl)
theorem dX5_lengthOf_51 : decode cX5_lengthOf 51 = .ok (.iload 7, 2) := dk_21 7 (dk_at dksX5_lengthOf_2 3 rfl rfl)
theorem dX5_lengthOf_53 : decode cX5_lengthOf 53 = .ok (.iconst (-1), 1) := dk_2 (dk_at dksX5_lengthOf_2 5 rfl rfl)
theorem dX5_lengthOf_54 : decode cX5_lengthOf 54 = .ok (.if_icmp .ne 5, 3) := dk_160 0 5 (dk_at dksX5_lengthOf_2 6 rfl rfl)
theorem dX5_lengthOf_57 : decode cX5_lengthOf 57 = .ok (.iconst (-1), 1) := dk_2 (dk_at dksX5_lengthOf_2 9 rfl rfl)
theorem dX5_lengthOf_58 : decode cX5_lengthOf 58 = .ok (.ireturn, 1) := dk_172 (dk_at dksX5_lengthOf_2 10 rfl rfl)
theorem dX5_lengthOf_59 : decode cX5_lengthOf 59 = .ok (.ldc 132, 2) := dk_18 132 (dk_at dksX5_lengthOf_2 11 rfl rfl)
theorem dX5_lengthOf_61 : decode cX5_lengthOf 61 = .ok (.iload_n 2, 1) := dk_28 (dk_at dksX5_lengthOf_2 13 rfl rfl)
theorem dX5_lengthOf_62 : decode cX5_lengthOf 62 = .ok (.iload 7, 2) := dk_21 7 (dk_at dksX5_lengthOf_2 14 rfl rfl)
theorem dX5_lengthOf_64 : decode cX5_lengthOf 64 = .ok (.iadd, 1) := dk_96 (dk_at dksX5_lengthOf_2 16 rfl rfl)
theorem dX5_lengthOf_65 : decode cX5_lengthOf 65 = .ok (.invokestatic 133, 3) := dk_184 0 133 (dk_at dksX5_lengthOf_2 17 rfl rfl)
theorem dX5_lengthOf_68 : decode cX5_lengthOf 68 = .ok (.istore_n 2, 1) := dk_61 (dk_at dksX5_lengthOf_2 20 rfl rfl)
theorem dX5_lengthOf_69 : decode cX5_lengthOf 69 = .ok (.iinc 5 1, 3) := dk_132 5 1 (dk_at dksX5_lengthOf_2 21 rfl rfl)
theorem dX5_lengthOf_72 : decode cX5_lengthOf 72 = .ok (.goto (-58), 3) := dk_167 255 198 (dk_at dksX5_lengthOf_3 0 rfl rfl)
theorem dX5_lengthOf_75 : decode cX5_lengthOf 75 = .ok (.iload_n 2, 1) := dk_28 (dk_at dksX5_lengthOf_3 3 rfl rfl)
theorem dX5_lengthOf_76 : decode cX5_lengthOf 76 = .ok (.ireturn, 1) := dk_172 (dk_at dksX5_lengthOf_3 4 rfl rfl)
abbrev cX5_findBegins : ByteArray := prog_9_method_12_code
def yX5_findBegins : MethodName := ⟨RX5, "findBegins", "()V"⟩
def dkwX5_findBegins_6 : List UInt8 := [42, 180, 0, 21, 27, 46, 128, 79, 132, 2, 1, 167, 255, 218, 132, 1, 1, 167, 255, 204, 177]
abbrev dktX5_findBegins_6 : List UInt8 := dkwX5_findBegins_6 ++ []
def dkwX5_findBegins_5 : List UInt8 := [162, 0, 38, 42, 180, 0, 21, 28, 46, 27, 122, 4, 126, 4, 160, 0, 18, 42, 180, 0, 21, 28, 92, 46]
abbrev dktX5_findBegins_5 : List UInt8 := dkwX5_findBegins_5 ++ dktX5_findBegins_6
def dkwX5_findBegins_4 : List UInt8 := [79, 132, 3, 1, 167, 255, 193, 167, 255, 169, 3, 60, 27, 16, 12, 162, 0, 52, 3, 61, 28, 16, 12]
abbrev dktX5_findBegins_4 : List UInt8 := dkwX5_findBegins_4 ++ dktX5_findBegins_5
def dkwX5_findBegins_3 : List UInt8 := [180, 0, 21, 44, 180, 0, 101, 16, 20, 100, 92, 46, 4, 44, 180, 0, 94, 29, 46, 16, 20, 100, 120, 128]
abbrev dktX5_findBegins_3 : List UInt8 := dkwX5_findBegins_3 ++ dktX5_findBegins_4
def dkwX5_findBegins_2 : List UInt8 := [180, 0, 35, 182, 0, 97, 153, 0, 47, 44, 180, 0, 94, 29, 46, 184, 0, 70, 153, 0, 29, 42]
abbrev dktX5_findBegins_2 : List UInt8 := dkwX5_findBegins_2 ++ dktX5_findBegins_3
def dkwX5_findBegins_1 : List UInt8 := [185, 0, 88, 1, 0, 192, 0, 92, 77, 3, 62, 29, 44, 180, 0, 94, 190, 162, 0, 60, 44, 3, 29, 42]
abbrev dktX5_findBegins_1 : List UInt8 := dkwX5_findBegins_1 ++ dktX5_findBegins_2
def dkwX5_findBegins_0 : List UInt8 := [42, 180, 0, 39, 185, 0, 78, 1, 0, 76, 43, 185, 0, 82, 1, 0, 153, 0, 84, 43]
abbrev dktX5_findBegins_0 : List UInt8 := dkwX5_findBegins_0 ++ dktX5_findBegins_1
theorem dksX5_findBegins_0 : cX5_findBegins.data.toList.drop 0 = dktX5_findBegins_0 := by decide +kernel
theorem dksX5_findBegins_1 : cX5_findBegins.data.toList.drop 20 = dktX5_findBegins_1 := dk_seg dksX5_findBegins_0 20 rfl rfl
theorem dksX5_findBegins_2 : cX5_findBegins.data.toList.drop 44 = dktX5_findBegins_2 := dk_seg dksX5_findBegins_1 24 rfl rfl
theorem dksX5_findBegins_3 : cX5_findBegins.data.toList.drop 66 = dktX5_findBegins_3 := dk_seg dksX5_findBegins_2 22 rfl rfl
theorem dksX5_findBegins_4 : cX5_findBegins.data.toList.drop 90 = dktX5_findBegins_4 := dk_seg dksX5_findBegins_3 24 rfl rfl
theorem dksX5_findBegins_5 : cX5_findBegins.data.toList.drop 113 = dktX5_findBegins_5 := dk_seg dksX5_findBegins_4 23 rfl rfl
theorem dksX5_findBegins_6 : cX5_findBegins.data.toList.drop 137 = dktX5_findBegins_6 := dk_seg dksX5_findBegins_5 24 rfl rfl
theorem dX5_findBegins_0 : decode cX5_findBegins 0 = .ok (.aload_n 0, 1) := dk_42 (dk_at dksX5_findBegins_0 0 rfl rfl)
theorem dX5_findBegins_1 : decode cX5_findBegins 1 = .ok (.getfield 39, 3) := dk_180 0 39 (dk_at dksX5_findBegins_0 1 rfl rfl)
theorem dX5_findBegins_4 : decode cX5_findBegins 4 = .ok (.invokeinterface 78 1, 5) := by decide +kernel
theorem dX5_findBegins_9 : decode cX5_findBegins 9 = .ok (.astore_n 1, 1) := dk_76 (dk_at dksX5_findBegins_0 9 rfl rfl)
theorem dX5_findBegins_10 : decode cX5_findBegins 10 = .ok (.aload_n 1, 1) := dk_43 (dk_at dksX5_findBegins_0 10 rfl rfl)
theorem dX5_findBegins_11 : decode cX5_findBegins 11 = .ok (.invokeinterface 82 1, 5) := by decide +kernel
theorem dX5_findBegins_16 : decode cX5_findBegins 16 = .ok (.ifCond .eq 84, 3) := dk_153 0 84 (dk_at dksX5_findBegins_0 16 rfl rfl)
theorem dX5_findBegins_19 : decode cX5_findBegins 19 = .ok (.aload_n 1, 1) := dk_43 (dk_at dksX5_findBegins_0 19 rfl rfl)
theorem dX5_findBegins_20 : decode cX5_findBegins 20 = .ok (.invokeinterface 88 1, 5) := by decide +kernel
theorem dX5_findBegins_25 : decode cX5_findBegins 25 = .ok (.checkcast 92, 3) := dk_192 0 92 (dk_at dksX5_findBegins_1 5 rfl rfl)
theorem dX5_findBegins_28 : decode cX5_findBegins 28 = .ok (.astore_n 2, 1) := dk_77 (dk_at dksX5_findBegins_1 8 rfl rfl)
theorem dX5_findBegins_29 : decode cX5_findBegins 29 = .ok (.iconst 0, 1) := dk_3 (dk_at dksX5_findBegins_1 9 rfl rfl)
theorem dX5_findBegins_30 : decode cX5_findBegins 30 = .ok (.istore_n 3, 1) := dk_62 (dk_at dksX5_findBegins_1 10 rfl rfl)
theorem dX5_findBegins_31 : decode cX5_findBegins 31 = .ok (.iload_n 3, 1) := dk_29 (dk_at dksX5_findBegins_1 11 rfl rfl)
theorem dX5_findBegins_32 : decode cX5_findBegins 32 = .ok (.aload_n 2, 1) := dk_44 (dk_at dksX5_findBegins_1 12 rfl rfl)
theorem dX5_findBegins_33 : decode cX5_findBegins 33 = .ok (.getfield 94, 3) := dk_180 0 94 (dk_at dksX5_findBegins_1 13 rfl rfl)
theorem dX5_findBegins_36 : decode cX5_findBegins 36 = .ok (.arraylength, 1) := dk_190 (dk_at dksX5_findBegins_1 16 rfl rfl)
theorem dX5_findBegins_37 : decode cX5_findBegins 37 = .ok (.if_icmp .ge 60, 3) := dk_162 0 60 (dk_at dksX5_findBegins_1 17 rfl rfl)
theorem dX5_findBegins_40 : decode cX5_findBegins 40 = .ok (.aload_n 2, 1) := dk_44 (dk_at dksX5_findBegins_1 20 rfl rfl)
theorem dX5_findBegins_41 : decode cX5_findBegins 41 = .ok (.iconst 0, 1) := dk_3 (dk_at dksX5_findBegins_1 21 rfl rfl)
theorem dX5_findBegins_42 : decode cX5_findBegins 42 = .ok (.iload_n 3, 1) := dk_29 (dk_at dksX5_findBegins_1 22 rfl rfl)
theorem dX5_findBegins_43 : decode cX5_findBegins 43 = .ok (.aload_n 0, 1) := dk_42 (dk_at dksX5_findBegins_1 23 rfl rfl)
theorem dX5_findBegins_44 : decode cX5_findBegins 44 = .ok (.getfield 35, 3) := dk_180 0 35 (dk_at dksX5_findBegins_2 0 rfl rfl)
theorem dX5_findBegins_47 : decode cX5_findBegins 47 = .ok (.invokevirtual 97, 3) := dk_182 0 97 (dk_at dksX5_findBegins_2 3 rfl rfl)
theorem dX5_findBegins_50 : decode cX5_findBegins 50 = .ok (.ifCond .eq 47, 3) := dk_153 0 47 (dk_at dksX5_findBegins_2 6 rfl rfl)
theorem dX5_findBegins_53 : decode cX5_findBegins 53 = .ok (.aload_n 2, 1) := dk_44 (dk_at dksX5_findBegins_2 9 rfl rfl)
theorem dX5_findBegins_54 : decode cX5_findBegins 54 = .ok (.getfield 94, 3) := dk_180 0 94 (dk_at dksX5_findBegins_2 10 rfl rfl)
theorem dX5_findBegins_57 : decode cX5_findBegins 57 = .ok (.iload_n 3, 1) := dk_29 (dk_at dksX5_findBegins_2 13 rfl rfl)
theorem dX5_findBegins_58 : decode cX5_findBegins 58 = .ok (.iaload, 1) := dk_46 (dk_at dksX5_findBegins_2 14 rfl rfl)
theorem dX5_findBegins_59 : decode cX5_findBegins 59 = .ok (.invokestatic 70, 3) := dk_184 0 70 (dk_at dksX5_findBegins_2 15 rfl rfl)
theorem dX5_findBegins_62 : decode cX5_findBegins 62 = .ok (.ifCond .eq 29, 3) := dk_153 0 29 (dk_at dksX5_findBegins_2 18 rfl rfl)
theorem dX5_findBegins_65 : decode cX5_findBegins 65 = .ok (.aload_n 0, 1) := dk_42 (dk_at dksX5_findBegins_2 21 rfl rfl)
theorem dX5_findBegins_66 : decode cX5_findBegins 66 = .ok (.getfield 21, 3) := dk_180 0 21 (dk_at dksX5_findBegins_3 0 rfl rfl)
theorem dX5_findBegins_69 : decode cX5_findBegins 69 = .ok (.aload_n 2, 1) := dk_44 (dk_at dksX5_findBegins_3 3 rfl rfl)
theorem dX5_findBegins_70 : decode cX5_findBegins 70 = .ok (.getfield 101, 3) := dk_180 0 101 (dk_at dksX5_findBegins_3 4 rfl rfl)
theorem dX5_findBegins_73 : decode cX5_findBegins 73 = .ok (.bipush 20, 2) := dk_16 20 (dk_at dksX5_findBegins_3 7 rfl rfl)
theorem dX5_findBegins_75 : decode cX5_findBegins 75 = .ok (.isub, 1) := dk_100 (dk_at dksX5_findBegins_3 9 rfl rfl)
theorem dX5_findBegins_76 : decode cX5_findBegins 76 = .ok (.dup2, 1) := dk_92 (dk_at dksX5_findBegins_3 10 rfl rfl)
theorem dX5_findBegins_77 : decode cX5_findBegins 77 = .ok (.iaload, 1) := dk_46 (dk_at dksX5_findBegins_3 11 rfl rfl)
theorem dX5_findBegins_78 : decode cX5_findBegins 78 = .ok (.iconst 1, 1) := dk_4 (dk_at dksX5_findBegins_3 12 rfl rfl)
theorem dX5_findBegins_79 : decode cX5_findBegins 79 = .ok (.aload_n 2, 1) := dk_44 (dk_at dksX5_findBegins_3 13 rfl rfl)
theorem dX5_findBegins_80 : decode cX5_findBegins 80 = .ok (.getfield 94, 3) := dk_180 0 94 (dk_at dksX5_findBegins_3 14 rfl rfl)
theorem dX5_findBegins_83 : decode cX5_findBegins 83 = .ok (.iload_n 3, 1) := dk_29 (dk_at dksX5_findBegins_3 17 rfl rfl)
theorem dX5_findBegins_84 : decode cX5_findBegins 84 = .ok (.iaload, 1) := dk_46 (dk_at dksX5_findBegins_3 18 rfl rfl)
theorem dX5_findBegins_85 : decode cX5_findBegins 85 = .ok (.bipush 20, 2) := dk_16 20 (dk_at dksX5_findBegins_3 19 rfl rfl)
theorem dX5_findBegins_87 : decode cX5_findBegins 87 = .ok (.isub, 1) := dk_100 (dk_at dksX5_findBegins_3 21 rfl rfl)
theorem dX5_findBegins_88 : decode cX5_findBegins 88 = .ok (.ishl, 1) := dk_120 (dk_at dksX5_findBegins_3 22 rfl rfl)
theorem dX5_findBegins_89 : decode cX5_findBegins 89 = .ok (.ior, 1) := dk_128 (dk_at dksX5_findBegins_3 23 rfl rfl)
theorem dX5_findBegins_90 : decode cX5_findBegins 90 = .ok (.iastore, 1) := dk_79 (dk_at dksX5_findBegins_4 0 rfl rfl)
theorem dX5_findBegins_91 : decode cX5_findBegins 91 = .ok (.iinc 3 1, 3) := dk_132 3 1 (dk_at dksX5_findBegins_4 1 rfl rfl)
theorem dX5_findBegins_94 : decode cX5_findBegins 94 = .ok (.goto (-63), 3) := dk_167 255 193 (dk_at dksX5_findBegins_4 4 rfl rfl)
theorem dX5_findBegins_97 : decode cX5_findBegins 97 = .ok (.goto (-87), 3) := dk_167 255 169 (dk_at dksX5_findBegins_4 7 rfl rfl)
theorem dX5_findBegins_100 : decode cX5_findBegins 100 = .ok (.iconst 0, 1) := dk_3 (dk_at dksX5_findBegins_4 10 rfl rfl)
theorem dX5_findBegins_101 : decode cX5_findBegins 101 = .ok (.istore_n 1, 1) := dk_60 (dk_at dksX5_findBegins_4 11 rfl rfl)
theorem dX5_findBegins_102 : decode cX5_findBegins 102 = .ok (.iload_n 1, 1) := dk_27 (dk_at dksX5_findBegins_4 12 rfl rfl)
theorem dX5_findBegins_103 : decode cX5_findBegins 103 = .ok (.bipush 12, 2) := dk_16 12 (dk_at dksX5_findBegins_4 13 rfl rfl)
theorem dX5_findBegins_105 : decode cX5_findBegins 105 = .ok (.if_icmp .ge 52, 3) := dk_162 0 52 (dk_at dksX5_findBegins_4 15 rfl rfl)
theorem dX5_findBegins_108 : decode cX5_findBegins 108 = .ok (.iconst 0, 1) := dk_3 (dk_at dksX5_findBegins_4 18 rfl rfl)
theorem dX5_findBegins_109 : decode cX5_findBegins 109 = .ok (.istore_n 2, 1) := dk_61 (dk_at dksX5_findBegins_4 19 rfl rfl)
theorem dX5_findBegins_110 : decode cX5_findBegins 110 = .ok (.iload_n 2, 1) := dk_28 (dk_at dksX5_findBegins_4 20 rfl rfl)
theorem dX5_findBegins_111 : decode cX5_findBegins 111 = .ok (.bipush 12, 2) := dk_16 12 (dk_at dksX5_findBegins_4 21 rfl rfl)
theorem dX5_findBegins_113 : decode cX5_findBegins 113 = .ok (.if_icmp .ge 38, 3) := dk_162 0 38 (dk_at dksX5_findBegins_5 0 rfl rfl)
theorem dX5_findBegins_116 : decode cX5_findBegins 116 = .ok (.aload_n 0, 1) := dk_42 (dk_at dksX5_findBegins_5 3 rfl rfl)
theorem dX5_findBegins_117 : decode cX5_findBegins 117 = .ok (.getfield 21, 3) := dk_180 0 21 (dk_at dksX5_findBegins_5 4 rfl rfl)
theorem dX5_findBegins_120 : decode cX5_findBegins 120 = .ok (.iload_n 2, 1) := dk_28 (dk_at dksX5_findBegins_5 7 rfl rfl)
theorem dX5_findBegins_121 : decode cX5_findBegins 121 = .ok (.iaload, 1) := dk_46 (dk_at dksX5_findBegins_5 8 rfl rfl)
theorem dX5_findBegins_122 : decode cX5_findBegins 122 = .ok (.iload_n 1, 1) := dk_27 (dk_at dksX5_findBegins_5 9 rfl rfl)
theorem dX5_findBegins_123 : decode cX5_findBegins 123 = .ok (.ishr, 1) := dk_122 (dk_at dksX5_findBegins_5 10 rfl rfl)
theorem dX5_findBegins_124 : decode cX5_findBegins 124 = .ok (.iconst 1, 1) := dk_4 (dk_at dksX5_findBegins_5 11 rfl rfl)
theorem dX5_findBegins_125 : decode cX5_findBegins 125 = .ok (.iand, 1) := dk_126 (dk_at dksX5_findBegins_5 12 rfl rfl)
theorem dX5_findBegins_126 : decode cX5_findBegins 126 = .ok (.iconst 1, 1) := dk_4 (dk_at dksX5_findBegins_5 13 rfl rfl)
theorem dX5_findBegins_127 : decode cX5_findBegins 127 = .ok (.if_icmp .ne 18, 3) := dk_160 0 18 (dk_at dksX5_findBegins_5 14 rfl rfl)
theorem dX5_findBegins_130 : decode cX5_findBegins 130 = .ok (.aload_n 0, 1) := dk_42 (dk_at dksX5_findBegins_5 17 rfl rfl)
theorem dX5_findBegins_131 : decode cX5_findBegins 131 = .ok (.getfield 21, 3) := dk_180 0 21 (dk_at dksX5_findBegins_5 18 rfl rfl)
theorem dX5_findBegins_134 : decode cX5_findBegins 134 = .ok (.iload_n 2, 1) := dk_28 (dk_at dksX5_findBegins_5 21 rfl rfl)
theorem dX5_findBegins_135 : decode cX5_findBegins 135 = .ok (.dup2, 1) := dk_92 (dk_at dksX5_findBegins_5 22 rfl rfl)
theorem dX5_findBegins_136 : decode cX5_findBegins 136 = .ok (.iaload, 1) := dk_46 (dk_at dksX5_findBegins_5 23 rfl rfl)
theorem dX5_findBegins_137 : decode cX5_findBegins 137 = .ok (.aload_n 0, 1) := dk_42 (dk_at dksX5_findBegins_6 0 rfl rfl)
theorem dX5_findBegins_138 : decode cX5_findBegins 138 = .ok (.getfield 21, 3) := dk_180 0 21 (dk_at dksX5_findBegins_6 1 rfl rfl)
theorem dX5_findBegins_141 : decode cX5_findBegins 141 = .ok (.iload_n 1, 1) := dk_27 (dk_at dksX5_findBegins_6 4 rfl rfl)
theorem dX5_findBegins_142 : decode cX5_findBegins 142 = .ok (.iaload, 1) := dk_46 (dk_at dksX5_findBegins_6 5 rfl rfl)
theorem dX5_findBegins_143 : decode cX5_findBegins 143 = .ok (.ior, 1) := dk_128 (dk_at dksX5_findBegins_6 6 rfl rfl)
theorem dX5_findBegins_144 : decode cX5_findBegins 144 = .ok (.iastore, 1) := dk_79 (dk_at dksX5_findBegins_6 7 rfl rfl)
theorem dX5_findBegins_145 : decode cX5_findBegins 145 = .ok (.iinc 2 1, 3) := dk_132 2 1 (dk_at dksX5_findBegins_6 8 rfl rfl)
theorem dX5_findBegins_148 : decode cX5_findBegins 148 = .ok (.goto (-38), 3) := dk_167 255 218 (dk_at dksX5_findBegins_6 11 rfl rfl)
theorem dX5_findBegins_151 : decode cX5_findBegins 151 = .ok (.iinc 1 1, 3) := dk_132 1 1 (dk_at dksX5_findBegins_6 14 rfl rfl)
theorem dX5_findBegins_154 : decode cX5_findBegins 154 = .ok (.goto (-52), 3) := dk_167 255 204 (dk_at dksX5_findBegins_6 17 rfl rfl)
theorem dX5_findBegins_157 : decode cX5_findBegins 157 = .ok (.return_, 1) := dk_177 (dk_at dksX5_findBegins_6 20 rfl rfl)
abbrev cX5_predict : ByteArray := prog_9_method_14_code
def yX5_predict : MethodName := ⟨RX5, "predict", "()V"⟩
def dkwX5_predict_7 : List UInt8 := [132, 1, 1, 167, 255, 87, 177]
abbrev dktX5_predict_7 : List UInt8 := dkwX5_predict_7 ++ []
def dkwX5_predict_6 : List UInt8 := [184, 0, 179, 16, 254, 184, 0, 179, 185, 0, 185, 3, 0, 192, 0, 180, 58, 5, 132, 3, 1, 167, 255, 168]
abbrev dktX5_predict_6 : List UInt8 := dkwX5_predict_6 ++ dktX5_predict_7
def dkwX5_predict_5 : List UInt8 := [184, 0, 179, 185, 0, 185, 3, 0, 192, 0, 180, 58, 5, 25, 5, 198, 0, 27, 42, 180, 0, 27, 21, 4]
abbrev dktX5_predict_5 : List UInt8 := dkwX5_predict_5 ++ dktX5_predict_6
def dkwX5_predict_4 : List UInt8 := [167, 0, 66, 16, 13, 44, 180, 0, 101, 104, 29, 96, 54, 4, 42, 180, 0, 27, 21, 4, 184, 0, 179, 27]
abbrev dktX5_predict_4 : List UInt8 := dkwX5_predict_4 ++ dktX5_predict_5
def dkwX5_predict_3 : List UInt8 := [46, 128, 79, 3, 62, 29, 16, 13, 162, 0, 88, 42, 180, 0, 49, 27, 46, 29, 122, 4, 126, 154, 0, 6]
abbrev dktX5_predict_3 : List UInt8 := dkwX5_predict_3 ++ dktX5_predict_4
def dkwX5_predict_2 : List UInt8 := [182, 0, 97, 153, 0, 24, 42, 180, 0, 49, 27, 92, 46, 42, 180, 0, 15, 44, 180, 0, 101, 16, 20, 100]
abbrev dktX5_predict_2 : List UInt8 := dkwX5_predict_2 ++ dktX5_predict_3
def dkwX5_predict_1 : List UInt8 := [77, 42, 180, 0, 49, 27, 42, 44, 3, 182, 0, 114, 79, 44, 3, 44, 180, 0, 94, 190, 42, 180, 0, 35]
abbrev dktX5_predict_1 : List UInt8 := dkwX5_predict_1 ++ dktX5_predict_2
def dkwX5_predict_0 : List UInt8 := [3, 60, 27, 42, 180, 0, 49, 190, 162, 0, 166, 42, 180, 0, 39, 27, 185, 0, 175, 2, 0, 192, 0, 92]
abbrev dktX5_predict_0 : List UInt8 := dkwX5_predict_0 ++ dktX5_predict_1
theorem dksX5_predict_0 : cX5_predict.data.toList.drop 0 = dktX5_predict_0 := by decide +kernel
theorem dksX5_predict_1 : cX5_predict.data.toList.drop 24 = dktX5_predict_1 := dk_seg dksX5_predict_0 24 rfl rfl
theorem dksX5_predict_2 : cX5_predict.data.toList.drop 48 = dktX5_predict_2 := dk_seg dksX5_predict_1 24 rfl rfl
theorem dksX5_predict_3 : cX5_predict.data.toList.drop 72 = dktX5_predict_3 := dk_seg dksX5_predict_2 24 rfl rfl
theorem dksX5_predict_4 : cX5_predict.data.toList.drop 96 = dktX5_predict_4 := dk_seg dksX5_predict_3 24 rfl rfl
theorem dksX5_predict_5 : cX5_predict.data.toList.drop 120 = dktX5_predict_5 := dk_seg dksX5_predict_4 24 rfl rfl
theorem dksX5_predict_6 : cX5_predict.data.toList.drop 144 = dktX5_predict_6 := dk_seg dksX5_predict_5 24 rfl rfl
theorem dksX5_predict_7 : cX5_predict.data.toList.drop 168 = dktX5_predict_7 := dk_seg dksX5_predict_6 24 rfl rfl
theorem dX5_predict_0 : decode cX5_predict 0 = .ok (.iconst 0, 1) := dk_3 (dk_at dksX5_predict_0 0 rfl rfl)
theorem dX5_predict_1 : decode cX5_predict 1 = .ok (.istore_n 1, 1) := dk_60 (dk_at dksX5_predict_0 1 rfl rfl)
theorem dX5_predict_2 : decode cX5_predict 2 = .ok (.iload_n 1, 1) := dk_27 (dk_at dksX5_predict_0 2 rfl rfl)
theorem dX5_predict_3 : decode cX5_predict 3 = .ok (.aload_n 0, 1) := dk_42 (dk_at dksX5_predict_0 3 rfl rfl)
theorem dX5_predict_4 : decode cX5_predict 4 = .ok (.getfield 49, 3) := dk_180 0 49 (dk_at dksX5_predict_0 4 rfl rfl)
theorem dX5_predict_7 : decode cX5_predict 7 = .ok (.arraylength, 1) := dk_190 (dk_at dksX5_predict_0 7 rfl rfl)
theorem dX5_predict_8 : decode cX5_predict 8 = .ok (.if_icmp .ge 166, 3) := dk_162 0 166 (dk_at dksX5_predict_0 8 rfl rfl)
theorem dX5_predict_11 : decode cX5_predict 11 = .ok (.aload_n 0, 1) := dk_42 (dk_at dksX5_predict_0 11 rfl rfl)
theorem dX5_predict_12 : decode cX5_predict 12 = .ok (.getfield 39, 3) := dk_180 0 39 (dk_at dksX5_predict_0 12 rfl rfl)
theorem dX5_predict_15 : decode cX5_predict 15 = .ok (.iload_n 1, 1) := dk_27 (dk_at dksX5_predict_0 15 rfl rfl)
theorem dX5_predict_16 : decode cX5_predict 16 = .ok (.invokeinterface 175 2, 5) := by decide +kernel
theorem dX5_predict_21 : decode cX5_predict 21 = .ok (.checkcast 92, 3) := dk_192 0 92 (dk_at dksX5_predict_0 21 rfl rfl)
theorem dX5_predict_24 : decode cX5_predict 24 = .ok (.astore_n 2, 1) := dk_77 (dk_at dksX5_predict_1 0 rfl rfl)
theorem dX5_predict_25 : decode cX5_predict 25 = .ok (.aload_n 0, 1) := dk_42 (dk_at dksX5_predict_1 1 rfl rfl)
theorem dX5_predict_26 : decode cX5_predict 26 = .ok (.getfield 49, 3) := dk_180 0 49 (dk_at dksX5_predict_1 2 rfl rfl)
theorem dX5_predict_29 : decode cX5_predict 29 = .ok (.iload_n 1, 1) := dk_27 (dk_at dksX5_predict_1 5 rfl rfl)
theorem dX5_predict_30 : decode cX5_predict 30 = .ok (.aload_n 0, 1) := dk_42 (dk_at dksX5_predict_1 6 rfl rfl)
theorem dX5_predict_31 : decode cX5_predict 31 = .ok (.aload_n 2, 1) := dk_44 (dk_at dksX5_predict_1 7 rfl rfl)
theorem dX5_predict_32 : decode cX5_predict 32 = .ok (.iconst 0, 1) := dk_3 (dk_at dksX5_predict_1 8 rfl rfl)
theorem dX5_predict_33 : decode cX5_predict 33 = .ok (.invokevirtual 114, 3) := dk_182 0 114 (dk_at dksX5_predict_1 9 rfl rfl)
theorem dX5_predict_36 : decode cX5_predict 36 = .ok (.iastore, 1) := dk_79 (dk_at dksX5_predict_1 12 rfl rfl)
theorem dX5_predict_37 : decode cX5_predict 37 = .ok (.aload_n 2, 1) := dk_44 (dk_at dksX5_predict_1 13 rfl rfl)
theorem dX5_predict_38 : decode cX5_predict 38 = .ok (.iconst 0, 1) := dk_3 (dk_at dksX5_predict_1 14 rfl rfl)
theorem dX5_predict_39 : decode cX5_predict 39 = .ok (.aload_n 2, 1) := dk_44 (dk_at dksX5_predict_1 15 rfl rfl)
theorem dX5_predict_40 : decode cX5_predict 40 = .ok (.getfield 94, 3) := dk_180 0 94 (dk_at dksX5_predict_1 16 rfl rfl)
theorem dX5_predict_43 : decode cX5_predict 43 = .ok (.arraylength, 1) := dk_190 (dk_at dksX5_predict_1 19 rfl rfl)
theorem dX5_predict_44 : decode cX5_predict 44 = .ok (.aload_n 0, 1) := dk_42 (dk_at dksX5_predict_1 20 rfl rfl)
theorem dX5_predict_45 : decode cX5_predict 45 = .ok (.getfield 35, 3) := dk_180 0 35 (dk_at dksX5_predict_1 21 rfl rfl)
theorem dX5_predict_48 : decode cX5_predict 48 = .ok (.invokevirtual 97, 3) := dk_182 0 97 (dk_at dksX5_predict_2 0 rfl rfl)
theorem dX5_predict_51 : decode cX5_predict 51 = .ok (.ifCond .eq 24, 3) := dk_153 0 24 (dk_at dksX5_predict_2 3 rfl rfl)
theorem dX5_predict_54 : decode cX5_predict 54 = .ok (.aload_n 0, 1) := dk_42 (dk_at dksX5_predict_2 6 rfl rfl)
theorem dX5_predict_55 : decode cX5_predict 55 = .ok (.getfield 49, 3) := dk_180 0 49 (dk_at dksX5_predict_2 7 rfl rfl)
theorem dX5_predict_58 : decode cX5_predict 58 = .ok (.iload_n 1, 1) := dk_27 (dk_at dksX5_predict_2 10 rfl rfl)
theorem dX5_predict_59 : decode cX5_predict 59 = .ok (.dup2, 1) := dk_92 (dk_at dksX5_predict_2 11 rfl rfl)
theorem dX5_predict_60 : decode cX5_predict 60 = .ok (.iaload, 1) := dk_46 (dk_at dksX5_predict_2 12 rfl rfl)
theorem dX5_predict_61 : decode cX5_predict 61 = .ok (.aload_n 0, 1) := dk_42 (dk_at dksX5_predict_2 13 rfl rfl)
theorem dX5_predict_62 : decode cX5_predict 62 = .ok (.getfield 15, 3) := dk_180 0 15 (dk_at dksX5_predict_2 14 rfl rfl)
theorem dX5_predict_65 : decode cX5_predict 65 = .ok (.aload_n 2, 1) := dk_44 (dk_at dksX5_predict_2 17 rfl rfl)
theorem dX5_predict_66 : decode cX5_predict 66 = .ok (.getfield 101, 3) := dk_180 0 101 (dk_at dksX5_predict_2 18 rfl rfl)
theorem dX5_predict_69 : decode cX5_predict 69 = .ok (.bipush 20, 2) := dk_16 20 (dk_at dksX5_predict_2 21 rfl rfl)
theorem dX5_predict_71 : decode cX5_predict 71 = .ok (.isub, 1) := dk_100 (dk_at dksX5_predict_2 23 rfl rfl)
theorem dX5_predict_72 : decode cX5_predict 72 = .ok (.iaload, 1) := dk_46 (dk_at dksX5_predict_3 0 rfl rfl)
theorem dX5_predict_73 : decode cX5_predict 73 = .ok (.ior, 1) := dk_128 (dk_at dksX5_predict_3 1 rfl rfl)
theorem dX5_predict_74 : decode cX5_predict 74 = .ok (.iastore, 1) := dk_79 (dk_at dksX5_predict_3 2 rfl rfl)
theorem dX5_predict_75 : decode cX5_predict 75 = .ok (.iconst 0, 1) := dk_3 (dk_at dksX5_predict_3 3 rfl rfl)
theorem dX5_predict_76 : decode cX5_predict 76 = .ok (.istore_n 3, 1) := dk_62 (dk_at dksX5_predict_3 4 rfl rfl)
theorem dX5_predict_77 : decode cX5_predict 77 = .ok (.iload_n 3, 1) := dk_29 (dk_at dksX5_predict_3 5 rfl rfl)
theorem dX5_predict_78 : decode cX5_predict 78 = .ok (.bipush 13, 2) := dk_16 13 (dk_at dksX5_predict_3 6 rfl rfl)
theorem dX5_predict_80 : decode cX5_predict 80 = .ok (.if_icmp .ge 88, 3) := dk_162 0 88 (dk_at dksX5_predict_3 8 rfl rfl)
theorem dX5_predict_83 : decode cX5_predict 83 = .ok (.aload_n 0, 1) := dk_42 (dk_at dksX5_predict_3 11 rfl rfl)
theorem dX5_predict_84 : decode cX5_predict 84 = .ok (.getfield 49, 3) := dk_180 0 49 (dk_at dksX5_predict_3 12 rfl rfl)
theorem dX5_predict_87 : decode cX5_predict 87 = .ok (.iload_n 1, 1) := dk_27 (dk_at dksX5_predict_3 15 rfl rfl)
theorem dX5_predict_88 : decode cX5_predict 88 = .ok (.iaload, 1) := dk_46 (dk_at dksX5_predict_3 16 rfl rfl)
theorem dX5_predict_89 : decode cX5_predict 89 = .ok (.iload_n 3, 1) := dk_29 (dk_at dksX5_predict_3 17 rfl rfl)
theorem dX5_predict_90 : decode cX5_predict 90 = .ok (.ishr, 1) := dk_122 (dk_at dksX5_predict_3 18 rfl rfl)
theorem dX5_predict_91 : decode cX5_predict 91 = .ok (.iconst 1, 1) := dk_4 (dk_at dksX5_predict_3 19 rfl rfl)
theorem dX5_predict_92 : decode cX5_predict 92 = .ok (.iand, 1) := dk_126 (dk_at dksX5_predict_3 20 rfl rfl)
theorem dX5_predict_93 : decode cX5_predict 93 = .ok (.ifCond .ne 6, 3) := dk_154 0 6 (dk_at dksX5_predict_3 21 rfl rfl)
theorem dX5_predict_96 : decode cX5_predict 96 = .ok (.goto 66, 3) := dk_167 0 66 (dk_at dksX5_predict_4 0 rfl rfl)
theorem dX5_predict_99 : decode cX5_predict 99 = .ok (.bipush 13, 2) := dk_16 13 (dk_at dksX5_predict_4 3 rfl rfl)
theorem dX5_predict_101 : decode cX5_predict 101 = .ok (.aload_n 2, 1) := dk_44 (dk_at dksX5_predict_4 5 rfl rfl)
theorem dX5_predict_102 : decode cX5_predict 102 = .ok (.getfield 101, 3) := dk_180 0 101 (dk_at dksX5_predict_4 6 rfl rfl)
theorem dX5_predict_105 : decode cX5_predict 105 = .ok (.imul, 1) := dk_104 (dk_at dksX5_predict_4 9 rfl rfl)
theorem dX5_predict_106 : decode cX5_predict 106 = .ok (.iload_n 3, 1) := dk_29 (dk_at dksX5_predict_4 10 rfl rfl)
theorem dX5_predict_107 : decode cX5_predict 107 = .ok (.iadd, 1) := dk_96 (dk_at dksX5_predict_4 11 rfl rfl)
theorem dX5_predict_108 : decode cX5_predict 108 = .ok (.istore 4, 2) := dk_54 4 (dk_at dksX5_predict_4 12 rfl rfl)
theorem dX5_predict_110 : decode cX5_predict 110 = .ok (.aload_n 0, 1) := dk_42 (dk_at dksX5_predict_4 14 rfl rfl)
theorem dX5_predict_111 : decode cX5_predict 111 = .ok (.getfield 27, 3) := dk_180 0 27 (dk_at dksX5_predict_4 15 rfl rfl)
theorem dX5_predict_114 : decode cX5_predict 114 = .ok (.iload 4, 2) := dk_21 4 (dk_at dksX5_predict_4 18 rfl rfl)
theorem dX5_predict_116 : decode cX5_predict 116 = .ok (.invokestatic 179, 3) := dk_184 0 179 (dk_at dksX5_predict_4 20 rfl rfl)
theorem dX5_predict_119 : decode cX5_predict 119 = .ok (.iload_n 1, 1) := dk_27 (dk_at dksX5_predict_4 23 rfl rfl)
theorem dX5_predict_120 : decode cX5_predict 120 = .ok (.invokestatic 179, 3) := dk_184 0 179 (dk_at dksX5_predict_5 0 rfl rfl)
theorem dX5_predict_123 : decode cX5_predict 123 = .ok (.invokeinterface 185 3, 5) := by decide +kernel
theorem dX5_predict_128 : decode cX5_predict 128 = .ok (.checkcast 180, 3) := dk_192 0 180 (dk_at dksX5_predict_5 8 rfl rfl)
theorem dX5_predict_131 : decode cX5_predict 131 = .ok (.astore 5, 2) := dk_58 5 (dk_at dksX5_predict_5 11 rfl rfl)
theorem dX5_predict_133 : decode cX5_predict 133 = .ok (.aload 5, 2) := dk_25 5 (dk_at dksX5_predict_5 13 rfl rfl)
theorem dX5_predict_135 : decode cX5_predict 135 = .ok (.ifnull 27, 3) := dk_198 0 27 (dk_at dksX5_predict_5 15 rfl rfl)
theorem dX5_predict_138 : decode cX5_predict 138 = .ok (.aload_n 0, 1) := dk_42 (dk_at dksX5_predict_5 18 rfl rfl)
theorem dX5_predict_139 : decode cX5_predict 139 = .ok (.getfield 27, 3) := dk_180 0 27 (dk_at dksX5_predict_5 19 rfl rfl)
theorem dX5_predict_142 : decode cX5_predict 142 = .ok (.iload 4, 2) := dk_21 4 (dk_at dksX5_predict_5 22 rfl rfl)
theorem dX5_predict_144 : decode cX5_predict 144 = .ok (.invokestatic 179, 3) := dk_184 0 179 (dk_at dksX5_predict_6 0 rfl rfl)
theorem dX5_predict_147 : decode cX5_predict 147 = .ok (.bipush (-2), 2) := dk_16 254 (dk_at dksX5_predict_6 3 rfl rfl)
theorem dX5_predict_149 : decode cX5_predict 149 = .ok (.invokestatic 179, 3) := dk_184 0 179 (dk_at dksX5_predict_6 5 rfl rfl)
theorem dX5_predict_152 : decode cX5_predict 152 = .ok (.invokeinterface 185 3, 5) := by decide +kernel
theorem dX5_predict_157 : decode cX5_predict 157 = .ok (.checkcast 180, 3) := dk_192 0 180 (dk_at dksX5_predict_6 13 rfl rfl)
theorem dX5_predict_160 : decode cX5_predict 160 = .ok (.astore 5, 2) := dk_58 5 (dk_at dksX5_predict_6 16 rfl rfl)
theorem dX5_predict_162 : decode cX5_predict 162 = .ok (.iinc 3 1, 3) := dk_132 3 1 (dk_at dksX5_predict_6 18 rfl rfl)
theorem dX5_predict_165 : decode cX5_predict 165 = .ok (.goto (-88), 3) := dk_167 255 168 (dk_at dksX5_predict_6 21 rfl rfl)
theorem dX5_predict_168 : decode cX5_predict 168 = .ok (.iinc 1 1, 3) := dk_132 1 1 (dk_at dksX5_predict_7 0 rfl rfl)
theorem dX5_predict_171 : decode cX5_predict 171 = .ok (.goto (-169), 3) := dk_167 255 87 (dk_at dksX5_predict_7 3 rfl rfl)
theorem dX5_predict_174 : decode cX5_predict 174 = .ok (.return_, 1) := dk_177 (dk_at dksX5_predict_7 6 rfl rfl)
abbrev cX5_conflicts : ByteArray := prog_9_method_16_code
def yX5_conflicts : MethodName := ⟨RX5, "conflicts", "()I"⟩
def dkwX5_conflicts_2 : List UInt8 := [167, 255, 227, 27, 172]
abbrev dktX5_conflicts_2 : List UInt8 := dkwX5_conflicts_2 ++ []
def dkwX5_conflicts_1 : List UInt8 := [153, 0, 26, 44, 185, 0, 88, 1, 0, 192, 0, 180, 182, 0, 194, 16, 254, 160, 255, 233, 132, 1, 1]
abbrev dktX5_conflicts_1 : List UInt8 := dkwX5_conflicts_1 ++ dktX5_conflicts_2
def dkwX5_conflicts_0 : List UInt8 := [3, 60, 42, 180, 0, 27, 185, 0, 197, 1, 0, 185, 0, 201, 1, 0, 77, 44, 185, 0, 82, 1, 0]
abbrev dktX5_conflicts_0 : List UInt8 := dkwX5_conflicts_0 ++ dktX5_conflicts_1
theorem dksX5_conflicts_0 : cX5_conflicts.data.toList.drop 0 = dktX5_conflicts_0 := by decide +kernel
theorem dksX5_conflicts_1 : cX5_conflicts.data.toList.drop 23 = dktX5_conflicts_1 := dk_seg dksX5_conflicts_0 23 rfl rfl
theorem dksX5_conflicts_2 : cX5_conflicts.data.toList.drop 46 = dktX5_conflicts_2 := dk_seg dksX5_conflicts_1 23 rfl rfl
theorem dX5_conflicts_0 : decode cX5_conflicts 0 = .ok (.iconst 0, 1) := dk_3 (dk_at dksX5_conflicts_0 0 rfl rfl)
theorem dX5_conflicts_1 : decode cX5_conflicts 1 = .ok (.istore_n 1, 1) := dk_60 (dk_at dksX5_conflicts_0 1 rfl rfl)
theorem dX5_conflicts_2 : decode cX5_conflicts 2 = .ok (.aload_n 0, 1) := dk_42 (dk_at dksX5_conflicts_0 2 rfl rfl)
theorem dX5_conflicts_3 : decode cX5_conflicts 3 = .ok (.getfield 27, 3) := dk_180 0 27 (dk_at dksX5_conflicts_0 3 rfl rfl)
theorem dX5_conflicts_6 : decode cX5_conflicts 6 = .ok (.invokeinterface 197 1, 5) := by decide +kernel
theorem dX5_conflicts_11 : decode cX5_conflicts 11 = .ok (.invokeinterface 201 1, 5) := by decide +kernel
theorem dX5_conflicts_16 : decode cX5_conflicts 16 = .ok (.astore_n 2, 1) := dk_77 (dk_at dksX5_conflicts_0 16 rfl rfl)
theorem dX5_conflicts_17 : decode cX5_conflicts 17 = .ok (.aload_n 2, 1) := dk_44 (dk_at dksX5_conflicts_0 17 rfl rfl)
theorem dX5_conflicts_18 : decode cX5_conflicts 18 = .ok (.invokeinterface 82 1, 5) := by decide +kernel
theorem dX5_conflicts_23 : decode cX5_conflicts 23 = .ok (.ifCond .eq 26, 3) := dk_153 0 26 (dk_at dksX5_conflicts_1 0 rfl rfl)
theorem dX5_conflicts_26 : decode cX5_conflicts 26 = .ok (.aload_n 2, 1) := dk_44 (dk_at dksX5_conflicts_1 3 rfl rfl)
theorem dX5_conflicts_27 : decode cX5_conflicts 27 = .ok (.invokeinterface 88 1, 5) := by decide +kernel
theorem dX5_conflicts_32 : decode cX5_conflicts 32 = .ok (.checkcast 180, 3) := dk_192 0 180 (dk_at dksX5_conflicts_1 9 rfl rfl)
theorem dX5_conflicts_35 : decode cX5_conflicts 35 = .ok (.invokevirtual 194, 3) := dk_182 0 194 (dk_at dksX5_conflicts_1 12 rfl rfl)
theorem dX5_conflicts_38 : decode cX5_conflicts 38 = .ok (.bipush (-2), 2) := dk_16 254 (dk_at dksX5_conflicts_1 15 rfl rfl)
theorem dX5_conflicts_40 : decode cX5_conflicts 40 = .ok (.if_icmp .ne (-23), 3) := dk_160 255 233 (dk_at dksX5_conflicts_1 17 rfl rfl)
theorem dX5_conflicts_43 : decode cX5_conflicts 43 = .ok (.iinc 1 1, 3) := dk_132 1 1 (dk_at dksX5_conflicts_1 20 rfl rfl)
theorem dX5_conflicts_46 : decode cX5_conflicts 46 = .ok (.goto (-29), 3) := dk_167 255 227 (dk_at dksX5_conflicts_2 0 rfl rfl)
theorem dX5_conflicts_49 : decode cX5_conflicts 49 = .ok (.iload_n 1, 1) := dk_27 (dk_at dksX5_conflicts_2 3 rfl rfl)
theorem dX5_conflicts_50 : decode cX5_conflicts 50 = .ok (.ireturn, 1) := dk_172 (dk_at dksX5_conflicts_2 4 rfl rfl)
abbrev cX5_isLeftRecursive : ByteArray := prog_9_method_13_code
def yX5_isLeftRecursive : MethodName := ⟨RX5, "isLeftRecursive", "(I)Z"⟩
def dkwX5_isLeftRecursive_0 : List UInt8 := [42, 180, 0, 21, 27, 46, 27, 122, 4, 126, 4, 160, 0, 7, 4, 167, 0, 4, 3, 172]
abbrev dktX5_isLeftRecursive_0 : List UInt8 := dkwX5_isLeftRecursive_0 ++ []
theorem dksX5_isLeftRecursive_0 : cX5_isLeftRecursive.data.toList.drop 0 = dktX5_isLeftRecursive_0 := by decide +kernel
theorem dX5_isLeftRecursive_0 : decode cX5_isLeftRecursive 0 = .ok (.aload_n 0, 1) := dk_42 (dk_at dksX5_isLeftRecursive_0 0 rfl rfl)
theorem dX5_isLeftRecursive_1 : decode cX5_isLeftRecursive 1 = .ok (.getfield 21, 3) := dk_180 0 21 (dk_at dksX5_isLeftRecursive_0 1 rfl rfl)
theorem dX5_isLeftRecursive_4 : decode cX5_isLeftRecursive 4 = .ok (.iload_n 1, 1) := dk_27 (dk_at dksX5_isLeftRecursive_0 4 rfl rfl)
theorem dX5_isLeftRecursive_5 : decode cX5_isLeftRecursive 5 = .ok (.iaload, 1) := dk_46 (dk_at dksX5_isLeftRecursive_0 5 rfl rfl)
theorem dX5_isLeftRecursive_6 : decode cX5_isLeftRecursive 6 = .ok (.iload_n 1, 1) := dk_27 (dk_at dksX5_isLeftRecursive_0 6 rfl rfl)
theorem dX5_isLeftRecursive_7 : decode cX5_isLeftRecursive 7 = .ok (.ishr, 1) := dk_122 (dk_at dksX5_isLeftRecursive_0 7 rfl rfl)
theorem dX5_isLeftRecursive_8 : decode cX5_isLeftRecursive 8 = .ok (.iconst 1, 1) := dk_4 (dk_at dksX5_isLeftRecursive_0 8 rfl rfl)
theorem dX5_isLeftRecursive_9 : decode cX5_isLeftRecursive 9 = .ok (.iand, 1) := dk_126 (dk_at dksX5_isLeftRecursive_0 9 rfl rfl)
theorem dX5_isLeftRecursive_10 : decode cX5_isLeftRecursive 10 = .ok (.iconst 1, 1) := dk_4 (dk_at dksX5_isLeftRecursive_0 10 rfl rfl)
theorem dX5_isLeftRecursive_11 : decode cX5_isLeftRecursive 11 = .ok (.if_icmp .ne 7, 3) := dk_160 0 7 (dk_at dksX5_isLeftRecursive_0 11 rfl rfl)
theorem dX5_isLeftRecursive_14 : decode cX5_isLeftRecursive 14 = .ok (.iconst 1, 1) := dk_4 (dk_at dksX5_isLeftRecursive_0 14 rfl rfl)
theorem dX5_isLeftRecursive_15 : decode cX5_isLeftRecursive 15 = .ok (.goto 4, 3) := dk_167 0 4 (dk_at dksX5_isLeftRecursive_0 15 rfl rfl)
theorem dX5_isLeftRecursive_18 : decode cX5_isLeftRecursive 18 = .ok (.iconst 0, 1) := dk_3 (dk_at dksX5_isLeftRecursive_0 18 rfl rfl)
theorem dX5_isLeftRecursive_19 : decode cX5_isLeftRecursive 19 = .ok (.ireturn, 1) := dk_172 (dk_at dksX5_isLeftRecursive_0 19 rfl rfl)
abbrev cX5_predicted : ByteArray := prog_9_method_15_code
def yX5_predicted : MethodName := ⟨RX5, "predicted", "(II)I"⟩
def dkwX5_predicted_1 : List UInt8 := [199, 0, 7, 2, 167, 0, 7, 45, 182, 0, 194, 172]
abbrev dktX5_predicted_1 : List UInt8 := dkwX5_predicted_1 ++ []
def dkwX5_predicted_0 : List UInt8 := [42, 180, 0, 27, 16, 13, 27, 104, 28, 96, 184, 0, 179, 185, 0, 191, 2, 0, 192, 0, 180, 78, 45]
abbrev dktX5_predicted_0 : List UInt8 := dkwX5_predicted_0 ++ dktX5_predicted_1
theorem dksX5_predicted_0 : cX5_predicted.data.toList.drop 0 = dktX5_predicted_0 := by decide +kernel
theorem dksX5_predicted_1 : cX5_predicted.data.toList.drop 23 = dktX5_predicted_1 := dk_seg dksX5_predicted_0 23 rfl rfl
theorem dX5_predicted_0 : decode cX5_predicted 0 = .ok (.aload_n 0, 1) := dk_42 (dk_at dksX5_predicted_0 0 rfl rfl)
theorem dX5_predicted_1 : decode cX5_predicted 1 = .ok (.getfield 27, 3) := dk_180 0 27 (dk_at dksX5_predicted_0 1 rfl rfl)
theorem dX5_predicted_4 : decode cX5_predicted 4 = .ok (.bipush 13, 2) := dk_16 13 (dk_at dksX5_predicted_0 4 rfl rfl)
theorem dX5_predicted_6 : decode cX5_predicted 6 = .ok (.iload_n 1, 1) := dk_27 (dk_at dksX5_predicted_0 6 rfl rfl)
theorem dX5_predicted_7 : decode cX5_predicted 7 = .ok (.imul, 1) := dk_104 (dk_at dksX5_predicted_0 7 rfl rfl)
theorem dX5_predicted_8 : decode cX5_predicted 8 = .ok (.iload_n 2, 1) := dk_28 (dk_at dksX5_predicted_0 8 rfl rfl)
theorem dX5_predicted_9 : decode cX5_predicted 9 = .ok (.iadd, 1) := dk_96 (dk_at dksX5_predicted_0 9 rfl rfl)
theorem dX5_predicted_10 : decode cX5_predicted 10 = .ok (.invokestatic 179, 3) := dk_184 0 179 (dk_at dksX5_predicted_0 10 rfl rfl)
theorem dX5_predicted_13 : decode cX5_predicted 13 = .ok (.invokeinterface 191 2, 5) := by decide +kernel
theorem dX5_predicted_18 : decode cX5_predicted 18 = .ok (.checkcast 180, 3) := dk_192 0 180 (dk_at dksX5_predicted_0 18 rfl rfl)
theorem dX5_predicted_21 : decode cX5_predicted 21 = .ok (.astore_n 3, 1) := dk_78 (dk_at dksX5_predicted_0 21 rfl rfl)
theorem dX5_predicted_22 : decode cX5_predicted 22 = .ok (.aload_n 3, 1) := dk_45 (dk_at dksX5_predicted_0 22 rfl rfl)
theorem dX5_predicted_23 : decode cX5_predicted 23 = .ok (.ifnonnull 7, 3) := dk_199 0 7 (dk_at dksX5_predicted_1 0 rfl rfl)
theorem dX5_predicted_26 : decode cX5_predicted 26 = .ok (.iconst (-1), 1) := dk_2 (dk_at dksX5_predicted_1 3 rfl rfl)
theorem dX5_predicted_27 : decode cX5_predicted 27 = .ok (.goto 7, 3) := dk_167 0 7 (dk_at dksX5_predicted_1 4 rfl rfl)
theorem dX5_predicted_30 : decode cX5_predicted 30 = .ok (.aload_n 3, 1) := dk_45 (dk_at dksX5_predicted_1 7 rfl rfl)
theorem dX5_predicted_31 : decode cX5_predicted 31 = .ok (.invokevirtual 194, 3) := dk_182 0 194 (dk_at dksX5_predicted_1 8 rfl rfl)
theorem dX5_predicted_34 : decode cX5_predicted 34 = .ok (.ireturn, 1) := dk_172 (dk_at dksX5_predicted_1 11 rfl rfl)
theorem q151 : (Jvm.Cond.initialized "SelahGenerator$Sets") ∈ lw_all := lw_g (lw_at lw_m1 29 rfl) rfl
theorem q415 : (Jvm.Cond.instantiable "SelahGenerator$Sets" (10 : Nat)) ∈ lw_all := lw_g (lw_at lw_m2 53 rfl) rfl
theorem q417 : (Jvm.Cond.instanceMethod ({ cls := "SelahGenerator$Sets", name := "<init>", desc := "(Ljava/util/List;)V" } : Jvm.MethodName)) ∈ lw_all := lw_g (lw_at lw_m2 55 rfl) rfl
theorem q418 : (Jvm.Cond.code ({ cls := "SelahGenerator$Sets", name := "<init>", desc := "(Ljava/util/List;)V" } : Jvm.MethodName) prog_9_method_1_code (2 : Nat) (Option.none : Option Jvm.ClassFile.FieldType)) ∈ lw_all := lw_g (lw_at lw_m2 56 rfl) rfl
theorem q419 : (Jvm.Cond.methodLink "SelahGenerator$Sets" (3 : Nat) ({ cls := "java/lang/Object", name := "<init>", desc := "()V" } : Jvm.MethodName)) ∈ lw_all := lw_g (lw_at lw_m2 57 rfl) rfl
theorem q420 : (Jvm.Cond.classLink "SelahGenerator$Sets" (24 : Nat) "java/util/TreeMap") ∈ lw_all := lw_g (lw_at lw_m2 58 rfl) rfl
theorem q422 : (Jvm.Cond.methodLink "SelahGenerator$Sets" (26 : Nat) ({ cls := "java/util/TreeMap", name := "<init>", desc := "()V" } : Jvm.MethodName)) ∈ lw_all := lw_g (lw_at lw_m2 60 rfl) rfl
theorem q456 : (Jvm.Cond.privateMethod ({ cls := "SelahGenerator$Sets", name := "lambda$new$0", desc := "(I)Z" } : Jvm.MethodName)) ∈ lw_tbl := lw_at lw_m2 94 rfl
theorem q457 : (Jvm.Cond.instanceMethod ({ cls := "SelahGenerator$Sets", name := "lambda$new$0", desc := "(I)Z" } : Jvm.MethodName)) ∈ lw_all := lw_g (lw_at lw_m2 95 rfl) rfl
theorem q458 : (Jvm.Cond.code ({ cls := "SelahGenerator$Sets", name := "lambda$new$0", desc := "(I)Z" } : Jvm.MethodName) prog_9_method_17_code (2 : Nat) (Option.some Jvm.ClassFile.FieldType.boolean)) ∈ lw_all := lw_g (lw_at lw_m2 96 rfl) rfl
theorem q459 : (Jvm.Cond.methodLink "SelahGenerator$Sets" (108 : Nat) ({ cls := "SelahGenerator$Sets", name := "isNullable", desc := "(I)Z" } : Jvm.MethodName)) ∈ lw_all := lw_g (lw_at lw_m2 97 rfl) rfl
theorem q460 : (Jvm.Cond.instanceMethod ({ cls := "SelahGenerator$Sets", name := "isNullable", desc := "(I)Z" } : Jvm.MethodName)) ∈ lw_all := lw_g (lw_at lw_m2 98 rfl) rfl
theorem q461 : (Jvm.Cond.selects "SelahGenerator$Sets" ({ cls := "SelahGenerator$Sets", name := "isNullable", desc := "(I)Z" } : Jvm.MethodName) ({ cls := "SelahGenerator$Sets", name := "isNullable", desc := "(I)Z" } : Jvm.MethodName)) ∈ lw_all := lw_g (lw_at lw_m2 99 rfl) rfl
theorem q462 : (Jvm.Cond.code ({ cls := "SelahGenerator$Sets", name := "isNullable", desc := "(I)Z" } : Jvm.MethodName) prog_9_method_2_code (2 : Nat) (Option.some Jvm.ClassFile.FieldType.boolean)) ∈ lw_all := lw_g (lw_at lw_m2 100 rfl) rfl
theorem q463 : (Jvm.Cond.methodLinkNest "SelahGenerator$Sets" (70 : Nat) ({ cls := "SelahGenerator", name := "isNonterminal", desc := "(I)Z" } : Jvm.MethodName) "SelahGenerator") ∈ lw_tbl := lw_at lw_m2 101 rfl
theorem q464 : (Jvm.Cond.interfaceEntry "SelahGenerator$Sets" (43 : Nat)) ∈ lw_tbl := lw_at lw_m2 102 rfl
theorem q465 : (Jvm.Cond.methodLink "SelahGenerator$Sets" (43 : Nat) ({ cls := "java/util/List", name := "size", desc := "()I" } : Jvm.MethodName)) ∈ lw_all := lw_g (lw_at lw_m2 103 rfl) rfl
theorem q466 : (Jvm.Cond.methodLink "SelahGenerator$Sets" (52 : Nat) ({ cls := "SelahGenerator$Sets", name := "findNullable", desc := "()V" } : Jvm.MethodName)) ∈ lw_all := lw_g (lw_at lw_m2 104 rfl) rfl
theorem q467 : (Jvm.Cond.privateMethod ({ cls := "SelahGenerator$Sets", name := "findNullable", desc := "()V" } : Jvm.MethodName)) ∈ lw_tbl := lw_at lw_m2 105 rfl
theorem q468 : (Jvm.Cond.instanceMethod ({ cls := "SelahGenerator$Sets", name := "findNullable", desc := "()V" } : Jvm.MethodName)) ∈ lw_all := lw_g (lw_at lw_m2 106 rfl) rfl
theorem q469 : (Jvm.Cond.code ({ cls := "SelahGenerator$Sets", name := "findNullable", desc := "()V" } : Jvm.MethodName) prog_9_method_3_code (4 : Nat) (Option.none : Option Jvm.ClassFile.FieldType)) ∈ lw_all := lw_g (lw_at lw_m2 107 rfl) rfl
theorem q470 : (Jvm.Cond.interfaceEntry "SelahGenerator$Sets" (78 : Nat)) ∈ lw_tbl := lw_at lw_m2 108 rfl
theorem q471 : (Jvm.Cond.methodLink "SelahGenerator$Sets" (78 : Nat) ({ cls := "java/util/List", name := "iterator", desc := "()Ljava/util/Iterator;" } : Jvm.MethodName)) ∈ lw_all := lw_g (lw_at lw_m2 109 rfl) rfl
theorem q472 : (Jvm.Cond.interfaceEntry "SelahGenerator$Sets" (82 : Nat)) ∈ lw_tbl := lw_at lw_m2 110 rfl
theorem q473 : (Jvm.Cond.methodLink "SelahGenerator$Sets" (82 : Nat) ({ cls := "java/util/Iterator", name := "hasNext", desc := "()Z" } : Jvm.MethodName)) ∈ lw_all := lw_g (lw_at lw_m2 111 rfl) rfl
theorem q474 : (Jvm.Cond.interfaceEntry "SelahGenerator$Sets" (88 : Nat)) ∈ lw_tbl := lw_at lw_m2 112 rfl
theorem q475 : (Jvm.Cond.methodLink "SelahGenerator$Sets" (88 : Nat) ({ cls := "java/util/Iterator", name := "next", desc := "()Ljava/lang/Object;" } : Jvm.MethodName)) ∈ lw_all := lw_g (lw_at lw_m2 113 rfl) rfl
theorem q476 : (Jvm.Cond.classLink "SelahGenerator$Sets" (92 : Nat) "SelahGenerator$Rule") ∈ lw_all := lw_g (lw_at lw_m2 114 rfl) rfl
theorem q477 : (Jvm.Cond.methodLink "SelahGenerator$Sets" (97 : Nat) ({ cls := "SelahGenerator$Rule", name := "all", desc := "(IILSelahGenerator$Test;)Z" } : Jvm.MethodName)) ∈ lw_all := lw_g (lw_at lw_m2 115 rfl) rfl
theorem q485 : (Jvm.Cond.methodLink "SelahGenerator$Sets" (55 : Nat) ({ cls := "SelahGenerator$Sets", name := "findFirst", desc := "()V" } : Jvm.MethodName)) ∈ lw_all := lw_g (lw_at lw_m2 123 rfl) rfl
theorem q486 : (Jvm.Cond.privateMethod ({ cls := "SelahGenerator$Sets", name := "findFirst", desc := "()V" } : Jvm.MethodName)) ∈ lw_tbl := lw_at lw_m2 124 rfl
theorem q487 : (Jvm.Cond.instanceMethod ({ cls := "SelahGenerator$Sets", name := "findFirst", desc := "()V" } : Jvm.MethodName)) ∈ lw_all := lw_g (lw_at lw_m2 125 rfl) rfl
theorem q488 : (Jvm.Cond.code ({ cls := "SelahGenerator$Sets", name := "findFirst", desc := "()V" } : Jvm.MethodName) prog_9_method_6_code (6 : Nat) (Option.none : Option Jvm.ClassFile.FieldType)) ∈ lw_all := lw_g (lw_at lw_m2 126 rfl) rfl
theorem q489 : (Jvm.Cond.methodLink "SelahGenerator$Sets" (114 : Nat) ({ cls := "SelahGenerator$Sets", name := "firstFrom", desc := "(LSelahGenerator$Rule;I)I" } : Jvm.MethodName)) ∈ lw_all := lw_g (lw_at lw_m2 127 rfl) rfl
theorem q490 : (Jvm.Cond.instanceMethod ({ cls := "SelahGenerator$Sets", name := "firstFrom", desc := "(LSelahGenerator$Rule;I)I" } : Jvm.MethodName)) ∈ lw_all := lw_g (lw_at lw_m2 128 rfl) rfl
theorem q491 : (Jvm.Cond.selects "SelahGenerator$Sets" ({ cls := "SelahGenerator$Sets", name := "firstFrom", desc := "(LSelahGenerator$Rule;I)I" } : Jvm.MethodName) ({ cls := "SelahGenerator$Sets", name := "firstFrom", desc := "(LSelahGenerator$Rule;I)I" } : Jvm.MethodName)) ∈ lw_all := lw_g (lw_at lw_m2 129 rfl) rfl
theorem q492 : (Jvm.Cond.code ({ cls := "SelahGenerator$Sets", name := "firstFrom", desc := "(LSelahGenerator$Rule;I)I" } : Jvm.MethodName) prog_9_method_5_code (5 : Nat) (Option.some Jvm.ClassFile.FieldType.int)) ∈ lw_all := lw_g (lw_at lw_m2 130 rfl) rfl
theorem q493 : (Jvm.Cond.methodLink "SelahGenerator$Sets" (104 : Nat) ({ cls := "SelahGenerator$Sets", name := "firstOf", desc := "(I)I" } : Jvm.MethodName)) ∈ lw_all := lw_g (lw_at lw_m2 131 rfl) rfl
theorem q494 : (Jvm.Cond.instanceMethod ({ cls := "SelahGenerator$Sets", name := "firstOf", desc := "(I)I" } : Jvm.MethodName)) ∈ lw_all := lw_g (lw_at lw_m2 132 rfl) rfl
theorem q495 : (Jvm.Cond.selects "SelahGenerator$Sets" ({ cls := "SelahGenerator$Sets", name := "firstOf", desc := "(I)I" } : Jvm.MethodName) ({ cls := "SelahGenerator$Sets", name := "firstOf", desc := "(I)I" } : Jvm.MethodName)) ∈ lw_all := lw_g (lw_at lw_m2 133 rfl) rfl
theorem q496 : (Jvm.Cond.code ({ cls := "SelahGenerator$Sets", name := "firstOf", desc := "(I)I" } : Jvm.MethodName) prog_9_method_4_code (2 : Nat) (Option.some Jvm.ClassFile.FieldType.int)) ∈ lw_all := lw_g (lw_at lw_m2 134 rfl) rfl
theorem q497 : (Jvm.Cond.methodLink "SelahGenerator$Sets" (58 : Nat) ({ cls := "SelahGenerator$Sets", name := "findFollow", desc := "()V" } : Jvm.MethodName)) ∈ lw_all := lw_g (lw_at lw_m2 135 rfl) rfl
theorem q498 : (Jvm.Cond.privateMethod ({ cls := "SelahGenerator$Sets", name := "findFollow", desc := "()V" } : Jvm.MethodName)) ∈ lw_tbl := lw_at lw_m2 136 rfl
theorem q499 : (Jvm.Cond.instanceMethod ({ cls := "SelahGenerator$Sets", name := "findFollow", desc := "()V" } : Jvm.MethodName)) ∈ lw_all := lw_g (lw_at lw_m2 137 rfl) rfl
theorem q500 : (Jvm.Cond.code ({ cls := "SelahGenerator$Sets", name := "findFollow", desc := "()V" } : Jvm.MethodName) prog_9_method_7_code (6 : Nat) (Option.none : Option Jvm.ClassFile.FieldType)) ∈ lw_all := lw_g (lw_at lw_m2 138 rfl) rfl
theorem q501 : (Jvm.Cond.methodLink "SelahGenerator$Sets" (118 : Nat) ({ cls := "[I", name := "clone", desc := "()Ljava/lang/Object;" } : Jvm.MethodName)) ∈ lw_all := lw_g (lw_at lw_m2 139 rfl) rfl
theorem q507 : (Jvm.Cond.classLink "SelahGenerator$Sets" (119 : Nat) "[I") ∈ lw_all := lw_g (lw_at lw_m2 145 rfl) rfl
theorem q508 : (Jvm.Cond.methodLink "SelahGenerator$Sets" (122 : Nat) ({ cls := "SelahGenerator$Sets", name := "followIn", desc := "(LSelahGenerator$Rule;I)V" } : Jvm.MethodName)) ∈ lw_all := lw_g (lw_at lw_m2 146 rfl) rfl
theorem q509 : (Jvm.Cond.privateMethod ({ cls := "SelahGenerator$Sets", name := "followIn", desc := "(LSelahGenerator$Rule;I)V" } : Jvm.MethodName)) ∈ lw_tbl := lw_at lw_m2 147 rfl
theorem q510 : (Jvm.Cond.instanceMethod ({ cls := "SelahGenerator$Sets", name := "followIn", desc := "(LSelahGenerator$Rule;I)V" } : Jvm.MethodName)) ∈ lw_all := lw_g (lw_at lw_m2 148 rfl) rfl
theorem q511 : (Jvm.Cond.code ({ cls := "SelahGenerator$Sets", name := "followIn", desc := "(LSelahGenerator$Rule;I)V" } : Jvm.MethodName) prog_9_method_8_code (4 : Nat) (Option.none : Option Jvm.ClassFile.FieldType)) ∈ lw_all := lw_g (lw_at lw_m2 149 rfl) rfl
theorem q512 : (Jvm.Cond.methodLink "SelahGenerator$Sets" (126 : Nat) ({ cls := "java/util/Arrays", name := "equals", desc := "([I[I)Z" } : Jvm.MethodName)) ∈ lw_all := lw_g (lw_at lw_m2 150 rfl) rfl
theorem q617 : (Jvm.Cond.methodLink "SelahGenerator$Sets" (61 : Nat) ({ cls := "SelahGenerator$Sets", name := "findShortest", desc := "()V" } : Jvm.MethodName)) ∈ lw_all := lw_g (lw_at lw_m3 15 rfl) rfl
theorem q618 : (Jvm.Cond.privateMethod ({ cls := "SelahGenerator$Sets", name := "findShortest", desc := "()V" } : Jvm.MethodName)) ∈ lw_tbl := lw_at lw_m3 16 rfl
theorem q619 : (Jvm.Cond.instanceMethod ({ cls := "SelahGenerator$Sets", name := "findShortest", desc := "()V" } : Jvm.MethodName)) ∈ lw_all := lw_g (lw_at lw_m3 17 rfl) rfl
theorem q620 : (Jvm.Cond.code ({ cls := "SelahGenerator$Sets", name := "findShortest", desc := "()V" } : Jvm.MethodName) prog_9_method_10_code (3 : Nat) (Option.none : Option Jvm.ClassFile.FieldType)) ∈ lw_all := lw_g (lw_at lw_m3 18 rfl) rfl
theorem q621 : (Jvm.Cond.methodLink "SelahGenerator$Sets" (139 : Nat) ({ cls := "java/util/Arrays", name := "fill", desc := "([II)V" } : Jvm.MethodName)) ∈ lw_all := lw_g (lw_at lw_m3 19 rfl) rfl
theorem q624 : (Jvm.Cond.classLink "SelahGenerator$Sets" (143 : Nat) "java/util/PriorityQueue") ∈ lw_all := lw_g (lw_at lw_m3 22 rfl) rfl
theorem q626 : (Jvm.Cond.methodLink "SelahGenerator$Sets" (145 : Nat) ({ cls := "java/util/PriorityQueue", name := "<init>", desc := "()V" } : Jvm.MethodName)) ∈ lw_all := lw_g (lw_at lw_m3 24 rfl) rfl
theorem q721 : (Jvm.Cond.methodLink "SelahGenerator$Sets" (146 : Nat) ({ cls := "SelahGenerator$Sets", name := "offer", desc := "(Ljava/util/PriorityQueue;)V" } : Jvm.MethodName)) ∈ lw_all := lw_g (lw_at lw_m3 119 rfl) rfl
theorem q722 : (Jvm.Cond.privateMethod ({ cls := "SelahGenerator$Sets", name := "offer", desc := "(Ljava/util/PriorityQueue;)V" } : Jvm.MethodName)) ∈ lw_tbl := lw_at lw_m3 120 rfl
theorem q723 : (Jvm.Cond.instanceMethod ({ cls := "SelahGenerator$Sets", name := "offer", desc := "(Ljava/util/PriorityQueue;)V" } : Jvm.MethodName)) ∈ lw_all := lw_g (lw_at lw_m3 121 rfl) rfl
theorem q724 : (Jvm.Cond.code ({ cls := "SelahGenerator$Sets", name := "offer", desc := "(Ljava/util/PriorityQueue;)V" } : Jvm.MethodName) prog_9_method_11_code (6 : Nat) (Option.none : Option Jvm.ClassFile.FieldType)) ∈ lw_all := lw_g (lw_at lw_m3 122 rfl) rfl
theorem q725 : (Jvm.Cond.methodLink "SelahGenerator$Sets" (164 : Nat) ({ cls := "SelahGenerator$Sets", name := "lengthOf", desc := "(LSelahGenerator$Rule;)I" } : Jvm.MethodName)) ∈ lw_all := lw_g (lw_at lw_m3 123 rfl) rfl
theorem q726 : (Jvm.Cond.privateMethod ({ cls := "SelahGenerator$Sets", name := "lengthOf", desc := "(LSelahGenerator$Rule;)I" } : Jvm.MethodName)) ∈ lw_tbl := lw_at lw_m3 124 rfl
theorem q727 : (Jvm.Cond.instanceMethod ({ cls := "SelahGenerator$Sets", name := "lengthOf", desc := "(LSelahGenerator$Rule;)I" } : Jvm.MethodName)) ∈ lw_all := lw_g (lw_at lw_m3 125 rfl) rfl
theorem q728 : (Jvm.Cond.code ({ cls := "SelahGenerator$Sets", name := "lengthOf", desc := "(LSelahGenerator$Rule;)I" } : Jvm.MethodName) prog_9_method_9_code (8 : Nat) (Option.some Jvm.ClassFile.FieldType.int)) ∈ lw_all := lw_g (lw_at lw_m3 126 rfl) rfl
theorem q729 : (Jvm.Cond.constant "SelahGenerator$Sets" (132 : Nat) (1000000 : Int32)) ∈ lw_all := lw_g (lw_at lw_m3 127 rfl) rfl
theorem q730 : (Jvm.Cond.methodLink "SelahGenerator$Sets" (133 : Nat) ({ cls := "java/lang/Math", name := "min", desc := "(II)I" } : Jvm.MethodName)) ∈ lw_all := lw_g (lw_at lw_m3 128 rfl) rfl
theorem q733 : (Jvm.Cond.classLink "SelahGenerator$Sets" (156 : Nat) "SelahGenerator$Length") ∈ lw_all := lw_g (lw_at lw_m3 131 rfl) rfl
theorem q735 : (Jvm.Cond.methodLink "SelahGenerator$Sets" (168 : Nat) ({ cls := "SelahGenerator$Length", name := "<init>", desc := "(II)V" } : Jvm.MethodName)) ∈ lw_all := lw_g (lw_at lw_m3 133 rfl) rfl
theorem q740 : (Jvm.Cond.fieldLinkNest "SelahGenerator$Sets" (158 : Nat) "SelahGenerator$Length" "nonterminal" "I" "SelahGenerator") ∈ lw_tbl := lw_at lw_m3 138 rfl
theorem q742 : (Jvm.Cond.fieldLinkNest "SelahGenerator$Sets" (161 : Nat) "SelahGenerator$Length" "length" "I" "SelahGenerator") ∈ lw_tbl := lw_at lw_m3 140 rfl
theorem q748 : (Jvm.Cond.methodLink "SelahGenerator$Sets" (171 : Nat) ({ cls := "java/util/PriorityQueue", name := "add", desc := "(Ljava/lang/Object;)Z" } : Jvm.MethodName)) ∈ lw_all := lw_g (lw_at lw_m3 146 rfl) rfl
theorem q784 : (Jvm.Cond.selects "SelahGenerator$Sets" ({ cls := "java/lang/Object", name := "getClass", desc := "()Ljava/lang/Class;" } : Jvm.MethodName) ({ cls := "java/lang/Object", name := "getClass", desc := "()Ljava/lang/Class;" } : Jvm.MethodName)) ∈ lw_all := lw_g (lw_at lw_m3 182 rfl) rfl
theorem q971 : (Jvm.Cond.methodLink "SelahGenerator$Sets" (150 : Nat) ({ cls := "java/util/PriorityQueue", name := "isEmpty", desc := "()Z" } : Jvm.MethodName)) ∈ lw_all := lw_g (lw_at lw_m4 129 rfl) rfl
theorem q997 : (Jvm.Cond.methodLink "SelahGenerator$Sets" (153 : Nat) ({ cls := "java/util/PriorityQueue", name := "poll", desc := "()Ljava/lang/Object;" } : Jvm.MethodName)) ∈ lw_all := lw_g (lw_at lw_m4 155 rfl) rfl
theorem q1007 : (Jvm.Cond.methodLink "SelahGenerator$Sets" (64 : Nat) ({ cls := "SelahGenerator$Sets", name := "findBegins", desc := "()V" } : Jvm.MethodName)) ∈ lw_all := lw_g (lw_at lw_m4 165 rfl) rfl
theorem q1008 : (Jvm.Cond.privateMethod ({ cls := "SelahGenerator$Sets", name := "findBegins", desc := "()V" } : Jvm.MethodName)) ∈ lw_tbl := lw_at lw_m4 166 rfl
theorem q1009 : (Jvm.Cond.instanceMethod ({ cls := "SelahGenerator$Sets", name := "findBegins", desc := "()V" } : Jvm.MethodName)) ∈ lw_all := lw_g (lw_at lw_m4 167 rfl) rfl
theorem q1010 : (Jvm.Cond.code ({ cls := "SelahGenerator$Sets", name := "findBegins", desc := "()V" } : Jvm.MethodName) prog_9_method_12_code (4 : Nat) (Option.none : Option Jvm.ClassFile.FieldType)) ∈ lw_all := lw_g (lw_at lw_m4 168 rfl) rfl
theorem q1011 : (Jvm.Cond.methodLink "SelahGenerator$Sets" (67 : Nat) ({ cls := "SelahGenerator$Sets", name := "predict", desc := "()V" } : Jvm.MethodName)) ∈ lw_all := lw_g (lw_at lw_m4 169 rfl) rfl
theorem q1012 : (Jvm.Cond.privateMethod ({ cls := "SelahGenerator$Sets", name := "predict", desc := "()V" } : Jvm.MethodName)) ∈ lw_tbl := lw_at lw_m4 170 rfl
theorem q1013 : (Jvm.Cond.instanceMethod ({ cls := "SelahGenerator$Sets", name := "predict", desc := "()V" } : Jvm.MethodName)) ∈ lw_all := lw_g (lw_at lw_m4 171 rfl) rfl
theorem q1014 : (Jvm.Cond.code ({ cls := "SelahGenerator$Sets", name := "predict", desc := "()V" } : Jvm.MethodName) prog_9_method_14_code (6 : Nat) (Option.none : Option Jvm.ClassFile.FieldType)) ∈ lw_all := lw_g (lw_at lw_m4 172 rfl) rfl
theorem q1015 : (Jvm.Cond.interfaceEntry "SelahGenerator$Sets" (175 : Nat)) ∈ lw_tbl := lw_at lw_m4 173 rfl
theorem q1016 : (Jvm.Cond.methodLink "SelahGenerator$Sets" (175 : Nat) ({ cls := "java/util/List", name := "get", desc := "(I)Ljava/lang/Object;" } : Jvm.MethodName)) ∈ lw_all := lw_g (lw_at lw_m4 174 rfl) rfl
theorem q1034 : (Jvm.Cond.methodLink "SelahGenerator$Sets" (179 : Nat) ({ cls := "java/lang/Integer", name := "valueOf", desc := "(I)Ljava/lang/Integer;" } : Jvm.MethodName)) ∈ lw_all := lw_g (lw_at lw_m4 192 rfl) rfl
theorem q1053 : (Jvm.Cond.interfaceEntry "SelahGenerator$Sets" (185 : Nat)) ∈ lw_tbl := lw_at lw_m4 211 rfl
theorem q1054 : (Jvm.Cond.methodLink "SelahGenerator$Sets" (185 : Nat) ({ cls := "java/util/Map", name := "put", desc := "(Ljava/lang/Object;Ljava/lang/Object;)Ljava/lang/Object;" } : Jvm.MethodName)) ∈ lw_all := lw_g (lw_at lw_m4 212 rfl) rfl
theorem q1144 : (Jvm.Cond.classLink "SelahGenerator$Sets" (180 : Nat) "java/lang/Integer") ∈ lw_all := lw_g (lw_at lw_m5 62 rfl) rfl
theorem q1145 : (Jvm.Cond.fieldLink "SelahGenerator$Sets" (39 : Nat) "SelahGenerator$Sets" "rules" "Ljava/util/List;") ∈ lw_all := lw_g (lw_at lw_m5 63 rfl) rfl
theorem q1146 : (Jvm.Cond.fieldLink "SelahGenerator$Sets" (9 : Nat) "SelahGenerator$Sets" "first" "[I") ∈ lw_all := lw_g (lw_at lw_m5 64 rfl) rfl
theorem q1148 : (Jvm.Cond.fieldLink "SelahGenerator$Sets" (15 : Nat) "SelahGenerator$Sets" "follow" "[I") ∈ lw_all := lw_g (lw_at lw_m5 66 rfl) rfl
theorem q1151 : (Jvm.Cond.fieldLink "SelahGenerator$Sets" (18 : Nat) "SelahGenerator$Sets" "shortest" "[I") ∈ lw_all := lw_g (lw_at lw_m5 69 rfl) rfl
theorem q1153 : (Jvm.Cond.fieldLink "SelahGenerator$Sets" (21 : Nat) "SelahGenerator$Sets" "begins" "[I") ∈ lw_all := lw_g (lw_at lw_m5 71 rfl) rfl
theorem q1154 : (Jvm.Cond.fieldLink "SelahGenerator$Sets" (49 : Nat) "SelahGenerator$Sets" "prediction" "[I") ∈ lw_all := lw_g (lw_at lw_m5 72 rfl) rfl
theorem q1157 : (Jvm.Cond.fieldLink "SelahGenerator$Sets" (27 : Nat) "SelahGenerator$Sets" "table" "Ljava/util/Map;") ∈ lw_all := lw_g (lw_at lw_m5 75 rfl) rfl
theorem q1159 : (Jvm.Cond.fieldLink "SelahGenerator$Sets" (35 : Nat) "SelahGenerator$Sets" "isNull" "LSelahGenerator$Test;") ∈ lw_all := lw_g (lw_at lw_m5 77 rfl) rfl
theorem q1160 : (Jvm.Cond.fieldLink "SelahGenerator$Sets" (74 : Nat) "SelahGenerator$Sets" "nullable" "I") ∈ lw_all := lw_g (lw_at lw_m5 78 rfl) rfl
theorem q1161 : (Jvm.Cond.fieldLink "SelahGenerator$Sets" (111 : Nat) "SelahGenerator$Sets" "rounds" "I") ∈ lw_all := lw_g (lw_at lw_m5 79 rfl) rfl
theorem q1163 : (Jvm.Cond.laysFinal "SelahGenerator$Sets" "SelahGenerator$Sets" "rules" "Ljava/util/List;") ∈ lw_all := lw_g (lw_at lw_m5 81 rfl) rfl
theorem q1164 : (Jvm.Cond.soleField "SelahGenerator$Sets" "rules") ∈ lw_all := lw_g (lw_at lw_m5 82 rfl) rfl
theorem q1165 : (Jvm.Cond.laysFinal "SelahGenerator$Sets" "SelahGenerator$Sets" "first" "[I") ∈ lw_all := lw_g (lw_at lw_m5 83 rfl) rfl
theorem q1166 : (Jvm.Cond.soleField "SelahGenerator$Sets" "first") ∈ lw_all := lw_g (lw_at lw_m5 84 rfl) rfl
theorem q1167 : (Jvm.Cond.laysFinal "SelahGenerator$Sets" "SelahGenerator$Sets" "follow" "[I") ∈ lw_all := lw_g (lw_at lw_m5 85 rfl) rfl
theorem q1168 : (Jvm.Cond.soleField "SelahGenerator$Sets" "follow") ∈ lw_all := lw_g (lw_at lw_m5 86 rfl) rfl
theorem q1169 : (Jvm.Cond.laysFinal "SelahGenerator$Sets" "SelahGenerator$Sets" "shortest" "[I") ∈ lw_all := lw_g (lw_at lw_m5 87 rfl) rfl
theorem q1170 : (Jvm.Cond.soleField "SelahGenerator$Sets" "shortest") ∈ lw_all := lw_g (lw_at lw_m5 88 rfl) rfl
theorem q1171 : (Jvm.Cond.laysFinal "SelahGenerator$Sets" "SelahGenerator$Sets" "begins" "[I") ∈ lw_all := lw_g (lw_at lw_m5 89 rfl) rfl
theorem q1172 : (Jvm.Cond.soleField "SelahGenerator$Sets" "begins") ∈ lw_all := lw_g (lw_at lw_m5 90 rfl) rfl
theorem q1173 : (Jvm.Cond.laysFinal "SelahGenerator$Sets" "SelahGenerator$Sets" "prediction" "[I") ∈ lw_all := lw_g (lw_at lw_m5 91 rfl) rfl
theorem q1174 : (Jvm.Cond.soleField "SelahGenerator$Sets" "prediction") ∈ lw_all := lw_g (lw_at lw_m5 92 rfl) rfl
theorem q1175 : (Jvm.Cond.laysFinal "SelahGenerator$Sets" "SelahGenerator$Sets" "table" "Ljava/util/Map;") ∈ lw_all := lw_g (lw_at lw_m5 93 rfl) rfl
theorem q1176 : (Jvm.Cond.soleField "SelahGenerator$Sets" "table") ∈ lw_all := lw_g (lw_at lw_m5 94 rfl) rfl
theorem q1177 : (Jvm.Cond.laysFinal "SelahGenerator$Sets" "SelahGenerator$Sets" "isNull" "LSelahGenerator$Test;") ∈ lw_all := lw_g (lw_at lw_m5 95 rfl) rfl
theorem q1178 : (Jvm.Cond.soleField "SelahGenerator$Sets" "isNull") ∈ lw_all := lw_g (lw_at lw_m5 96 rfl) rfl
theorem q1179 : (Jvm.Cond.lays "SelahGenerator$Sets" "SelahGenerator$Sets" "nullable" "I") ∈ lw_all := lw_g (lw_at lw_m5 97 rfl) rfl
theorem q1180 : (Jvm.Cond.soleField "SelahGenerator$Sets" "nullable") ∈ lw_all := lw_g (lw_at lw_m5 98 rfl) rfl
theorem q1181 : (Jvm.Cond.lays "SelahGenerator$Sets" "SelahGenerator$Sets" "rounds" "I") ∈ lw_all := lw_g (lw_at lw_m5 99 rfl) rfl
theorem q1182 : (Jvm.Cond.soleField "SelahGenerator$Sets" "rounds") ∈ lw_all := lw_g (lw_at lw_m5 100 rfl) rfl
theorem q1183 : (Jvm.Cond.superclass "SelahGenerator$Sets" "java/lang/Object") ∈ lw_all := lw_g (lw_at lw_m5 101 rfl) rfl
theorem q1189 : (Jvm.Cond.instanceMethod ({ cls := "SelahGenerator$Sets", name := "conflicts", desc := "()I" } : Jvm.MethodName)) ∈ lw_all := lw_g (lw_at lw_m5 107 rfl) rfl
theorem q1190 : (Jvm.Cond.selects "SelahGenerator$Sets" ({ cls := "SelahGenerator$Sets", name := "conflicts", desc := "()I" } : Jvm.MethodName) ({ cls := "SelahGenerator$Sets", name := "conflicts", desc := "()I" } : Jvm.MethodName)) ∈ lw_all := lw_g (lw_at lw_m5 108 rfl) rfl
theorem q1191 : (Jvm.Cond.code ({ cls := "SelahGenerator$Sets", name := "conflicts", desc := "()I" } : Jvm.MethodName) prog_9_method_16_code (3 : Nat) (Option.some Jvm.ClassFile.FieldType.int)) ∈ lw_all := lw_g (lw_at lw_m5 109 rfl) rfl
theorem q1192 : (Jvm.Cond.interfaceEntry "SelahGenerator$Sets" (197 : Nat)) ∈ lw_tbl := lw_at lw_m5 110 rfl
theorem q1193 : (Jvm.Cond.methodLink "SelahGenerator$Sets" (197 : Nat) ({ cls := "java/util/Map", name := "values", desc := "()Ljava/util/Collection;" } : Jvm.MethodName)) ∈ lw_all := lw_g (lw_at lw_m5 111 rfl) rfl
theorem q1211 : (Jvm.Cond.interfaceEntry "SelahGenerator$Sets" (201 : Nat)) ∈ lw_tbl := lw_at lw_m5 129 rfl
theorem q1212 : (Jvm.Cond.methodLink "SelahGenerator$Sets" (201 : Nat) ({ cls := "java/util/Collection", name := "iterator", desc := "()Ljava/util/Iterator;" } : Jvm.MethodName)) ∈ lw_all := lw_g (lw_at lw_m5 130 rfl) rfl
theorem q1306 : (Jvm.Cond.methodLink "SelahGenerator$Sets" (194 : Nat) ({ cls := "java/lang/Integer", name := "intValue", desc := "()I" } : Jvm.MethodName)) ∈ lw_all := lw_g (lw_at lw_m5 224 rfl) rfl
theorem q1526 : (Jvm.Cond.instanceMethod ({ cls := "SelahGenerator$Sets", name := "isLeftRecursive", desc := "(I)Z" } : Jvm.MethodName)) ∈ lw_all := lw_g (lw_at lw_m6 204 rfl) rfl
theorem q1527 : (Jvm.Cond.selects "SelahGenerator$Sets" ({ cls := "SelahGenerator$Sets", name := "isLeftRecursive", desc := "(I)Z" } : Jvm.MethodName) ({ cls := "SelahGenerator$Sets", name := "isLeftRecursive", desc := "(I)Z" } : Jvm.MethodName)) ∈ lw_all := lw_g (lw_at lw_m6 205 rfl) rfl
theorem q1528 : (Jvm.Cond.code ({ cls := "SelahGenerator$Sets", name := "isLeftRecursive", desc := "(I)Z" } : Jvm.MethodName) prog_9_method_13_code (2 : Nat) (Option.some Jvm.ClassFile.FieldType.boolean)) ∈ lw_all := lw_g (lw_at lw_m6 206 rfl) rfl
theorem q1735 : (Jvm.Cond.fieldLinkNest "SelahGenerator$Sets" (101 : Nat) "SelahGenerator$Rule" "left" "I" "SelahGenerator") ∈ lw_tbl := lw_at lw_m7 173 rfl
theorem q1742 : (Jvm.Cond.fieldLinkNest "SelahGenerator$Sets" (94 : Nat) "SelahGenerator$Rule" "right" "[I" "SelahGenerator") ∈ lw_tbl := lw_at lw_m7 180 rfl
theorem q1911 : (Jvm.Cond.instanceMethod ({ cls := "SelahGenerator$Sets", name := "predicted", desc := "(II)I" } : Jvm.MethodName)) ∈ lw_all := lw_g (lw_at lw_m8 109 rfl) rfl
theorem q1912 : (Jvm.Cond.selects "SelahGenerator$Sets" ({ cls := "SelahGenerator$Sets", name := "predicted", desc := "(II)I" } : Jvm.MethodName) ({ cls := "SelahGenerator$Sets", name := "predicted", desc := "(II)I" } : Jvm.MethodName)) ∈ lw_all := lw_g (lw_at lw_m8 110 rfl) rfl
theorem q1913 : (Jvm.Cond.code ({ cls := "SelahGenerator$Sets", name := "predicted", desc := "(II)I" } : Jvm.MethodName) prog_9_method_15_code (4 : Nat) (Option.some Jvm.ClassFile.FieldType.int)) ∈ lw_all := lw_g (lw_at lw_m8 111 rfl) rfl
theorem q1914 : (Jvm.Cond.interfaceEntry "SelahGenerator$Sets" (191 : Nat)) ∈ lw_tbl := lw_at lw_m8 112 rfl
theorem q1915 : (Jvm.Cond.methodLink "SelahGenerator$Sets" (191 : Nat) ({ cls := "java/util/Map", name := "get", desc := "(Ljava/lang/Object;)Ljava/lang/Object;" } : Jvm.MethodName)) ∈ lw_all := lw_g (lw_at lw_m8 113 rfl) rfl
theorem q2367 : (Jvm.Cond.selects "SelahGenerator$Sets" ({ cls := "java/lang/Object", name := "equals", desc := "(Ljava/lang/Object;)Z" } : Jvm.MethodName) ({ cls := "java/lang/Object", name := "equals", desc := "(Ljava/lang/Object;)Z" } : Jvm.MethodName)) ∈ lw_all := lw_g (lw_at lw_m10 85 rfl) rfl
theorem q3304 : (Jvm.Cond.castable "SelahGenerator$Sets" "java/lang/Object") ∈ lw_tbl := lw_at lw_m14 62 rfl
theorem in_X5 : ∀ w ∈ wsX50, w ∈ lw_all := lw_in wsX50 [1163, 1165, 1167, 1169, 1171, 1173, 1175, 1177, 1179, 1181] (by decide +kernel) (by decide +kernel)
/-! SelahGenerator$Length -/
set_option maxRecDepth 100000
def RX6 : String := "SelahGenerator$Length"
def TX6 : u_T := fun k => match k with
  | 0 => ("SelahGenerator$Length", "nonterminal", "I", true)
  | _ => ("SelahGenerator$Length", "length", "I", true)
def tyX6 : Nat → FieldType := fun k => match k with
  | 0 => .int
  | _ => .int
abbrev wsX60 : List Cond := u_ws RX6 TX6 2
theorem nmX6 : ∀ a, a < 2 → ∀ b, b < 2 → a ≠ b → (TX6 a).2.1 ≠ (TX6 b).2.1 := by decide +kernel
theorem tyX6_ok : ∀ k, k < 2 → parseFieldDescriptor (TX6 k).2.2.1 = some (tyX6 k) := by decide +kernel
abbrev cX6_init : ByteArray := prog_5_method_1_code
def yX6_init : MethodName := ⟨RX6, "<init>", "(II)V"⟩
def dkwX6_init_0 : List UInt8 := [42, 183, 0, 1, 42, 27, 181, 0, 7, 42, 28, 181, 0, 13, 177]
abbrev dktX6_init_0 : List UInt8 := dkwX6_init_0 ++ []
theorem dksX6_init_0 : cX6_init.data.toList.drop 0 = dktX6_init_0 := by decide +kernel
theorem dX6_init_0 : decode cX6_init 0 = .ok (.aload_n 0, 1) := dk_42 (dk_at dksX6_init_0 0 rfl rfl)
theorem dX6_init_1 : decode cX6_init 1 = .ok (.invokespecial 1, 3) := dk_183 0 1 (dk_at dksX6_init_0 1 rfl rfl)
theorem dX6_init_4 : decode cX6_init 4 = .ok (.aload_n 0, 1) := dk_42 (dk_at dksX6_init_0 4 rfl rfl)
theorem dX6_init_5 : decode cX6_init 5 = .ok (.iload_n 1, 1) := dk_27 (dk_at dksX6_init_0 5 rfl rfl)
theorem dX6_init_6 : decode cX6_init 6 = .ok (.putfield 7, 3) := dk_181 0 7 (dk_at dksX6_init_0 6 rfl rfl)
theorem dX6_init_9 : decode cX6_init 9 = .ok (.aload_n 0, 1) := dk_42 (dk_at dksX6_init_0 9 rfl rfl)
theorem dX6_init_10 : decode cX6_init 10 = .ok (.iload_n 2, 1) := dk_28 (dk_at dksX6_init_0 10 rfl rfl)
theorem dX6_init_11 : decode cX6_init 11 = .ok (.putfield 13, 3) := dk_181 0 13 (dk_at dksX6_init_0 11 rfl rfl)
theorem dX6_init_14 : decode cX6_init 14 = .ok (.return_, 1) := dk_177 (dk_at dksX6_init_0 14 rfl rfl)
abbrev cX6_compareTo : ByteArray := prog_5_method_3_code
def yX6_compareTo : MethodName := ⟨RX6, "compareTo", "(Ljava/lang/Object;)I"⟩
def dkwX6_compareTo_0 : List UInt8 := [42, 43, 192, 0, 8, 182, 0, 22, 172]
abbrev dktX6_compareTo_0 : List UInt8 := dkwX6_compareTo_0 ++ []
theorem dksX6_compareTo_0 : cX6_compareTo.data.toList.drop 0 = dktX6_compareTo_0 := by decide +kernel
theorem dX6_compareTo_0 : decode cX6_compareTo 0 = .ok (.aload_n 0, 1) := dk_42 (dk_at dksX6_compareTo_0 0 rfl rfl)
theorem dX6_compareTo_1 : decode cX6_compareTo 1 = .ok (.aload_n 1, 1) := dk_43 (dk_at dksX6_compareTo_0 1 rfl rfl)
theorem dX6_compareTo_2 : decode cX6_compareTo 2 = .ok (.checkcast 8, 3) := dk_192 0 8 (dk_at dksX6_compareTo_0 2 rfl rfl)
theorem dX6_compareTo_5 : decode cX6_compareTo 5 = .ok (.invokevirtual 22, 3) := dk_182 0 22 (dk_at dksX6_compareTo_0 5 rfl rfl)
theorem dX6_compareTo_8 : decode cX6_compareTo 8 = .ok (.ireturn, 1) := dk_172 (dk_at dksX6_compareTo_0 8 rfl rfl)
abbrev cX6_compareTo_2 : ByteArray := prog_5_method_2_code
def yX6_compareTo_2 : MethodName := ⟨RX6, "compareTo", "(LSelahGenerator$Length;)I"⟩
def dkwX6_compareTo_2_1 : List UInt8 := [167, 0, 14, 42, 180, 0, 7, 43, 180, 0, 7, 184, 0, 16, 172]
abbrev dktX6_compareTo_2_1 : List UInt8 := dkwX6_compareTo_2_1 ++ []
def dkwX6_compareTo_2_0 : List UInt8 := [42, 180, 0, 13, 43, 180, 0, 13, 159, 0, 17, 42, 180, 0, 13, 43, 180, 0, 13, 184, 0, 16]
abbrev dktX6_compareTo_2_0 : List UInt8 := dkwX6_compareTo_2_0 ++ dktX6_compareTo_2_1
theorem dksX6_compareTo_2_0 : cX6_compareTo_2.data.toList.drop 0 = dktX6_compareTo_2_0 := by decide +kernel
theorem dksX6_compareTo_2_1 : cX6_compareTo_2.data.toList.drop 22 = dktX6_compareTo_2_1 := dk_seg dksX6_compareTo_2_0 22 rfl rfl
theorem dX6_compareTo_2_0 : decode cX6_compareTo_2 0 = .ok (.aload_n 0, 1) := dk_42 (dk_at dksX6_compareTo_2_0 0 rfl rfl)
theorem dX6_compareTo_2_1 : decode cX6_compareTo_2 1 = .ok (.getfield 13, 3) := dk_180 0 13 (dk_at dksX6_compareTo_2_0 1 rfl rfl)
theorem dX6_compareTo_2_4 : decode cX6_compareTo_2 4 = .ok (.aload_n 1, 1) := dk_43 (dk_at dksX6_compareTo_2_0 4 rfl rfl)
theorem dX6_compareTo_2_5 : decode cX6_compareTo_2 5 = .ok (.getfield 13, 3) := dk_180 0 13 (dk_at dksX6_compareTo_2_0 5 rfl rfl)
theorem dX6_compareTo_2_8 : decode cX6_compareTo_2 8 = .ok (.if_icmp .eq 17, 3) := dk_159 0 17 (dk_at dksX6_compareTo_2_0 8 rfl rfl)
theorem dX6_compareTo_2_11 : decode cX6_compareTo_2 11 = .ok (.aload_n 0, 1) := dk_42 (dk_at dksX6_compareTo_2_0 11 rfl rfl)
theorem dX6_compareTo_2_12 : decode cX6_compareTo_2 12 = .ok (.getfield 13, 3) := dk_180 0 13 (dk_at dksX6_compareTo_2_0 12 rfl rfl)
theorem dX6_compareTo_2_15 : decode cX6_compareTo_2 15 = .ok (.aload_n 1, 1) := dk_43 (dk_at dksX6_compareTo_2_0 15 rfl rfl)
theorem dX6_compareTo_2_16 : decode cX6_compareTo_2 16 = .ok (.getfield 13, 3) := dk_180 0 13 (dk_at dksX6_compareTo_2_0 16 rfl rfl)
theorem dX6_compareTo_2_19 : decode cX6_compareTo_2 19 = .ok (.invokestatic 16, 3) := dk_184 0 16 (dk_at dksX6_compareTo_2_0 19 rfl rfl)
theorem dX6_compareTo_2_22 : decode cX6_compareTo_2 22 = .ok (.goto 14, 3) := dk_167 0 14 (dk_at dksX6_compareTo_2_1 0 rfl rfl)
theorem dX6_compareTo_2_25 : decode cX6_compareTo_2 25 = .ok (.aload_n 0, 1) := dk_42 (dk_at dksX6_compareTo_2_1 3 rfl rfl)
theorem dX6_compareTo_2_26 : decode cX6_compareTo_2 26 = .ok (.getfield 7, 3) := dk_180 0 7 (dk_at dksX6_compareTo_2_1 4 rfl rfl)
theorem dX6_compareTo_2_29 : decode cX6_compareTo_2 29 = .ok (.aload_n 1, 1) := dk_43 (dk_at dksX6_compareTo_2_1 7 rfl rfl)
theorem dX6_compareTo_2_30 : decode cX6_compareTo_2 30 = .ok (.getfield 7, 3) := dk_180 0 7 (dk_at dksX6_compareTo_2_1 8 rfl rfl)
theorem dX6_compareTo_2_33 : decode cX6_compareTo_2 33 = .ok (.invokestatic 16, 3) := dk_184 0 16 (dk_at dksX6_compareTo_2_1 11 rfl rfl)
theorem dX6_compareTo_2_36 : decode cX6_compareTo_2 36 = .ok (.ireturn, 1) := dk_172 (dk_at dksX6_compareTo_2_1 14 rfl rfl)
theorem q159 : (Jvm.Cond.initialized "SelahGenerator$Length") ∈ lw_all := lw_g (lw_at lw_m1 37 rfl) rfl
theorem q734 : (Jvm.Cond.instantiable "SelahGenerator$Length" (2 : Nat)) ∈ lw_all := lw_g (lw_at lw_m3 132 rfl) rfl
theorem q736 : (Jvm.Cond.instanceMethod ({ cls := "SelahGenerator$Length", name := "<init>", desc := "(II)V" } : Jvm.MethodName)) ∈ lw_all := lw_g (lw_at lw_m3 134 rfl) rfl
theorem q737 : (Jvm.Cond.code ({ cls := "SelahGenerator$Length", name := "<init>", desc := "(II)V" } : Jvm.MethodName) prog_5_method_1_code (3 : Nat) (Option.none : Option Jvm.ClassFile.FieldType)) ∈ lw_all := lw_g (lw_at lw_m3 135 rfl) rfl
theorem q738 : (Jvm.Cond.methodLink "SelahGenerator$Length" (1 : Nat) ({ cls := "java/lang/Object", name := "<init>", desc := "()V" } : Jvm.MethodName)) ∈ lw_all := lw_g (lw_at lw_m3 136 rfl) rfl
theorem q739 : (Jvm.Cond.fieldLink "SelahGenerator$Length" (7 : Nat) "SelahGenerator$Length" "nonterminal" "I") ∈ lw_all := lw_g (lw_at lw_m3 137 rfl) rfl
theorem q741 : (Jvm.Cond.fieldLink "SelahGenerator$Length" (13 : Nat) "SelahGenerator$Length" "length" "I") ∈ lw_all := lw_g (lw_at lw_m3 139 rfl) rfl
theorem q743 : (Jvm.Cond.laysFinal "SelahGenerator$Length" "SelahGenerator$Length" "nonterminal" "I") ∈ lw_all := lw_g (lw_at lw_m3 141 rfl) rfl
theorem q744 : (Jvm.Cond.soleField "SelahGenerator$Length" "nonterminal") ∈ lw_all := lw_g (lw_at lw_m3 142 rfl) rfl
theorem q745 : (Jvm.Cond.laysFinal "SelahGenerator$Length" "SelahGenerator$Length" "length" "I") ∈ lw_all := lw_g (lw_at lw_m3 143 rfl) rfl
theorem q746 : (Jvm.Cond.soleField "SelahGenerator$Length" "length") ∈ lw_all := lw_g (lw_at lw_m3 144 rfl) rfl
theorem q747 : (Jvm.Cond.superclass "SelahGenerator$Length" "java/lang/Object") ∈ lw_all := lw_g (lw_at lw_m3 145 rfl) rfl
theorem q780 : (Jvm.Cond.selects "SelahGenerator$Length" ({ cls := "java/lang/Object", name := "getClass", desc := "()Ljava/lang/Class;" } : Jvm.MethodName) ({ cls := "java/lang/Object", name := "getClass", desc := "()Ljava/lang/Class;" } : Jvm.MethodName)) ∈ lw_all := lw_g (lw_at lw_m3 178 rfl) rfl
theorem q836 : (Jvm.Cond.castable "SelahGenerator$Length" "java/lang/Comparable") ∈ lw_tbl := lw_at lw_m3 234 rfl
theorem q837 : (Jvm.Cond.selects "SelahGenerator$Length" ({ cls := "java/lang/Comparable", name := "compareTo", desc := "(Ljava/lang/Object;)I" } : Jvm.MethodName) ({ cls := "SelahGenerator$Length", name := "compareTo", desc := "(Ljava/lang/Object;)I" } : Jvm.MethodName)) ∈ lw_all := lw_g (lw_at lw_m3 235 rfl) rfl
theorem q838 : (Jvm.Cond.unhidden "SelahGenerator$Length" "compareTo" "(Ljava/lang/Object;)I") ∈ lw_tbl := lw_at lw_m3 236 rfl
theorem q839 : (Jvm.Cond.instanceMethod ({ cls := "SelahGenerator$Length", name := "compareTo", desc := "(Ljava/lang/Object;)I" } : Jvm.MethodName)) ∈ lw_all := lw_g (lw_at lw_m3 237 rfl) rfl
theorem q840 : (Jvm.Cond.publicMethod ({ cls := "SelahGenerator$Length", name := "compareTo", desc := "(Ljava/lang/Object;)I" } : Jvm.MethodName)) ∈ lw_tbl := lw_at lw_m3 238 rfl
theorem q841 : (Jvm.Cond.code ({ cls := "SelahGenerator$Length", name := "compareTo", desc := "(Ljava/lang/Object;)I" } : Jvm.MethodName) prog_5_method_3_code (2 : Nat) (Option.some Jvm.ClassFile.FieldType.int)) ∈ lw_all := lw_g (lw_at lw_m3 239 rfl) rfl
theorem q842 : (Jvm.Cond.classLink "SelahGenerator$Length" (8 : Nat) "SelahGenerator$Length") ∈ lw_all := lw_g (lw_at lw_m4 0 rfl) rfl
theorem q843 : (Jvm.Cond.methodLink "SelahGenerator$Length" (22 : Nat) ({ cls := "SelahGenerator$Length", name := "compareTo", desc := "(LSelahGenerator$Length;)I" } : Jvm.MethodName)) ∈ lw_all := lw_g (lw_at lw_m4 1 rfl) rfl
theorem q844 : (Jvm.Cond.instanceMethod ({ cls := "SelahGenerator$Length", name := "compareTo", desc := "(LSelahGenerator$Length;)I" } : Jvm.MethodName)) ∈ lw_all := lw_g (lw_at lw_m4 2 rfl) rfl
theorem q845 : (Jvm.Cond.selects "SelahGenerator$Length" ({ cls := "SelahGenerator$Length", name := "compareTo", desc := "(LSelahGenerator$Length;)I" } : Jvm.MethodName) ({ cls := "SelahGenerator$Length", name := "compareTo", desc := "(LSelahGenerator$Length;)I" } : Jvm.MethodName)) ∈ lw_all := lw_g (lw_at lw_m4 3 rfl) rfl
theorem q846 : (Jvm.Cond.code ({ cls := "SelahGenerator$Length", name := "compareTo", desc := "(LSelahGenerator$Length;)I" } : Jvm.MethodName) prog_5_method_2_code (2 : Nat) (Option.some Jvm.ClassFile.FieldType.int)) ∈ lw_all := lw_g (lw_at lw_m4 4 rfl) rfl
theorem q847 : (Jvm.Cond.methodLink "SelahGenerator$Length" (16 : Nat) ({ cls := "java/lang/Integer", name := "compare", desc := "(II)I" } : Jvm.MethodName)) ∈ lw_all := lw_g (lw_at lw_m4 5 rfl) rfl
theorem q2363 : (Jvm.Cond.selects "SelahGenerator$Length" ({ cls := "java/lang/Object", name := "equals", desc := "(Ljava/lang/Object;)Z" } : Jvm.MethodName) ({ cls := "java/lang/Object", name := "equals", desc := "(Ljava/lang/Object;)Z" } : Jvm.MethodName)) ∈ lw_all := lw_g (lw_at lw_m10 81 rfl) rfl
theorem q3308 : (Jvm.Cond.castable "SelahGenerator$Length" "java/lang/Object") ∈ lw_tbl := lw_at lw_m14 66 rfl
theorem in_X6 : ∀ w ∈ wsX60, w ∈ lw_all := lw_in wsX60 [743, 745] (by decide +kernel) (by decide +kernel)
/-! SelahGenerator$Pairs -/
set_option maxRecDepth 100000
def RX7 : String := "SelahGenerator$Pairs"
def TX7 : u_T := fun k => match k with
  | 0 => ("SelahGenerator$Pairs", "rules", "Ljava/util/List;", true)
  | 1 => ("SelahGenerator$Pairs", "first", "[LSelahGenerator$Strings;", true)
  | 2 => ("SelahGenerator$Pairs", "follow", "[LSelahGenerator$Strings;", true)
  | 3 => ("SelahGenerator$Pairs", "prediction", "[LSelahGenerator$Strings;", true)
  | 4 => ("SelahGenerator$Pairs", "now", "LSelahGenerator$Strings;", true)
  | 5 => ("SelahGenerator$Pairs", "next", "LSelahGenerator$Strings;", true)
  | _ => ("SelahGenerator$Pairs", "token", "LSelahGenerator$Strings;", true)
def tyX7 : Nat → FieldType := fun k => match k with
  | 0 => .object "java/util/List"
  | 1 => .array (.object "SelahGenerator$Strings")
  | 2 => .array (.object "SelahGenerator$Strings")
  | 3 => .array (.object "SelahGenerator$Strings")
  | 4 => .object "SelahGenerator$Strings"
  | 5 => .object "SelahGenerator$Strings"
  | _ => .object "SelahGenerator$Strings"
abbrev wsX70 : List Cond := u_ws RX7 TX7 7
theorem nmX7 : ∀ a, a < 7 → ∀ b, b < 7 → a ≠ b → (TX7 a).2.1 ≠ (TX7 b).2.1 := by decide +kernel
theorem tyX7_ok : ∀ k, k < 7 → parseFieldDescriptor (TX7 k).2.2.1 = some (tyX7 k) := by decide +kernel
abbrev cX7_init : ByteArray := prog_6_method_1_code
def yX7_init : MethodName := ⟨RX7, "<init>", "(Ljava/util/List;)V"⟩
def dkwX7_init_9 : List UInt8 := [177]
abbrev dktX7_init_9 : List UInt8 := dkwX7_init_9 ++ []
def dkwX7_init_8 : List UInt8 := [28, 50, 42, 180, 0, 21, 182, 0, 68, 42, 180, 0, 41, 28, 50, 182, 0, 71, 132, 2, 1, 167, 255, 176]
abbrev dktX7_init_8 : List UInt8 := dkwX7_init_8 ++ dktX7_init_9
def dkwX7_init_7 : List UInt8 := [3, 182, 0, 56, 42, 42, 180, 0, 17, 45, 180, 0, 60, 16, 20, 100, 50, 182, 0, 64, 42, 180, 0, 41]
abbrev dktX7_init_7 : List UInt8 := dkwX7_init_7 ++ dktX7_init_8
def dkwX7_init_6 : List UInt8 := [185, 0, 50, 2, 0, 192, 0, 54, 78, 42, 180, 0, 41, 28, 187, 0, 9, 89, 183, 0, 20, 83, 42, 45]
abbrev dktX7_init_6 : List UInt8 := dkwX7_init_6 ++ dktX7_init_7
def dkwX7_init_5 : List UInt8 := [182, 0, 44, 42, 182, 0, 47, 3, 61, 28, 42, 180, 0, 41, 190, 162, 0, 77, 43, 28]
abbrev dktX7_init_5 : List UInt8 := dkwX7_init_5 ++ dktX7_init_6
def dkwX7_init_4 : List UInt8 := [183, 0, 20, 83, 42, 180, 0, 17, 28, 187, 0, 9, 89, 183, 0, 20, 83, 132, 2, 1, 167, 255, 221, 42]
abbrev dktX7_init_4 : List UInt8 := dkwX7_init_4 ++ dktX7_init_5
def dkwX7_init_3 : List UInt8 := [189, 0, 9, 181, 0, 41, 3, 61, 28, 16, 12, 162, 0, 35, 42, 180, 0, 11, 28, 187, 0, 9, 89]
abbrev dktX7_init_3 : List UInt8 := dkwX7_init_3 ++ dktX7_init_4
def dkwX7_init_2 : List UInt8 := [187, 0, 9, 89, 183, 0, 20, 181, 0, 28, 42, 43, 181, 0, 31, 42, 43, 185, 0, 35, 1, 0]
abbrev dktX7_init_2 : List UInt8 := dkwX7_init_2 ++ dktX7_init_3
def dkwX7_init_1 : List UInt8 := [187, 0, 9, 89, 183, 0, 20, 181, 0, 21, 42, 187, 0, 9, 89, 183, 0, 20, 181, 0, 25, 42]
abbrev dktX7_init_1 : List UInt8 := dkwX7_init_1 ++ dktX7_init_2
def dkwX7_init_0 : List UInt8 := [42, 183, 0, 3, 42, 16, 12, 189, 0, 9, 181, 0, 11, 42, 16, 12, 189, 0, 9, 181, 0, 17, 42]
abbrev dktX7_init_0 : List UInt8 := dkwX7_init_0 ++ dktX7_init_1
theorem dksX7_init_0 : cX7_init.data.toList.drop 0 = dktX7_init_0 := by decide +kernel
theorem dksX7_init_1 : cX7_init.data.toList.drop 23 = dktX7_init_1 := dk_seg dksX7_init_0 23 rfl rfl
theorem dksX7_init_2 : cX7_init.data.toList.drop 45 = dktX7_init_2 := dk_seg dksX7_init_1 22 rfl rfl
theorem dksX7_init_3 : cX7_init.data.toList.drop 67 = dktX7_init_3 := dk_seg dksX7_init_2 22 rfl rfl
theorem dksX7_init_4 : cX7_init.data.toList.drop 90 = dktX7_init_4 := dk_seg dksX7_init_3 23 rfl rfl
theorem dksX7_init_5 : cX7_init.data.toList.drop 114 = dktX7_init_5 := dk_seg dksX7_init_4 24 rfl rfl
theorem dksX7_init_6 : cX7_init.data.toList.drop 134 = dktX7_init_6 := dk_seg dksX7_init_5 20 rfl rfl
theorem dksX7_init_7 : cX7_init.data.toList.drop 158 = dktX7_init_7 := dk_seg dksX7_init_6 24 rfl rfl
theorem dksX7_init_8 : cX7_init.data.toList.drop 182 = dktX7_init_8 := dk_seg dksX7_init_7 24 rfl rfl
theorem dksX7_init_9 : cX7_init.data.toList.drop 206 = dktX7_init_9 := dk_seg dksX7_init_8 24 rfl rfl
theorem dX7_init_0 : decode cX7_init 0 = .ok (.aload_n 0, 1) := dk_42 (dk_at dksX7_init_0 0 rfl rfl)
theorem dX7_init_1 : decode cX7_init 1 = .ok (.invokespecial 3, 3) := dk_183 0 3 (dk_at dksX7_init_0 1 rfl rfl)
theorem dX7_init_4 : decode cX7_init 4 = .ok (.aload_n 0, 1) := dk_42 (dk_at dksX7_init_0 4 rfl rfl)
theorem dX7_init_5 : decode cX7_init 5 = .ok (.bipush 12, 2) := dk_16 12 (dk_at dksX7_init_0 5 rfl rfl)
theorem dX7_init_7 : decode cX7_init 7 = .ok (.anewarray 9, 3) := dk_189 0 9 (dk_at dksX7_init_0 7 rfl rfl)
theorem dX7_init_10 : decode cX7_init 10 = .ok (.putfield 11, 3) := dk_181 0 11 (dk_at dksX7_init_0 10 rfl rfl)
theorem dX7_init_13 : decode cX7_init 13 = .ok (.aload_n 0, 1) := dk_42 (dk_at dksX7_init_0 13 rfl rfl)
theorem dX7_init_14 : decode cX7_init 14 = .ok (.bipush 12, 2) := dk_16 12 (dk_at dksX7_init_0 14 rfl rfl)
theorem dX7_init_16 : decode cX7_init 16 = .ok (.anewarray 9, 3) := dk_189 0 9 (dk_at dksX7_init_0 16 rfl rfl)
theorem dX7_init_19 : decode cX7_init 19 = .ok (.putfield 17, 3) := dk_181 0 17 (dk_at dksX7_init_0 19 rfl rfl)
theorem dX7_init_22 : decode cX7_init 22 = .ok (.aload_n 0, 1) := dk_42 (dk_at dksX7_init_0 22 rfl rfl)
theorem dX7_init_23 : decode cX7_init 23 = .ok (.new 9, 3) := dk_187 0 9 (dk_at dksX7_init_1 0 rfl rfl)
theorem dX7_init_26 : decode cX7_init 26 = .ok (.dup, 1) := dk_89 (dk_at dksX7_init_1 3 rfl rfl)
theorem dX7_init_27 : decode cX7_init 27 = .ok (.invokespecial 20, 3) := dk_183 0 20 (dk_at dksX7_init_1 4 rfl rfl)
theorem dX7_init_30 : decode cX7_init 30 = .ok (.putfield 21, 3) := dk_181 0 21 (dk_at dksX7_init_1 7 rfl rfl)
theorem dX7_init_33 : decode cX7_init 33 = .ok (.aload_n 0, 1) := dk_42 (dk_at dksX7_init_1 10 rfl rfl)
theorem dX7_init_34 : decode cX7_init 34 = .ok (.new 9, 3) := dk_187 0 9 (dk_at dksX7_init_1 11 rfl rfl)
theorem dX7_init_37 : decode cX7_init 37 = .ok (.dup, 1) := dk_89 (dk_at dksX7_init_1 14 rfl rfl)
theorem dX7_init_38 : decode cX7_init 38 = .ok (.invokespecial 20, 3) := dk_183 0 20 (dk_at dksX7_init_1 15 rfl rfl)
theorem dX7_init_41 : decode cX7_init 41 = .ok (.putfield 25, 3) := dk_181 0 25 (dk_at dksX7_init_1 18 rfl rfl)
theorem dX7_init_44 : decode cX7_init 44 = .ok (.aload_n 0, 1) := dk_42 (dk_at dksX7_init_1 21 rfl rfl)
theorem dX7_init_45 : decode cX7_init 45 = .ok (.new 9, 3) := dk_187 0 9 (dk_at dksX7_init_2 0 rfl rfl)
theorem dX7_init_48 : decode cX7_init 48 = .ok (.dup, 1) := dk_89 (dk_at dksX7_init_2 3 rfl rfl)
theorem dX7_init_49 : decode cX7_init 49 = .ok (.invokespecial 20, 3) := dk_183 0 20 (dk_at dksX7_init_2 4 rfl rfl)
theorem dX7_init_52 : decode cX7_init 52 = .ok (.putfield 28, 3) := dk_181 0 28 (dk_at dksX7_init_2 7 rfl rfl)
theorem dX7_init_55 : decode cX7_init 55 = .ok (.aload_n 0, 1) := dk_42 (dk_at dksX7_init_2 10 rfl rfl)
theorem dX7_init_56 : decode cX7_init 56 = .ok (.aload_n 1, 1) := dk_43 (dk_at dksX7_init_2 11 rfl rfl)
theorem dX7_init_57 : decode cX7_init 57 = .ok (.putfield 31, 3) := dk_181 0 31 (dk_at dksX7_init_2 12 rfl rfl)
theorem dX7_init_60 : decode cX7_init 60 = .ok (.aload_n 0, 1) := dk_42 (dk_at dksX7_init_2 15 rfl rfl)
theorem dX7_init_61 : decode cX7_init 61 = .ok (.aload_n 1, 1) := dk_43 (dk_at dksX7_init_2 16 rfl rfl)
theorem dX7_init_62 : decode cX7_init 62 = .ok (.invokeinterface 35 1, 5) := by decide +kernel
theorem dX7_init_67 : decode cX7_init 67 = .ok (.anewarray 9, 3) := dk_189 0 9 (dk_at dksX7_init_3 0 rfl rfl)
theorem dX7_init_70 : decode cX7_init 70 = .ok (.putfield 41, 3) := dk_181 0 41 (dk_at dksX7_init_3 3 rfl rfl)
theorem dX7_init_73 : decode cX7_init 73 = .ok (.iconst 0, 1) := dk_3 (dk_at dksX7_init_3 6 rfl rfl)
theorem dX7_init_74 : decode cX7_init 74 = .ok (.istore_n 2, 1) := dk_61 (dk_at dksX7_init_3 7 rfl rfl)
theorem dX7_init_75 : decode cX7_init 75 = .ok (.iload_n 2, 1) := dk_28 (dk_at dksX7_init_3 8 rfl rfl)
theorem dX7_init_76 : decode cX7_init 76 = .ok (.bipush 12, 2) := dk_16 12 (dk_at dksX7_init_3 9 rfl rfl)
theorem dX7_init_78 : decode cX7_init 78 = .ok (.if_icmp .ge 35, 3) := dk_162 0 35 (dk_at dksX7_init_3 11 rfl rfl)
theorem dX7_init_81 : decode cX7_init 81 = .ok (.aload_n 0, 1) := dk_42 (dk_at dksX7_init_3 14 rfl rfl)
theorem dX7_init_82 : decode cX7_init 82 = .ok (.getfield 11, 3) := dk_180 0 11 (dk_at dksX7_init_3 15 rfl rfl)
theorem dX7_init_85 : decode cX7_init 85 = .ok (.iload_n 2, 1) := dk_28 (dk_at dksX7_init_3 18 rfl rfl)
theorem dX7_init_86 : decode cX7_init 86 = .ok (.new 9, 3) := dk_187 0 9 (dk_at dksX7_init_3 19 rfl rfl)
theorem dX7_init_89 : decode cX7_init 89 = .ok (.dup, 1) := dk_89 (dk_at dksX7_init_3 22 rfl rfl)
theorem dX7_init_90 : decode cX7_init 90 = .ok (.invokespecial 20, 3) := dk_183 0 20 (dk_at dksX7_init_4 0 rfl rfl)
theorem dX7_init_93 : decode cX7_init 93 = .ok (.aastore, 1) := dk_83 (dk_at dksX7_init_4 3 rfl rfl)
theorem dX7_init_94 : decode cX7_init 94 = .ok (.aload_n 0, 1) := dk_42 (dk_at dksX7_init_4 4 rfl rfl)
theorem dX7_init_95 : decode cX7_init 95 = .ok (.getfield 17, 3) := dk_180 0 17 (dk_at dksX7_init_4 5 rfl rfl)
theorem dX7_init_98 : decode cX7_init 98 = .ok (.iload_n 2, 1) := dk_28 (dk_at dksX7_init_4 8 rfl rfl)
theorem dX7_init_99 : decode cX7_init 99 = .ok (.new 9, 3) := dk_187 0 9 (dk_at dksX7_init_4 9 rfl rfl)
theorem dX7_init_102 : decode cX7_init 102 = .ok (.dup, 1) := dk_89 (dk_at dksX7_init_4 12 rfl rfl)
theorem dX7_init_103 : decode cX7_init 103 = .ok (.invokespecial 20, 3) := dk_183 0 20 (dk_at dksX7_init_4 13 rfl rfl)
theorem dX7_init_106 : decode cX7_init 106 = .ok (.aastore, 1) := dk_83 (dk_at dksX7_init_4 16 rfl rfl)
theorem dX7_init_107 : decode cX7_init 107 = .ok (.iinc 2 1, 3) := dk_132 2 1 (dk_at dksX7_init_4 17 rfl rfl)
theorem dX7_init_110 : decode cX7_init 110 = .ok (.goto (-35), 3) := dk_167 255 221 (dk_at dksX7_init_4 20 rfl rfl)
theorem dX7_init_113 : decode cX7_init 113 = .ok (.aload_n 0, 1) := dk_42 (dk_at dksX7_init_4 23 rfl rfl)
theorem dX7_init_114 : decode cX7_init 114 = .ok (.invokevirtual 44, 3) := dk_182 0 44 (dk_at dksX7_init_5 0 rfl rfl)
theorem dX7_init_117 : decode cX7_init 117 = .ok (.aload_n 0, 1) := dk_42 (dk_at dksX7_init_5 3 rfl rfl)
theorem dX7_init_118 : decode cX7_init 118 = .ok (.invokevirtual 47, 3) := dk_182 0 47 (dk_at dksX7_init_5 4 rfl rfl)
theorem dX7_init_121 : decode cX7_init 121 = .ok (.iconst 0, 1) := dk_3 (dk_at dksX7_init_5 7 rfl rfl)
theorem dX7_init_122 : decode cX7_init 122 = .ok (.istore_n 2, 1) := dk_61 (dk_at dksX7_init_5 8 rfl rfl)
theorem dX7_init_123 : decode cX7_init 123 = .ok (.iload_n 2, 1) := dk_28 (dk_at dksX7_init_5 9 rfl rfl)
theorem dX7_init_124 : decode cX7_init 124 = .ok (.aload_n 0, 1) := dk_42 (dk_at dksX7_init_5 10 rfl rfl)
theorem dX7_init_125 : decode cX7_init 125 = .ok (.getfield 41, 3) := dk_180 0 41 (dk_at dksX7_init_5 11 rfl rfl)
theorem dX7_init_128 : decode cX7_init 128 = .ok (.arraylength, 1) := dk_190 (dk_at dksX7_init_5 14 rfl rfl)
theorem dX7_init_129 : decode cX7_init 129 = .ok (.if_icmp .ge 77, 3) := dk_162 0 77 (dk_at dksX7_init_5 15 rfl rfl)
theorem dX7_init_132 : decode cX7_init 132 = .ok (.aload_n 1, 1) := dk_43 (dk_at dksX7_init_5 18 rfl rfl)
theorem dX7_init_133 : decode cX7_init 133 = .ok (.iload_n 2, 1) := dk_28 (dk_at dksX7_init_5 19 rfl rfl)
theorem dX7_init_134 : decode cX7_init 134 = .ok (.invokeinterface 50 2, 5) := by decide +kernel
theorem dX7_init_139 : decode cX7_init 139 = .ok (.checkcast 54, 3) := dk_192 0 54 (dk_at dksX7_init_6 5 rfl rfl)
theorem dX7_init_142 : decode cX7_init 142 = .ok (.astore_n 3, 1) := dk_78 (dk_at dksX7_init_6 8 rfl rfl)
theorem dX7_init_143 : decode cX7_init 143 = .ok (.aload_n 0, 1) := dk_42 (dk_at dksX7_init_6 9 rfl rfl)
theorem dX7_init_144 : decode cX7_init 144 = .ok (.getfield 41, 3) := dk_180 0 41 (dk_at dksX7_init_6 10 rfl rfl)
theorem dX7_init_147 : decode cX7_init 147 = .ok (.iload_n 2, 1) := dk_28 (dk_at dksX7_init_6 13 rfl rfl)
theorem dX7_init_148 : decode cX7_init 148 = .ok (.new 9, 3) := dk_187 0 9 (dk_at dksX7_init_6 14 rfl rfl)
theorem dX7_init_151 : decode cX7_init 151 = .ok (.dup, 1) := dk_89 (dk_at dksX7_init_6 17 rfl rfl)
theorem dX7_init_152 : decode cX7_init 152 = .ok (.invokespecial 20, 3) := dk_183 0 20 (dk_at dksX7_init_6 18 rfl rfl)
theorem dX7_init_155 : decode cX7_init 155 = .ok (.aastore, 1) := dk_83 (dk_at dksX7_init_6 21 rfl rfl)
theorem dX7_init_156 : decode cX7_init 156 = .ok (.aload_n 0, 1) := dk_42 (dk_at dksX7_init_6 22 rfl rfl)
theorem dX7_init_157 : decode cX7_init 157 = .ok (.aload_n 3, 1) := dk_45 (dk_at dksX7_init_6 23 rfl rfl)
theorem dX7_init_158 : decode cX7_init 158 = .ok (.iconst 0, 1) := dk_3 (dk_at dksX7_init_7 0 rfl rfl)
theorem dX7_init_159 : decode cX7_init 159 = .ok (.invokevirtual 56, 3) := dk_182 0 56 (dk_at dksX7_init_7 1 rfl rfl)
theorem dX7_init_162 : decode cX7_init 162 = .ok (.aload_n 0, 1) := dk_42 (dk_at dksX7_init_7 4 rfl rfl)
theorem dX7_init_163 : decode cX7_init 163 = .ok (.aload_n 0, 1) := dk_42 (dk_at dksX7_init_7 5 rfl rfl)
theorem dX7_init_164 : decode cX7_init 164 = .ok (.getfield 17, 3) := dk_180 0 17 (dk_at dksX7_init_7 6 rfl rfl)
theorem dX7_init_167 : decode cX7_init 167 = .ok (.aload_n 3, 1) := dk_45 (dk_at dksX7_init_7 9 rfl rfl)
theorem dX7_init_168 : decode cX7_init 168 = .ok (.getfield 60, 3) := dk_180 0 60 (dk_at dksX7_init_7 10 rfl rfl)
theorem dX7_init_171 : decode cX7_init 171 = .ok (.bipush 20, 2) := dk_16 20 (dk_at dksX7_init_7 13 rfl rfl)
theorem dX7_init_173 : decode cX7_init 173 = .ok (.isub, 1) := dk_100 (dk_at dksX7_init_7 15 rfl rfl)
theorem dX7_init_174 : decode cX7_init 174 = .ok (.aaload, 1) := dk_50 (dk_at dksX7_init_7 16 rfl rfl)
theorem dX7_init_175 : decode cX7_init 175 = .ok (.invokevirtual 64, 3) := dk_182 0 64 (dk_at dksX7_init_7 17 rfl rfl)
theorem dX7_init_178 : decode cX7_init 178 = .ok (.aload_n 0, 1) := dk_42 (dk_at dksX7_init_7 20 rfl rfl)
theorem dX7_init_179 : decode cX7_init 179 = .ok (.getfield 41, 3) := dk_180 0 41 (dk_at dksX7_init_7 21 rfl rfl)
theorem dX7_init_182 : decode cX7_init 182 = .ok (.iload_n 2, 1) := dk_28 (dk_at dksX7_init_8 0 rfl rfl)
theorem dX7_init_183 : decode cX7_init 183 = .ok (.aaload, 1) := dk_50 (dk_at dksX7_init_8 1 rfl rfl)
theorem dX7_init_184 : decode cX7_init 184 = .ok (.aload_n 0, 1) := dk_42 (dk_at dksX7_init_8 2 rfl rfl)
theorem dX7_init_185 : decode cX7_init 185 = .ok (.getfield 21, 3) := dk_180 0 21 (dk_at dksX7_init_8 3 rfl rfl)
theorem dX7_init_188 : decode cX7_init 188 = .ok (.invokevirtual 68, 3) := dk_182 0 68 (dk_at dksX7_init_8 6 rfl rfl)
theorem dX7_init_191 : decode cX7_init 191 = .ok (.aload_n 0, 1) := dk_42 (dk_at dksX7_init_8 9 rfl rfl)
theorem dX7_init_192 : decode cX7_init 192 = .ok (.getfield 41, 3) := dk_180 0 41 (dk_at dksX7_init_8 10 rfl rfl)
theorem dX7_init_195 : decode cX7_init 195 = .ok (.iload_n 2, 1) := dk_28 (dk_at dksX7_init_8 13 rfl rfl)
theorem dX7_init_196 : decode cX7_init 196 = .ok (.aaload, 1) := dk_50 (dk_at dksX7_init_8 14 rfl rfl)
theorem dX7_init_197 : decode cX7_init 197 = .ok (.invokevirtual 71, 3) := dk_182 0 71 (dk_at dksX7_init_8 15 rfl rfl)
theorem dX7_init_200 : decode cX7_init 200 = .ok (.iinc 2 1, 3) := dk_132 2 1 (dk_at dksX7_init_8 18 rfl rfl)
theorem dX7_init_203 : decode cX7_init 203 = .ok (.goto (-80), 3) := dk_167 255 176 (dk_at dksX7_init_8 21 rfl rfl)
theorem dX7_init_206 : decode cX7_init 206 = .ok (.return_, 1) := dk_177 (dk_at dksX7_init_9 0 rfl rfl)
abbrev cX7_findFirst : ByteArray := prog_6_method_4_code
def yX7_findFirst : MethodName := ⟨RX7, "findFirst", "()V"⟩
def dkwX7_findFirst_2 : List UInt8 := [45, 180, 0, 60, 16, 20, 100, 50, 42, 180, 0, 21, 182, 0, 105, 128, 60, 167, 255, 209, 167, 255, 190, 177]
abbrev dktX7_findFirst_2 : List UInt8 := dkwX7_findFirst_2 ++ []
def dkwX7_findFirst_1 : List UInt8 := [153, 0, 44, 44, 185, 0, 102, 1, 0, 192, 0, 54, 78, 42, 45, 3, 182, 0, 56, 27, 42, 180, 0, 11]
abbrev dktX7_findFirst_1 : List UInt8 := dkwX7_findFirst_1 ++ dktX7_findFirst_2
def dkwX7_findFirst_0 : List UInt8 := [4, 60, 27, 153, 0, 68, 3, 60, 42, 180, 0, 31, 185, 0, 92, 1, 0, 77, 44, 185, 0, 96, 1, 0]
abbrev dktX7_findFirst_0 : List UInt8 := dkwX7_findFirst_0 ++ dktX7_findFirst_1
theorem dksX7_findFirst_0 : cX7_findFirst.data.toList.drop 0 = dktX7_findFirst_0 := by decide +kernel
theorem dksX7_findFirst_1 : cX7_findFirst.data.toList.drop 24 = dktX7_findFirst_1 := dk_seg dksX7_findFirst_0 24 rfl rfl
theorem dksX7_findFirst_2 : cX7_findFirst.data.toList.drop 48 = dktX7_findFirst_2 := dk_seg dksX7_findFirst_1 24 rfl rfl
theorem dX7_findFirst_0 : decode cX7_findFirst 0 = .ok (.iconst 1, 1) := dk_4 (dk_at dksX7_findFirst_0 0 rfl rfl)
theorem dX7_findFirst_1 : decode cX7_findFirst 1 = .ok (.istore_n 1, 1) := dk_60 (dk_at dksX7_findFirst_0 1 rfl rfl)
theorem dX7_findFirst_2 : decode cX7_findFirst 2 = .ok (.iload_n 1, 1) := dk_27 (dk_at dksX7_findFirst_0 2 rfl rfl)
theorem dX7_findFirst_3 : decode cX7_findFirst 3 = .ok (.ifCond .eq 68, 3) := dk_153 0 68 (dk_at dksX7_findFirst_0 3 rfl rfl)
theorem dX7_findFirst_6 : decode cX7_findFirst 6 = .ok (.iconst 0, 1) := dk_3 (dk_at dksX7_findFirst_0 6 rfl rfl)
theorem dX7_findFirst_7 : decode cX7_findFirst 7 = .ok (.istore_n 1, 1) := dk_60 (dk_at dksX7_findFirst_0 7 rfl rfl)
theorem dX7_findFirst_8 : decode cX7_findFirst 8 = .ok (.aload_n 0, 1) := dk_42 (dk_at dksX7_findFirst_0 8 rfl rfl)
theorem dX7_findFirst_9 : decode cX7_findFirst 9 = .ok (.getfield 31, 3) := dk_180 0 31 (dk_at dksX7_findFirst_0 9 rfl rfl)
theorem dX7_findFirst_12 : decode cX7_findFirst 12 = .ok (.invokeinterface 92 1, 5) := by decide +kernel
theorem dX7_findFirst_17 : decode cX7_findFirst 17 = .ok (.astore_n 2, 1) := dk_77 (dk_at dksX7_findFirst_0 17 rfl rfl)
theorem dX7_findFirst_18 : decode cX7_findFirst 18 = .ok (.aload_n 2, 1) := dk_44 (dk_at dksX7_findFirst_0 18 rfl rfl)
theorem dX7_findFirst_19 : decode cX7_findFirst 19 = .ok (.invokeinterface 96 1, 5) := by decide +kernel
theorem dX7_findFirst_24 : decode cX7_findFirst 24 = .ok (.ifCond .eq 44, 3) := dk_153 0 44 (dk_at dksX7_findFirst_1 0 rfl rfl)
theorem dX7_findFirst_27 : decode cX7_findFirst 27 = .ok (.aload_n 2, 1) := dk_44 (dk_at dksX7_findFirst_1 3 rfl rfl)
theorem dX7_findFirst_28 : decode cX7_findFirst 28 = .ok (.invokeinterface 102 1, 5) := by decide +kernel
theorem dX7_findFirst_33 : decode cX7_findFirst 33 = .ok (.checkcast 54, 3) := dk_192 0 54 (dk_at dksX7_findFirst_1 9 rfl rfl)
theorem dX7_findFirst_36 : decode cX7_findFirst 36 = .ok (.astore_n 3, 1) := dk_78 (dk_at dksX7_findFirst_1 12 rfl rfl)
theorem dX7_findFirst_37 : decode cX7_findFirst 37 = .ok (.aload_n 0, 1) := dk_42 (dk_at dksX7_findFirst_1 13 rfl rfl)
theorem dX7_findFirst_38 : decode cX7_findFirst 38 = .ok (.aload_n 3, 1) := dk_45 (dk_at dksX7_findFirst_1 14 rfl rfl)
theorem dX7_findFirst_39 : decode cX7_findFirst 39 = .ok (.iconst 0, 1) := dk_3 (dk_at dksX7_findFirst_1 15 rfl rfl)
theorem dX7_findFirst_40 : decode cX7_findFirst 40 = .ok (.invokevirtual 56, 3) := dk_182 0 56 (dk_at dksX7_findFirst_1 16 rfl rfl)
theorem dX7_findFirst_43 : decode cX7_findFirst 43 = .ok (.iload_n 1, 1) := dk_27 (dk_at dksX7_findFirst_1 19 rfl rfl)
theorem dX7_findFirst_44 : decode cX7_findFirst 44 = .ok (.aload_n 0, 1) := dk_42 (dk_at dksX7_findFirst_1 20 rfl rfl)
theorem dX7_findFirst_45 : decode cX7_findFirst 45 = .ok (.getfield 11, 3) := dk_180 0 11 (dk_at dksX7_findFirst_1 21 rfl rfl)
theorem dX7_findFirst_48 : decode cX7_findFirst 48 = .ok (.aload_n 3, 1) := dk_45 (dk_at dksX7_findFirst_2 0 rfl rfl)
theorem dX7_findFirst_49 : decode cX7_findFirst 49 = .ok (.getfield 60, 3) := dk_180 0 60 (dk_at dksX7_findFirst_2 1 rfl rfl)
theorem dX7_findFirst_52 : decode cX7_findFirst 52 = .ok (.bipush 20, 2) := dk_16 20 (dk_at dksX7_findFirst_2 4 rfl rfl)
theorem dX7_findFirst_54 : decode cX7_findFirst 54 = .ok (.isub, 1) := dk_100 (dk_at dksX7_findFirst_2 6 rfl rfl)
theorem dX7_findFirst_55 : decode cX7_findFirst 55 = .ok (.aaload, 1) := dk_50 (dk_at dksX7_findFirst_2 7 rfl rfl)
theorem dX7_findFirst_56 : decode cX7_findFirst 56 = .ok (.aload_n 0, 1) := dk_42 (dk_at dksX7_findFirst_2 8 rfl rfl)
theorem dX7_findFirst_57 : decode cX7_findFirst 57 = .ok (.getfield 21, 3) := dk_180 0 21 (dk_at dksX7_findFirst_2 9 rfl rfl)
theorem dX7_findFirst_60 : decode cX7_findFirst 60 = .ok (.invokevirtual 105, 3) := dk_182 0 105 (dk_at dksX7_findFirst_2 12 rfl rfl)
theorem dX7_findFirst_63 : decode cX7_findFirst 63 = .ok (.ior, 1) := dk_128 (dk_at dksX7_findFirst_2 15 rfl rfl)
theorem dX7_findFirst_64 : decode cX7_findFirst 64 = .ok (.istore_n 1, 1) := dk_60 (dk_at dksX7_findFirst_2 16 rfl rfl)
theorem dX7_findFirst_65 : decode cX7_findFirst 65 = .ok (.goto (-47), 3) := dk_167 255 209 (dk_at dksX7_findFirst_2 17 rfl rfl)
theorem dX7_findFirst_68 : decode cX7_findFirst 68 = .ok (.goto (-66), 3) := dk_167 255 190 (dk_at dksX7_findFirst_2 20 rfl rfl)
theorem dX7_findFirst_71 : decode cX7_findFirst 71 = .ok (.return_, 1) := dk_177 (dk_at dksX7_findFirst_2 23 rfl rfl)
abbrev cX7_goThrough : ByteArray := prog_6_method_3_code
def yX7_goThrough : MethodName := ⟨RX7, "goThrough", "(LSelahGenerator$Rule;I)V"⟩
def dkwX7_goThrough_4 : List UInt8 := [167, 255, 181, 177]
abbrev dktX7_goThrough_4 : List UInt8 := dkwX7_goThrough_4 ++ []
def dkwX7_goThrough_3 : List UInt8 := [180, 0, 11, 21, 4, 16, 20, 100, 50, 167, 0, 7, 42, 180, 0, 28, 182, 0, 64, 132, 3, 1]
abbrev dktX7_goThrough_3 : List UInt8 := dkwX7_goThrough_3 ++ dktX7_goThrough_4
def dkwX7_goThrough_2 : List UInt8 := [154, 0, 14, 42, 180, 0, 28, 4, 21, 4, 96, 182, 0, 80, 42, 21, 4, 184, 0, 88, 153, 0, 16, 42]
abbrev dktX7_goThrough_2 : List UInt8 := dkwX7_goThrough_2 ++ dktX7_goThrough_3
def dkwX7_goThrough_1 : List UInt8 := [162, 0, 72, 43, 180, 0, 84, 29, 46, 54, 4, 42, 180, 0, 28, 182, 0, 77, 21, 4, 184, 0, 88]
abbrev dktX7_goThrough_1 : List UInt8 := dkwX7_goThrough_1 ++ dktX7_goThrough_2
def dkwX7_goThrough_0 : List UInt8 := [42, 180, 0, 21, 182, 0, 77, 42, 180, 0, 21, 3, 182, 0, 80, 28, 62, 29, 43, 180, 0, 84, 190]
abbrev dktX7_goThrough_0 : List UInt8 := dkwX7_goThrough_0 ++ dktX7_goThrough_1
theorem dksX7_goThrough_0 : cX7_goThrough.data.toList.drop 0 = dktX7_goThrough_0 := by decide +kernel
theorem dksX7_goThrough_1 : cX7_goThrough.data.toList.drop 23 = dktX7_goThrough_1 := dk_seg dksX7_goThrough_0 23 rfl rfl
theorem dksX7_goThrough_2 : cX7_goThrough.data.toList.drop 46 = dktX7_goThrough_2 := dk_seg dksX7_goThrough_1 23 rfl rfl
theorem dksX7_goThrough_3 : cX7_goThrough.data.toList.drop 70 = dktX7_goThrough_3 := dk_seg dksX7_goThrough_2 24 rfl rfl
theorem dksX7_goThrough_4 : cX7_goThrough.data.toList.drop 92 = dktX7_goThrough_4 := dk_seg dksX7_goThrough_3 22 rfl rfl
theorem dX7_goThrough_0 : decode cX7_goThrough 0 = .ok (.aload_n 0, 1) := dk_42 (dk_at dksX7_goThrough_0 0 rfl rfl)
theorem dX7_goThrough_1 : decode cX7_goThrough 1 = .ok (.getfield 21, 3) := dk_180 0 21 (dk_at dksX7_goThrough_0 1 rfl rfl)
theorem dX7_goThrough_4 : decode cX7_goThrough 4 = .ok (.invokevirtual 77, 3) := dk_182 0 77 (dk_at dksX7_goThrough_0 4 rfl rfl)
theorem dX7_goThrough_7 : decode cX7_goThrough 7 = .ok (.aload_n 0, 1) := dk_42 (dk_at dksX7_goThrough_0 7 rfl rfl)
theorem dX7_goThrough_8 : decode cX7_goThrough 8 = .ok (.getfield 21, 3) := dk_180 0 21 (dk_at dksX7_goThrough_0 8 rfl rfl)
theorem dX7_goThrough_11 : decode cX7_goThrough 11 = .ok (.iconst 0, 1) := dk_3 (dk_at dksX7_goThrough_0 11 rfl rfl)
theorem dX7_goThrough_12 : decode cX7_goThrough 12 = .ok (.invokevirtual 80, 3) := dk_182 0 80 (dk_at dksX7_goThrough_0 12 rfl rfl)
theorem dX7_goThrough_15 : decode cX7_goThrough 15 = .ok (.iload_n 2, 1) := dk_28 (dk_at dksX7_goThrough_0 15 rfl rfl)
theorem dX7_goThrough_16 : decode cX7_goThrough 16 = .ok (.istore_n 3, 1) := dk_62 (dk_at dksX7_goThrough_0 16 rfl rfl)
theorem dX7_goThrough_17 : decode cX7_goThrough 17 = .ok (.iload_n 3, 1) := dk_29 (dk_at dksX7_goThrough_0 17 rfl rfl)
theorem dX7_goThrough_18 : decode cX7_goThrough 18 = .ok (.aload_n 1, 1) := dk_43 (dk_at dksX7_goThrough_0 18 rfl rfl)
theorem dX7_goThrough_19 : decode cX7_goThrough 19 = .ok (.getfield 84, 3) := dk_180 0 84 (dk_at dksX7_goThrough_0 19 rfl rfl)
theorem dX7_goThrough_22 : decode cX7_goThrough 22 = .ok (.arraylength, 1) := dk_190 (dk_at dksX7_goThrough_0 22 rfl rfl)
theorem dX7_goThrough_23 : decode cX7_goThrough 23 = .ok (.if_icmp .ge 72, 3) := dk_162 0 72 (dk_at dksX7_goThrough_1 0 rfl rfl)
theorem dX7_goThrough_26 : decode cX7_goThrough 26 = .ok (.aload_n 1, 1) := dk_43 (dk_at dksX7_goThrough_1 3 rfl rfl)
theorem dX7_goThrough_27 : decode cX7_goThrough 27 = .ok (.getfield 84, 3) := dk_180 0 84 (dk_at dksX7_goThrough_1 4 rfl rfl)
theorem dX7_goThrough_30 : decode cX7_goThrough 30 = .ok (.iload_n 3, 1) := dk_29 (dk_at dksX7_goThrough_1 7 rfl rfl)
theorem dX7_goThrough_31 : decode cX7_goThrough 31 = .ok (.iaload, 1) := dk_46 (dk_at dksX7_goThrough_1 8 rfl rfl)
theorem dX7_goThrough_32 : decode cX7_goThrough 32 = .ok (.istore 4, 2) := dk_54 4 (dk_at dksX7_goThrough_1 9 rfl rfl)
theorem dX7_goThrough_34 : decode cX7_goThrough 34 = .ok (.aload_n 0, 1) := dk_42 (dk_at dksX7_goThrough_1 11 rfl rfl)
theorem dX7_goThrough_35 : decode cX7_goThrough 35 = .ok (.getfield 28, 3) := dk_180 0 28 (dk_at dksX7_goThrough_1 12 rfl rfl)
theorem dX7_goThrough_38 : decode cX7_goThrough 38 = .ok (.invokevirtual 77, 3) := dk_182 0 77 (dk_at dksX7_goThrough_1 15 rfl rfl)
theorem dX7_goThrough_41 : decode cX7_goThrough 41 = .ok (.iload 4, 2) := dk_21 4 (dk_at dksX7_goThrough_1 18 rfl rfl)
theorem dX7_goThrough_43 : decode cX7_goThrough 43 = .ok (.invokestatic 88, 3) := dk_184 0 88 (dk_at dksX7_goThrough_1 20 rfl rfl)
theorem dX7_goThrough_46 : decode cX7_goThrough 46 = .ok (.ifCond .ne 14, 3) := dk_154 0 14 (dk_at dksX7_goThrough_2 0 rfl rfl)
theorem dX7_goThrough_49 : decode cX7_goThrough 49 = .ok (.aload_n 0, 1) := dk_42 (dk_at dksX7_goThrough_2 3 rfl rfl)
theorem dX7_goThrough_50 : decode cX7_goThrough 50 = .ok (.getfield 28, 3) := dk_180 0 28 (dk_at dksX7_goThrough_2 4 rfl rfl)
theorem dX7_goThrough_53 : decode cX7_goThrough 53 = .ok (.iconst 1, 1) := dk_4 (dk_at dksX7_goThrough_2 7 rfl rfl)
theorem dX7_goThrough_54 : decode cX7_goThrough 54 = .ok (.iload 4, 2) := dk_21 4 (dk_at dksX7_goThrough_2 8 rfl rfl)
theorem dX7_goThrough_56 : decode cX7_goThrough 56 = .ok (.iadd, 1) := dk_96 (dk_at dksX7_goThrough_2 10 rfl rfl)
theorem dX7_goThrough_57 : decode cX7_goThrough 57 = .ok (.invokevirtual 80, 3) := dk_182 0 80 (dk_at dksX7_goThrough_2 11 rfl rfl)
theorem dX7_goThrough_60 : decode cX7_goThrough 60 = .ok (.aload_n 0, 1) := dk_42 (dk_at dksX7_goThrough_2 14 rfl rfl)
theorem dX7_goThrough_61 : decode cX7_goThrough 61 = .ok (.iload 4, 2) := dk_21 4 (dk_at dksX7_goThrough_2 15 rfl rfl)
theorem dX7_goThrough_63 : decode cX7_goThrough 63 = .ok (.invokestatic 88, 3) := dk_184 0 88 (dk_at dksX7_goThrough_2 17 rfl rfl)
theorem dX7_goThrough_66 : decode cX7_goThrough 66 = .ok (.ifCond .eq 16, 3) := dk_153 0 16 (dk_at dksX7_goThrough_2 20 rfl rfl)
theorem dX7_goThrough_69 : decode cX7_goThrough 69 = .ok (.aload_n 0, 1) := dk_42 (dk_at dksX7_goThrough_2 23 rfl rfl)
theorem dX7_goThrough_70 : decode cX7_goThrough 70 = .ok (.getfield 11, 3) := dk_180 0 11 (dk_at dksX7_goThrough_3 0 rfl rfl)
theorem dX7_goThrough_73 : decode cX7_goThrough 73 = .ok (.iload 4, 2) := dk_21 4 (dk_at dksX7_goThrough_3 3 rfl rfl)
theorem dX7_goThrough_75 : decode cX7_goThrough 75 = .ok (.bipush 20, 2) := dk_16 20 (dk_at dksX7_goThrough_3 5 rfl rfl)
theorem dX7_goThrough_77 : decode cX7_goThrough 77 = .ok (.isub, 1) := dk_100 (dk_at dksX7_goThrough_3 7 rfl rfl)
theorem dX7_goThrough_78 : decode cX7_goThrough 78 = .ok (.aaload, 1) := dk_50 (dk_at dksX7_goThrough_3 8 rfl rfl)
theorem dX7_goThrough_79 : decode cX7_goThrough 79 = .ok (.goto 7, 3) := dk_167 0 7 (dk_at dksX7_goThrough_3 9 rfl rfl)
theorem dX7_goThrough_82 : decode cX7_goThrough 82 = .ok (.aload_n 0, 1) := dk_42 (dk_at dksX7_goThrough_3 12 rfl rfl)
theorem dX7_goThrough_83 : decode cX7_goThrough 83 = .ok (.getfield 28, 3) := dk_180 0 28 (dk_at dksX7_goThrough_3 13 rfl rfl)
theorem dX7_goThrough_86 : decode cX7_goThrough 86 = .ok (.invokevirtual 64, 3) := dk_182 0 64 (dk_at dksX7_goThrough_3 16 rfl rfl)
theorem dX7_goThrough_89 : decode cX7_goThrough 89 = .ok (.iinc 3 1, 3) := dk_132 3 1 (dk_at dksX7_goThrough_3 19 rfl rfl)
theorem dX7_goThrough_92 : decode cX7_goThrough 92 = .ok (.goto (-75), 3) := dk_167 255 181 (dk_at dksX7_goThrough_4 0 rfl rfl)
theorem dX7_goThrough_95 : decode cX7_goThrough 95 = .ok (.return_, 1) := dk_177 (dk_at dksX7_goThrough_4 3 rfl rfl)
abbrev cX7_goOn : ByteArray := prog_6_method_2_code
def yX7_goOn : MethodName := ⟨RX7, "goOn", "(LSelahGenerator$Strings;)V"⟩
def dkwX7_goOn_0 : List UInt8 := [42, 180, 0, 25, 42, 180, 0, 21, 43, 182, 0, 74, 42, 180, 0, 21, 42, 180, 0, 25, 182, 0, 68, 177]
abbrev dktX7_goOn_0 : List UInt8 := dkwX7_goOn_0 ++ []
theorem dksX7_goOn_0 : cX7_goOn.data.toList.drop 0 = dktX7_goOn_0 := by decide +kernel
theorem dX7_goOn_0 : decode cX7_goOn 0 = .ok (.aload_n 0, 1) := dk_42 (dk_at dksX7_goOn_0 0 rfl rfl)
theorem dX7_goOn_1 : decode cX7_goOn 1 = .ok (.getfield 25, 3) := dk_180 0 25 (dk_at dksX7_goOn_0 1 rfl rfl)
theorem dX7_goOn_4 : decode cX7_goOn 4 = .ok (.aload_n 0, 1) := dk_42 (dk_at dksX7_goOn_0 4 rfl rfl)
theorem dX7_goOn_5 : decode cX7_goOn 5 = .ok (.getfield 21, 3) := dk_180 0 21 (dk_at dksX7_goOn_0 5 rfl rfl)
theorem dX7_goOn_8 : decode cX7_goOn 8 = .ok (.aload_n 1, 1) := dk_43 (dk_at dksX7_goOn_0 8 rfl rfl)
theorem dX7_goOn_9 : decode cX7_goOn 9 = .ok (.invokevirtual 74, 3) := dk_182 0 74 (dk_at dksX7_goOn_0 9 rfl rfl)
theorem dX7_goOn_12 : decode cX7_goOn 12 = .ok (.aload_n 0, 1) := dk_42 (dk_at dksX7_goOn_0 12 rfl rfl)
theorem dX7_goOn_13 : decode cX7_goOn 13 = .ok (.getfield 21, 3) := dk_180 0 21 (dk_at dksX7_goOn_0 13 rfl rfl)
theorem dX7_goOn_16 : decode cX7_goOn 16 = .ok (.aload_n 0, 1) := dk_42 (dk_at dksX7_goOn_0 16 rfl rfl)
theorem dX7_goOn_17 : decode cX7_goOn 17 = .ok (.getfield 25, 3) := dk_180 0 25 (dk_at dksX7_goOn_0 17 rfl rfl)
theorem dX7_goOn_20 : decode cX7_goOn 20 = .ok (.invokevirtual 68, 3) := dk_182 0 68 (dk_at dksX7_goOn_0 20 rfl rfl)
theorem dX7_goOn_23 : decode cX7_goOn 23 = .ok (.return_, 1) := dk_177 (dk_at dksX7_goOn_0 23 rfl rfl)
abbrev cX7_findFollow : ByteArray := prog_6_method_5_code
def yX7_findFollow : MethodName := ⟨RX7, "findFollow", "()V"⟩
def dkwX7_findFollow_4 : List UInt8 := [132, 4, 1, 167, 255, 220, 167, 255, 195, 167, 255, 176, 177]
abbrev dktX7_findFollow_4 : List UInt8 := dkwX7_findFollow_4 ++ []
def dkwX7_findFollow_3 : List UInt8 := [180, 0, 84, 21, 4, 46, 184, 0, 88, 153, 0, 13, 27, 42, 45, 21, 4, 182, 0, 113, 128, 60]
abbrev dktX7_findFollow_3 : List UInt8 := dkwX7_findFollow_3 ++ dktX7_findFollow_4
def dkwX7_findFollow_2 : List UInt8 := [185, 0, 102, 1, 0, 192, 0, 54, 78, 3, 54, 4, 21, 4, 45, 180, 0, 84, 190, 162, 0, 32, 45]
abbrev dktX7_findFollow_2 : List UInt8 := dkwX7_findFollow_2 ++ dktX7_findFollow_3
def dkwX7_findFollow_1 : List UInt8 := [42, 180, 0, 31, 185, 0, 92, 1, 0, 77, 44, 185, 0, 96, 1, 0, 153, 0, 58, 44]
abbrev dktX7_findFollow_1 : List UInt8 := dkwX7_findFollow_1 ++ dktX7_findFollow_2
def dkwX7_findFollow_0 : List UInt8 := [42, 180, 0, 17, 3, 50, 16, 12, 16, 12, 184, 0, 109, 182, 0, 80, 4, 60, 27, 153, 0, 82, 3, 60]
abbrev dktX7_findFollow_0 : List UInt8 := dkwX7_findFollow_0 ++ dktX7_findFollow_1
theorem dksX7_findFollow_0 : cX7_findFollow.data.toList.drop 0 = dktX7_findFollow_0 := by decide +kernel
theorem dksX7_findFollow_1 : cX7_findFollow.data.toList.drop 24 = dktX7_findFollow_1 := dk_seg dksX7_findFollow_0 24 rfl rfl
theorem dksX7_findFollow_2 : cX7_findFollow.data.toList.drop 44 = dktX7_findFollow_2 := dk_seg dksX7_findFollow_1 20 rfl rfl
theorem dksX7_findFollow_3 : cX7_findFollow.data.toList.drop 67 = dktX7_findFollow_3 := dk_seg dksX7_findFollow_2 23 rfl rfl
theorem dksX7_findFollow_4 : cX7_findFollow.data.toList.drop 89 = dktX7_findFollow_4 := dk_seg dksX7_findFollow_3 22 rfl rfl
theorem dX7_findFollow_0 : decode cX7_findFollow 0 = .ok (.aload_n 0, 1) := dk_42 (dk_at dksX7_findFollow_0 0 rfl rfl)
theorem dX7_findFollow_1 : decode cX7_findFollow 1 = .ok (.getfield 17, 3) := dk_180 0 17 (dk_at dksX7_findFollow_0 1 rfl rfl)
theorem dX7_findFollow_4 : decode cX7_findFollow 4 = .ok (.iconst 0, 1) := dk_3 (dk_at dksX7_findFollow_0 4 rfl rfl)
theorem dX7_findFollow_5 : decode cX7_findFollow 5 = .ok (.aaload, 1) := dk_50 (dk_at dksX7_findFollow_0 5 rfl rfl)
theorem dX7_findFollow_6 : decode cX7_findFollow 6 = .ok (.bipush 12, 2) := dk_16 12 (dk_at dksX7_findFollow_0 6 rfl rfl)
theorem dX7_findFollow_8 : decode cX7_findFollow 8 = .ok (.bipush 12, 2) := dk_16 12 (dk_at dksX7_findFollow_0 8 rfl rfl)
theorem dX7_findFollow_10 : decode cX7_findFollow 10 = .ok (.invokestatic 109, 3) := dk_184 0 109 (dk_at dksX7_findFollow_0 10 rfl rfl)
theorem dX7_findFollow_13 : decode cX7_findFollow 13 = .ok (.invokevirtual 80, 3) := dk_182 0 80 (dk_at dksX7_findFollow_0 13 rfl rfl)
theorem dX7_findFollow_16 : decode cX7_findFollow 16 = .ok (.iconst 1, 1) := dk_4 (dk_at dksX7_findFollow_0 16 rfl rfl)
theorem dX7_findFollow_17 : decode cX7_findFollow 17 = .ok (.istore_n 1, 1) := dk_60 (dk_at dksX7_findFollow_0 17 rfl rfl)
theorem dX7_findFollow_18 : decode cX7_findFollow 18 = .ok (.iload_n 1, 1) := dk_27 (dk_at dksX7_findFollow_0 18 rfl rfl)
theorem dX7_findFollow_19 : decode cX7_findFollow 19 = .ok (.ifCond .eq 82, 3) := dk_153 0 82 (dk_at dksX7_findFollow_0 19 rfl rfl)
theorem dX7_findFollow_22 : decode cX7_findFollow 22 = .ok (.iconst 0, 1) := dk_3 (dk_at dksX7_findFollow_0 22 rfl rfl)
theorem dX7_findFollow_23 : decode cX7_findFollow 23 = .ok (.istore_n 1, 1) := dk_60 (dk_at dksX7_findFollow_0 23 rfl rfl)
theorem dX7_findFollow_24 : decode cX7_findFollow 24 = .ok (.aload_n 0, 1) := dk_42 (dk_at dksX7_findFollow_1 0 rfl rfl)
theorem dX7_findFollow_25 : decode cX7_findFollow 25 = .ok (.getfield 31, 3) := dk_180 0 31 (dk_at dksX7_findFollow_1 1 rfl rfl)
theorem dX7_findFollow_28 : decode cX7_findFollow 28 = .ok (.invokeinterface 92 1, 5) := by decide +kernel
theorem dX7_findFollow_33 : decode cX7_findFollow 33 = .ok (.astore_n 2, 1) := dk_77 (dk_at dksX7_findFollow_1 9 rfl rfl)
theorem dX7_findFollow_34 : decode cX7_findFollow 34 = .ok (.aload_n 2, 1) := dk_44 (dk_at dksX7_findFollow_1 10 rfl rfl)
theorem dX7_findFollow_35 : decode cX7_findFollow 35 = .ok (.invokeinterface 96 1, 5) := by decide +kernel
theorem dX7_findFollow_40 : decode cX7_findFollow 40 = .ok (.ifCond .eq 58, 3) := dk_153 0 58 (dk_at dksX7_findFollow_1 16 rfl rfl)
theorem dX7_findFollow_43 : decode cX7_findFollow 43 = .ok (.aload_n 2, 1) := dk_44 (dk_at dksX7_findFollow_1 19 rfl rfl)
theorem dX7_findFollow_44 : decode cX7_findFollow 44 = .ok (.invokeinterface 102 1, 5) := by decide +kernel
theorem dX7_findFollow_49 : decode cX7_findFollow 49 = .ok (.checkcast 54, 3) := dk_192 0 54 (dk_at dksX7_findFollow_2 5 rfl rfl)
theorem dX7_findFollow_52 : decode cX7_findFollow 52 = .ok (.astore_n 3, 1) := dk_78 (dk_at dksX7_findFollow_2 8 rfl rfl)
theorem dX7_findFollow_53 : decode cX7_findFollow 53 = .ok (.iconst 0, 1) := dk_3 (dk_at dksX7_findFollow_2 9 rfl rfl)
theorem dX7_findFollow_54 : decode cX7_findFollow 54 = .ok (.istore 4, 2) := dk_54 4 (dk_at dksX7_findFollow_2 10 rfl rfl)
theorem dX7_findFollow_56 : decode cX7_findFollow 56 = .ok (.iload 4, 2) := dk_21 4 (dk_at dksX7_findFollow_2 12 rfl rfl)
theorem dX7_findFollow_58 : decode cX7_findFollow 58 = .ok (.aload_n 3, 1) := dk_45 (dk_at dksX7_findFollow_2 14 rfl rfl)
theorem dX7_findFollow_59 : decode cX7_findFollow 59 = .ok (.getfield 84, 3) := dk_180 0 84 (dk_at dksX7_findFollow_2 15 rfl rfl)
theorem dX7_findFollow_62 : decode cX7_findFollow 62 = .ok (.arraylength, 1) := dk_190 (dk_at dksX7_findFollow_2 18 rfl rfl)
theorem dX7_findFollow_63 : decode cX7_findFollow 63 = .ok (.if_icmp .ge 32, 3) := dk_162 0 32 (dk_at dksX7_findFollow_2 19 rfl rfl)
theorem dX7_findFollow_66 : decode cX7_findFollow 66 = .ok (.aload_n 3, 1) := dk_45 (dk_at dksX7_findFollow_2 22 rfl rfl)
theorem dX7_findFollow_67 : decode cX7_findFollow 67 = .ok (.getfield 84, 3) := dk_180 0 84 (dk_at dksX7_findFollow_3 0 rfl rfl)
theorem dX7_findFollow_70 : decode cX7_findFollow 70 = .ok (.iload 4, 2) := dk_21 4 (dk_at dksX7_findFollow_3 3 rfl rfl)
theorem dX7_findFollow_72 : decode cX7_findFollow 72 = .ok (.iaload, 1) := dk_46 (dk_at dksX7_findFollow_3 5 rfl rfl)
theorem dX7_findFollow_73 : decode cX7_findFollow 73 = .ok (.invokestatic 88, 3) := dk_184 0 88 (dk_at dksX7_findFollow_3 6 rfl rfl)
theorem dX7_findFollow_76 : decode cX7_findFollow 76 = .ok (.ifCond .eq 13, 3) := dk_153 0 13 (dk_at dksX7_findFollow_3 9 rfl rfl)
theorem dX7_findFollow_79 : decode cX7_findFollow 79 = .ok (.iload_n 1, 1) := dk_27 (dk_at dksX7_findFollow_3 12 rfl rfl)
theorem dX7_findFollow_80 : decode cX7_findFollow 80 = .ok (.aload_n 0, 1) := dk_42 (dk_at dksX7_findFollow_3 13 rfl rfl)
theorem dX7_findFollow_81 : decode cX7_findFollow 81 = .ok (.aload_n 3, 1) := dk_45 (dk_at dksX7_findFollow_3 14 rfl rfl)
theorem dX7_findFollow_82 : decode cX7_findFollow 82 = .ok (.iload 4, 2) := dk_21 4 (dk_at dksX7_findFollow_3 15 rfl rfl)
theorem dX7_findFollow_84 : decode cX7_findFollow 84 = .ok (.invokevirtual 113, 3) := dk_182 0 113 (dk_at dksX7_findFollow_3 17 rfl rfl)
theorem dX7_findFollow_87 : decode cX7_findFollow 87 = .ok (.ior, 1) := dk_128 (dk_at dksX7_findFollow_3 20 rfl rfl)
theorem dX7_findFollow_88 : decode cX7_findFollow 88 = .ok (.istore_n 1, 1) := dk_60 (dk_at dksX7_findFollow_3 21 rfl rfl)
theorem dX7_findFollow_89 : decode cX7_findFollow 89 = .ok (.iinc 4 1, 3) := dk_132 4 1 (dk_at dksX7_findFollow_4 0 rfl rfl)
theorem dX7_findFollow_92 : decode cX7_findFollow 92 = .ok (.goto (-36), 3) := dk_167 255 220 (dk_at dksX7_findFollow_4 3 rfl rfl)
theorem dX7_findFollow_95 : decode cX7_findFollow 95 = .ok (.goto (-61), 3) := dk_167 255 195 (dk_at dksX7_findFollow_4 6 rfl rfl)
theorem dX7_findFollow_98 : decode cX7_findFollow 98 = .ok (.goto (-80), 3) := dk_167 255 176 (dk_at dksX7_findFollow_4 9 rfl rfl)
theorem dX7_findFollow_101 : decode cX7_findFollow 101 = .ok (.return_, 1) := dk_177 (dk_at dksX7_findFollow_4 12 rfl rfl)
abbrev cX7_followIn : ByteArray := prog_6_method_6_code
def yX7_followIn : MethodName := ⟨RX7, "followIn", "(LSelahGenerator$Rule;I)Z"⟩
def dkwX7_followIn_2 : List UInt8 := [180, 0, 21, 182, 0, 105, 172]
abbrev dktX7_followIn_2 : List UInt8 := dkwX7_followIn_2 ++ []
def dkwX7_followIn_1 : List UInt8 := [42, 180, 0, 21, 182, 0, 71, 42, 180, 0, 17, 43, 180, 0, 84, 28, 46, 16, 20, 100, 50, 42]
abbrev dktX7_followIn_1 : List UInt8 := dkwX7_followIn_1 ++ dktX7_followIn_2
def dkwX7_followIn_0 : List UInt8 := [42, 43, 28, 4, 96, 182, 0, 56, 42, 42, 180, 0, 17, 43, 180, 0, 60, 16, 20, 100, 50, 182, 0, 64]
abbrev dktX7_followIn_0 : List UInt8 := dkwX7_followIn_0 ++ dktX7_followIn_1
theorem dksX7_followIn_0 : cX7_followIn.data.toList.drop 0 = dktX7_followIn_0 := by decide +kernel
theorem dksX7_followIn_1 : cX7_followIn.data.toList.drop 24 = dktX7_followIn_1 := dk_seg dksX7_followIn_0 24 rfl rfl
theorem dksX7_followIn_2 : cX7_followIn.data.toList.drop 46 = dktX7_followIn_2 := dk_seg dksX7_followIn_1 22 rfl rfl
theorem dX7_followIn_0 : decode cX7_followIn 0 = .ok (.aload_n 0, 1) := dk_42 (dk_at dksX7_followIn_0 0 rfl rfl)
theorem dX7_followIn_1 : decode cX7_followIn 1 = .ok (.aload_n 1, 1) := dk_43 (dk_at dksX7_followIn_0 1 rfl rfl)
theorem dX7_followIn_2 : decode cX7_followIn 2 = .ok (.iload_n 2, 1) := dk_28 (dk_at dksX7_followIn_0 2 rfl rfl)
theorem dX7_followIn_3 : decode cX7_followIn 3 = .ok (.iconst 1, 1) := dk_4 (dk_at dksX7_followIn_0 3 rfl rfl)
theorem dX7_followIn_4 : decode cX7_followIn 4 = .ok (.iadd, 1) := dk_96 (dk_at dksX7_followIn_0 4 rfl rfl)
theorem dX7_followIn_5 : decode cX7_followIn 5 = .ok (.invokevirtual 56, 3) := dk_182 0 56 (dk_at dksX7_followIn_0 5 rfl rfl)
theorem dX7_followIn_8 : decode cX7_followIn 8 = .ok (.aload_n 0, 1) := dk_42 (dk_at dksX7_followIn_0 8 rfl rfl)
theorem dX7_followIn_9 : decode cX7_followIn 9 = .ok (.aload_n 0, 1) := dk_42 (dk_at dksX7_followIn_0 9 rfl rfl)
theorem dX7_followIn_10 : decode cX7_followIn 10 = .ok (.getfield 17, 3) := dk_180 0 17 (dk_at dksX7_followIn_0 10 rfl rfl)
theorem dX7_followIn_13 : decode cX7_followIn 13 = .ok (.aload_n 1, 1) := dk_43 (dk_at dksX7_followIn_0 13 rfl rfl)
theorem dX7_followIn_14 : decode cX7_followIn 14 = .ok (.getfield 60, 3) := dk_180 0 60 (dk_at dksX7_followIn_0 14 rfl rfl)
theorem dX7_followIn_17 : decode cX7_followIn 17 = .ok (.bipush 20, 2) := dk_16 20 (dk_at dksX7_followIn_0 17 rfl rfl)
theorem dX7_followIn_19 : decode cX7_followIn 19 = .ok (.isub, 1) := dk_100 (dk_at dksX7_followIn_0 19 rfl rfl)
theorem dX7_followIn_20 : decode cX7_followIn 20 = .ok (.aaload, 1) := dk_50 (dk_at dksX7_followIn_0 20 rfl rfl)
theorem dX7_followIn_21 : decode cX7_followIn 21 = .ok (.invokevirtual 64, 3) := dk_182 0 64 (dk_at dksX7_followIn_0 21 rfl rfl)
theorem dX7_followIn_24 : decode cX7_followIn 24 = .ok (.aload_n 0, 1) := dk_42 (dk_at dksX7_followIn_1 0 rfl rfl)
theorem dX7_followIn_25 : decode cX7_followIn 25 = .ok (.getfield 21, 3) := dk_180 0 21 (dk_at dksX7_followIn_1 1 rfl rfl)
theorem dX7_followIn_28 : decode cX7_followIn 28 = .ok (.invokevirtual 71, 3) := dk_182 0 71 (dk_at dksX7_followIn_1 4 rfl rfl)
theorem dX7_followIn_31 : decode cX7_followIn 31 = .ok (.aload_n 0, 1) := dk_42 (dk_at dksX7_followIn_1 7 rfl rfl)
theorem dX7_followIn_32 : decode cX7_followIn 32 = .ok (.getfield 17, 3) := dk_180 0 17 (dk_at dksX7_followIn_1 8 rfl rfl)
theorem dX7_followIn_35 : decode cX7_followIn 35 = .ok (.aload_n 1, 1) := dk_43 (dk_at dksX7_followIn_1 11 rfl rfl)
theorem dX7_followIn_36 : decode cX7_followIn 36 = .ok (.getfield 84, 3) := dk_180 0 84 (dk_at dksX7_followIn_1 12 rfl rfl)
theorem dX7_followIn_39 : decode cX7_followIn 39 = .ok (.iload_n 2, 1) := dk_28 (dk_at dksX7_followIn_1 15 rfl rfl)
theorem dX7_followIn_40 : decode cX7_followIn 40 = .ok (.iaload, 1) := dk_46 (dk_at dksX7_followIn_1 16 rfl rfl)
theorem dX7_followIn_41 : decode cX7_followIn 41 = .ok (.bipush 20, 2) := dk_16 20 (dk_at dksX7_followIn_1 17 rfl rfl)
theorem dX7_followIn_43 : decode cX7_followIn 43 = .ok (.isub, 1) := dk_100 (dk_at dksX7_followIn_1 19 rfl rfl)
theorem dX7_followIn_44 : decode cX7_followIn 44 = .ok (.aaload, 1) := dk_50 (dk_at dksX7_followIn_1 20 rfl rfl)
theorem dX7_followIn_45 : decode cX7_followIn 45 = .ok (.aload_n 0, 1) := dk_42 (dk_at dksX7_followIn_1 21 rfl rfl)
theorem dX7_followIn_46 : decode cX7_followIn 46 = .ok (.getfield 21, 3) := dk_180 0 21 (dk_at dksX7_followIn_2 0 rfl rfl)
theorem dX7_followIn_49 : decode cX7_followIn 49 = .ok (.invokevirtual 105, 3) := dk_182 0 105 (dk_at dksX7_followIn_2 3 rfl rfl)
theorem dX7_followIn_52 : decode cX7_followIn 52 = .ok (.ireturn, 1) := dk_172 (dk_at dksX7_followIn_2 6 rfl rfl)
abbrev cX7_conflicts : ByteArray := prog_6_method_8_code
def yX7_conflicts : MethodName := ⟨RX7, "conflicts", "()I"⟩
def dkwX7_conflicts_4 : List UInt8 := [172]
abbrev dktX7_conflicts_4 : List UInt8 := dkwX7_conflicts_4 ++ []
def dkwX7_conflicts_3 : List UInt8 := [29, 50, 182, 0, 120, 153, 0, 6, 132, 1, 1, 132, 3, 1, 167, 255, 188, 132, 2, 1, 167, 255, 169, 27]
abbrev dktX7_conflicts_3 : List UInt8 := dkwX7_conflicts_3 ++ dktX7_conflicts_4
def dkwX7_conflicts_2 : List UInt8 := [185, 0, 50, 2, 0, 192, 0, 54, 180, 0, 60, 160, 0, 24, 42, 180, 0, 41, 28, 50, 42, 180, 0, 41]
abbrev dktX7_conflicts_2 : List UInt8 := dkwX7_conflicts_2 ++ dktX7_conflicts_3
def dkwX7_conflicts_1 : List UInt8 := [162, 0, 65, 42, 180, 0, 31, 28, 185, 0, 50, 2, 0, 192, 0, 54, 180, 0, 60, 42, 180, 0, 31, 29]
abbrev dktX7_conflicts_1 : List UInt8 := dkwX7_conflicts_1 ++ dktX7_conflicts_2
def dkwX7_conflicts_0 : List UInt8 := [3, 60, 3, 61, 28, 42, 180, 0, 41, 190, 162, 0, 84, 28, 4, 96, 62, 29, 42, 180, 0, 41, 190]
abbrev dktX7_conflicts_0 : List UInt8 := dkwX7_conflicts_0 ++ dktX7_conflicts_1
theorem dksX7_conflicts_0 : cX7_conflicts.data.toList.drop 0 = dktX7_conflicts_0 := by decide +kernel
theorem dksX7_conflicts_1 : cX7_conflicts.data.toList.drop 23 = dktX7_conflicts_1 := dk_seg dksX7_conflicts_0 23 rfl rfl
theorem dksX7_conflicts_2 : cX7_conflicts.data.toList.drop 47 = dktX7_conflicts_2 := dk_seg dksX7_conflicts_1 24 rfl rfl
theorem dksX7_conflicts_3 : cX7_conflicts.data.toList.drop 71 = dktX7_conflicts_3 := dk_seg dksX7_conflicts_2 24 rfl rfl
theorem dksX7_conflicts_4 : cX7_conflicts.data.toList.drop 95 = dktX7_conflicts_4 := dk_seg dksX7_conflicts_3 24 rfl rfl
theorem dX7_conflicts_0 : decode cX7_conflicts 0 = .ok (.iconst 0, 1) := dk_3 (dk_at dksX7_conflicts_0 0 rfl rfl)
theorem dX7_conflicts_1 : decode cX7_conflicts 1 = .ok (.istore_n 1, 1) := dk_60 (dk_at dksX7_conflicts_0 1 rfl rfl)
theorem dX7_conflicts_2 : decode cX7_conflicts 2 = .ok (.iconst 0, 1) := dk_3 (dk_at dksX7_conflicts_0 2 rfl rfl)
theorem dX7_conflicts_3 : decode cX7_conflicts 3 = .ok (.istore_n 2, 1) := dk_61 (dk_at dksX7_conflicts_0 3 rfl rfl)
theorem dX7_conflicts_4 : decode cX7_conflicts 4 = .ok (.iload_n 2, 1) := dk_28 (dk_at dksX7_conflicts_0 4 rfl rfl)
theorem dX7_conflicts_5 : decode cX7_conflicts 5 = .ok (.aload_n 0, 1) := dk_42 (dk_at dksX7_conflicts_0 5 rfl rfl)
theorem dX7_conflicts_6 : decode cX7_conflicts 6 = .ok (.getfield 41, 3) := dk_180 0 41 (dk_at dksX7_conflicts_0 6 rfl rfl)
theorem dX7_conflicts_9 : decode cX7_conflicts 9 = .ok (.arraylength, 1) := dk_190 (dk_at dksX7_conflicts_0 9 rfl rfl)
theorem dX7_conflicts_10 : decode cX7_conflicts 10 = .ok (.if_icmp .ge 84, 3) := dk_162 0 84 (dk_at dksX7_conflicts_0 10 rfl rfl)
theorem dX7_conflicts_13 : decode cX7_conflicts 13 = .ok (.iload_n 2, 1) := dk_28 (dk_at dksX7_conflicts_0 13 rfl rfl)
theorem dX7_conflicts_14 : decode cX7_conflicts 14 = .ok (.iconst 1, 1) := dk_4 (dk_at dksX7_conflicts_0 14 rfl rfl)
theorem dX7_conflicts_15 : decode cX7_conflicts 15 = .ok (.iadd, 1) := dk_96 (dk_at dksX7_conflicts_0 15 rfl rfl)
theorem dX7_conflicts_16 : decode cX7_conflicts 16 = .ok (.istore_n 3, 1) := dk_62 (dk_at dksX7_conflicts_0 16 rfl rfl)
theorem dX7_conflicts_17 : decode cX7_conflicts 17 = .ok (.iload_n 3, 1) := dk_29 (dk_at dksX7_conflicts_0 17 rfl rfl)
theorem dX7_conflicts_18 : decode cX7_conflicts 18 = .ok (.aload_n 0, 1) := dk_42 (dk_at dksX7_conflicts_0 18 rfl rfl)
theorem dX7_conflicts_19 : decode cX7_conflicts 19 = .ok (.getfield 41, 3) := dk_180 0 41 (dk_at dksX7_conflicts_0 19 rfl rfl)
theorem dX7_conflicts_22 : decode cX7_conflicts 22 = .ok (.arraylength, 1) := dk_190 (dk_at dksX7_conflicts_0 22 rfl rfl)
theorem dX7_conflicts_23 : decode cX7_conflicts 23 = .ok (.if_icmp .ge 65, 3) := dk_162 0 65 (dk_at dksX7_conflicts_1 0 rfl rfl)
theorem dX7_conflicts_26 : decode cX7_conflicts 26 = .ok (.aload_n 0, 1) := dk_42 (dk_at dksX7_conflicts_1 3 rfl rfl)
theorem dX7_conflicts_27 : decode cX7_conflicts 27 = .ok (.getfield 31, 3) := dk_180 0 31 (dk_at dksX7_conflicts_1 4 rfl rfl)
theorem dX7_conflicts_30 : decode cX7_conflicts 30 = .ok (.iload_n 2, 1) := dk_28 (dk_at dksX7_conflicts_1 7 rfl rfl)
theorem dX7_conflicts_31 : decode cX7_conflicts 31 = .ok (.invokeinterface 50 2, 5) := by decide +kernel
theorem dX7_conflicts_36 : decode cX7_conflicts 36 = .ok (.checkcast 54, 3) := dk_192 0 54 (dk_at dksX7_conflicts_1 13 rfl rfl)
theorem dX7_conflicts_39 : decode cX7_conflicts 39 = .ok (.getfield 60, 3) := dk_180 0 60 (dk_at dksX7_conflicts_1 16 rfl rfl)
theorem dX7_conflicts_42 : decode cX7_conflicts 42 = .ok (.aload_n 0, 1) := dk_42 (dk_at dksX7_conflicts_1 19 rfl rfl)
theorem dX7_conflicts_43 : decode cX7_conflicts 43 = .ok (.getfield 31, 3) := dk_180 0 31 (dk_at dksX7_conflicts_1 20 rfl rfl)
theorem dX7_conflicts_46 : decode cX7_conflicts 46 = .ok (.iload_n 3, 1) := dk_29 (dk_at dksX7_conflicts_1 23 rfl rfl)
theorem dX7_conflicts_47 : decode cX7_conflicts 47 = .ok (.invokeinterface 50 2, 5) := by decide +kernel
theorem dX7_conflicts_52 : decode cX7_conflicts 52 = .ok (.checkcast 54, 3) := dk_192 0 54 (dk_at dksX7_conflicts_2 5 rfl rfl)
theorem dX7_conflicts_55 : decode cX7_conflicts 55 = .ok (.getfield 60, 3) := dk_180 0 60 (dk_at dksX7_conflicts_2 8 rfl rfl)
theorem dX7_conflicts_58 : decode cX7_conflicts 58 = .ok (.if_icmp .ne 24, 3) := dk_160 0 24 (dk_at dksX7_conflicts_2 11 rfl rfl)
theorem dX7_conflicts_61 : decode cX7_conflicts 61 = .ok (.aload_n 0, 1) := dk_42 (dk_at dksX7_conflicts_2 14 rfl rfl)
theorem dX7_conflicts_62 : decode cX7_conflicts 62 = .ok (.getfield 41, 3) := dk_180 0 41 (dk_at dksX7_conflicts_2 15 rfl rfl)
theorem dX7_conflicts_65 : decode cX7_conflicts 65 = .ok (.iload_n 2, 1) := dk_28 (dk_at dksX7_conflicts_2 18 rfl rfl)
theorem dX7_conflicts_66 : decode cX7_conflicts 66 = .ok (.aaload, 1) := dk_50 (dk_at dksX7_conflicts_2 19 rfl rfl)
theorem dX7_conflicts_67 : decode cX7_conflicts 67 = .ok (.aload_n 0, 1) := dk_42 (dk_at dksX7_conflicts_2 20 rfl rfl)
theorem dX7_conflicts_68 : decode cX7_conflicts 68 = .ok (.getfield 41, 3) := dk_180 0 41 (dk_at dksX7_conflicts_2 21 rfl rfl)
theorem dX7_conflicts_71 : decode cX7_conflicts 71 = .ok (.iload_n 3, 1) := dk_29 (dk_at dksX7_conflicts_3 0 rfl rfl)
theorem dX7_conflicts_72 : decode cX7_conflicts 72 = .ok (.aaload, 1) := dk_50 (dk_at dksX7_conflicts_3 1 rfl rfl)
theorem dX7_conflicts_73 : decode cX7_conflicts 73 = .ok (.invokevirtual 120, 3) := dk_182 0 120 (dk_at dksX7_conflicts_3 2 rfl rfl)
theorem dX7_conflicts_76 : decode cX7_conflicts 76 = .ok (.ifCond .eq 6, 3) := dk_153 0 6 (dk_at dksX7_conflicts_3 5 rfl rfl)
theorem dX7_conflicts_79 : decode cX7_conflicts 79 = .ok (.iinc 1 1, 3) := dk_132 1 1 (dk_at dksX7_conflicts_3 8 rfl rfl)
theorem dX7_conflicts_82 : decode cX7_conflicts 82 = .ok (.iinc 3 1, 3) := dk_132 3 1 (dk_at dksX7_conflicts_3 11 rfl rfl)
theorem dX7_conflicts_85 : decode cX7_conflicts 85 = .ok (.goto (-68), 3) := dk_167 255 188 (dk_at dksX7_conflicts_3 14 rfl rfl)
theorem dX7_conflicts_88 : decode cX7_conflicts 88 = .ok (.iinc 2 1, 3) := dk_132 2 1 (dk_at dksX7_conflicts_3 17 rfl rfl)
theorem dX7_conflicts_91 : decode cX7_conflicts 91 = .ok (.goto (-87), 3) := dk_167 255 169 (dk_at dksX7_conflicts_3 20 rfl rfl)
theorem dX7_conflicts_94 : decode cX7_conflicts 94 = .ok (.iload_n 1, 1) := dk_27 (dk_at dksX7_conflicts_3 23 rfl rfl)
theorem dX7_conflicts_95 : decode cX7_conflicts 95 = .ok (.ireturn, 1) := dk_172 (dk_at dksX7_conflicts_4 0 rfl rfl)
abbrev cX7_predicted : ByteArray := prog_6_method_7_code
def yX7_predicted : MethodName := ⟨RX7, "predicted", "(III)I"⟩
def dkwX7_predicted_3 : List UInt8 := [132, 5, 1, 167, 255, 189, 21, 4, 172]
abbrev dktX7_predicted_3 : List UInt8 := dkwX7_predicted_3 ++ []
def dkwX7_predicted_2 : List UInt8 := [184, 0, 109, 182, 0, 117, 153, 0, 18, 21, 4, 2, 160, 0, 8, 21, 5, 167, 0, 5, 16, 254, 54, 4]
abbrev dktX7_predicted_2 : List UInt8 := dkwX7_predicted_2 ++ dktX7_predicted_3
def dkwX7_predicted_1 : List UInt8 := [185, 0, 50, 2, 0, 192, 0, 54, 180, 0, 60, 27, 160, 0, 36, 42, 180, 0, 41, 21, 5, 50, 28, 29]
abbrev dktX7_predicted_1 : List UInt8 := dkwX7_predicted_1 ++ dktX7_predicted_2
def dkwX7_predicted_0 : List UInt8 := [2, 54, 4, 3, 54, 5, 21, 5, 42, 180, 0, 41, 190, 162, 0, 63, 42, 180, 0, 31, 21, 5]
abbrev dktX7_predicted_0 : List UInt8 := dkwX7_predicted_0 ++ dktX7_predicted_1
theorem dksX7_predicted_0 : cX7_predicted.data.toList.drop 0 = dktX7_predicted_0 := by decide +kernel
theorem dksX7_predicted_1 : cX7_predicted.data.toList.drop 22 = dktX7_predicted_1 := dk_seg dksX7_predicted_0 22 rfl rfl
theorem dksX7_predicted_2 : cX7_predicted.data.toList.drop 46 = dktX7_predicted_2 := dk_seg dksX7_predicted_1 24 rfl rfl
theorem dksX7_predicted_3 : cX7_predicted.data.toList.drop 70 = dktX7_predicted_3 := dk_seg dksX7_predicted_2 24 rfl rfl
theorem dX7_predicted_0 : decode cX7_predicted 0 = .ok (.iconst (-1), 1) := dk_2 (dk_at dksX7_predicted_0 0 rfl rfl)
theorem dX7_predicted_1 : decode cX7_predicted 1 = .ok (.istore 4, 2) := dk_54 4 (dk_at dksX7_predicted_0 1 rfl rfl)
theorem dX7_predicted_3 : decode cX7_predicted 3 = .ok (.iconst 0, 1) := dk_3 (dk_at dksX7_predicted_0 3 rfl rfl)
theorem dX7_predicted_4 : decode cX7_predicted 4 = .ok (.istore 5, 2) := dk_54 5 (dk_at dksX7_predicted_0 4 rfl rfl)
theorem dX7_predicted_6 : decode cX7_predicted 6 = .ok (.iload 5, 2) := dk_21 5 (dk_at dksX7_predicted_0 6 rfl rfl)
theorem dX7_predicted_8 : decode cX7_predicted 8 = .ok (.aload_n 0, 1) := dk_42 (dk_at dksX7_predicted_0 8 rfl rfl)
theorem dX7_predicted_9 : decode cX7_predicted 9 = .ok (.getfield 41, 3) := dk_180 0 41 (dk_at dksX7_predicted_0 9 rfl rfl)
theorem dX7_predicted_12 : decode cX7_predicted 12 = .ok (.arraylength, 1) := dk_190 (dk_at dksX7_predicted_0 12 rfl rfl)
theorem dX7_predicted_13 : decode cX7_predicted 13 = .ok (.if_icmp .ge 63, 3) := dk_162 0 63 (dk_at dksX7_predicted_0 13 rfl rfl)
theorem dX7_predicted_16 : decode cX7_predicted 16 = .ok (.aload_n 0, 1) := dk_42 (dk_at dksX7_predicted_0 16 rfl rfl)
theorem dX7_predicted_17 : decode cX7_predicted 17 = .ok (.getfield 31, 3) := dk_180 0 31 (dk_at dksX7_predicted_0 17 rfl rfl)
theorem dX7_predicted_20 : decode cX7_predicted 20 = .ok (.iload 5, 2) := dk_21 5 (dk_at dksX7_predicted_0 20 rfl rfl)
theorem dX7_predicted_22 : decode cX7_predicted 22 = .ok (.invokeinterface 50 2, 5) := by decide +kernel
theorem dX7_predicted_27 : decode cX7_predicted 27 = .ok (.checkcast 54, 3) := dk_192 0 54 (dk_at dksX7_predicted_1 5 rfl rfl)
theorem dX7_predicted_30 : decode cX7_predicted 30 = .ok (.getfield 60, 3) := dk_180 0 60 (dk_at dksX7_predicted_1 8 rfl rfl)
theorem dX7_predicted_33 : decode cX7_predicted 33 = .ok (.iload_n 1, 1) := dk_27 (dk_at dksX7_predicted_1 11 rfl rfl)
theorem dX7_predicted_34 : decode cX7_predicted 34 = .ok (.if_icmp .ne 36, 3) := dk_160 0 36 (dk_at dksX7_predicted_1 12 rfl rfl)
theorem dX7_predicted_37 : decode cX7_predicted 37 = .ok (.aload_n 0, 1) := dk_42 (dk_at dksX7_predicted_1 15 rfl rfl)
theorem dX7_predicted_38 : decode cX7_predicted 38 = .ok (.getfield 41, 3) := dk_180 0 41 (dk_at dksX7_predicted_1 16 rfl rfl)
theorem dX7_predicted_41 : decode cX7_predicted 41 = .ok (.iload 5, 2) := dk_21 5 (dk_at dksX7_predicted_1 19 rfl rfl)
theorem dX7_predicted_43 : decode cX7_predicted 43 = .ok (.aaload, 1) := dk_50 (dk_at dksX7_predicted_1 21 rfl rfl)
theorem dX7_predicted_44 : decode cX7_predicted 44 = .ok (.iload_n 2, 1) := dk_28 (dk_at dksX7_predicted_1 22 rfl rfl)
theorem dX7_predicted_45 : decode cX7_predicted 45 = .ok (.iload_n 3, 1) := dk_29 (dk_at dksX7_predicted_1 23 rfl rfl)
theorem dX7_predicted_46 : decode cX7_predicted 46 = .ok (.invokestatic 109, 3) := dk_184 0 109 (dk_at dksX7_predicted_2 0 rfl rfl)
theorem dX7_predicted_49 : decode cX7_predicted 49 = .ok (.invokevirtual 117, 3) := dk_182 0 117 (dk_at dksX7_predicted_2 3 rfl rfl)
theorem dX7_predicted_52 : decode cX7_predicted 52 = .ok (.ifCond .eq 18, 3) := dk_153 0 18 (dk_at dksX7_predicted_2 6 rfl rfl)
theorem dX7_predicted_55 : decode cX7_predicted 55 = .ok (.iload 4, 2) := dk_21 4 (dk_at dksX7_predicted_2 9 rfl rfl)
theorem dX7_predicted_57 : decode cX7_predicted 57 = .ok (.iconst (-1), 1) := dk_2 (dk_at dksX7_predicted_2 11 rfl rfl)
theorem dX7_predicted_58 : decode cX7_predicted 58 = .ok (.if_icmp .ne 8, 3) := dk_160 0 8 (dk_at dksX7_predicted_2 12 rfl rfl)
theorem dX7_predicted_61 : decode cX7_predicted 61 = .ok (.iload 5, 2) := dk_21 5 (dk_at dksX7_predicted_2 15 rfl rfl)
theorem dX7_predicted_63 : decode cX7_predicted 63 = .ok (.goto 5, 3) := dk_167 0 5 (dk_at dksX7_predicted_2 17 rfl rfl)
theorem dX7_predicted_66 : decode cX7_predicted 66 = .ok (.bipush (-2), 2) := dk_16 254 (dk_at dksX7_predicted_2 20 rfl rfl)
theorem dX7_predicted_68 : decode cX7_predicted 68 = .ok (.istore 4, 2) := dk_54 4 (dk_at dksX7_predicted_2 22 rfl rfl)
theorem dX7_predicted_70 : decode cX7_predicted 70 = .ok (.iinc 5 1, 3) := dk_132 5 1 (dk_at dksX7_predicted_3 0 rfl rfl)
theorem dX7_predicted_73 : decode cX7_predicted 73 = .ok (.goto (-67), 3) := dk_167 255 189 (dk_at dksX7_predicted_3 3 rfl rfl)
theorem dX7_predicted_76 : decode cX7_predicted 76 = .ok (.iload 4, 2) := dk_21 4 (dk_at dksX7_predicted_3 6 rfl rfl)
theorem dX7_predicted_78 : decode cX7_predicted 78 = .ok (.ireturn, 1) := dk_172 (dk_at dksX7_predicted_3 8 rfl rfl)
theorem q168 : (Jvm.Cond.initialized "SelahGenerator$Pairs") ∈ lw_all := lw_g (lw_at lw_m1 46 rfl) rfl
theorem q781 : (Jvm.Cond.selects "SelahGenerator$Pairs" ({ cls := "java/lang/Object", name := "getClass", desc := "()Ljava/lang/Class;" } : Jvm.MethodName) ({ cls := "java/lang/Object", name := "getClass", desc := "()Ljava/lang/Class;" } : Jvm.MethodName)) ∈ lw_all := lw_g (lw_at lw_m3 179 rfl) rfl
theorem q1323 : (Jvm.Cond.instantiable "SelahGenerator$Pairs" (7 : Nat)) ∈ lw_all := lw_g (lw_at lw_m6 1 rfl) rfl
theorem q1325 : (Jvm.Cond.instanceMethod ({ cls := "SelahGenerator$Pairs", name := "<init>", desc := "(Ljava/util/List;)V" } : Jvm.MethodName)) ∈ lw_all := lw_g (lw_at lw_m6 3 rfl) rfl
theorem q1326 : (Jvm.Cond.code ({ cls := "SelahGenerator$Pairs", name := "<init>", desc := "(Ljava/util/List;)V" } : Jvm.MethodName) prog_6_method_1_code (4 : Nat) (Option.none : Option Jvm.ClassFile.FieldType)) ∈ lw_all := lw_g (lw_at lw_m6 4 rfl) rfl
theorem q1327 : (Jvm.Cond.methodLink "SelahGenerator$Pairs" (3 : Nat) ({ cls := "java/lang/Object", name := "<init>", desc := "()V" } : Jvm.MethodName)) ∈ lw_all := lw_g (lw_at lw_m6 5 rfl) rfl
theorem q1328 : (Jvm.Cond.classLink "SelahGenerator$Pairs" (9 : Nat) "SelahGenerator$Strings") ∈ lw_all := lw_g (lw_at lw_m6 6 rfl) rfl
theorem q1331 : (Jvm.Cond.methodLinkNest "SelahGenerator$Pairs" (20 : Nat) ({ cls := "SelahGenerator$Strings", name := "<init>", desc := "()V" } : Jvm.MethodName) "SelahGenerator") ∈ lw_tbl := lw_at lw_m6 9 rfl
theorem q1340 : (Jvm.Cond.interfaceEntry "SelahGenerator$Pairs" (35 : Nat)) ∈ lw_tbl := lw_at lw_m6 18 rfl
theorem q1341 : (Jvm.Cond.methodLink "SelahGenerator$Pairs" (35 : Nat) ({ cls := "java/util/List", name := "size", desc := "()I" } : Jvm.MethodName)) ∈ lw_all := lw_g (lw_at lw_m6 19 rfl) rfl
theorem q1342 : (Jvm.Cond.methodLink "SelahGenerator$Pairs" (44 : Nat) ({ cls := "SelahGenerator$Pairs", name := "findFirst", desc := "()V" } : Jvm.MethodName)) ∈ lw_all := lw_g (lw_at lw_m6 20 rfl) rfl
theorem q1343 : (Jvm.Cond.privateMethod ({ cls := "SelahGenerator$Pairs", name := "findFirst", desc := "()V" } : Jvm.MethodName)) ∈ lw_tbl := lw_at lw_m6 21 rfl
theorem q1344 : (Jvm.Cond.instanceMethod ({ cls := "SelahGenerator$Pairs", name := "findFirst", desc := "()V" } : Jvm.MethodName)) ∈ lw_all := lw_g (lw_at lw_m6 22 rfl) rfl
theorem q1345 : (Jvm.Cond.code ({ cls := "SelahGenerator$Pairs", name := "findFirst", desc := "()V" } : Jvm.MethodName) prog_6_method_4_code (4 : Nat) (Option.none : Option Jvm.ClassFile.FieldType)) ∈ lw_all := lw_g (lw_at lw_m6 23 rfl) rfl
theorem q1346 : (Jvm.Cond.interfaceEntry "SelahGenerator$Pairs" (92 : Nat)) ∈ lw_tbl := lw_at lw_m6 24 rfl
theorem q1347 : (Jvm.Cond.methodLink "SelahGenerator$Pairs" (92 : Nat) ({ cls := "java/util/List", name := "iterator", desc := "()Ljava/util/Iterator;" } : Jvm.MethodName)) ∈ lw_all := lw_g (lw_at lw_m6 25 rfl) rfl
theorem q1348 : (Jvm.Cond.interfaceEntry "SelahGenerator$Pairs" (96 : Nat)) ∈ lw_tbl := lw_at lw_m6 26 rfl
theorem q1349 : (Jvm.Cond.methodLink "SelahGenerator$Pairs" (96 : Nat) ({ cls := "java/util/Iterator", name := "hasNext", desc := "()Z" } : Jvm.MethodName)) ∈ lw_all := lw_g (lw_at lw_m6 27 rfl) rfl
theorem q1350 : (Jvm.Cond.interfaceEntry "SelahGenerator$Pairs" (102 : Nat)) ∈ lw_tbl := lw_at lw_m6 28 rfl
theorem q1351 : (Jvm.Cond.methodLink "SelahGenerator$Pairs" (102 : Nat) ({ cls := "java/util/Iterator", name := "next", desc := "()Ljava/lang/Object;" } : Jvm.MethodName)) ∈ lw_all := lw_g (lw_at lw_m6 29 rfl) rfl
theorem q1352 : (Jvm.Cond.classLink "SelahGenerator$Pairs" (54 : Nat) "SelahGenerator$Rule") ∈ lw_all := lw_g (lw_at lw_m6 30 rfl) rfl
theorem q1353 : (Jvm.Cond.methodLink "SelahGenerator$Pairs" (56 : Nat) ({ cls := "SelahGenerator$Pairs", name := "goThrough", desc := "(LSelahGenerator$Rule;I)V" } : Jvm.MethodName)) ∈ lw_all := lw_g (lw_at lw_m6 31 rfl) rfl
theorem q1354 : (Jvm.Cond.privateMethod ({ cls := "SelahGenerator$Pairs", name := "goThrough", desc := "(LSelahGenerator$Rule;I)V" } : Jvm.MethodName)) ∈ lw_tbl := lw_at lw_m6 32 rfl
theorem q1355 : (Jvm.Cond.instanceMethod ({ cls := "SelahGenerator$Pairs", name := "goThrough", desc := "(LSelahGenerator$Rule;I)V" } : Jvm.MethodName)) ∈ lw_all := lw_g (lw_at lw_m6 33 rfl) rfl
theorem q1356 : (Jvm.Cond.code ({ cls := "SelahGenerator$Pairs", name := "goThrough", desc := "(LSelahGenerator$Rule;I)V" } : Jvm.MethodName) prog_6_method_3_code (5 : Nat) (Option.none : Option Jvm.ClassFile.FieldType)) ∈ lw_all := lw_g (lw_at lw_m6 34 rfl) rfl
theorem q1357 : (Jvm.Cond.methodLink "SelahGenerator$Pairs" (77 : Nat) ({ cls := "SelahGenerator$Strings", name := "clear", desc := "()V" } : Jvm.MethodName)) ∈ lw_all := lw_g (lw_at lw_m6 35 rfl) rfl
theorem q1361 : (Jvm.Cond.methodLink "SelahGenerator$Pairs" (80 : Nat) ({ cls := "SelahGenerator$Strings", name := "add", desc := "(I)V" } : Jvm.MethodName)) ∈ lw_all := lw_g (lw_at lw_m6 39 rfl) rfl
theorem q1365 : (Jvm.Cond.methodLinkNest "SelahGenerator$Pairs" (88 : Nat) ({ cls := "SelahGenerator", name := "isNonterminal", desc := "(I)Z" } : Jvm.MethodName) "SelahGenerator") ∈ lw_tbl := lw_at lw_m6 43 rfl
theorem q1366 : (Jvm.Cond.methodLink "SelahGenerator$Pairs" (64 : Nat) ({ cls := "SelahGenerator$Pairs", name := "goOn", desc := "(LSelahGenerator$Strings;)V" } : Jvm.MethodName)) ∈ lw_all := lw_g (lw_at lw_m6 44 rfl) rfl
theorem q1367 : (Jvm.Cond.privateMethod ({ cls := "SelahGenerator$Pairs", name := "goOn", desc := "(LSelahGenerator$Strings;)V" } : Jvm.MethodName)) ∈ lw_tbl := lw_at lw_m6 45 rfl
theorem q1368 : (Jvm.Cond.instanceMethod ({ cls := "SelahGenerator$Pairs", name := "goOn", desc := "(LSelahGenerator$Strings;)V" } : Jvm.MethodName)) ∈ lw_all := lw_g (lw_at lw_m6 46 rfl) rfl
theorem q1369 : (Jvm.Cond.code ({ cls := "SelahGenerator$Pairs", name := "goOn", desc := "(LSelahGenerator$Strings;)V" } : Jvm.MethodName) prog_6_method_2_code (2 : Nat) (Option.none : Option Jvm.ClassFile.FieldType)) ∈ lw_all := lw_g (lw_at lw_m6 47 rfl) rfl
theorem q1370 : (Jvm.Cond.methodLink "SelahGenerator$Pairs" (74 : Nat) ({ cls := "SelahGenerator$Strings", name := "become", desc := "(LSelahGenerator$Strings;LSelahGenerator$Strings;)V" } : Jvm.MethodName)) ∈ lw_all := lw_g (lw_at lw_m6 48 rfl) rfl
theorem q1386 : (Jvm.Cond.methodLink "SelahGenerator$Pairs" (68 : Nat) ({ cls := "SelahGenerator$Strings", name := "become", desc := "(LSelahGenerator$Strings;)V" } : Jvm.MethodName)) ∈ lw_all := lw_g (lw_at lw_m6 64 rfl) rfl
theorem q1395 : (Jvm.Cond.methodLink "SelahGenerator$Pairs" (105 : Nat) ({ cls := "SelahGenerator$Strings", name := "addAll", desc := "(LSelahGenerator$Strings;)Z" } : Jvm.MethodName)) ∈ lw_all := lw_g (lw_at lw_m6 73 rfl) rfl
theorem q1396 : (Jvm.Cond.methodLink "SelahGenerator$Pairs" (47 : Nat) ({ cls := "SelahGenerator$Pairs", name := "findFollow", desc := "()V" } : Jvm.MethodName)) ∈ lw_all := lw_g (lw_at lw_m6 74 rfl) rfl
theorem q1397 : (Jvm.Cond.privateMethod ({ cls := "SelahGenerator$Pairs", name := "findFollow", desc := "()V" } : Jvm.MethodName)) ∈ lw_tbl := lw_at lw_m6 75 rfl
theorem q1398 : (Jvm.Cond.instanceMethod ({ cls := "SelahGenerator$Pairs", name := "findFollow", desc := "()V" } : Jvm.MethodName)) ∈ lw_all := lw_g (lw_at lw_m6 76 rfl) rfl
theorem q1399 : (Jvm.Cond.code ({ cls := "SelahGenerator$Pairs", name := "findFollow", desc := "()V" } : Jvm.MethodName) prog_6_method_5_code (5 : Nat) (Option.none : Option Jvm.ClassFile.FieldType)) ∈ lw_all := lw_g (lw_at lw_m6 77 rfl) rfl
theorem q1400 : (Jvm.Cond.methodLink "SelahGenerator$Pairs" (109 : Nat) ({ cls := "SelahGenerator$Strings", name := "pair", desc := "(II)I" } : Jvm.MethodName)) ∈ lw_all := lw_g (lw_at lw_m6 78 rfl) rfl
theorem q1401 : (Jvm.Cond.methodLink "SelahGenerator$Pairs" (113 : Nat) ({ cls := "SelahGenerator$Pairs", name := "followIn", desc := "(LSelahGenerator$Rule;I)Z" } : Jvm.MethodName)) ∈ lw_all := lw_g (lw_at lw_m6 79 rfl) rfl
theorem q1402 : (Jvm.Cond.privateMethod ({ cls := "SelahGenerator$Pairs", name := "followIn", desc := "(LSelahGenerator$Rule;I)Z" } : Jvm.MethodName)) ∈ lw_tbl := lw_at lw_m6 80 rfl
theorem q1403 : (Jvm.Cond.instanceMethod ({ cls := "SelahGenerator$Pairs", name := "followIn", desc := "(LSelahGenerator$Rule;I)Z" } : Jvm.MethodName)) ∈ lw_all := lw_g (lw_at lw_m6 81 rfl) rfl
theorem q1404 : (Jvm.Cond.code ({ cls := "SelahGenerator$Pairs", name := "followIn", desc := "(LSelahGenerator$Rule;I)Z" } : Jvm.MethodName) prog_6_method_6_code (3 : Nat) (Option.some Jvm.ClassFile.FieldType.boolean)) ∈ lw_all := lw_g (lw_at lw_m6 82 rfl) rfl
theorem q1405 : (Jvm.Cond.methodLink "SelahGenerator$Pairs" (71 : Nat) ({ cls := "SelahGenerator$Strings", name := "keepPairs", desc := "()V" } : Jvm.MethodName)) ∈ lw_all := lw_g (lw_at lw_m6 83 rfl) rfl
theorem q1409 : (Jvm.Cond.interfaceEntry "SelahGenerator$Pairs" (50 : Nat)) ∈ lw_tbl := lw_at lw_m6 87 rfl
theorem q1410 : (Jvm.Cond.methodLink "SelahGenerator$Pairs" (50 : Nat) ({ cls := "java/util/List", name := "get", desc := "(I)Ljava/lang/Object;" } : Jvm.MethodName)) ∈ lw_all := lw_g (lw_at lw_m6 88 rfl) rfl
theorem q1411 : (Jvm.Cond.fieldLink "SelahGenerator$Pairs" (31 : Nat) "SelahGenerator$Pairs" "rules" "Ljava/util/List;") ∈ lw_all := lw_g (lw_at lw_m6 89 rfl) rfl
theorem q1412 : (Jvm.Cond.fieldLink "SelahGenerator$Pairs" (11 : Nat) "SelahGenerator$Pairs" "first" "[LSelahGenerator$Strings;") ∈ lw_all := lw_g (lw_at lw_m6 90 rfl) rfl
theorem q1413 : (Jvm.Cond.fieldLink "SelahGenerator$Pairs" (17 : Nat) "SelahGenerator$Pairs" "follow" "[LSelahGenerator$Strings;") ∈ lw_all := lw_g (lw_at lw_m6 91 rfl) rfl
theorem q1414 : (Jvm.Cond.fieldLink "SelahGenerator$Pairs" (41 : Nat) "SelahGenerator$Pairs" "prediction" "[LSelahGenerator$Strings;") ∈ lw_all := lw_g (lw_at lw_m6 92 rfl) rfl
theorem q1417 : (Jvm.Cond.fieldLink "SelahGenerator$Pairs" (21 : Nat) "SelahGenerator$Pairs" "now" "LSelahGenerator$Strings;") ∈ lw_all := lw_g (lw_at lw_m6 95 rfl) rfl
theorem q1418 : (Jvm.Cond.fieldLink "SelahGenerator$Pairs" (25 : Nat) "SelahGenerator$Pairs" "next" "LSelahGenerator$Strings;") ∈ lw_all := lw_g (lw_at lw_m6 96 rfl) rfl
theorem q1419 : (Jvm.Cond.fieldLink "SelahGenerator$Pairs" (28 : Nat) "SelahGenerator$Pairs" "token" "LSelahGenerator$Strings;") ∈ lw_all := lw_g (lw_at lw_m6 97 rfl) rfl
theorem q1420 : (Jvm.Cond.laysFinal "SelahGenerator$Pairs" "SelahGenerator$Pairs" "rules" "Ljava/util/List;") ∈ lw_all := lw_g (lw_at lw_m6 98 rfl) rfl
theorem q1421 : (Jvm.Cond.soleField "SelahGenerator$Pairs" "rules") ∈ lw_all := lw_g (lw_at lw_m6 99 rfl) rfl
theorem q1422 : (Jvm.Cond.laysFinal "SelahGenerator$Pairs" "SelahGenerator$Pairs" "first" "[LSelahGenerator$Strings;") ∈ lw_all := lw_g (lw_at lw_m6 100 rfl) rfl
theorem q1423 : (Jvm.Cond.soleField "SelahGenerator$Pairs" "first") ∈ lw_all := lw_g (lw_at lw_m6 101 rfl) rfl
theorem q1424 : (Jvm.Cond.laysFinal "SelahGenerator$Pairs" "SelahGenerator$Pairs" "follow" "[LSelahGenerator$Strings;") ∈ lw_all := lw_g (lw_at lw_m6 102 rfl) rfl
theorem q1425 : (Jvm.Cond.soleField "SelahGenerator$Pairs" "follow") ∈ lw_all := lw_g (lw_at lw_m6 103 rfl) rfl
theorem q1426 : (Jvm.Cond.laysFinal "SelahGenerator$Pairs" "SelahGenerator$Pairs" "prediction" "[LSelahGenerator$Strings;") ∈ lw_all := lw_g (lw_at lw_m6 104 rfl) rfl
theorem q1427 : (Jvm.Cond.soleField "SelahGenerator$Pairs" "prediction") ∈ lw_all := lw_g (lw_at lw_m6 105 rfl) rfl
theorem q1428 : (Jvm.Cond.laysFinal "SelahGenerator$Pairs" "SelahGenerator$Pairs" "now" "LSelahGenerator$Strings;") ∈ lw_all := lw_g (lw_at lw_m6 106 rfl) rfl
theorem q1429 : (Jvm.Cond.soleField "SelahGenerator$Pairs" "now") ∈ lw_all := lw_g (lw_at lw_m6 107 rfl) rfl
theorem q1430 : (Jvm.Cond.laysFinal "SelahGenerator$Pairs" "SelahGenerator$Pairs" "next" "LSelahGenerator$Strings;") ∈ lw_all := lw_g (lw_at lw_m6 108 rfl) rfl
theorem q1431 : (Jvm.Cond.soleField "SelahGenerator$Pairs" "next") ∈ lw_all := lw_g (lw_at lw_m6 109 rfl) rfl
theorem q1432 : (Jvm.Cond.laysFinal "SelahGenerator$Pairs" "SelahGenerator$Pairs" "token" "LSelahGenerator$Strings;") ∈ lw_all := lw_g (lw_at lw_m6 110 rfl) rfl
theorem q1433 : (Jvm.Cond.soleField "SelahGenerator$Pairs" "token") ∈ lw_all := lw_g (lw_at lw_m6 111 rfl) rfl
theorem q1434 : (Jvm.Cond.superclass "SelahGenerator$Pairs" "java/lang/Object") ∈ lw_all := lw_g (lw_at lw_m6 112 rfl) rfl
theorem q1436 : (Jvm.Cond.instanceMethod ({ cls := "SelahGenerator$Pairs", name := "conflicts", desc := "()I" } : Jvm.MethodName)) ∈ lw_all := lw_g (lw_at lw_m6 114 rfl) rfl
theorem q1437 : (Jvm.Cond.selects "SelahGenerator$Pairs" ({ cls := "SelahGenerator$Pairs", name := "conflicts", desc := "()I" } : Jvm.MethodName) ({ cls := "SelahGenerator$Pairs", name := "conflicts", desc := "()I" } : Jvm.MethodName)) ∈ lw_all := lw_g (lw_at lw_m6 115 rfl) rfl
theorem q1438 : (Jvm.Cond.code ({ cls := "SelahGenerator$Pairs", name := "conflicts", desc := "()I" } : Jvm.MethodName) prog_6_method_8_code (4 : Nat) (Option.some Jvm.ClassFile.FieldType.int)) ∈ lw_all := lw_g (lw_at lw_m6 116 rfl) rfl
theorem q1439 : (Jvm.Cond.methodLink "SelahGenerator$Pairs" (120 : Nat) ({ cls := "SelahGenerator$Strings", name := "meets", desc := "(LSelahGenerator$Strings;)Z" } : Jvm.MethodName)) ∈ lw_all := lw_g (lw_at lw_m6 117 rfl) rfl
theorem q1733 : (Jvm.Cond.fieldLinkNest "SelahGenerator$Pairs" (60 : Nat) "SelahGenerator$Rule" "left" "I" "SelahGenerator") ∈ lw_tbl := lw_at lw_m7 171 rfl
theorem q1741 : (Jvm.Cond.fieldLinkNest "SelahGenerator$Pairs" (84 : Nat) "SelahGenerator$Rule" "right" "[I" "SelahGenerator") ∈ lw_tbl := lw_at lw_m7 179 rfl
theorem q1950 : (Jvm.Cond.instanceMethod ({ cls := "SelahGenerator$Pairs", name := "predicted", desc := "(III)I" } : Jvm.MethodName)) ∈ lw_all := lw_g (lw_at lw_m8 148 rfl) rfl
theorem q1951 : (Jvm.Cond.selects "SelahGenerator$Pairs" ({ cls := "SelahGenerator$Pairs", name := "predicted", desc := "(III)I" } : Jvm.MethodName) ({ cls := "SelahGenerator$Pairs", name := "predicted", desc := "(III)I" } : Jvm.MethodName)) ∈ lw_all := lw_g (lw_at lw_m8 149 rfl) rfl
theorem q1952 : (Jvm.Cond.code ({ cls := "SelahGenerator$Pairs", name := "predicted", desc := "(III)I" } : Jvm.MethodName) prog_6_method_7_code (6 : Nat) (Option.some Jvm.ClassFile.FieldType.int)) ∈ lw_all := lw_g (lw_at lw_m8 150 rfl) rfl
theorem q1953 : (Jvm.Cond.methodLink "SelahGenerator$Pairs" (117 : Nat) ({ cls := "SelahGenerator$Strings", name := "has", desc := "(I)Z" } : Jvm.MethodName)) ∈ lw_all := lw_g (lw_at lw_m8 151 rfl) rfl
theorem q2364 : (Jvm.Cond.selects "SelahGenerator$Pairs" ({ cls := "java/lang/Object", name := "equals", desc := "(Ljava/lang/Object;)Z" } : Jvm.MethodName) ({ cls := "java/lang/Object", name := "equals", desc := "(Ljava/lang/Object;)Z" } : Jvm.MethodName)) ∈ lw_all := lw_g (lw_at lw_m10 82 rfl) rfl
theorem q3314 : (Jvm.Cond.castable "SelahGenerator$Pairs" "java/lang/Object") ∈ lw_tbl := lw_at lw_m14 72 rfl
theorem in_X7 : ∀ w ∈ wsX70, w ∈ lw_all := lw_in wsX70 [1420, 1422, 1424, 1426, 1428, 1430, 1432] (by decide +kernel) (by decide +kernel)
/-! SelahGenerator$Strings -/
set_option maxRecDepth 100000
def RX8 : String := "SelahGenerator$Strings"
def TX8 : u_T := fun k => match k with
  | _ => ("SelahGenerator$Strings", "words", "[J", true)
def tyX8 : Nat → FieldType := fun k => match k with
  | _ => .array .long
abbrev wsX80 : List Cond := u_ws RX8 TX8 1
theorem nmX8 : ∀ a, a < 1 → ∀ b, b < 1 → a ≠ b → (TX8 a).2.1 ≠ (TX8 b).2.1 := by decide +kernel
theorem tyX8_ok : ∀ k, k < 1 → parseFieldDescriptor (TX8 k).2.2.1 = some (tyX8 k) := by decide +kernel
abbrev cX8_init : ByteArray := prog_10_method_1_code
def yX8_init : MethodName := ⟨RX8, "<init>", "()V"⟩
def dkwX8_init_0 : List UInt8 := [42, 183, 0, 3, 42, 6, 188, 11, 181, 0, 9, 177]
abbrev dktX8_init_0 : List UInt8 := dkwX8_init_0 ++ []
theorem dksX8_init_0 : cX8_init.data.toList.drop 0 = dktX8_init_0 := by decide +kernel
theorem dX8_init_0 : decode cX8_init 0 = .ok (.aload_n 0, 1) := dk_42 (dk_at dksX8_init_0 0 rfl rfl)
theorem dX8_init_1 : decode cX8_init 1 = .ok (.invokespecial 3, 3) := dk_183 0 3 (dk_at dksX8_init_0 1 rfl rfl)
theorem dX8_init_4 : decode cX8_init 4 = .ok (.aload_n 0, 1) := dk_42 (dk_at dksX8_init_0 4 rfl rfl)
theorem dX8_init_5 : decode cX8_init 5 = .ok (.iconst 3, 1) := dk_6 (dk_at dksX8_init_0 5 rfl rfl)
theorem dX8_init_6 : decode cX8_init 6 = .ok (.newarray .long, 2) := dk_188_11 (dk_at dksX8_init_0 6 rfl rfl)
theorem dX8_init_8 : decode cX8_init 8 = .ok (.putfield 9, 3) := dk_181 0 9 (dk_at dksX8_init_0 8 rfl rfl)
theorem dX8_init_11 : decode cX8_init 11 = .ok (.return_, 1) := dk_177 (dk_at dksX8_init_0 11 rfl rfl)
abbrev cX8_clear : ByteArray := prog_10_method_5_code
def yX8_clear : MethodName := ⟨RX8, "clear", "()V"⟩
def dkwX8_clear_1 : List UInt8 := [177]
abbrev dktX8_clear_1 : List UInt8 := dkwX8_clear_1 ++ []
def dkwX8_clear_0 : List UInt8 := [3, 60, 27, 42, 180, 0, 9, 190, 162, 0, 16, 42, 180, 0, 9, 27, 9, 80, 132, 1, 1, 167, 255, 237]
abbrev dktX8_clear_0 : List UInt8 := dkwX8_clear_0 ++ dktX8_clear_1
theorem dksX8_clear_0 : cX8_clear.data.toList.drop 0 = dktX8_clear_0 := by decide +kernel
theorem dksX8_clear_1 : cX8_clear.data.toList.drop 24 = dktX8_clear_1 := dk_seg dksX8_clear_0 24 rfl rfl
theorem dX8_clear_0 : decode cX8_clear 0 = .ok (.iconst 0, 1) := dk_3 (dk_at dksX8_clear_0 0 rfl rfl)
theorem dX8_clear_1 : decode cX8_clear 1 = .ok (.istore_n 1, 1) := dk_60 (dk_at dksX8_clear_0 1 rfl rfl)
theorem dX8_clear_2 : decode cX8_clear 2 = .ok (.iload_n 1, 1) := dk_27 (dk_at dksX8_clear_0 2 rfl rfl)
theorem dX8_clear_3 : decode cX8_clear 3 = .ok (.aload_n 0, 1) := dk_42 (dk_at dksX8_clear_0 3 rfl rfl)
theorem dX8_clear_4 : decode cX8_clear 4 = .ok (.getfield 9, 3) := dk_180 0 9 (dk_at dksX8_clear_0 4 rfl rfl)
theorem dX8_clear_7 : decode cX8_clear 7 = .ok (.arraylength, 1) := dk_190 (dk_at dksX8_clear_0 7 rfl rfl)
theorem dX8_clear_8 : decode cX8_clear 8 = .ok (.if_icmp .ge 16, 3) := dk_162 0 16 (dk_at dksX8_clear_0 8 rfl rfl)
theorem dX8_clear_11 : decode cX8_clear 11 = .ok (.aload_n 0, 1) := dk_42 (dk_at dksX8_clear_0 11 rfl rfl)
theorem dX8_clear_12 : decode cX8_clear 12 = .ok (.getfield 9, 3) := dk_180 0 9 (dk_at dksX8_clear_0 12 rfl rfl)
theorem dX8_clear_15 : decode cX8_clear 15 = .ok (.iload_n 1, 1) := dk_27 (dk_at dksX8_clear_0 15 rfl rfl)
theorem dX8_clear_16 : decode cX8_clear 16 = .ok (.lconst 0, 1) := dk_9 (dk_at dksX8_clear_0 16 rfl rfl)
theorem dX8_clear_17 : decode cX8_clear 17 = .ok (.lastore, 1) := dk_80 (dk_at dksX8_clear_0 17 rfl rfl)
theorem dX8_clear_18 : decode cX8_clear 18 = .ok (.iinc 1 1, 3) := dk_132 1 1 (dk_at dksX8_clear_0 18 rfl rfl)
theorem dX8_clear_21 : decode cX8_clear 21 = .ok (.goto (-19), 3) := dk_167 255 237 (dk_at dksX8_clear_0 21 rfl rfl)
theorem dX8_clear_24 : decode cX8_clear 24 = .ok (.return_, 1) := dk_177 (dk_at dksX8_clear_1 0 rfl rfl)
abbrev cX8_add : ByteArray := prog_10_method_4_code
def yX8_add : MethodName := ⟨RX8, "add", "(I)V"⟩
def dkwX8_add_0 : List UInt8 := [42, 180, 0, 9, 27, 16, 6, 122, 92, 47, 10, 27, 16, 63, 126, 121, 129, 80, 177]
abbrev dktX8_add_0 : List UInt8 := dkwX8_add_0 ++ []
theorem dksX8_add_0 : cX8_add.data.toList.drop 0 = dktX8_add_0 := by decide +kernel
theorem dX8_add_0 : decode cX8_add 0 = .ok (.aload_n 0, 1) := dk_42 (dk_at dksX8_add_0 0 rfl rfl)
theorem dX8_add_1 : decode cX8_add 1 = .ok (.getfield 9, 3) := dk_180 0 9 (dk_at dksX8_add_0 1 rfl rfl)
theorem dX8_add_4 : decode cX8_add 4 = .ok (.iload_n 1, 1) := dk_27 (dk_at dksX8_add_0 4 rfl rfl)
theorem dX8_add_5 : decode cX8_add 5 = .ok (.bipush 6, 2) := dk_16 6 (dk_at dksX8_add_0 5 rfl rfl)
theorem dX8_add_7 : decode cX8_add 7 = .ok (.ishr, 1) := dk_122 (dk_at dksX8_add_0 7 rfl rfl)
theorem dX8_add_8 : decode cX8_add 8 = .ok (.dup2, 1) := dk_92 (dk_at dksX8_add_0 8 rfl rfl)
theorem dX8_add_9 : decode cX8_add 9 = .ok (.laload, 1) := dk_47 (dk_at dksX8_add_0 9 rfl rfl)
theorem dX8_add_10 : decode cX8_add 10 = .ok (.lconst 1, 1) := dk_10 (dk_at dksX8_add_0 10 rfl rfl)
theorem dX8_add_11 : decode cX8_add 11 = .ok (.iload_n 1, 1) := dk_27 (dk_at dksX8_add_0 11 rfl rfl)
theorem dX8_add_12 : decode cX8_add 12 = .ok (.bipush 63, 2) := dk_16 63 (dk_at dksX8_add_0 12 rfl rfl)
theorem dX8_add_14 : decode cX8_add 14 = .ok (.iand, 1) := dk_126 (dk_at dksX8_add_0 14 rfl rfl)
theorem dX8_add_15 : decode cX8_add 15 = .ok (.lshl, 1) := dk_121 (dk_at dksX8_add_0 15 rfl rfl)
theorem dX8_add_16 : decode cX8_add 16 = .ok (.lor, 1) := dk_129 (dk_at dksX8_add_0 16 rfl rfl)
theorem dX8_add_17 : decode cX8_add 17 = .ok (.lastore, 1) := dk_80 (dk_at dksX8_add_0 17 rfl rfl)
theorem dX8_add_18 : decode cX8_add 18 = .ok (.return_, 1) := dk_177 (dk_at dksX8_add_0 18 rfl rfl)
abbrev cX8_become : ByteArray := prog_10_method_12_code
def yX8_become : MethodName := ⟨RX8, "become", "(LSelahGenerator$Strings;LSelahGenerator$Strings;)V"⟩
def dkwX8_become_3 : List UInt8 := [132, 4, 1, 167, 255, 226, 132, 3, 1, 167, 255, 185, 177]
abbrev dktX8_become_3 : List UInt8 := dkwX8_become_3 ++ []
def dkwX8_become_2 : List UInt8 := [162, 0, 28, 44, 21, 4, 182, 0, 17, 153, 0, 13, 42, 29, 21, 4, 184, 0, 32, 182, 0, 28]
abbrev dktX8_become_2 : List UInt8 := dkwX8_become_2 ++ dktX8_become_3
def dkwX8_become_1 : List UInt8 := [29, 16, 14, 161, 0, 11, 42, 29, 182, 0, 28, 167, 0, 39, 3, 54, 4, 21, 4, 17, 0, 183]
abbrev dktX8_become_1 : List UInt8 := dkwX8_become_1 ++ dktX8_become_2
def dkwX8_become_0 : List UInt8 := [42, 182, 0, 25, 3, 62, 29, 17, 0, 183, 162, 0, 70, 43, 29, 182, 0, 17, 154, 0, 6, 167, 0, 53]
abbrev dktX8_become_0 : List UInt8 := dkwX8_become_0 ++ dktX8_become_1
theorem dksX8_become_0 : cX8_become.data.toList.drop 0 = dktX8_become_0 := by decide +kernel
theorem dksX8_become_1 : cX8_become.data.toList.drop 24 = dktX8_become_1 := dk_seg dksX8_become_0 24 rfl rfl
theorem dksX8_become_2 : cX8_become.data.toList.drop 46 = dktX8_become_2 := dk_seg dksX8_become_1 22 rfl rfl
theorem dksX8_become_3 : cX8_become.data.toList.drop 68 = dktX8_become_3 := dk_seg dksX8_become_2 22 rfl rfl
theorem dX8_become_0 : decode cX8_become 0 = .ok (.aload_n 0, 1) := dk_42 (dk_at dksX8_become_0 0 rfl rfl)
theorem dX8_become_1 : decode cX8_become 1 = .ok (.invokevirtual 25, 3) := dk_182 0 25 (dk_at dksX8_become_0 1 rfl rfl)
theorem dX8_become_4 : decode cX8_become 4 = .ok (.iconst 0, 1) := dk_3 (dk_at dksX8_become_0 4 rfl rfl)
theorem dX8_become_5 : decode cX8_become 5 = .ok (.istore_n 3, 1) := dk_62 (dk_at dksX8_become_0 5 rfl rfl)
theorem dX8_become_6 : decode cX8_become 6 = .ok (.iload_n 3, 1) := dk_29 (dk_at dksX8_become_0 6 rfl rfl)
theorem dX8_become_7 : decode cX8_become 7 = .ok (.sipush 183, 3) := dk_17 0 183 (dk_at dksX8_become_0 7 rfl rfl)
theorem dX8_become_10 : decode cX8_become 10 = .ok (.if_icmp .ge 70, 3) := dk_162 0 70 (dk_at dksX8_become_0 10 rfl rfl)
theorem dX8_become_13 : decode cX8_become 13 = .ok (.aload_n 1, 1) := dk_43 (dk_at dksX8_become_0 13 rfl rfl)
theorem dX8_become_14 : decode cX8_become 14 = .ok (.iload_n 3, 1) := dk_29 (dk_at dksX8_become_0 14 rfl rfl)
theorem dX8_become_15 : decode cX8_become 15 = .ok (.invokevirtual 17, 3) := dk_182 0 17 (dk_at dksX8_become_0 15 rfl rfl)
theorem dX8_become_18 : decode cX8_become 18 = .ok (.ifCond .ne 6, 3) := dk_154 0 6 (dk_at dksX8_become_0 18 rfl rfl)
theorem dX8_become_21 : decode cX8_become 21 = .ok (.goto 53, 3) := dk_167 0 53 (dk_at dksX8_become_0 21 rfl rfl)
theorem dX8_become_24 : decode cX8_become 24 = .ok (.iload_n 3, 1) := dk_29 (dk_at dksX8_become_1 0 rfl rfl)
theorem dX8_become_25 : decode cX8_become 25 = .ok (.bipush 14, 2) := dk_16 14 (dk_at dksX8_become_1 1 rfl rfl)
theorem dX8_become_27 : decode cX8_become 27 = .ok (.if_icmp .lt 11, 3) := dk_161 0 11 (dk_at dksX8_become_1 3 rfl rfl)
theorem dX8_become_30 : decode cX8_become 30 = .ok (.aload_n 0, 1) := dk_42 (dk_at dksX8_become_1 6 rfl rfl)
theorem dX8_become_31 : decode cX8_become 31 = .ok (.iload_n 3, 1) := dk_29 (dk_at dksX8_become_1 7 rfl rfl)
theorem dX8_become_32 : decode cX8_become 32 = .ok (.invokevirtual 28, 3) := dk_182 0 28 (dk_at dksX8_become_1 8 rfl rfl)
theorem dX8_become_35 : decode cX8_become 35 = .ok (.goto 39, 3) := dk_167 0 39 (dk_at dksX8_become_1 11 rfl rfl)
theorem dX8_become_38 : decode cX8_become 38 = .ok (.iconst 0, 1) := dk_3 (dk_at dksX8_become_1 14 rfl rfl)
theorem dX8_become_39 : decode cX8_become 39 = .ok (.istore 4, 2) := dk_54 4 (dk_at dksX8_become_1 15 rfl rfl)
theorem dX8_become_41 : decode cX8_become 41 = .ok (.iload 4, 2) := dk_21 4 (dk_at dksX8_become_1 17 rfl rfl)
theorem dX8_become_43 : decode cX8_become 43 = .ok (.sipush 183, 3) := dk_17 0 183 (dk_at dksX8_become_1 19 rfl rfl)
theorem dX8_become_46 : decode cX8_become 46 = .ok (.if_icmp .ge 28, 3) := dk_162 0 28 (dk_at dksX8_become_2 0 rfl rfl)
theorem dX8_become_49 : decode cX8_become 49 = .ok (.aload_n 2, 1) := dk_44 (dk_at dksX8_become_2 3 rfl rfl)
theorem dX8_become_50 : decode cX8_become 50 = .ok (.iload 4, 2) := dk_21 4 (dk_at dksX8_become_2 4 rfl rfl)
theorem dX8_become_52 : decode cX8_become 52 = .ok (.invokevirtual 17, 3) := dk_182 0 17 (dk_at dksX8_become_2 6 rfl rfl)
theorem dX8_become_55 : decode cX8_become 55 = .ok (.ifCond .eq 13, 3) := dk_153 0 13 (dk_at dksX8_become_2 9 rfl rfl)
theorem dX8_become_58 : decode cX8_become 58 = .ok (.aload_n 0, 1) := dk_42 (dk_at dksX8_become_2 12 rfl rfl)
theorem dX8_become_59 : decode cX8_become 59 = .ok (.iload_n 3, 1) := dk_29 (dk_at dksX8_become_2 13 rfl rfl)
theorem dX8_become_60 : decode cX8_become 60 = .ok (.iload 4, 2) := dk_21 4 (dk_at dksX8_become_2 14 rfl rfl)
theorem dX8_become_62 : decode cX8_become 62 = .ok (.invokestatic 32, 3) := dk_184 0 32 (dk_at dksX8_become_2 16 rfl rfl)
theorem dX8_become_65 : decode cX8_become 65 = .ok (.invokevirtual 28, 3) := dk_182 0 28 (dk_at dksX8_become_2 19 rfl rfl)
theorem dX8_become_68 : decode cX8_become 68 = .ok (.iinc 4 1, 3) := dk_132 4 1 (dk_at dksX8_become_3 0 rfl rfl)
theorem dX8_become_71 : decode cX8_become 71 = .ok (.goto (-30), 3) := dk_167 255 226 (dk_at dksX8_become_3 3 rfl rfl)
theorem dX8_become_74 : decode cX8_become 74 = .ok (.iinc 3 1, 3) := dk_132 3 1 (dk_at dksX8_become_3 6 rfl rfl)
theorem dX8_become_77 : decode cX8_become 77 = .ok (.goto (-71), 3) := dk_167 255 185 (dk_at dksX8_become_3 9 rfl rfl)
theorem dX8_become_80 : decode cX8_become 80 = .ok (.return_, 1) := dk_177 (dk_at dksX8_become_3 12 rfl rfl)
abbrev cX8_has : ByteArray := prog_10_method_3_code
def yX8_has : MethodName := ⟨RX8, "has", "(I)Z"⟩
def dkwX8_has_1 : List UInt8 := [167, 0, 4, 3, 172]
abbrev dktX8_has_1 : List UInt8 := dkwX8_has_1 ++ []
def dkwX8_has_0 : List UInt8 := [42, 180, 0, 9, 27, 16, 6, 122, 47, 27, 16, 63, 126, 125, 10, 127, 10, 148, 154, 0, 7, 4]
abbrev dktX8_has_0 : List UInt8 := dkwX8_has_0 ++ dktX8_has_1
theorem dksX8_has_0 : cX8_has.data.toList.drop 0 = dktX8_has_0 := by decide +kernel
theorem dksX8_has_1 : cX8_has.data.toList.drop 22 = dktX8_has_1 := dk_seg dksX8_has_0 22 rfl rfl
theorem dX8_has_0 : decode cX8_has 0 = .ok (.aload_n 0, 1) := dk_42 (dk_at dksX8_has_0 0 rfl rfl)
theorem dX8_has_1 : decode cX8_has 1 = .ok (.getfield 9, 3) := dk_180 0 9 (dk_at dksX8_has_0 1 rfl rfl)
theorem dX8_has_4 : decode cX8_has 4 = .ok (.iload_n 1, 1) := dk_27 (dk_at dksX8_has_0 4 rfl rfl)
theorem dX8_has_5 : decode cX8_has 5 = .ok (.bipush 6, 2) := dk_16 6 (dk_at dksX8_has_0 5 rfl rfl)
theorem dX8_has_7 : decode cX8_has 7 = .ok (.ishr, 1) := dk_122 (dk_at dksX8_has_0 7 rfl rfl)
theorem dX8_has_8 : decode cX8_has 8 = .ok (.laload, 1) := dk_47 (dk_at dksX8_has_0 8 rfl rfl)
theorem dX8_has_9 : decode cX8_has 9 = .ok (.iload_n 1, 1) := dk_27 (dk_at dksX8_has_0 9 rfl rfl)
theorem dX8_has_10 : decode cX8_has 10 = .ok (.bipush 63, 2) := dk_16 63 (dk_at dksX8_has_0 10 rfl rfl)
theorem dX8_has_12 : decode cX8_has 12 = .ok (.iand, 1) := dk_126 (dk_at dksX8_has_0 12 rfl rfl)
theorem dX8_has_13 : decode cX8_has 13 = .ok (.lushr, 1) := dk_125 (dk_at dksX8_has_0 13 rfl rfl)
theorem dX8_has_14 : decode cX8_has 14 = .ok (.lconst 1, 1) := dk_10 (dk_at dksX8_has_0 14 rfl rfl)
theorem dX8_has_15 : decode cX8_has 15 = .ok (.land, 1) := dk_127 (dk_at dksX8_has_0 15 rfl rfl)
theorem dX8_has_16 : decode cX8_has 16 = .ok (.lconst 1, 1) := dk_10 (dk_at dksX8_has_0 16 rfl rfl)
theorem dX8_has_17 : decode cX8_has 17 = .ok (.lcmp, 1) := dk_148 (dk_at dksX8_has_0 17 rfl rfl)
theorem dX8_has_18 : decode cX8_has 18 = .ok (.ifCond .ne 7, 3) := dk_154 0 7 (dk_at dksX8_has_0 18 rfl rfl)
theorem dX8_has_21 : decode cX8_has 21 = .ok (.iconst 1, 1) := dk_4 (dk_at dksX8_has_0 21 rfl rfl)
theorem dX8_has_22 : decode cX8_has 22 = .ok (.goto 4, 3) := dk_167 0 4 (dk_at dksX8_has_1 0 rfl rfl)
theorem dX8_has_25 : decode cX8_has 25 = .ok (.iconst 0, 1) := dk_3 (dk_at dksX8_has_1 3 rfl rfl)
theorem dX8_has_26 : decode cX8_has 26 = .ok (.ireturn, 1) := dk_172 (dk_at dksX8_has_1 4 rfl rfl)
abbrev cX8_cut : ByteArray := prog_10_method_11_code
def yX8_cut : MethodName := ⟨RX8, "cut", "(II)I"⟩
def dkwX8_cut_1 : List UInt8 := [27, 16, 14, 100, 16, 13, 108, 61, 26, 4, 100, 28, 184, 0, 21, 172]
abbrev dktX8_cut_1 : List UInt8 := dkwX8_cut_1 ++ []
def dkwX8_cut_0 : List UInt8 := [26, 153, 0, 7, 27, 154, 0, 7, 26, 27, 96, 172, 27, 16, 14, 162, 0, 9, 27, 4, 100, 167, 0, 10]
abbrev dktX8_cut_0 : List UInt8 := dkwX8_cut_0 ++ dktX8_cut_1
theorem dksX8_cut_0 : cX8_cut.data.toList.drop 0 = dktX8_cut_0 := by decide +kernel
theorem dksX8_cut_1 : cX8_cut.data.toList.drop 24 = dktX8_cut_1 := dk_seg dksX8_cut_0 24 rfl rfl
theorem dX8_cut_0 : decode cX8_cut 0 = .ok (.iload_n 0, 1) := dk_26 (dk_at dksX8_cut_0 0 rfl rfl)
theorem dX8_cut_1 : decode cX8_cut 1 = .ok (.ifCond .eq 7, 3) := dk_153 0 7 (dk_at dksX8_cut_0 1 rfl rfl)
theorem dX8_cut_4 : decode cX8_cut 4 = .ok (.iload_n 1, 1) := dk_27 (dk_at dksX8_cut_0 4 rfl rfl)
theorem dX8_cut_5 : decode cX8_cut 5 = .ok (.ifCond .ne 7, 3) := dk_154 0 7 (dk_at dksX8_cut_0 5 rfl rfl)
theorem dX8_cut_8 : decode cX8_cut 8 = .ok (.iload_n 0, 1) := dk_26 (dk_at dksX8_cut_0 8 rfl rfl)
theorem dX8_cut_9 : decode cX8_cut 9 = .ok (.iload_n 1, 1) := dk_27 (dk_at dksX8_cut_0 9 rfl rfl)
theorem dX8_cut_10 : decode cX8_cut 10 = .ok (.iadd, 1) := dk_96 (dk_at dksX8_cut_0 10 rfl rfl)
theorem dX8_cut_11 : decode cX8_cut 11 = .ok (.ireturn, 1) := dk_172 (dk_at dksX8_cut_0 11 rfl rfl)
theorem dX8_cut_12 : decode cX8_cut 12 = .ok (.iload_n 1, 1) := dk_27 (dk_at dksX8_cut_0 12 rfl rfl)
theorem dX8_cut_13 : decode cX8_cut 13 = .ok (.bipush 14, 2) := dk_16 14 (dk_at dksX8_cut_0 13 rfl rfl)
theorem dX8_cut_15 : decode cX8_cut 15 = .ok (.if_icmp .ge 9, 3) := dk_162 0 9 (dk_at dksX8_cut_0 15 rfl rfl)
theorem dX8_cut_18 : decode cX8_cut 18 = .ok (.iload_n 1, 1) := dk_27 (dk_at dksX8_cut_0 18 rfl rfl)
theorem dX8_cut_19 : decode cX8_cut 19 = .ok (.iconst 1, 1) := dk_4 (dk_at dksX8_cut_0 19 rfl rfl)
theorem dX8_cut_20 : decode cX8_cut 20 = .ok (.isub, 1) := dk_100 (dk_at dksX8_cut_0 20 rfl rfl)
theorem dX8_cut_21 : decode cX8_cut 21 = .ok (.goto 10, 3) := dk_167 0 10 (dk_at dksX8_cut_0 21 rfl rfl)
theorem dX8_cut_24 : decode cX8_cut 24 = .ok (.iload_n 1, 1) := dk_27 (dk_at dksX8_cut_1 0 rfl rfl)
theorem dX8_cut_25 : decode cX8_cut 25 = .ok (.bipush 14, 2) := dk_16 14 (dk_at dksX8_cut_1 1 rfl rfl)
theorem dX8_cut_27 : decode cX8_cut 27 = .ok (.isub, 1) := dk_100 (dk_at dksX8_cut_1 3 rfl rfl)
theorem dX8_cut_28 : decode cX8_cut 28 = .ok (.bipush 13, 2) := dk_16 13 (dk_at dksX8_cut_1 4 rfl rfl)
theorem dX8_cut_30 : decode cX8_cut 30 = .ok (.idiv, 1) := dk_108 (dk_at dksX8_cut_1 6 rfl rfl)
theorem dX8_cut_31 : decode cX8_cut 31 = .ok (.istore_n 2, 1) := dk_61 (dk_at dksX8_cut_1 7 rfl rfl)
theorem dX8_cut_32 : decode cX8_cut 32 = .ok (.iload_n 0, 1) := dk_26 (dk_at dksX8_cut_1 8 rfl rfl)
theorem dX8_cut_33 : decode cX8_cut 33 = .ok (.iconst 1, 1) := dk_4 (dk_at dksX8_cut_1 9 rfl rfl)
theorem dX8_cut_34 : decode cX8_cut 34 = .ok (.isub, 1) := dk_100 (dk_at dksX8_cut_1 10 rfl rfl)
theorem dX8_cut_35 : decode cX8_cut 35 = .ok (.iload_n 2, 1) := dk_28 (dk_at dksX8_cut_1 11 rfl rfl)
theorem dX8_cut_36 : decode cX8_cut 36 = .ok (.invokestatic 21, 3) := dk_184 0 21 (dk_at dksX8_cut_1 12 rfl rfl)
theorem dX8_cut_39 : decode cX8_cut 39 = .ok (.ireturn, 1) := dk_172 (dk_at dksX8_cut_1 15 rfl rfl)
abbrev cX8_pair : ByteArray := prog_10_method_2_code
def yX8_pair : MethodName := ⟨RX8, "pair", "(II)I"⟩
def dkwX8_pair_0 : List UInt8 := [16, 14, 16, 13, 26, 104, 96, 27, 96, 172]
abbrev dktX8_pair_0 : List UInt8 := dkwX8_pair_0 ++ []
theorem dksX8_pair_0 : cX8_pair.data.toList.drop 0 = dktX8_pair_0 := by decide +kernel
theorem dX8_pair_0 : decode cX8_pair 0 = .ok (.bipush 14, 2) := dk_16 14 (dk_at dksX8_pair_0 0 rfl rfl)
theorem dX8_pair_2 : decode cX8_pair 2 = .ok (.bipush 13, 2) := dk_16 13 (dk_at dksX8_pair_0 2 rfl rfl)
theorem dX8_pair_4 : decode cX8_pair 4 = .ok (.iload_n 0, 1) := dk_26 (dk_at dksX8_pair_0 4 rfl rfl)
theorem dX8_pair_5 : decode cX8_pair 5 = .ok (.imul, 1) := dk_104 (dk_at dksX8_pair_0 5 rfl rfl)
theorem dX8_pair_6 : decode cX8_pair 6 = .ok (.iadd, 1) := dk_96 (dk_at dksX8_pair_0 6 rfl rfl)
theorem dX8_pair_7 : decode cX8_pair 7 = .ok (.iload_n 1, 1) := dk_27 (dk_at dksX8_pair_0 7 rfl rfl)
theorem dX8_pair_8 : decode cX8_pair 8 = .ok (.iadd, 1) := dk_96 (dk_at dksX8_pair_0 8 rfl rfl)
theorem dX8_pair_9 : decode cX8_pair 9 = .ok (.ireturn, 1) := dk_172 (dk_at dksX8_pair_0 9 rfl rfl)
abbrev cX8_become_2 : ByteArray := prog_10_method_13_code
def yX8_become_2 : MethodName := ⟨RX8, "become", "(LSelahGenerator$Strings;)V"⟩
def dkwX8_become_2_0 : List UInt8 := [42, 182, 0, 25, 42, 43, 182, 0, 35, 61, 177]
abbrev dktX8_become_2_0 : List UInt8 := dkwX8_become_2_0 ++ []
theorem dksX8_become_2_0 : cX8_become_2.data.toList.drop 0 = dktX8_become_2_0 := by decide +kernel
theorem dX8_become_2_0 : decode cX8_become_2 0 = .ok (.aload_n 0, 1) := dk_42 (dk_at dksX8_become_2_0 0 rfl rfl)
theorem dX8_become_2_1 : decode cX8_become_2 1 = .ok (.invokevirtual 25, 3) := dk_182 0 25 (dk_at dksX8_become_2_0 1 rfl rfl)
theorem dX8_become_2_4 : decode cX8_become_2 4 = .ok (.aload_n 0, 1) := dk_42 (dk_at dksX8_become_2_0 4 rfl rfl)
theorem dX8_become_2_5 : decode cX8_become_2 5 = .ok (.aload_n 1, 1) := dk_43 (dk_at dksX8_become_2_0 5 rfl rfl)
theorem dX8_become_2_6 : decode cX8_become_2 6 = .ok (.invokevirtual 35, 3) := dk_182 0 35 (dk_at dksX8_become_2_0 6 rfl rfl)
theorem dX8_become_2_9 : decode cX8_become_2 9 = .ok (.istore_n 2, 1) := dk_61 (dk_at dksX8_become_2_0 9 rfl rfl)
theorem dX8_become_2_10 : decode cX8_become_2 10 = .ok (.return_, 1) := dk_177 (dk_at dksX8_become_2_0 10 rfl rfl)
abbrev cX8_addAll : ByteArray := prog_10_method_6_code
def yX8_addAll : MethodName := ⟨RX8, "addAll", "(LSelahGenerator$Strings;)Z"⟩
def dkwX8_addAll_2 : List UInt8 := [92, 47, 43, 180, 0, 9, 29, 47, 129, 80, 132, 3, 1, 167, 255, 199, 28, 172]
abbrev dktX8_addAll_2 : List UInt8 := dkwX8_addAll_2 ++ []
def dkwX8_addAll_1 : List UInt8 := [29, 47, 20, 0, 15, 131, 127, 9, 148, 153, 0, 7, 4, 167, 0, 4, 3, 128, 61, 42, 180, 0, 9, 29]
abbrev dktX8_addAll_1 : List UInt8 := dkwX8_addAll_1 ++ dktX8_addAll_2
def dkwX8_addAll_0 : List UInt8 := [3, 61, 3, 62, 29, 42, 180, 0, 9, 190, 162, 0, 54, 28, 43, 180, 0, 9, 29, 47, 42, 180, 0, 9]
abbrev dktX8_addAll_0 : List UInt8 := dkwX8_addAll_0 ++ dktX8_addAll_1
theorem dksX8_addAll_0 : cX8_addAll.data.toList.drop 0 = dktX8_addAll_0 := by decide +kernel
theorem dksX8_addAll_1 : cX8_addAll.data.toList.drop 24 = dktX8_addAll_1 := dk_seg dksX8_addAll_0 24 rfl rfl
theorem dksX8_addAll_2 : cX8_addAll.data.toList.drop 48 = dktX8_addAll_2 := dk_seg dksX8_addAll_1 24 rfl rfl
theorem dX8_addAll_0 : decode cX8_addAll 0 = .ok (.iconst 0, 1) := dk_3 (dk_at dksX8_addAll_0 0 rfl rfl)
theorem dX8_addAll_1 : decode cX8_addAll 1 = .ok (.istore_n 2, 1) := dk_61 (dk_at dksX8_addAll_0 1 rfl rfl)
theorem dX8_addAll_2 : decode cX8_addAll 2 = .ok (.iconst 0, 1) := dk_3 (dk_at dksX8_addAll_0 2 rfl rfl)
theorem dX8_addAll_3 : decode cX8_addAll 3 = .ok (.istore_n 3, 1) := dk_62 (dk_at dksX8_addAll_0 3 rfl rfl)
theorem dX8_addAll_4 : decode cX8_addAll 4 = .ok (.iload_n 3, 1) := dk_29 (dk_at dksX8_addAll_0 4 rfl rfl)
theorem dX8_addAll_5 : decode cX8_addAll 5 = .ok (.aload_n 0, 1) := dk_42 (dk_at dksX8_addAll_0 5 rfl rfl)
theorem dX8_addAll_6 : decode cX8_addAll 6 = .ok (.getfield 9, 3) := dk_180 0 9 (dk_at dksX8_addAll_0 6 rfl rfl)
theorem dX8_addAll_9 : decode cX8_addAll 9 = .ok (.arraylength, 1) := dk_190 (dk_at dksX8_addAll_0 9 rfl rfl)
theorem dX8_addAll_10 : decode cX8_addAll 10 = .ok (.if_icmp .ge 54, 3) := dk_162 0 54 (dk_at dksX8_addAll_0 10 rfl rfl)
theorem dX8_addAll_13 : decode cX8_addAll 13 = .ok (.iload_n 2, 1) := dk_28 (dk_at dksX8_addAll_0 13 rfl rfl)
theorem dX8_addAll_14 : decode cX8_addAll 14 = .ok (.aload_n 1, 1) := dk_43 (dk_at dksX8_addAll_0 14 rfl rfl)
theorem dX8_addAll_15 : decode cX8_addAll 15 = .ok (.getfield 9, 3) := dk_180 0 9 (dk_at dksX8_addAll_0 15 rfl rfl)
theorem dX8_addAll_18 : decode cX8_addAll 18 = .ok (.iload_n 3, 1) := dk_29 (dk_at dksX8_addAll_0 18 rfl rfl)
theorem dX8_addAll_19 : decode cX8_addAll 19 = .ok (.laload, 1) := dk_47 (dk_at dksX8_addAll_0 19 rfl rfl)
theorem dX8_addAll_20 : decode cX8_addAll 20 = .ok (.aload_n 0, 1) := dk_42 (dk_at dksX8_addAll_0 20 rfl rfl)
theorem dX8_addAll_21 : decode cX8_addAll 21 = .ok (.getfield 9, 3) := dk_180 0 9 (dk_at dksX8_addAll_0 21 rfl rfl)
theorem dX8_addAll_24 : decode cX8_addAll 24 = .ok (.iload_n 3, 1) := dk_29 (dk_at dksX8_addAll_1 0 rfl rfl)
theorem dX8_addAll_25 : decode cX8_addAll 25 = .ok (.laload, 1) := dk_47 (dk_at dksX8_addAll_1 1 rfl rfl)
theorem dX8_addAll_26 : decode cX8_addAll 26 = .ok (.ldc2_w 15, 3) := dk_20 0 15 (dk_at dksX8_addAll_1 2 rfl rfl)
theorem dX8_addAll_29 : decode cX8_addAll 29 = .ok (.lxor, 1) := dk_131 (dk_at dksX8_addAll_1 5 rfl rfl)
theorem dX8_addAll_30 : decode cX8_addAll 30 = .ok (.land, 1) := dk_127 (dk_at dksX8_addAll_1 6 rfl rfl)
theorem dX8_addAll_31 : decode cX8_addAll 31 = .ok (.lconst 0, 1) := dk_9 (dk_at dksX8_addAll_1 7 rfl rfl)
theorem dX8_addAll_32 : decode cX8_addAll 32 = .ok (.lcmp, 1) := dk_148 (dk_at dksX8_addAll_1 8 rfl rfl)
theorem dX8_addAll_33 : decode cX8_addAll 33 = .ok (.ifCond .eq 7, 3) := dk_153 0 7 (dk_at dksX8_addAll_1 9 rfl rfl)
theorem dX8_addAll_36 : decode cX8_addAll 36 = .ok (.iconst 1, 1) := dk_4 (dk_at dksX8_addAll_1 12 rfl rfl)
theorem dX8_addAll_37 : decode cX8_addAll 37 = .ok (.goto 4, 3) := dk_167 0 4 (dk_at dksX8_addAll_1 13 rfl rfl)
theorem dX8_addAll_40 : decode cX8_addAll 40 = .ok (.iconst 0, 1) := dk_3 (dk_at dksX8_addAll_1 16 rfl rfl)
theorem dX8_addAll_41 : decode cX8_addAll 41 = .ok (.ior, 1) := dk_128 (dk_at dksX8_addAll_1 17 rfl rfl)
theorem dX8_addAll_42 : decode cX8_addAll 42 = .ok (.istore_n 2, 1) := dk_61 (dk_at dksX8_addAll_1 18 rfl rfl)
theorem dX8_addAll_43 : decode cX8_addAll 43 = .ok (.aload_n 0, 1) := dk_42 (dk_at dksX8_addAll_1 19 rfl rfl)
theorem dX8_addAll_44 : decode cX8_addAll 44 = .ok (.getfield 9, 3) := dk_180 0 9 (dk_at dksX8_addAll_1 20 rfl rfl)
theorem dX8_addAll_47 : decode cX8_addAll 47 = .ok (.iload_n 3, 1) := dk_29 (dk_at dksX8_addAll_1 23 rfl rfl)
theorem dX8_addAll_48 : decode cX8_addAll 48 = .ok (.dup2, 1) := dk_92 (dk_at dksX8_addAll_2 0 rfl rfl)
theorem dX8_addAll_49 : decode cX8_addAll 49 = .ok (.laload, 1) := dk_47 (dk_at dksX8_addAll_2 1 rfl rfl)
theorem dX8_addAll_50 : decode cX8_addAll 50 = .ok (.aload_n 1, 1) := dk_43 (dk_at dksX8_addAll_2 2 rfl rfl)
theorem dX8_addAll_51 : decode cX8_addAll 51 = .ok (.getfield 9, 3) := dk_180 0 9 (dk_at dksX8_addAll_2 3 rfl rfl)
theorem dX8_addAll_54 : decode cX8_addAll 54 = .ok (.iload_n 3, 1) := dk_29 (dk_at dksX8_addAll_2 6 rfl rfl)
theorem dX8_addAll_55 : decode cX8_addAll 55 = .ok (.laload, 1) := dk_47 (dk_at dksX8_addAll_2 7 rfl rfl)
theorem dX8_addAll_56 : decode cX8_addAll 56 = .ok (.lor, 1) := dk_129 (dk_at dksX8_addAll_2 8 rfl rfl)
theorem dX8_addAll_57 : decode cX8_addAll 57 = .ok (.lastore, 1) := dk_80 (dk_at dksX8_addAll_2 9 rfl rfl)
theorem dX8_addAll_58 : decode cX8_addAll 58 = .ok (.iinc 3 1, 3) := dk_132 3 1 (dk_at dksX8_addAll_2 10 rfl rfl)
theorem dX8_addAll_61 : decode cX8_addAll 61 = .ok (.goto (-57), 3) := dk_167 255 199 (dk_at dksX8_addAll_2 13 rfl rfl)
theorem dX8_addAll_64 : decode cX8_addAll 64 = .ok (.iload_n 2, 1) := dk_28 (dk_at dksX8_addAll_2 16 rfl rfl)
theorem dX8_addAll_65 : decode cX8_addAll 65 = .ok (.ireturn, 1) := dk_172 (dk_at dksX8_addAll_2 17 rfl rfl)
abbrev cX8_keepPairs : ByteArray := prog_10_method_10_code
def yX8_keepPairs : MethodName := ⟨RX8, "keepPairs", "()V"⟩
def dkwX8_keepPairs_1 : List UInt8 := [132, 1, 1, 167, 255, 231, 177]
abbrev dktX8_keepPairs_1 : List UInt8 := dkwX8_keepPairs_1 ++ []
def dkwX8_keepPairs_0 : List UInt8 := [3, 60, 27, 16, 14, 162, 0, 25, 42, 180, 0, 9, 3, 92, 47, 10, 27, 121, 20, 0, 15, 131, 127, 80]
abbrev dktX8_keepPairs_0 : List UInt8 := dkwX8_keepPairs_0 ++ dktX8_keepPairs_1
theorem dksX8_keepPairs_0 : cX8_keepPairs.data.toList.drop 0 = dktX8_keepPairs_0 := by decide +kernel
theorem dksX8_keepPairs_1 : cX8_keepPairs.data.toList.drop 24 = dktX8_keepPairs_1 := dk_seg dksX8_keepPairs_0 24 rfl rfl
theorem dX8_keepPairs_0 : decode cX8_keepPairs 0 = .ok (.iconst 0, 1) := dk_3 (dk_at dksX8_keepPairs_0 0 rfl rfl)
theorem dX8_keepPairs_1 : decode cX8_keepPairs 1 = .ok (.istore_n 1, 1) := dk_60 (dk_at dksX8_keepPairs_0 1 rfl rfl)
theorem dX8_keepPairs_2 : decode cX8_keepPairs 2 = .ok (.iload_n 1, 1) := dk_27 (dk_at dksX8_keepPairs_0 2 rfl rfl)
theorem dX8_keepPairs_3 : decode cX8_keepPairs 3 = .ok (.bipush 14, 2) := dk_16 14 (dk_at dksX8_keepPairs_0 3 rfl rfl)
theorem dX8_keepPairs_5 : decode cX8_keepPairs 5 = .ok (.if_icmp .ge 25, 3) := dk_162 0 25 (dk_at dksX8_keepPairs_0 5 rfl rfl)
theorem dX8_keepPairs_8 : decode cX8_keepPairs 8 = .ok (.aload_n 0, 1) := dk_42 (dk_at dksX8_keepPairs_0 8 rfl rfl)
theorem dX8_keepPairs_9 : decode cX8_keepPairs 9 = .ok (.getfield 9, 3) := dk_180 0 9 (dk_at dksX8_keepPairs_0 9 rfl rfl)
theorem dX8_keepPairs_12 : decode cX8_keepPairs 12 = .ok (.iconst 0, 1) := dk_3 (dk_at dksX8_keepPairs_0 12 rfl rfl)
theorem dX8_keepPairs_13 : decode cX8_keepPairs 13 = .ok (.dup2, 1) := dk_92 (dk_at dksX8_keepPairs_0 13 rfl rfl)
theorem dX8_keepPairs_14 : decode cX8_keepPairs 14 = .ok (.laload, 1) := dk_47 (dk_at dksX8_keepPairs_0 14 rfl rfl)
theorem dX8_keepPairs_15 : decode cX8_keepPairs 15 = .ok (.lconst 1, 1) := dk_10 (dk_at dksX8_keepPairs_0 15 rfl rfl)
theorem dX8_keepPairs_16 : decode cX8_keepPairs 16 = .ok (.iload_n 1, 1) := dk_27 (dk_at dksX8_keepPairs_0 16 rfl rfl)
theorem dX8_keepPairs_17 : decode cX8_keepPairs 17 = .ok (.lshl, 1) := dk_121 (dk_at dksX8_keepPairs_0 17 rfl rfl)
theorem dX8_keepPairs_18 : decode cX8_keepPairs 18 = .ok (.ldc2_w 15, 3) := dk_20 0 15 (dk_at dksX8_keepPairs_0 18 rfl rfl)
theorem dX8_keepPairs_21 : decode cX8_keepPairs 21 = .ok (.lxor, 1) := dk_131 (dk_at dksX8_keepPairs_0 21 rfl rfl)
theorem dX8_keepPairs_22 : decode cX8_keepPairs 22 = .ok (.land, 1) := dk_127 (dk_at dksX8_keepPairs_0 22 rfl rfl)
theorem dX8_keepPairs_23 : decode cX8_keepPairs 23 = .ok (.lastore, 1) := dk_80 (dk_at dksX8_keepPairs_0 23 rfl rfl)
theorem dX8_keepPairs_24 : decode cX8_keepPairs 24 = .ok (.iinc 1 1, 3) := dk_132 1 1 (dk_at dksX8_keepPairs_1 0 rfl rfl)
theorem dX8_keepPairs_27 : decode cX8_keepPairs 27 = .ok (.goto (-25), 3) := dk_167 255 231 (dk_at dksX8_keepPairs_1 3 rfl rfl)
theorem dX8_keepPairs_30 : decode cX8_keepPairs 30 = .ok (.return_, 1) := dk_177 (dk_at dksX8_keepPairs_1 6 rfl rfl)
abbrev cX8_meets : ByteArray := prog_10_method_7_code
def yX8_meets : MethodName := ⟨RX8, "meets", "(LSelahGenerator$Strings;)Z"⟩
def dkwX8_meets_1 : List UInt8 := [9, 148, 153, 0, 5, 4, 172, 132, 2, 1, 167, 255, 224, 3, 172]
abbrev dktX8_meets_1 : List UInt8 := dkwX8_meets_1 ++ []
def dkwX8_meets_0 : List UInt8 := [3, 61, 28, 42, 180, 0, 9, 190, 162, 0, 29, 42, 180, 0, 9, 28, 47, 43, 180, 0, 9, 28, 47, 127]
abbrev dktX8_meets_0 : List UInt8 := dkwX8_meets_0 ++ dktX8_meets_1
theorem dksX8_meets_0 : cX8_meets.data.toList.drop 0 = dktX8_meets_0 := by decide +kernel
theorem dksX8_meets_1 : cX8_meets.data.toList.drop 24 = dktX8_meets_1 := dk_seg dksX8_meets_0 24 rfl rfl
theorem dX8_meets_0 : decode cX8_meets 0 = .ok (.iconst 0, 1) := dk_3 (dk_at dksX8_meets_0 0 rfl rfl)
theorem dX8_meets_1 : decode cX8_meets 1 = .ok (.istore_n 2, 1) := dk_61 (dk_at dksX8_meets_0 1 rfl rfl)
theorem dX8_meets_2 : decode cX8_meets 2 = .ok (.iload_n 2, 1) := dk_28 (dk_at dksX8_meets_0 2 rfl rfl)
theorem dX8_meets_3 : decode cX8_meets 3 = .ok (.aload_n 0, 1) := dk_42 (dk_at dksX8_meets_0 3 rfl rfl)
theorem dX8_meets_4 : decode cX8_meets 4 = .ok (.getfield 9, 3) := dk_180 0 9 (dk_at dksX8_meets_0 4 rfl rfl)
theorem dX8_meets_7 : decode cX8_meets 7 = .ok (.arraylength, 1) := dk_190 (dk_at dksX8_meets_0 7 rfl rfl)
theorem dX8_meets_8 : decode cX8_meets 8 = .ok (.if_icmp .ge 29, 3) := dk_162 0 29 (dk_at dksX8_meets_0 8 rfl rfl)
theorem dX8_meets_11 : decode cX8_meets 11 = .ok (.aload_n 0, 1) := dk_42 (dk_at dksX8_meets_0 11 rfl rfl)
theorem dX8_meets_12 : decode cX8_meets 12 = .ok (.getfield 9, 3) := dk_180 0 9 (dk_at dksX8_meets_0 12 rfl rfl)
theorem dX8_meets_15 : decode cX8_meets 15 = .ok (.iload_n 2, 1) := dk_28 (dk_at dksX8_meets_0 15 rfl rfl)
theorem dX8_meets_16 : decode cX8_meets 16 = .ok (.laload, 1) := dk_47 (dk_at dksX8_meets_0 16 rfl rfl)
theorem dX8_meets_17 : decode cX8_meets 17 = .ok (.aload_n 1, 1) := dk_43 (dk_at dksX8_meets_0 17 rfl rfl)
theorem dX8_meets_18 : decode cX8_meets 18 = .ok (.getfield 9, 3) := dk_180 0 9 (dk_at dksX8_meets_0 18 rfl rfl)
theorem dX8_meets_21 : decode cX8_meets 21 = .ok (.iload_n 2, 1) := dk_28 (dk_at dksX8_meets_0 21 rfl rfl)
theorem dX8_meets_22 : decode cX8_meets 22 = .ok (.laload, 1) := dk_47 (dk_at dksX8_meets_0 22 rfl rfl)
theorem dX8_meets_23 : decode cX8_meets 23 = .ok (.land, 1) := dk_127 (dk_at dksX8_meets_0 23 rfl rfl)
theorem dX8_meets_24 : decode cX8_meets 24 = .ok (.lconst 0, 1) := dk_9 (dk_at dksX8_meets_1 0 rfl rfl)
theorem dX8_meets_25 : decode cX8_meets 25 = .ok (.lcmp, 1) := dk_148 (dk_at dksX8_meets_1 1 rfl rfl)
theorem dX8_meets_26 : decode cX8_meets 26 = .ok (.ifCond .eq 5, 3) := dk_153 0 5 (dk_at dksX8_meets_1 2 rfl rfl)
theorem dX8_meets_29 : decode cX8_meets 29 = .ok (.iconst 1, 1) := dk_4 (dk_at dksX8_meets_1 5 rfl rfl)
theorem dX8_meets_30 : decode cX8_meets 30 = .ok (.ireturn, 1) := dk_172 (dk_at dksX8_meets_1 6 rfl rfl)
theorem dX8_meets_31 : decode cX8_meets 31 = .ok (.iinc 2 1, 3) := dk_132 2 1 (dk_at dksX8_meets_1 7 rfl rfl)
theorem dX8_meets_34 : decode cX8_meets 34 = .ok (.goto (-32), 3) := dk_167 255 224 (dk_at dksX8_meets_1 10 rfl rfl)
theorem dX8_meets_37 : decode cX8_meets 37 = .ok (.iconst 0, 1) := dk_3 (dk_at dksX8_meets_1 13 rfl rfl)
theorem dX8_meets_38 : decode cX8_meets 38 = .ok (.ireturn, 1) := dk_172 (dk_at dksX8_meets_1 14 rfl rfl)
abbrev cX8_firstTokens : ByteArray := prog_10_method_9_code
def yX8_firstTokens : MethodName := ⟨RX8, "firstTokens", "()I"⟩
def dkwX8_firstTokens_1 : List UInt8 := [16, 14, 100, 16, 13, 108, 120, 128, 60, 132, 2, 1, 167, 255, 226, 27, 172]
abbrev dktX8_firstTokens_1 : List UInt8 := dkwX8_firstTokens_1 ++ []
def dkwX8_firstTokens_0 : List UInt8 := [3, 60, 16, 14, 61, 28, 17, 0, 183, 162, 0, 29, 42, 28, 182, 0, 17, 153, 0, 15, 27, 4, 28]
abbrev dktX8_firstTokens_0 : List UInt8 := dkwX8_firstTokens_0 ++ dktX8_firstTokens_1
theorem dksX8_firstTokens_0 : cX8_firstTokens.data.toList.drop 0 = dktX8_firstTokens_0 := by decide +kernel
theorem dksX8_firstTokens_1 : cX8_firstTokens.data.toList.drop 23 = dktX8_firstTokens_1 := dk_seg dksX8_firstTokens_0 23 rfl rfl
theorem dX8_firstTokens_0 : decode cX8_firstTokens 0 = .ok (.iconst 0, 1) := dk_3 (dk_at dksX8_firstTokens_0 0 rfl rfl)
theorem dX8_firstTokens_1 : decode cX8_firstTokens 1 = .ok (.istore_n 1, 1) := dk_60 (dk_at dksX8_firstTokens_0 1 rfl rfl)
theorem dX8_firstTokens_2 : decode cX8_firstTokens 2 = .ok (.bipush 14, 2) := dk_16 14 (dk_at dksX8_firstTokens_0 2 rfl rfl)
theorem dX8_firstTokens_4 : decode cX8_firstTokens 4 = .ok (.istore_n 2, 1) := dk_61 (dk_at dksX8_firstTokens_0 4 rfl rfl)
theorem dX8_firstTokens_5 : decode cX8_firstTokens 5 = .ok (.iload_n 2, 1) := dk_28 (dk_at dksX8_firstTokens_0 5 rfl rfl)
theorem dX8_firstTokens_6 : decode cX8_firstTokens 6 = .ok (.sipush 183, 3) := dk_17 0 183 (dk_at dksX8_firstTokens_0 6 rfl rfl)
theorem dX8_firstTokens_9 : decode cX8_firstTokens 9 = .ok (.if_icmp .ge 29, 3) := dk_162 0 29 (dk_at dksX8_firstTokens_0 9 rfl rfl)
theorem dX8_firstTokens_12 : decode cX8_firstTokens 12 = .ok (.aload_n 0, 1) := dk_42 (dk_at dksX8_firstTokens_0 12 rfl rfl)
theorem dX8_firstTokens_13 : decode cX8_firstTokens 13 = .ok (.iload_n 2, 1) := dk_28 (dk_at dksX8_firstTokens_0 13 rfl rfl)
theorem dX8_firstTokens_14 : decode cX8_firstTokens 14 = .ok (.invokevirtual 17, 3) := dk_182 0 17 (dk_at dksX8_firstTokens_0 14 rfl rfl)
theorem dX8_firstTokens_17 : decode cX8_firstTokens 17 = .ok (.ifCond .eq 15, 3) := dk_153 0 15 (dk_at dksX8_firstTokens_0 17 rfl rfl)
theorem dX8_firstTokens_20 : decode cX8_firstTokens 20 = .ok (.iload_n 1, 1) := dk_27 (dk_at dksX8_firstTokens_0 20 rfl rfl)
theorem dX8_firstTokens_21 : decode cX8_firstTokens 21 = .ok (.iconst 1, 1) := dk_4 (dk_at dksX8_firstTokens_0 21 rfl rfl)
theorem dX8_firstTokens_22 : decode cX8_firstTokens 22 = .ok (.iload_n 2, 1) := dk_28 (dk_at dksX8_firstTokens_0 22 rfl rfl)
theorem dX8_firstTokens_23 : decode cX8_firstTokens 23 = .ok (.bipush 14, 2) := dk_16 14 (dk_at dksX8_firstTokens_1 0 rfl rfl)
theorem dX8_firstTokens_25 : decode cX8_firstTokens 25 = .ok (.isub, 1) := dk_100 (dk_at dksX8_firstTokens_1 2 rfl rfl)
theorem dX8_firstTokens_26 : decode cX8_firstTokens 26 = .ok (.bipush 13, 2) := dk_16 13 (dk_at dksX8_firstTokens_1 3 rfl rfl)
theorem dX8_firstTokens_28 : decode cX8_firstTokens 28 = .ok (.idiv, 1) := dk_108 (dk_at dksX8_firstTokens_1 5 rfl rfl)
theorem dX8_firstTokens_29 : decode cX8_firstTokens 29 = .ok (.ishl, 1) := dk_120 (dk_at dksX8_firstTokens_1 6 rfl rfl)
theorem dX8_firstTokens_30 : decode cX8_firstTokens 30 = .ok (.ior, 1) := dk_128 (dk_at dksX8_firstTokens_1 7 rfl rfl)
theorem dX8_firstTokens_31 : decode cX8_firstTokens 31 = .ok (.istore_n 1, 1) := dk_60 (dk_at dksX8_firstTokens_1 8 rfl rfl)
theorem dX8_firstTokens_32 : decode cX8_firstTokens 32 = .ok (.iinc 2 1, 3) := dk_132 2 1 (dk_at dksX8_firstTokens_1 9 rfl rfl)
theorem dX8_firstTokens_35 : decode cX8_firstTokens 35 = .ok (.goto (-30), 3) := dk_167 255 226 (dk_at dksX8_firstTokens_1 12 rfl rfl)
theorem dX8_firstTokens_38 : decode cX8_firstTokens 38 = .ok (.iload_n 1, 1) := dk_27 (dk_at dksX8_firstTokens_1 15 rfl rfl)
theorem dX8_firstTokens_39 : decode cX8_firstTokens 39 = .ok (.ireturn, 1) := dk_172 (dk_at dksX8_firstTokens_1 16 rfl rfl)
abbrev cX8_pairs : ByteArray := prog_10_method_8_code
def yX8_pairs : MethodName := ⟨RX8, "pairs", "()I"⟩
def dkwX8_pairs_1 : List UInt8 := [132, 2, 1, 167, 255, 235, 27, 172]
abbrev dktX8_pairs_1 : List UInt8 := dkwX8_pairs_1 ++ []
def dkwX8_pairs_0 : List UInt8 := [3, 60, 16, 14, 61, 28, 17, 0, 183, 162, 0, 20, 42, 28, 182, 0, 17, 153, 0, 6, 132, 1, 1]
abbrev dktX8_pairs_0 : List UInt8 := dkwX8_pairs_0 ++ dktX8_pairs_1
theorem dksX8_pairs_0 : cX8_pairs.data.toList.drop 0 = dktX8_pairs_0 := by decide +kernel
theorem dksX8_pairs_1 : cX8_pairs.data.toList.drop 23 = dktX8_pairs_1 := dk_seg dksX8_pairs_0 23 rfl rfl
theorem dX8_pairs_0 : decode cX8_pairs 0 = .ok (.iconst 0, 1) := dk_3 (dk_at dksX8_pairs_0 0 rfl rfl)
theorem dX8_pairs_1 : decode cX8_pairs 1 = .ok (.istore_n 1, 1) := dk_60 (dk_at dksX8_pairs_0 1 rfl rfl)
theorem dX8_pairs_2 : decode cX8_pairs 2 = .ok (.bipush 14, 2) := dk_16 14 (dk_at dksX8_pairs_0 2 rfl rfl)
theorem dX8_pairs_4 : decode cX8_pairs 4 = .ok (.istore_n 2, 1) := dk_61 (dk_at dksX8_pairs_0 4 rfl rfl)
theorem dX8_pairs_5 : decode cX8_pairs 5 = .ok (.iload_n 2, 1) := dk_28 (dk_at dksX8_pairs_0 5 rfl rfl)
theorem dX8_pairs_6 : decode cX8_pairs 6 = .ok (.sipush 183, 3) := dk_17 0 183 (dk_at dksX8_pairs_0 6 rfl rfl)
theorem dX8_pairs_9 : decode cX8_pairs 9 = .ok (.if_icmp .ge 20, 3) := dk_162 0 20 (dk_at dksX8_pairs_0 9 rfl rfl)
theorem dX8_pairs_12 : decode cX8_pairs 12 = .ok (.aload_n 0, 1) := dk_42 (dk_at dksX8_pairs_0 12 rfl rfl)
theorem dX8_pairs_13 : decode cX8_pairs 13 = .ok (.iload_n 2, 1) := dk_28 (dk_at dksX8_pairs_0 13 rfl rfl)
theorem dX8_pairs_14 : decode cX8_pairs 14 = .ok (.invokevirtual 17, 3) := dk_182 0 17 (dk_at dksX8_pairs_0 14 rfl rfl)
theorem dX8_pairs_17 : decode cX8_pairs 17 = .ok (.ifCond .eq 6, 3) := dk_153 0 6 (dk_at dksX8_pairs_0 17 rfl rfl)
theorem dX8_pairs_20 : decode cX8_pairs 20 = .ok (.iinc 1 1, 3) := dk_132 1 1 (dk_at dksX8_pairs_0 20 rfl rfl)
theorem dX8_pairs_23 : decode cX8_pairs 23 = .ok (.iinc 2 1, 3) := dk_132 2 1 (dk_at dksX8_pairs_1 0 rfl rfl)
theorem dX8_pairs_26 : decode cX8_pairs 26 = .ok (.goto (-21), 3) := dk_167 255 235 (dk_at dksX8_pairs_1 3 rfl rfl)
theorem dX8_pairs_29 : decode cX8_pairs 29 = .ok (.iload_n 1, 1) := dk_27 (dk_at dksX8_pairs_1 6 rfl rfl)
theorem dX8_pairs_30 : decode cX8_pairs 30 = .ok (.ireturn, 1) := dk_172 (dk_at dksX8_pairs_1 7 rfl rfl)
theorem q169 : (Jvm.Cond.initialized "SelahGenerator$Strings") ∈ lw_all := lw_g (lw_at lw_m1 47 rfl) rfl
theorem q785 : (Jvm.Cond.selects "SelahGenerator$Strings" ({ cls := "java/lang/Object", name := "getClass", desc := "()Ljava/lang/Class;" } : Jvm.MethodName) ({ cls := "java/lang/Object", name := "getClass", desc := "()Ljava/lang/Class;" } : Jvm.MethodName)) ∈ lw_all := lw_g (lw_at lw_m3 183 rfl) rfl
theorem q1330 : (Jvm.Cond.instantiable "SelahGenerator$Strings" (1 : Nat)) ∈ lw_all := lw_g (lw_at lw_m6 8 rfl) rfl
theorem q1332 : (Jvm.Cond.instanceMethod ({ cls := "SelahGenerator$Strings", name := "<init>", desc := "()V" } : Jvm.MethodName)) ∈ lw_all := lw_g (lw_at lw_m6 10 rfl) rfl
theorem q1333 : (Jvm.Cond.code ({ cls := "SelahGenerator$Strings", name := "<init>", desc := "()V" } : Jvm.MethodName) prog_10_method_1_code (1 : Nat) (Option.none : Option Jvm.ClassFile.FieldType)) ∈ lw_all := lw_g (lw_at lw_m6 11 rfl) rfl
theorem q1334 : (Jvm.Cond.methodLink "SelahGenerator$Strings" (3 : Nat) ({ cls := "java/lang/Object", name := "<init>", desc := "()V" } : Jvm.MethodName)) ∈ lw_all := lw_g (lw_at lw_m6 12 rfl) rfl
theorem q1335 : (Jvm.Cond.fieldLink "SelahGenerator$Strings" (9 : Nat) "SelahGenerator$Strings" "words" "[J") ∈ lw_all := lw_g (lw_at lw_m6 13 rfl) rfl
theorem q1336 : (Jvm.Cond.laysFinal "SelahGenerator$Strings" "SelahGenerator$Strings" "words" "[J") ∈ lw_all := lw_g (lw_at lw_m6 14 rfl) rfl
theorem q1337 : (Jvm.Cond.soleField "SelahGenerator$Strings" "words") ∈ lw_all := lw_g (lw_at lw_m6 15 rfl) rfl
theorem q1338 : (Jvm.Cond.superclass "SelahGenerator$Strings" "java/lang/Object") ∈ lw_all := lw_g (lw_at lw_m6 16 rfl) rfl
theorem q1358 : (Jvm.Cond.instanceMethod ({ cls := "SelahGenerator$Strings", name := "clear", desc := "()V" } : Jvm.MethodName)) ∈ lw_all := lw_g (lw_at lw_m6 36 rfl) rfl
theorem q1359 : (Jvm.Cond.selects "SelahGenerator$Strings" ({ cls := "SelahGenerator$Strings", name := "clear", desc := "()V" } : Jvm.MethodName) ({ cls := "SelahGenerator$Strings", name := "clear", desc := "()V" } : Jvm.MethodName)) ∈ lw_all := lw_g (lw_at lw_m6 37 rfl) rfl
theorem q1360 : (Jvm.Cond.code ({ cls := "SelahGenerator$Strings", name := "clear", desc := "()V" } : Jvm.MethodName) prog_10_method_5_code (2 : Nat) (Option.none : Option Jvm.ClassFile.FieldType)) ∈ lw_all := lw_g (lw_at lw_m6 38 rfl) rfl
theorem q1362 : (Jvm.Cond.instanceMethod ({ cls := "SelahGenerator$Strings", name := "add", desc := "(I)V" } : Jvm.MethodName)) ∈ lw_all := lw_g (lw_at lw_m6 40 rfl) rfl
theorem q1363 : (Jvm.Cond.selects "SelahGenerator$Strings" ({ cls := "SelahGenerator$Strings", name := "add", desc := "(I)V" } : Jvm.MethodName) ({ cls := "SelahGenerator$Strings", name := "add", desc := "(I)V" } : Jvm.MethodName)) ∈ lw_all := lw_g (lw_at lw_m6 41 rfl) rfl
theorem q1364 : (Jvm.Cond.code ({ cls := "SelahGenerator$Strings", name := "add", desc := "(I)V" } : Jvm.MethodName) prog_10_method_4_code (2 : Nat) (Option.none : Option Jvm.ClassFile.FieldType)) ∈ lw_all := lw_g (lw_at lw_m6 42 rfl) rfl
theorem q1371 : (Jvm.Cond.instanceMethod ({ cls := "SelahGenerator$Strings", name := "become", desc := "(LSelahGenerator$Strings;LSelahGenerator$Strings;)V" } : Jvm.MethodName)) ∈ lw_all := lw_g (lw_at lw_m6 49 rfl) rfl
theorem q1372 : (Jvm.Cond.selects "SelahGenerator$Strings" ({ cls := "SelahGenerator$Strings", name := "become", desc := "(LSelahGenerator$Strings;LSelahGenerator$Strings;)V" } : Jvm.MethodName) ({ cls := "SelahGenerator$Strings", name := "become", desc := "(LSelahGenerator$Strings;LSelahGenerator$Strings;)V" } : Jvm.MethodName)) ∈ lw_all := lw_g (lw_at lw_m6 50 rfl) rfl
theorem q1373 : (Jvm.Cond.code ({ cls := "SelahGenerator$Strings", name := "become", desc := "(LSelahGenerator$Strings;LSelahGenerator$Strings;)V" } : Jvm.MethodName) prog_10_method_12_code (5 : Nat) (Option.none : Option Jvm.ClassFile.FieldType)) ∈ lw_all := lw_g (lw_at lw_m6 51 rfl) rfl
theorem q1374 : (Jvm.Cond.methodLink "SelahGenerator$Strings" (25 : Nat) ({ cls := "SelahGenerator$Strings", name := "clear", desc := "()V" } : Jvm.MethodName)) ∈ lw_all := lw_g (lw_at lw_m6 52 rfl) rfl
theorem q1375 : (Jvm.Cond.methodLink "SelahGenerator$Strings" (17 : Nat) ({ cls := "SelahGenerator$Strings", name := "has", desc := "(I)Z" } : Jvm.MethodName)) ∈ lw_all := lw_g (lw_at lw_m6 53 rfl) rfl
theorem q1376 : (Jvm.Cond.instanceMethod ({ cls := "SelahGenerator$Strings", name := "has", desc := "(I)Z" } : Jvm.MethodName)) ∈ lw_all := lw_g (lw_at lw_m6 54 rfl) rfl
theorem q1377 : (Jvm.Cond.selects "SelahGenerator$Strings" ({ cls := "SelahGenerator$Strings", name := "has", desc := "(I)Z" } : Jvm.MethodName) ({ cls := "SelahGenerator$Strings", name := "has", desc := "(I)Z" } : Jvm.MethodName)) ∈ lw_all := lw_g (lw_at lw_m6 55 rfl) rfl
theorem q1378 : (Jvm.Cond.code ({ cls := "SelahGenerator$Strings", name := "has", desc := "(I)Z" } : Jvm.MethodName) prog_10_method_3_code (2 : Nat) (Option.some Jvm.ClassFile.FieldType.boolean)) ∈ lw_all := lw_g (lw_at lw_m6 56 rfl) rfl
theorem q1379 : (Jvm.Cond.methodLink "SelahGenerator$Strings" (28 : Nat) ({ cls := "SelahGenerator$Strings", name := "add", desc := "(I)V" } : Jvm.MethodName)) ∈ lw_all := lw_g (lw_at lw_m6 57 rfl) rfl
theorem q1380 : (Jvm.Cond.methodLink "SelahGenerator$Strings" (32 : Nat) ({ cls := "SelahGenerator$Strings", name := "cut", desc := "(II)I" } : Jvm.MethodName)) ∈ lw_all := lw_g (lw_at lw_m6 58 rfl) rfl
theorem q1381 : (Jvm.Cond.static ({ cls := "SelahGenerator$Strings", name := "cut", desc := "(II)I" } : Jvm.MethodName)) ∈ lw_all := lw_g (lw_at lw_m6 59 rfl) rfl
theorem q1382 : (Jvm.Cond.code ({ cls := "SelahGenerator$Strings", name := "cut", desc := "(II)I" } : Jvm.MethodName) prog_10_method_11_code (3 : Nat) (Option.some Jvm.ClassFile.FieldType.int)) ∈ lw_all := lw_g (lw_at lw_m6 60 rfl) rfl
theorem q1383 : (Jvm.Cond.methodLink "SelahGenerator$Strings" (21 : Nat) ({ cls := "SelahGenerator$Strings", name := "pair", desc := "(II)I" } : Jvm.MethodName)) ∈ lw_all := lw_g (lw_at lw_m6 61 rfl) rfl
theorem q1384 : (Jvm.Cond.static ({ cls := "SelahGenerator$Strings", name := "pair", desc := "(II)I" } : Jvm.MethodName)) ∈ lw_all := lw_g (lw_at lw_m6 62 rfl) rfl
theorem q1385 : (Jvm.Cond.code ({ cls := "SelahGenerator$Strings", name := "pair", desc := "(II)I" } : Jvm.MethodName) prog_10_method_2_code (2 : Nat) (Option.some Jvm.ClassFile.FieldType.int)) ∈ lw_all := lw_g (lw_at lw_m6 63 rfl) rfl
theorem q1387 : (Jvm.Cond.instanceMethod ({ cls := "SelahGenerator$Strings", name := "become", desc := "(LSelahGenerator$Strings;)V" } : Jvm.MethodName)) ∈ lw_all := lw_g (lw_at lw_m6 65 rfl) rfl
theorem q1388 : (Jvm.Cond.selects "SelahGenerator$Strings" ({ cls := "SelahGenerator$Strings", name := "become", desc := "(LSelahGenerator$Strings;)V" } : Jvm.MethodName) ({ cls := "SelahGenerator$Strings", name := "become", desc := "(LSelahGenerator$Strings;)V" } : Jvm.MethodName)) ∈ lw_all := lw_g (lw_at lw_m6 66 rfl) rfl
theorem q1389 : (Jvm.Cond.code ({ cls := "SelahGenerator$Strings", name := "become", desc := "(LSelahGenerator$Strings;)V" } : Jvm.MethodName) prog_10_method_13_code (3 : Nat) (Option.none : Option Jvm.ClassFile.FieldType)) ∈ lw_all := lw_g (lw_at lw_m6 67 rfl) rfl
theorem q1390 : (Jvm.Cond.methodLink "SelahGenerator$Strings" (35 : Nat) ({ cls := "SelahGenerator$Strings", name := "addAll", desc := "(LSelahGenerator$Strings;)Z" } : Jvm.MethodName)) ∈ lw_all := lw_g (lw_at lw_m6 68 rfl) rfl
theorem q1391 : (Jvm.Cond.instanceMethod ({ cls := "SelahGenerator$Strings", name := "addAll", desc := "(LSelahGenerator$Strings;)Z" } : Jvm.MethodName)) ∈ lw_all := lw_g (lw_at lw_m6 69 rfl) rfl
theorem q1392 : (Jvm.Cond.selects "SelahGenerator$Strings" ({ cls := "SelahGenerator$Strings", name := "addAll", desc := "(LSelahGenerator$Strings;)Z" } : Jvm.MethodName) ({ cls := "SelahGenerator$Strings", name := "addAll", desc := "(LSelahGenerator$Strings;)Z" } : Jvm.MethodName)) ∈ lw_all := lw_g (lw_at lw_m6 70 rfl) rfl
theorem q1393 : (Jvm.Cond.code ({ cls := "SelahGenerator$Strings", name := "addAll", desc := "(LSelahGenerator$Strings;)Z" } : Jvm.MethodName) prog_10_method_6_code (4 : Nat) (Option.some Jvm.ClassFile.FieldType.boolean)) ∈ lw_all := lw_g (lw_at lw_m6 71 rfl) rfl
theorem q1394 : (Jvm.Cond.constantLong "SelahGenerator$Strings" (15 : Nat) (-1 : Int64)) ∈ lw_all := lw_g (lw_at lw_m6 72 rfl) rfl
theorem q1406 : (Jvm.Cond.instanceMethod ({ cls := "SelahGenerator$Strings", name := "keepPairs", desc := "()V" } : Jvm.MethodName)) ∈ lw_all := lw_g (lw_at lw_m6 84 rfl) rfl
theorem q1407 : (Jvm.Cond.selects "SelahGenerator$Strings" ({ cls := "SelahGenerator$Strings", name := "keepPairs", desc := "()V" } : Jvm.MethodName) ({ cls := "SelahGenerator$Strings", name := "keepPairs", desc := "()V" } : Jvm.MethodName)) ∈ lw_all := lw_g (lw_at lw_m6 85 rfl) rfl
theorem q1408 : (Jvm.Cond.code ({ cls := "SelahGenerator$Strings", name := "keepPairs", desc := "()V" } : Jvm.MethodName) prog_10_method_10_code (2 : Nat) (Option.none : Option Jvm.ClassFile.FieldType)) ∈ lw_all := lw_g (lw_at lw_m6 86 rfl) rfl
theorem q1440 : (Jvm.Cond.instanceMethod ({ cls := "SelahGenerator$Strings", name := "meets", desc := "(LSelahGenerator$Strings;)Z" } : Jvm.MethodName)) ∈ lw_all := lw_g (lw_at lw_m6 118 rfl) rfl
theorem q1441 : (Jvm.Cond.selects "SelahGenerator$Strings" ({ cls := "SelahGenerator$Strings", name := "meets", desc := "(LSelahGenerator$Strings;)Z" } : Jvm.MethodName) ({ cls := "SelahGenerator$Strings", name := "meets", desc := "(LSelahGenerator$Strings;)Z" } : Jvm.MethodName)) ∈ lw_all := lw_g (lw_at lw_m6 119 rfl) rfl
theorem q1442 : (Jvm.Cond.code ({ cls := "SelahGenerator$Strings", name := "meets", desc := "(LSelahGenerator$Strings;)Z" } : Jvm.MethodName) prog_10_method_7_code (3 : Nat) (Option.some Jvm.ClassFile.FieldType.boolean)) ∈ lw_all := lw_g (lw_at lw_m6 120 rfl) rfl
theorem q1498 : (Jvm.Cond.instanceMethod ({ cls := "SelahGenerator$Strings", name := "firstTokens", desc := "()I" } : Jvm.MethodName)) ∈ lw_all := lw_g (lw_at lw_m6 176 rfl) rfl
theorem q1499 : (Jvm.Cond.selects "SelahGenerator$Strings" ({ cls := "SelahGenerator$Strings", name := "firstTokens", desc := "()I" } : Jvm.MethodName) ({ cls := "SelahGenerator$Strings", name := "firstTokens", desc := "()I" } : Jvm.MethodName)) ∈ lw_all := lw_g (lw_at lw_m6 177 rfl) rfl
theorem q1500 : (Jvm.Cond.code ({ cls := "SelahGenerator$Strings", name := "firstTokens", desc := "()I" } : Jvm.MethodName) prog_10_method_9_code (3 : Nat) (Option.some Jvm.ClassFile.FieldType.int)) ∈ lw_all := lw_g (lw_at lw_m6 178 rfl) rfl
theorem q1939 : (Jvm.Cond.instanceMethod ({ cls := "SelahGenerator$Strings", name := "pairs", desc := "()I" } : Jvm.MethodName)) ∈ lw_all := lw_g (lw_at lw_m8 137 rfl) rfl
theorem q1940 : (Jvm.Cond.selects "SelahGenerator$Strings" ({ cls := "SelahGenerator$Strings", name := "pairs", desc := "()I" } : Jvm.MethodName) ({ cls := "SelahGenerator$Strings", name := "pairs", desc := "()I" } : Jvm.MethodName)) ∈ lw_all := lw_g (lw_at lw_m8 138 rfl) rfl
theorem q1941 : (Jvm.Cond.code ({ cls := "SelahGenerator$Strings", name := "pairs", desc := "()I" } : Jvm.MethodName) prog_10_method_8_code (3 : Nat) (Option.some Jvm.ClassFile.FieldType.int)) ∈ lw_all := lw_g (lw_at lw_m8 139 rfl) rfl
theorem q2368 : (Jvm.Cond.selects "SelahGenerator$Strings" ({ cls := "java/lang/Object", name := "equals", desc := "(Ljava/lang/Object;)Z" } : Jvm.MethodName) ({ cls := "java/lang/Object", name := "equals", desc := "(Ljava/lang/Object;)Z" } : Jvm.MethodName)) ∈ lw_all := lw_g (lw_at lw_m10 86 rfl) rfl
theorem q3293 : (Jvm.Cond.castable "SelahGenerator$Strings" "java/lang/Object") ∈ lw_tbl := lw_at lw_m14 51 rfl
theorem in_X8 : ∀ w ∈ wsX80, w ∈ lw_all := lw_in wsX80 [1336] (by decide +kernel) (by decide +kernel)
/-! SelahGenerator$Failed -/
set_option maxRecDepth 100000
def RX9 : String := "SelahGenerator$Failed"
def TX9 : u_T := fun k => match k with
  | 0 => ("java/lang/Throwable", "cause", "Ljava/lang/Throwable;", false)
  | 1 => ("java/lang/Throwable", "stackTrace", "[Ljava/lang/StackTraceElement;", false)
  | 2 => ("java/lang/Throwable", "suppressedExceptions", "Ljava/util/List;", false)
  | 3 => ("java/lang/Throwable", "detailMessage", "Ljava/lang/String;", false)
  | 4 => ("java/lang/Throwable", "backtrace", "Ljava/lang/Object;", false)
  | _ => ("java/lang/Throwable", "depth", "I", false)
def tyX9 : Nat → FieldType := fun k => match k with
  | 0 => .object "java/lang/Throwable"
  | 1 => .array (.object "java/lang/StackTraceElement")
  | 2 => .object "java/util/List"
  | 3 => .object "java/lang/String"
  | 4 => .object "java/lang/Object"
  | _ => .int
abbrev wsX90 : List Cond := u_ws RX9 TX9 6
theorem nmX9 : ∀ a, a < 6 → ∀ b, b < 6 → a ≠ b → (TX9 a).2.1 ≠ (TX9 b).2.1 := by decide +kernel
theorem tyX9_ok : ∀ k, k < 6 → parseFieldDescriptor (TX9 k).2.2.1 = some (tyX9 k) := by decide +kernel
abbrev cX9_init : ByteArray := prog_3_method_1_code
def yX9_init : MethodName := ⟨RX9, "<init>", "()V"⟩
theorem dX9_init_0 : decode cX9_init 0 = .ok (.aload_n 0, 1) := by decide +kernel
theorem dX9_init_1 : decode cX9_init 1 = .ok (.invokespecial 1, 3) := by decide +kernel
theorem dX9_init_4 : decode cX9_init 4 = .ok (.return_, 1) := by decide +kernel
theorem q170 : (Jvm.Cond.initialized "SelahGenerator$Failed") ∈ lw_all := lw_g (lw_at lw_m1 48 rfl) rfl
theorem q669 : (Jvm.Cond.selects "SelahGenerator$Failed" ({ cls := "java/lang/Throwable", name := "fillInStackTrace", desc := "()Ljava/lang/Throwable;" } : Jvm.MethodName) ({ cls := "java/lang/Throwable", name := "fillInStackTrace", desc := "()Ljava/lang/Throwable;" } : Jvm.MethodName)) ∈ lw_all := lw_g (lw_at lw_m3 67 rfl) rfl
theorem q778 : (Jvm.Cond.selects "SelahGenerator$Failed" ({ cls := "java/lang/Object", name := "getClass", desc := "()Ljava/lang/Class;" } : Jvm.MethodName) ({ cls := "java/lang/Object", name := "getClass", desc := "()Ljava/lang/Class;" } : Jvm.MethodName)) ∈ lw_all := lw_g (lw_at lw_m3 176 rfl) rfl
theorem q2226 : (Jvm.Cond.instantiable "SelahGenerator$Failed" (6 : Nat)) ∈ lw_all := lw_g (lw_at lw_m9 184 rfl) rfl
theorem q2227 : (Jvm.Cond.castable "SelahGenerator$Failed" "SelahGenerator$Failed") ∈ lw_tbl := lw_at lw_m9 185 rfl
theorem q2228 : (Jvm.Cond.selects "SelahGenerator$Failed" ({ cls := "java/lang/Throwable", name := "fillInStackTrace", desc := "(I)Ljava/lang/Throwable;" } : Jvm.MethodName) ({ cls := "java/lang/Throwable", name := "fillInStackTrace", desc := "(I)Ljava/lang/Throwable;" } : Jvm.MethodName)) ∈ lw_all := lw_g (lw_at lw_m9 186 rfl) rfl
theorem q2229 : (Jvm.Cond.lays "SelahGenerator$Failed" "java/lang/Throwable" "cause" "Ljava/lang/Throwable;") ∈ lw_all := lw_g (lw_at lw_m9 187 rfl) rfl
theorem q2230 : (Jvm.Cond.lays "SelahGenerator$Failed" "java/lang/Throwable" "stackTrace" "[Ljava/lang/StackTraceElement;") ∈ lw_all := lw_g (lw_at lw_m9 188 rfl) rfl
theorem q2231 : (Jvm.Cond.lays "SelahGenerator$Failed" "java/lang/Throwable" "suppressedExceptions" "Ljava/util/List;") ∈ lw_all := lw_g (lw_at lw_m9 189 rfl) rfl
theorem q2232 : (Jvm.Cond.lays "SelahGenerator$Failed" "java/lang/Throwable" "detailMessage" "Ljava/lang/String;") ∈ lw_all := lw_g (lw_at lw_m9 190 rfl) rfl
theorem q2233 : (Jvm.Cond.lays "SelahGenerator$Failed" "java/lang/Throwable" "backtrace" "Ljava/lang/Object;") ∈ lw_all := lw_g (lw_at lw_m9 191 rfl) rfl
theorem q2235 : (Jvm.Cond.instanceMethod ({ cls := "SelahGenerator$Failed", name := "<init>", desc := "()V" } : Jvm.MethodName)) ∈ lw_all := lw_g (lw_at lw_m9 193 rfl) rfl
theorem q2236 : (Jvm.Cond.code ({ cls := "SelahGenerator$Failed", name := "<init>", desc := "()V" } : Jvm.MethodName) prog_3_method_1_code (1 : Nat) (Option.none : Option Jvm.ClassFile.FieldType)) ∈ lw_all := lw_g (lw_at lw_m9 194 rfl) rfl
theorem q2237 : (Jvm.Cond.methodLink "SelahGenerator$Failed" (1 : Nat) ({ cls := "java/lang/Exception", name := "<init>", desc := "()V" } : Jvm.MethodName)) ∈ lw_all := lw_g (lw_at lw_m9 195 rfl) rfl
theorem q2238 : (Jvm.Cond.lays "SelahGenerator$Failed" "java/lang/Throwable" "depth" "I") ∈ lw_all := lw_g (lw_at lw_m9 196 rfl) rfl
theorem q2239 : (Jvm.Cond.superclass "SelahGenerator$Failed" "java/lang/Exception") ∈ lw_all := lw_g (lw_at lw_m9 197 rfl) rfl
theorem q2361 : (Jvm.Cond.selects "SelahGenerator$Failed" ({ cls := "java/lang/Object", name := "equals", desc := "(Ljava/lang/Object;)Z" } : Jvm.MethodName) ({ cls := "java/lang/Object", name := "equals", desc := "(Ljava/lang/Object;)Z" } : Jvm.MethodName)) ∈ lw_all := lw_g (lw_at lw_m10 79 rfl) rfl
theorem q3316 : (Jvm.Cond.castable "SelahGenerator$Failed" "java/lang/Object") ∈ lw_tbl := lw_at lw_m14 74 rfl
theorem in_X9 : ∀ w ∈ wsX90, w ∈ lw_all := lw_in wsX90 [2229, 2230, 2231, 2232, 2233, 2238] (by decide +kernel) (by decide +kernel)
/-! SelahGenerator$Parse -/
set_option maxRecDepth 100000
def RX10 : String := "SelahGenerator$Parse"
def TX10 : u_T := fun k => match k with
  | 0 => ("SelahGenerator$Parse", "lookahead", "I", true)
  | 1 => ("SelahGenerator$Parse", "stack", "Ljava/util/ArrayDeque;", true)
  | 2 => ("SelahGenerator$Parse", "tokens", "Ljava/util/List;", true)
  | 3 => ("SelahGenerator$Parse", "applied", "Ljava/util/List;", true)
  | 4 => ("SelahGenerator$Parse", "faults", "Ljava/util/List;", true)
  | 5 => ("SelahGenerator$Parse", "state", "I", false)
  | 6 => ("SelahGenerator$Parse", "worked", "I", false)
  | _ => ("SelahGenerator$Parse", "this$0", "LSelahGenerator;", true)
def tyX10 : Nat → FieldType := fun k => match k with
  | 0 => .int
  | 1 => .object "java/util/ArrayDeque"
  | 2 => .object "java/util/List"
  | 3 => .object "java/util/List"
  | 4 => .object "java/util/List"
  | 5 => .int
  | 6 => .int
  | _ => .object "SelahGenerator"
abbrev wsX100 : List Cond := u_ws RX10 TX10 8
theorem nmX10 : ∀ a, a < 8 → ∀ b, b < 8 → a ≠ b → (TX10 a).2.1 ≠ (TX10 b).2.1 := by decide +kernel
theorem tyX10_ok : ∀ k, k < 8 → parseFieldDescriptor (TX10 k).2.2.1 = some (tyX10 k) := by decide +kernel
abbrev cX10_expected : ByteArray := prog_7_method_8_code
def yX10_expected : MethodName := ⟨RX10, "expected", "()I"⟩
def dkwX10_expected_5 : List UInt8 := [182, 0, 151, 128, 61, 132, 3, 1, 167, 255, 173, 28, 172]
abbrev dktX10_expected_5 : List UInt8 := dkwX10_expected_5 ++ []
def dkwX10_expected_4 : List UInt8 := [182, 0, 108, 180, 0, 145, 29, 46, 167, 0, 18, 42, 180, 0, 3, 182, 0, 118, 180, 0, 148, 29, 50]
abbrev dktX10_expected_4 : List UInt8 := dkwX10_expected_4 ++ dktX10_expected_5
def dkwX10_expected_3 : List UInt8 := [192, 0, 137, 180, 0, 142, 27, 160, 0, 44, 28, 42, 180, 0, 39, 4, 160, 0, 18, 42, 180, 0, 3]
abbrev dktX10_expected_3 : List UInt8 := dkwX10_expected_3 ++ dktX10_expected_4
def dkwX10_expected_2 : List UInt8 := [180, 0, 134, 185, 0, 52, 1, 0, 162, 0, 73, 42, 180, 0, 3, 180, 0, 134, 29, 185, 0, 65, 2, 0]
abbrev dktX10_expected_2 : List UInt8 := dkwX10_expected_2 ++ dktX10_expected_3
def dkwX10_expected_1 : List UInt8 := [182, 0, 69, 60, 3, 61, 27, 184, 0, 92, 154, 0, 7, 4, 27, 120, 172, 3, 62, 29, 42, 180, 0, 3]
abbrev dktX10_expected_1 : List UInt8 := dkwX10_expected_1 ++ dktX10_expected_2
def dkwX10_expected_0 : List UInt8 := [42, 180, 0, 18, 182, 0, 80, 153, 0, 7, 17, 16, 0, 172, 42, 180, 0, 18, 182, 0, 88, 192, 0, 43]
abbrev dktX10_expected_0 : List UInt8 := dkwX10_expected_0 ++ dktX10_expected_1
theorem dksX10_expected_0 : cX10_expected.data.toList.drop 0 = dktX10_expected_0 := by decide +kernel
theorem dksX10_expected_1 : cX10_expected.data.toList.drop 24 = dktX10_expected_1 := dk_seg dksX10_expected_0 24 rfl rfl
theorem dksX10_expected_2 : cX10_expected.data.toList.drop 48 = dktX10_expected_2 := dk_seg dksX10_expected_1 24 rfl rfl
theorem dksX10_expected_3 : cX10_expected.data.toList.drop 72 = dktX10_expected_3 := dk_seg dksX10_expected_2 24 rfl rfl
theorem dksX10_expected_4 : cX10_expected.data.toList.drop 95 = dktX10_expected_4 := dk_seg dksX10_expected_3 23 rfl rfl
theorem dksX10_expected_5 : cX10_expected.data.toList.drop 118 = dktX10_expected_5 := dk_seg dksX10_expected_4 23 rfl rfl
theorem dX10_expected_0 : decode cX10_expected 0 = .ok (.aload_n 0, 1) := dk_42 (dk_at dksX10_expected_0 0 rfl rfl)
theorem dX10_expected_1 : decode cX10_expected 1 = .ok (.getfield 18, 3) := dk_180 0 18 (dk_at dksX10_expected_0 1 rfl rfl)
theorem dX10_expected_4 : decode cX10_expected 4 = .ok (.invokevirtual 80, 3) := dk_182 0 80 (dk_at dksX10_expected_0 4 rfl rfl)
theorem dX10_expected_7 : decode cX10_expected 7 = .ok (.ifCond .eq 7, 3) := dk_153 0 7 (dk_at dksX10_expected_0 7 rfl rfl)
theorem dX10_expected_10 : decode cX10_expected 10 = .ok (.sipush 4096, 3) := dk_17 16 0 (dk_at dksX10_expected_0 10 rfl rfl)
theorem dX10_expected_13 : decode cX10_expected 13 = .ok (.ireturn, 1) := dk_172 (dk_at dksX10_expected_0 13 rfl rfl)
theorem dX10_expected_14 : decode cX10_expected 14 = .ok (.aload_n 0, 1) := dk_42 (dk_at dksX10_expected_0 14 rfl rfl)
theorem dX10_expected_15 : decode cX10_expected 15 = .ok (.getfield 18, 3) := dk_180 0 18 (dk_at dksX10_expected_0 15 rfl rfl)
theorem dX10_expected_18 : decode cX10_expected 18 = .ok (.invokevirtual 88, 3) := dk_182 0 88 (dk_at dksX10_expected_0 18 rfl rfl)
theorem dX10_expected_21 : decode cX10_expected 21 = .ok (.checkcast 43, 3) := dk_192 0 43 (dk_at dksX10_expected_0 21 rfl rfl)
theorem dX10_expected_24 : decode cX10_expected 24 = .ok (.invokevirtual 69, 3) := dk_182 0 69 (dk_at dksX10_expected_1 0 rfl rfl)
theorem dX10_expected_27 : decode cX10_expected 27 = .ok (.istore_n 1, 1) := dk_60 (dk_at dksX10_expected_1 3 rfl rfl)
theorem dX10_expected_28 : decode cX10_expected 28 = .ok (.iconst 0, 1) := dk_3 (dk_at dksX10_expected_1 4 rfl rfl)
theorem dX10_expected_29 : decode cX10_expected 29 = .ok (.istore_n 2, 1) := dk_61 (dk_at dksX10_expected_1 5 rfl rfl)
theorem dX10_expected_30 : decode cX10_expected 30 = .ok (.iload_n 1, 1) := dk_27 (dk_at dksX10_expected_1 6 rfl rfl)
theorem dX10_expected_31 : decode cX10_expected 31 = .ok (.invokestatic 92, 3) := dk_184 0 92 (dk_at dksX10_expected_1 7 rfl rfl)
theorem dX10_expected_34 : decode cX10_expected 34 = .ok (.ifCond .ne 7, 3) := dk_154 0 7 (dk_at dksX10_expected_1 10 rfl rfl)
theorem dX10_expected_37 : decode cX10_expected 37 = .ok (.iconst 1, 1) := dk_4 (dk_at dksX10_expected_1 13 rfl rfl)
theorem dX10_expected_38 : decode cX10_expected 38 = .ok (.iload_n 1, 1) := dk_27 (dk_at dksX10_expected_1 14 rfl rfl)
theorem dX10_expected_39 : decode cX10_expected 39 = .ok (.ishl, 1) := dk_120 (dk_at dksX10_expected_1 15 rfl rfl)
theorem dX10_expected_40 : decode cX10_expected 40 = .ok (.ireturn, 1) := dk_172 (dk_at dksX10_expected_1 16 rfl rfl)
theorem dX10_expected_41 : decode cX10_expected 41 = .ok (.iconst 0, 1) := dk_3 (dk_at dksX10_expected_1 17 rfl rfl)
theorem dX10_expected_42 : decode cX10_expected 42 = .ok (.istore_n 3, 1) := dk_62 (dk_at dksX10_expected_1 18 rfl rfl)
theorem dX10_expected_43 : decode cX10_expected 43 = .ok (.iload_n 3, 1) := dk_29 (dk_at dksX10_expected_1 19 rfl rfl)
theorem dX10_expected_44 : decode cX10_expected 44 = .ok (.aload_n 0, 1) := dk_42 (dk_at dksX10_expected_1 20 rfl rfl)
theorem dX10_expected_45 : decode cX10_expected 45 = .ok (.getfield 3, 3) := dk_180 0 3 (dk_at dksX10_expected_1 21 rfl rfl)
theorem dX10_expected_48 : decode cX10_expected 48 = .ok (.getfield 134, 3) := dk_180 0 134 (dk_at dksX10_expected_2 0 rfl rfl)
theorem dX10_expected_51 : decode cX10_expected 51 = .ok (.invokeinterface 52 1, 5) := by decide +kernel
theorem dX10_expected_56 : decode cX10_expected 56 = .ok (.if_icmp .ge 73, 3) := dk_162 0 73 (dk_at dksX10_expected_2 8 rfl rfl)
theorem dX10_expected_59 : decode cX10_expected 59 = .ok (.aload_n 0, 1) := dk_42 (dk_at dksX10_expected_2 11 rfl rfl)
theorem dX10_expected_60 : decode cX10_expected 60 = .ok (.getfield 3, 3) := dk_180 0 3 (dk_at dksX10_expected_2 12 rfl rfl)
theorem dX10_expected_63 : decode cX10_expected 63 = .ok (.getfield 134, 3) := dk_180 0 134 (dk_at dksX10_expected_2 15 rfl rfl)
theorem dX10_expected_66 : decode cX10_expected 66 = .ok (.iload_n 3, 1) := dk_29 (dk_at dksX10_expected_2 18 rfl rfl)
theorem dX10_expected_67 : decode cX10_expected 67 = .ok (.invokeinterface 65 2, 5) := by decide +kernel
theorem dX10_expected_72 : decode cX10_expected 72 = .ok (.checkcast 137, 3) := dk_192 0 137 (dk_at dksX10_expected_3 0 rfl rfl)
theorem dX10_expected_75 : decode cX10_expected 75 = .ok (.getfield 142, 3) := dk_180 0 142 (dk_at dksX10_expected_3 3 rfl rfl)
theorem dX10_expected_78 : decode cX10_expected 78 = .ok (.iload_n 1, 1) := dk_27 (dk_at dksX10_expected_3 6 rfl rfl)
theorem dX10_expected_79 : decode cX10_expected 79 = .ok (.if_icmp .ne 44, 3) := dk_160 0 44 (dk_at dksX10_expected_3 7 rfl rfl)
theorem dX10_expected_82 : decode cX10_expected 82 = .ok (.iload_n 2, 1) := dk_28 (dk_at dksX10_expected_3 10 rfl rfl)
theorem dX10_expected_83 : decode cX10_expected 83 = .ok (.aload_n 0, 1) := dk_42 (dk_at dksX10_expected_3 11 rfl rfl)
theorem dX10_expected_84 : decode cX10_expected 84 = .ok (.getfield 39, 3) := dk_180 0 39 (dk_at dksX10_expected_3 12 rfl rfl)
theorem dX10_expected_87 : decode cX10_expected 87 = .ok (.iconst 1, 1) := dk_4 (dk_at dksX10_expected_3 15 rfl rfl)
theorem dX10_expected_88 : decode cX10_expected 88 = .ok (.if_icmp .ne 18, 3) := dk_160 0 18 (dk_at dksX10_expected_3 16 rfl rfl)
theorem dX10_expected_91 : decode cX10_expected 91 = .ok (.aload_n 0, 1) := dk_42 (dk_at dksX10_expected_3 19 rfl rfl)
theorem dX10_expected_92 : decode cX10_expected 92 = .ok (.getfield 3, 3) := dk_180 0 3 (dk_at dksX10_expected_3 20 rfl rfl)
theorem dX10_expected_95 : decode cX10_expected 95 = .ok (.invokevirtual 108, 3) := dk_182 0 108 (dk_at dksX10_expected_4 0 rfl rfl)
theorem dX10_expected_98 : decode cX10_expected 98 = .ok (.getfield 145, 3) := dk_180 0 145 (dk_at dksX10_expected_4 3 rfl rfl)
theorem dX10_expected_101 : decode cX10_expected 101 = .ok (.iload_n 3, 1) := dk_29 (dk_at dksX10_expected_4 6 rfl rfl)
theorem dX10_expected_102 : decode cX10_expected 102 = .ok (.iaload, 1) := dk_46 (dk_at dksX10_expected_4 7 rfl rfl)
theorem dX10_expected_103 : decode cX10_expected 103 = .ok (.goto 18, 3) := dk_167 0 18 (dk_at dksX10_expected_4 8 rfl rfl)
theorem dX10_expected_106 : decode cX10_expected 106 = .ok (.aload_n 0, 1) := dk_42 (dk_at dksX10_expected_4 11 rfl rfl)
theorem dX10_expected_107 : decode cX10_expected 107 = .ok (.getfield 3, 3) := dk_180 0 3 (dk_at dksX10_expected_4 12 rfl rfl)
theorem dX10_expected_110 : decode cX10_expected 110 = .ok (.invokevirtual 118, 3) := dk_182 0 118 (dk_at dksX10_expected_4 15 rfl rfl)
theorem dX10_expected_113 : decode cX10_expected 113 = .ok (.getfield 148, 3) := dk_180 0 148 (dk_at dksX10_expected_4 18 rfl rfl)
theorem dX10_expected_116 : decode cX10_expected 116 = .ok (.iload_n 3, 1) := dk_29 (dk_at dksX10_expected_4 21 rfl rfl)
theorem dX10_expected_117 : decode cX10_expected 117 = .ok (.aaload, 1) := dk_50 (dk_at dksX10_expected_4 22 rfl rfl)
theorem dX10_expected_118 : decode cX10_expected 118 = .ok (.invokevirtual 151, 3) := dk_182 0 151 (dk_at dksX10_expected_5 0 rfl rfl)
theorem dX10_expected_121 : decode cX10_expected 121 = .ok (.ior, 1) := dk_128 (dk_at dksX10_expected_5 3 rfl rfl)
theorem dX10_expected_122 : decode cX10_expected 122 = .ok (.istore_n 2, 1) := dk_61 (dk_at dksX10_expected_5 4 rfl rfl)
theorem dX10_expected_123 : decode cX10_expected 123 = .ok (.iinc 3 1, 3) := dk_132 3 1 (dk_at dksX10_expected_5 5 rfl rfl)
theorem dX10_expected_126 : decode cX10_expected 126 = .ok (.goto (-83), 3) := dk_167 255 173 (dk_at dksX10_expected_5 8 rfl rfl)
theorem dX10_expected_129 : decode cX10_expected 129 = .ok (.iload_n 2, 1) := dk_28 (dk_at dksX10_expected_5 11 rfl rfl)
theorem dX10_expected_130 : decode cX10_expected 130 = .ok (.ireturn, 1) := dk_172 (dk_at dksX10_expected_5 12 rfl rfl)
abbrev cX10_init : ByteArray := prog_7_method_1_code
def yX10_init : MethodName := ⟨RX10, "<init>", "(LSelahGenerator;I)V"⟩
def dkwX10_init_3 : List UInt8 := [184, 0, 42, 182, 0, 48, 177]
abbrev dktX10_init_3 : List UInt8 := dkwX10_init_3 ++ []
def dkwX10_init_2 : List UInt8 := [183, 0, 24, 181, 0, 32, 42, 4, 181, 0, 35, 42, 28, 181, 0, 39, 42, 180, 0, 18, 16, 20]
abbrev dktX10_init_2 : List UInt8 := dkwX10_init_2 ++ dktX10_init_3
def dkwX10_init_1 : List UInt8 := [89, 183, 0, 24, 181, 0, 25, 42, 187, 0, 22, 89, 183, 0, 24, 181, 0, 29, 42, 187, 0, 22, 89]
abbrev dktX10_init_1 : List UInt8 := dkwX10_init_1 ++ dktX10_init_2
def dkwX10_init_0 : List UInt8 := [42, 43, 181, 0, 3, 42, 183, 0, 9, 42, 187, 0, 15, 89, 183, 0, 17, 181, 0, 18, 42, 187, 0, 22]
abbrev dktX10_init_0 : List UInt8 := dkwX10_init_0 ++ dktX10_init_1
theorem dksX10_init_0 : cX10_init.data.toList.drop 0 = dktX10_init_0 := by decide +kernel
theorem dksX10_init_1 : cX10_init.data.toList.drop 24 = dktX10_init_1 := dk_seg dksX10_init_0 24 rfl rfl
theorem dksX10_init_2 : cX10_init.data.toList.drop 47 = dktX10_init_2 := dk_seg dksX10_init_1 23 rfl rfl
theorem dksX10_init_3 : cX10_init.data.toList.drop 69 = dktX10_init_3 := dk_seg dksX10_init_2 22 rfl rfl
theorem dX10_init_0 : decode cX10_init 0 = .ok (.aload_n 0, 1) := dk_42 (dk_at dksX10_init_0 0 rfl rfl)
theorem dX10_init_1 : decode cX10_init 1 = .ok (.aload_n 1, 1) := dk_43 (dk_at dksX10_init_0 1 rfl rfl)
theorem dX10_init_2 : decode cX10_init 2 = .ok (.putfield 3, 3) := dk_181 0 3 (dk_at dksX10_init_0 2 rfl rfl)
theorem dX10_init_5 : decode cX10_init 5 = .ok (.aload_n 0, 1) := dk_42 (dk_at dksX10_init_0 5 rfl rfl)
theorem dX10_init_6 : decode cX10_init 6 = .ok (.invokespecial 9, 3) := dk_183 0 9 (dk_at dksX10_init_0 6 rfl rfl)
theorem dX10_init_9 : decode cX10_init 9 = .ok (.aload_n 0, 1) := dk_42 (dk_at dksX10_init_0 9 rfl rfl)
theorem dX10_init_10 : decode cX10_init 10 = .ok (.new 15, 3) := dk_187 0 15 (dk_at dksX10_init_0 10 rfl rfl)
theorem dX10_init_13 : decode cX10_init 13 = .ok (.dup, 1) := dk_89 (dk_at dksX10_init_0 13 rfl rfl)
theorem dX10_init_14 : decode cX10_init 14 = .ok (.invokespecial 17, 3) := dk_183 0 17 (dk_at dksX10_init_0 14 rfl rfl)
theorem dX10_init_17 : decode cX10_init 17 = .ok (.putfield 18, 3) := dk_181 0 18 (dk_at dksX10_init_0 17 rfl rfl)
theorem dX10_init_20 : decode cX10_init 20 = .ok (.aload_n 0, 1) := dk_42 (dk_at dksX10_init_0 20 rfl rfl)
theorem dX10_init_21 : decode cX10_init 21 = .ok (.new 22, 3) := dk_187 0 22 (dk_at dksX10_init_0 21 rfl rfl)
theorem dX10_init_24 : decode cX10_init 24 = .ok (.dup, 1) := dk_89 (dk_at dksX10_init_1 0 rfl rfl)
theorem dX10_init_25 : decode cX10_init 25 = .ok (.invokespecial 24, 3) := dk_183 0 24 (dk_at dksX10_init_1 1 rfl rfl)
theorem dX10_init_28 : decode cX10_init 28 = .ok (.putfield 25, 3) := dk_181 0 25 (dk_at dksX10_init_1 4 rfl rfl)
theorem dX10_init_31 : decode cX10_init 31 = .ok (.aload_n 0, 1) := dk_42 (dk_at dksX10_init_1 7 rfl rfl)
theorem dX10_init_32 : decode cX10_init 32 = .ok (.new 22, 3) := dk_187 0 22 (dk_at dksX10_init_1 8 rfl rfl)
theorem dX10_init_35 : decode cX10_init 35 = .ok (.dup, 1) := dk_89 (dk_at dksX10_init_1 11 rfl rfl)
theorem dX10_init_36 : decode cX10_init 36 = .ok (.invokespecial 24, 3) := dk_183 0 24 (dk_at dksX10_init_1 12 rfl rfl)
theorem dX10_init_39 : decode cX10_init 39 = .ok (.putfield 29, 3) := dk_181 0 29 (dk_at dksX10_init_1 15 rfl rfl)
theorem dX10_init_42 : decode cX10_init 42 = .ok (.aload_n 0, 1) := dk_42 (dk_at dksX10_init_1 18 rfl rfl)
theorem dX10_init_43 : decode cX10_init 43 = .ok (.new 22, 3) := dk_187 0 22 (dk_at dksX10_init_1 19 rfl rfl)
theorem dX10_init_46 : decode cX10_init 46 = .ok (.dup, 1) := dk_89 (dk_at dksX10_init_1 22 rfl rfl)
theorem dX10_init_47 : decode cX10_init 47 = .ok (.invokespecial 24, 3) := dk_183 0 24 (dk_at dksX10_init_2 0 rfl rfl)
theorem dX10_init_50 : decode cX10_init 50 = .ok (.putfield 32, 3) := dk_181 0 32 (dk_at dksX10_init_2 3 rfl rfl)
theorem dX10_init_53 : decode cX10_init 53 = .ok (.aload_n 0, 1) := dk_42 (dk_at dksX10_init_2 6 rfl rfl)
theorem dX10_init_54 : decode cX10_init 54 = .ok (.iconst 1, 1) := dk_4 (dk_at dksX10_init_2 7 rfl rfl)
theorem dX10_init_55 : decode cX10_init 55 = .ok (.putfield 35, 3) := dk_181 0 35 (dk_at dksX10_init_2 8 rfl rfl)
theorem dX10_init_58 : decode cX10_init 58 = .ok (.aload_n 0, 1) := dk_42 (dk_at dksX10_init_2 11 rfl rfl)
theorem dX10_init_59 : decode cX10_init 59 = .ok (.iload_n 2, 1) := dk_28 (dk_at dksX10_init_2 12 rfl rfl)
theorem dX10_init_60 : decode cX10_init 60 = .ok (.putfield 39, 3) := dk_181 0 39 (dk_at dksX10_init_2 13 rfl rfl)
theorem dX10_init_63 : decode cX10_init 63 = .ok (.aload_n 0, 1) := dk_42 (dk_at dksX10_init_2 16 rfl rfl)
theorem dX10_init_64 : decode cX10_init 64 = .ok (.getfield 18, 3) := dk_180 0 18 (dk_at dksX10_init_2 17 rfl rfl)
theorem dX10_init_67 : decode cX10_init 67 = .ok (.bipush 20, 2) := dk_16 20 (dk_at dksX10_init_2 20 rfl rfl)
theorem dX10_init_69 : decode cX10_init 69 = .ok (.invokestatic 42, 3) := dk_184 0 42 (dk_at dksX10_init_3 0 rfl rfl)
theorem dX10_init_72 : decode cX10_init 72 = .ok (.invokevirtual 48, 3) := dk_182 0 48 (dk_at dksX10_init_3 3 rfl rfl)
theorem dX10_init_75 : decode cX10_init 75 = .ok (.return_, 1) := dk_177 (dk_at dksX10_init_3 6 rfl rfl)
abbrev cX10_give : ByteArray := prog_7_method_2_code
def yX10_give : MethodName := ⟨RX10, "give", "(I)I"⟩
def dkwX10_give_7 : List UInt8 := [160, 0, 11, 42, 16, 12, 16, 12, 182, 0, 72, 42, 180, 0, 32, 185, 0, 52, 1, 0, 28, 100, 172]
abbrev dktX10_give_7 : List UInt8 := dkwX10_give_7 ++ []
def dkwX10_give_6 : List UInt8 := [42, 89, 180, 0, 62, 4, 96, 181, 0, 62, 167, 255, 163, 27, 16, 12, 160, 0, 19, 42, 180, 0, 35, 4]
abbrev dktX10_give_6 : List UInt8 := dkwX10_give_6 ++ dktX10_give_7
def dkwX10_give_5 : List UInt8 := [180, 0, 62, 4, 96, 185, 0, 65, 2, 0, 192, 0, 43, 182, 0, 69, 167, 0, 5, 16, 12, 182, 0, 72]
abbrev dktX10_give_5 : List UInt8 := dkwX10_give_5 ++ dktX10_give_6
def dkwX10_give_4 : List UInt8 := [42, 180, 0, 62, 4, 96, 42, 180, 0, 25, 185, 0, 52, 1, 0, 162, 0, 27, 42, 180, 0, 25, 42]
abbrev dktX10_give_4 : List UInt8 := dkwX10_give_4 ++ dktX10_give_5
def dkwX10_give_3 : List UInt8 := [4, 160, 0, 83, 42, 42, 180, 0, 25, 42, 180, 0, 62, 185, 0, 65, 2, 0, 192, 0, 43, 182, 0, 69]
abbrev dktX10_give_3 : List UInt8 := dkwX10_give_3 ++ dktX10_give_4
def dkwX10_give_2 : List UInt8 := [16, 12, 159, 0, 7, 4, 167, 0, 4, 3, 100, 62, 42, 180, 0, 62, 29, 162, 0, 91, 42, 180, 0, 35]
abbrev dktX10_give_2 : List UInt8 := dkwX10_give_2 ++ dktX10_give_3
def dkwX10_give_1 : List UInt8 := [185, 0, 58, 2, 0, 87, 42, 180, 0, 25, 185, 0, 52, 1, 0, 42, 180, 0, 39, 5, 160, 0, 13, 27]
abbrev dktX10_give_1 : List UInt8 := dkwX10_give_1 ++ dktX10_give_2
def dkwX10_give_0 : List UInt8 := [42, 180, 0, 32, 185, 0, 52, 1, 0, 61, 27, 16, 12, 159, 0, 17, 42, 180, 0, 25, 27, 184, 0, 42]
abbrev dktX10_give_0 : List UInt8 := dkwX10_give_0 ++ dktX10_give_1
theorem dksX10_give_0 : cX10_give.data.toList.drop 0 = dktX10_give_0 := by decide +kernel
theorem dksX10_give_1 : cX10_give.data.toList.drop 24 = dktX10_give_1 := dk_seg dksX10_give_0 24 rfl rfl
theorem dksX10_give_2 : cX10_give.data.toList.drop 48 = dktX10_give_2 := dk_seg dksX10_give_1 24 rfl rfl
theorem dksX10_give_3 : cX10_give.data.toList.drop 72 = dktX10_give_3 := dk_seg dksX10_give_2 24 rfl rfl
theorem dksX10_give_4 : cX10_give.data.toList.drop 96 = dktX10_give_4 := dk_seg dksX10_give_3 24 rfl rfl
theorem dksX10_give_5 : cX10_give.data.toList.drop 119 = dktX10_give_5 := dk_seg dksX10_give_4 23 rfl rfl
theorem dksX10_give_6 : cX10_give.data.toList.drop 143 = dktX10_give_6 := dk_seg dksX10_give_5 24 rfl rfl
theorem dksX10_give_7 : cX10_give.data.toList.drop 167 = dktX10_give_7 := dk_seg dksX10_give_6 24 rfl rfl
theorem dX10_give_0 : decode cX10_give 0 = .ok (.aload_n 0, 1) := dk_42 (dk_at dksX10_give_0 0 rfl rfl)
theorem dX10_give_1 : decode cX10_give 1 = .ok (.getfield 32, 3) := dk_180 0 32 (dk_at dksX10_give_0 1 rfl rfl)
theorem dX10_give_4 : decode cX10_give 4 = .ok (.invokeinterface 52 1, 5) := by decide +kernel
theorem dX10_give_9 : decode cX10_give 9 = .ok (.istore_n 2, 1) := dk_61 (dk_at dksX10_give_0 9 rfl rfl)
theorem dX10_give_10 : decode cX10_give 10 = .ok (.iload_n 1, 1) := dk_27 (dk_at dksX10_give_0 10 rfl rfl)
theorem dX10_give_11 : decode cX10_give 11 = .ok (.bipush 12, 2) := dk_16 12 (dk_at dksX10_give_0 11 rfl rfl)
theorem dX10_give_13 : decode cX10_give 13 = .ok (.if_icmp .eq 17, 3) := dk_159 0 17 (dk_at dksX10_give_0 13 rfl rfl)
theorem dX10_give_16 : decode cX10_give 16 = .ok (.aload_n 0, 1) := dk_42 (dk_at dksX10_give_0 16 rfl rfl)
theorem dX10_give_17 : decode cX10_give 17 = .ok (.getfield 25, 3) := dk_180 0 25 (dk_at dksX10_give_0 17 rfl rfl)
theorem dX10_give_20 : decode cX10_give 20 = .ok (.iload_n 1, 1) := dk_27 (dk_at dksX10_give_0 20 rfl rfl)
theorem dX10_give_21 : decode cX10_give 21 = .ok (.invokestatic 42, 3) := dk_184 0 42 (dk_at dksX10_give_0 21 rfl rfl)
theorem dX10_give_24 : decode cX10_give 24 = .ok (.invokeinterface 58 2, 5) := by decide +kernel
theorem dX10_give_29 : decode cX10_give 29 = .ok (.pop, 1) := dk_87 (dk_at dksX10_give_1 5 rfl rfl)
theorem dX10_give_30 : decode cX10_give 30 = .ok (.aload_n 0, 1) := dk_42 (dk_at dksX10_give_1 6 rfl rfl)
theorem dX10_give_31 : decode cX10_give 31 = .ok (.getfield 25, 3) := dk_180 0 25 (dk_at dksX10_give_1 7 rfl rfl)
theorem dX10_give_34 : decode cX10_give 34 = .ok (.invokeinterface 52 1, 5) := by decide +kernel
theorem dX10_give_39 : decode cX10_give 39 = .ok (.aload_n 0, 1) := dk_42 (dk_at dksX10_give_1 15 rfl rfl)
theorem dX10_give_40 : decode cX10_give 40 = .ok (.getfield 39, 3) := dk_180 0 39 (dk_at dksX10_give_1 16 rfl rfl)
theorem dX10_give_43 : decode cX10_give 43 = .ok (.iconst 2, 1) := dk_5 (dk_at dksX10_give_1 19 rfl rfl)
theorem dX10_give_44 : decode cX10_give 44 = .ok (.if_icmp .ne 13, 3) := dk_160 0 13 (dk_at dksX10_give_1 20 rfl rfl)
theorem dX10_give_47 : decode cX10_give 47 = .ok (.iload_n 1, 1) := dk_27 (dk_at dksX10_give_1 23 rfl rfl)
theorem dX10_give_48 : decode cX10_give 48 = .ok (.bipush 12, 2) := dk_16 12 (dk_at dksX10_give_2 0 rfl rfl)
theorem dX10_give_50 : decode cX10_give 50 = .ok (.if_icmp .eq 7, 3) := dk_159 0 7 (dk_at dksX10_give_2 2 rfl rfl)
theorem dX10_give_53 : decode cX10_give 53 = .ok (.iconst 1, 1) := dk_4 (dk_at dksX10_give_2 5 rfl rfl)
theorem dX10_give_54 : decode cX10_give 54 = .ok (.goto 4, 3) := dk_167 0 4 (dk_at dksX10_give_2 6 rfl rfl)
theorem dX10_give_57 : decode cX10_give 57 = .ok (.iconst 0, 1) := dk_3 (dk_at dksX10_give_2 9 rfl rfl)
theorem dX10_give_58 : decode cX10_give 58 = .ok (.isub, 1) := dk_100 (dk_at dksX10_give_2 10 rfl rfl)
theorem dX10_give_59 : decode cX10_give 59 = .ok (.istore_n 3, 1) := dk_62 (dk_at dksX10_give_2 11 rfl rfl)
theorem dX10_give_60 : decode cX10_give 60 = .ok (.aload_n 0, 1) := dk_42 (dk_at dksX10_give_2 12 rfl rfl)
theorem dX10_give_61 : decode cX10_give 61 = .ok (.getfield 62, 3) := dk_180 0 62 (dk_at dksX10_give_2 13 rfl rfl)
theorem dX10_give_64 : decode cX10_give 64 = .ok (.iload_n 3, 1) := dk_29 (dk_at dksX10_give_2 16 rfl rfl)
theorem dX10_give_65 : decode cX10_give 65 = .ok (.if_icmp .ge 91, 3) := dk_162 0 91 (dk_at dksX10_give_2 17 rfl rfl)
theorem dX10_give_68 : decode cX10_give 68 = .ok (.aload_n 0, 1) := dk_42 (dk_at dksX10_give_2 20 rfl rfl)
theorem dX10_give_69 : decode cX10_give 69 = .ok (.getfield 35, 3) := dk_180 0 35 (dk_at dksX10_give_2 21 rfl rfl)
theorem dX10_give_72 : decode cX10_give 72 = .ok (.iconst 1, 1) := dk_4 (dk_at dksX10_give_3 0 rfl rfl)
theorem dX10_give_73 : decode cX10_give 73 = .ok (.if_icmp .ne 83, 3) := dk_160 0 83 (dk_at dksX10_give_3 1 rfl rfl)
theorem dX10_give_76 : decode cX10_give 76 = .ok (.aload_n 0, 1) := dk_42 (dk_at dksX10_give_3 4 rfl rfl)
theorem dX10_give_77 : decode cX10_give 77 = .ok (.aload_n 0, 1) := dk_42 (dk_at dksX10_give_3 5 rfl rfl)
theorem dX10_give_78 : decode cX10_give 78 = .ok (.getfield 25, 3) := dk_180 0 25 (dk_at dksX10_give_3 6 rfl rfl)
theorem dX10_give_81 : decode cX10_give 81 = .ok (.aload_n 0, 1) := dk_42 (dk_at dksX10_give_3 9 rfl rfl)
theorem dX10_give_82 : decode cX10_give 82 = .ok (.getfield 62, 3) := dk_180 0 62 (dk_at dksX10_give_3 10 rfl rfl)
theorem dX10_give_85 : decode cX10_give 85 = .ok (.invokeinterface 65 2, 5) := by decide +kernel
theorem dX10_give_90 : decode cX10_give 90 = .ok (.checkcast 43, 3) := dk_192 0 43 (dk_at dksX10_give_3 18 rfl rfl)
theorem dX10_give_93 : decode cX10_give 93 = .ok (.invokevirtual 69, 3) := dk_182 0 69 (dk_at dksX10_give_3 21 rfl rfl)
theorem dX10_give_96 : decode cX10_give 96 = .ok (.aload_n 0, 1) := dk_42 (dk_at dksX10_give_4 0 rfl rfl)
theorem dX10_give_97 : decode cX10_give 97 = .ok (.getfield 62, 3) := dk_180 0 62 (dk_at dksX10_give_4 1 rfl rfl)
theorem dX10_give_100 : decode cX10_give 100 = .ok (.iconst 1, 1) := dk_4 (dk_at dksX10_give_4 4 rfl rfl)
theorem dX10_give_101 : decode cX10_give 101 = .ok (.iadd, 1) := dk_96 (dk_at dksX10_give_4 5 rfl rfl)
theorem dX10_give_102 : decode cX10_give 102 = .ok (.aload_n 0, 1) := dk_42 (dk_at dksX10_give_4 6 rfl rfl)
theorem dX10_give_103 : decode cX10_give 103 = .ok (.getfield 25, 3) := dk_180 0 25 (dk_at dksX10_give_4 7 rfl rfl)
theorem dX10_give_106 : decode cX10_give 106 = .ok (.invokeinterface 52 1, 5) := by decide +kernel
theorem dX10_give_111 : decode cX10_give 111 = .ok (.if_icmp .ge 27, 3) := dk_162 0 27 (dk_at dksX10_give_4 15 rfl rfl)
theorem dX10_give_114 : decode cX10_give 114 = .ok (.aload_n 0, 1) := dk_42 (dk_at dksX10_give_4 18 rfl rfl)
theorem dX10_give_115 : decode cX10_give 115 = .ok (.getfield 25, 3) := dk_180 0 25 (dk_at dksX10_give_4 19 rfl rfl)
theorem dX10_give_118 : decode cX10_give 118 = .ok (.aload_n 0, 1) := dk_42 (dk_at dksX10_give_4 22 rfl rfl)
theorem dX10_give_119 : decode cX10_give 119 = .ok (.getfield 62, 3) := dk_180 0 62 (dk_at dksX10_give_5 0 rfl rfl)
theorem dX10_give_122 : decode cX10_give 122 = .ok (.iconst 1, 1) := dk_4 (dk_at dksX10_give_5 3 rfl rfl)
theorem dX10_give_123 : decode cX10_give 123 = .ok (.iadd, 1) := dk_96 (dk_at dksX10_give_5 4 rfl rfl)
theorem dX10_give_124 : decode cX10_give 124 = .ok (.invokeinterface 65 2, 5) := by decide +kernel
theorem dX10_give_129 : decode cX10_give 129 = .ok (.checkcast 43, 3) := dk_192 0 43 (dk_at dksX10_give_5 10 rfl rfl)
theorem dX10_give_132 : decode cX10_give 132 = .ok (.invokevirtual 69, 3) := dk_182 0 69 (dk_at dksX10_give_5 13 rfl rfl)
theorem dX10_give_135 : decode cX10_give 135 = .ok (.goto 5, 3) := dk_167 0 5 (dk_at dksX10_give_5 16 rfl rfl)
theorem dX10_give_138 : decode cX10_give 138 = .ok (.bipush 12, 2) := dk_16 12 (dk_at dksX10_give_5 19 rfl rfl)
theorem dX10_give_140 : decode cX10_give 140 = .ok (.invokevirtual 72, 3) := dk_182 0 72 (dk_at dksX10_give_5 21 rfl rfl)
theorem dX10_give_143 : decode cX10_give 143 = .ok (.aload_n 0, 1) := dk_42 (dk_at dksX10_give_6 0 rfl rfl)
theorem dX10_give_144 : decode cX10_give 144 = .ok (.dup, 1) := dk_89 (dk_at dksX10_give_6 1 rfl rfl)
theorem dX10_give_145 : decode cX10_give 145 = .ok (.getfield 62, 3) := dk_180 0 62 (dk_at dksX10_give_6 2 rfl rfl)
theorem dX10_give_148 : decode cX10_give 148 = .ok (.iconst 1, 1) := dk_4 (dk_at dksX10_give_6 5 rfl rfl)
theorem dX10_give_149 : decode cX10_give 149 = .ok (.iadd, 1) := dk_96 (dk_at dksX10_give_6 6 rfl rfl)
theorem dX10_give_150 : decode cX10_give 150 = .ok (.putfield 62, 3) := dk_181 0 62 (dk_at dksX10_give_6 7 rfl rfl)
theorem dX10_give_153 : decode cX10_give 153 = .ok (.goto (-93), 3) := dk_167 255 163 (dk_at dksX10_give_6 10 rfl rfl)
theorem dX10_give_156 : decode cX10_give 156 = .ok (.iload_n 1, 1) := dk_27 (dk_at dksX10_give_6 13 rfl rfl)
theorem dX10_give_157 : decode cX10_give 157 = .ok (.bipush 12, 2) := dk_16 12 (dk_at dksX10_give_6 14 rfl rfl)
theorem dX10_give_159 : decode cX10_give 159 = .ok (.if_icmp .ne 19, 3) := dk_160 0 19 (dk_at dksX10_give_6 16 rfl rfl)
theorem dX10_give_162 : decode cX10_give 162 = .ok (.aload_n 0, 1) := dk_42 (dk_at dksX10_give_6 19 rfl rfl)
theorem dX10_give_163 : decode cX10_give 163 = .ok (.getfield 35, 3) := dk_180 0 35 (dk_at dksX10_give_6 20 rfl rfl)
theorem dX10_give_166 : decode cX10_give 166 = .ok (.iconst 1, 1) := dk_4 (dk_at dksX10_give_6 23 rfl rfl)
theorem dX10_give_167 : decode cX10_give 167 = .ok (.if_icmp .ne 11, 3) := dk_160 0 11 (dk_at dksX10_give_7 0 rfl rfl)
theorem dX10_give_170 : decode cX10_give 170 = .ok (.aload_n 0, 1) := dk_42 (dk_at dksX10_give_7 3 rfl rfl)
theorem dX10_give_171 : decode cX10_give 171 = .ok (.bipush 12, 2) := dk_16 12 (dk_at dksX10_give_7 4 rfl rfl)
theorem dX10_give_173 : decode cX10_give 173 = .ok (.bipush 12, 2) := dk_16 12 (dk_at dksX10_give_7 6 rfl rfl)
theorem dX10_give_175 : decode cX10_give 175 = .ok (.invokevirtual 72, 3) := dk_182 0 72 (dk_at dksX10_give_7 8 rfl rfl)
theorem dX10_give_178 : decode cX10_give 178 = .ok (.aload_n 0, 1) := dk_42 (dk_at dksX10_give_7 11 rfl rfl)
theorem dX10_give_179 : decode cX10_give 179 = .ok (.getfield 32, 3) := dk_180 0 32 (dk_at dksX10_give_7 12 rfl rfl)
theorem dX10_give_182 : decode cX10_give 182 = .ok (.invokeinterface 52 1, 5) := by decide +kernel
theorem dX10_give_187 : decode cX10_give 187 = .ok (.iload_n 2, 1) := dk_28 (dk_at dksX10_give_7 20 rfl rfl)
theorem dX10_give_188 : decode cX10_give 188 = .ok (.isub, 1) := dk_100 (dk_at dksX10_give_7 21 rfl rfl)
theorem dX10_give_189 : decode cX10_give 189 = .ok (.ireturn, 1) := dk_172 (dk_at dksX10_give_7 22 rfl rfl)
abbrev cX10_workOff : ByteArray := prog_7_method_3_code
def yX10_workOff : MethodName := ⟨RX10, "workOff", "(II)V"⟩
def dkwX10_workOff_0 : List UInt8 := [4, 62, 29, 153, 0, 13, 42, 27, 28, 182, 0, 76, 62, 167, 255, 245, 177]
abbrev dktX10_workOff_0 : List UInt8 := dkwX10_workOff_0 ++ []
theorem dksX10_workOff_0 : cX10_workOff.data.toList.drop 0 = dktX10_workOff_0 := by decide +kernel
theorem dX10_workOff_0 : decode cX10_workOff 0 = .ok (.iconst 1, 1) := dk_4 (dk_at dksX10_workOff_0 0 rfl rfl)
theorem dX10_workOff_1 : decode cX10_workOff 1 = .ok (.istore_n 3, 1) := dk_62 (dk_at dksX10_workOff_0 1 rfl rfl)
theorem dX10_workOff_2 : decode cX10_workOff 2 = .ok (.iload_n 3, 1) := dk_29 (dk_at dksX10_workOff_0 2 rfl rfl)
theorem dX10_workOff_3 : decode cX10_workOff 3 = .ok (.ifCond .eq 13, 3) := dk_153 0 13 (dk_at dksX10_workOff_0 3 rfl rfl)
theorem dX10_workOff_6 : decode cX10_workOff 6 = .ok (.aload_n 0, 1) := dk_42 (dk_at dksX10_workOff_0 6 rfl rfl)
theorem dX10_workOff_7 : decode cX10_workOff 7 = .ok (.iload_n 1, 1) := dk_27 (dk_at dksX10_workOff_0 7 rfl rfl)
theorem dX10_workOff_8 : decode cX10_workOff 8 = .ok (.iload_n 2, 1) := dk_28 (dk_at dksX10_workOff_0 8 rfl rfl)
theorem dX10_workOff_9 : decode cX10_workOff 9 = .ok (.invokevirtual 76, 3) := dk_182 0 76 (dk_at dksX10_workOff_0 9 rfl rfl)
theorem dX10_workOff_12 : decode cX10_workOff 12 = .ok (.istore_n 3, 1) := dk_62 (dk_at dksX10_workOff_0 12 rfl rfl)
theorem dX10_workOff_13 : decode cX10_workOff 13 = .ok (.goto (-11), 3) := dk_167 255 245 (dk_at dksX10_workOff_0 13 rfl rfl)
theorem dX10_workOff_16 : decode cX10_workOff 16 = .ok (.return_, 1) := dk_177 (dk_at dksX10_workOff_0 16 rfl rfl)
abbrev cX10_step : ByteArray := prog_7_method_4_code
def yX10_step : MethodName := ⟨RX10, "step", "(II)Z"⟩
def dkwX10_step_3 : List UInt8 := [182, 0, 69, 54, 4, 21, 4, 27, 160, 0, 5, 3, 172, 42, 21, 4, 3, 182, 0, 84, 4, 172]
abbrev dktX10_step_3 : List UInt8 := dkwX10_step_3 ++ []
def dkwX10_step_2 : List UInt8 := [184, 0, 92, 153, 0, 11, 42, 29, 27, 28, 182, 0, 96, 172, 42, 180, 0, 18, 182, 0, 100, 192, 0, 43]
abbrev dktX10_step_2 : List UInt8 := dkwX10_step_2 ++ dktX10_step_3
def dkwX10_step_1 : List UInt8 := [42, 2, 4, 182, 0, 84, 3, 172, 42, 180, 0, 18, 182, 0, 88, 192, 0, 43, 182, 0, 69, 62, 29]
abbrev dktX10_step_1 : List UInt8 := dkwX10_step_1 ++ dktX10_step_2
def dkwX10_step_0 : List UInt8 := [42, 180, 0, 18, 182, 0, 80, 153, 0, 25, 27, 16, 12, 160, 0, 11, 42, 5, 181, 0, 35, 167, 0, 9]
abbrev dktX10_step_0 : List UInt8 := dkwX10_step_0 ++ dktX10_step_1
theorem dksX10_step_0 : cX10_step.data.toList.drop 0 = dktX10_step_0 := by decide +kernel
theorem dksX10_step_1 : cX10_step.data.toList.drop 24 = dktX10_step_1 := dk_seg dksX10_step_0 24 rfl rfl
theorem dksX10_step_2 : cX10_step.data.toList.drop 47 = dktX10_step_2 := dk_seg dksX10_step_1 23 rfl rfl
theorem dksX10_step_3 : cX10_step.data.toList.drop 71 = dktX10_step_3 := dk_seg dksX10_step_2 24 rfl rfl
theorem dX10_step_0 : decode cX10_step 0 = .ok (.aload_n 0, 1) := dk_42 (dk_at dksX10_step_0 0 rfl rfl)
theorem dX10_step_1 : decode cX10_step 1 = .ok (.getfield 18, 3) := dk_180 0 18 (dk_at dksX10_step_0 1 rfl rfl)
theorem dX10_step_4 : decode cX10_step 4 = .ok (.invokevirtual 80, 3) := dk_182 0 80 (dk_at dksX10_step_0 4 rfl rfl)
theorem dX10_step_7 : decode cX10_step 7 = .ok (.ifCond .eq 25, 3) := dk_153 0 25 (dk_at dksX10_step_0 7 rfl rfl)
theorem dX10_step_10 : decode cX10_step 10 = .ok (.iload_n 1, 1) := dk_27 (dk_at dksX10_step_0 10 rfl rfl)
theorem dX10_step_11 : decode cX10_step 11 = .ok (.bipush 12, 2) := dk_16 12 (dk_at dksX10_step_0 11 rfl rfl)
theorem dX10_step_13 : decode cX10_step 13 = .ok (.if_icmp .ne 11, 3) := dk_160 0 11 (dk_at dksX10_step_0 13 rfl rfl)
theorem dX10_step_16 : decode cX10_step 16 = .ok (.aload_n 0, 1) := dk_42 (dk_at dksX10_step_0 16 rfl rfl)
theorem dX10_step_17 : decode cX10_step 17 = .ok (.iconst 2, 1) := dk_5 (dk_at dksX10_step_0 17 rfl rfl)
theorem dX10_step_18 : decode cX10_step 18 = .ok (.putfield 35, 3) := dk_181 0 35 (dk_at dksX10_step_0 18 rfl rfl)
theorem dX10_step_21 : decode cX10_step 21 = .ok (.goto 9, 3) := dk_167 0 9 (dk_at dksX10_step_0 21 rfl rfl)
theorem dX10_step_24 : decode cX10_step 24 = .ok (.aload_n 0, 1) := dk_42 (dk_at dksX10_step_1 0 rfl rfl)
theorem dX10_step_25 : decode cX10_step 25 = .ok (.iconst (-1), 1) := dk_2 (dk_at dksX10_step_1 1 rfl rfl)
theorem dX10_step_26 : decode cX10_step 26 = .ok (.iconst 1, 1) := dk_4 (dk_at dksX10_step_1 2 rfl rfl)
theorem dX10_step_27 : decode cX10_step 27 = .ok (.invokevirtual 84, 3) := dk_182 0 84 (dk_at dksX10_step_1 3 rfl rfl)
theorem dX10_step_30 : decode cX10_step 30 = .ok (.iconst 0, 1) := dk_3 (dk_at dksX10_step_1 6 rfl rfl)
theorem dX10_step_31 : decode cX10_step 31 = .ok (.ireturn, 1) := dk_172 (dk_at dksX10_step_1 7 rfl rfl)
theorem dX10_step_32 : decode cX10_step 32 = .ok (.aload_n 0, 1) := dk_42 (dk_at dksX10_step_1 8 rfl rfl)
theorem dX10_step_33 : decode cX10_step 33 = .ok (.getfield 18, 3) := dk_180 0 18 (dk_at dksX10_step_1 9 rfl rfl)
theorem dX10_step_36 : decode cX10_step 36 = .ok (.invokevirtual 88, 3) := dk_182 0 88 (dk_at dksX10_step_1 12 rfl rfl)
theorem dX10_step_39 : decode cX10_step 39 = .ok (.checkcast 43, 3) := dk_192 0 43 (dk_at dksX10_step_1 15 rfl rfl)
theorem dX10_step_42 : decode cX10_step 42 = .ok (.invokevirtual 69, 3) := dk_182 0 69 (dk_at dksX10_step_1 18 rfl rfl)
theorem dX10_step_45 : decode cX10_step 45 = .ok (.istore_n 3, 1) := dk_62 (dk_at dksX10_step_1 21 rfl rfl)
theorem dX10_step_46 : decode cX10_step 46 = .ok (.iload_n 3, 1) := dk_29 (dk_at dksX10_step_1 22 rfl rfl)
theorem dX10_step_47 : decode cX10_step 47 = .ok (.invokestatic 92, 3) := dk_184 0 92 (dk_at dksX10_step_2 0 rfl rfl)
theorem dX10_step_50 : decode cX10_step 50 = .ok (.ifCond .eq 11, 3) := dk_153 0 11 (dk_at dksX10_step_2 3 rfl rfl)
theorem dX10_step_53 : decode cX10_step 53 = .ok (.aload_n 0, 1) := dk_42 (dk_at dksX10_step_2 6 rfl rfl)
theorem dX10_step_54 : decode cX10_step 54 = .ok (.iload_n 3, 1) := dk_29 (dk_at dksX10_step_2 7 rfl rfl)
theorem dX10_step_55 : decode cX10_step 55 = .ok (.iload_n 1, 1) := dk_27 (dk_at dksX10_step_2 8 rfl rfl)
theorem dX10_step_56 : decode cX10_step 56 = .ok (.iload_n 2, 1) := dk_28 (dk_at dksX10_step_2 9 rfl rfl)
theorem dX10_step_57 : decode cX10_step 57 = .ok (.invokevirtual 96, 3) := dk_182 0 96 (dk_at dksX10_step_2 10 rfl rfl)
theorem dX10_step_60 : decode cX10_step 60 = .ok (.ireturn, 1) := dk_172 (dk_at dksX10_step_2 13 rfl rfl)
theorem dX10_step_61 : decode cX10_step 61 = .ok (.aload_n 0, 1) := dk_42 (dk_at dksX10_step_2 14 rfl rfl)
theorem dX10_step_62 : decode cX10_step 62 = .ok (.getfield 18, 3) := dk_180 0 18 (dk_at dksX10_step_2 15 rfl rfl)
theorem dX10_step_65 : decode cX10_step 65 = .ok (.invokevirtual 100, 3) := dk_182 0 100 (dk_at dksX10_step_2 18 rfl rfl)
theorem dX10_step_68 : decode cX10_step 68 = .ok (.checkcast 43, 3) := dk_192 0 43 (dk_at dksX10_step_2 21 rfl rfl)
theorem dX10_step_71 : decode cX10_step 71 = .ok (.invokevirtual 69, 3) := dk_182 0 69 (dk_at dksX10_step_3 0 rfl rfl)
theorem dX10_step_74 : decode cX10_step 74 = .ok (.istore 4, 2) := dk_54 4 (dk_at dksX10_step_3 3 rfl rfl)
theorem dX10_step_76 : decode cX10_step 76 = .ok (.iload 4, 2) := dk_21 4 (dk_at dksX10_step_3 5 rfl rfl)
theorem dX10_step_78 : decode cX10_step 78 = .ok (.iload_n 1, 1) := dk_27 (dk_at dksX10_step_3 7 rfl rfl)
theorem dX10_step_79 : decode cX10_step 79 = .ok (.if_icmp .ne 5, 3) := dk_160 0 5 (dk_at dksX10_step_3 8 rfl rfl)
theorem dX10_step_82 : decode cX10_step 82 = .ok (.iconst 0, 1) := dk_3 (dk_at dksX10_step_3 11 rfl rfl)
theorem dX10_step_83 : decode cX10_step 83 = .ok (.ireturn, 1) := dk_172 (dk_at dksX10_step_3 12 rfl rfl)
theorem dX10_step_84 : decode cX10_step 84 = .ok (.aload_n 0, 1) := dk_42 (dk_at dksX10_step_3 13 rfl rfl)
theorem dX10_step_85 : decode cX10_step 85 = .ok (.iload 4, 2) := dk_21 4 (dk_at dksX10_step_3 14 rfl rfl)
theorem dX10_step_87 : decode cX10_step 87 = .ok (.iconst 0, 1) := dk_3 (dk_at dksX10_step_3 16 rfl rfl)
theorem dX10_step_88 : decode cX10_step 88 = .ok (.invokevirtual 84, 3) := dk_182 0 84 (dk_at dksX10_step_3 17 rfl rfl)
theorem dX10_step_91 : decode cX10_step 91 = .ok (.iconst 1, 1) := dk_4 (dk_at dksX10_step_3 20 rfl rfl)
theorem dX10_step_92 : decode cX10_step 92 = .ok (.ireturn, 1) := dk_172 (dk_at dksX10_step_3 21 rfl rfl)
abbrev cX10_fault : ByteArray := prog_7_method_5_code
def yX10_fault : MethodName := ⟨RX10, "fault", "(IZ)V"⟩
def dkwX10_fault_0 : List UInt8 := [42, 180, 0, 32, 187, 0, 103, 89, 42, 180, 0, 62, 27, 28, 183, 0, 105, 185, 0, 58, 2, 0, 87, 177]
abbrev dktX10_fault_0 : List UInt8 := dkwX10_fault_0 ++ []
theorem dksX10_fault_0 : cX10_fault.data.toList.drop 0 = dktX10_fault_0 := by decide +kernel
theorem dX10_fault_0 : decode cX10_fault 0 = .ok (.aload_n 0, 1) := dk_42 (dk_at dksX10_fault_0 0 rfl rfl)
theorem dX10_fault_1 : decode cX10_fault 1 = .ok (.getfield 32, 3) := dk_180 0 32 (dk_at dksX10_fault_0 1 rfl rfl)
theorem dX10_fault_4 : decode cX10_fault 4 = .ok (.new 103, 3) := dk_187 0 103 (dk_at dksX10_fault_0 4 rfl rfl)
theorem dX10_fault_7 : decode cX10_fault 7 = .ok (.dup, 1) := dk_89 (dk_at dksX10_fault_0 7 rfl rfl)
theorem dX10_fault_8 : decode cX10_fault 8 = .ok (.aload_n 0, 1) := dk_42 (dk_at dksX10_fault_0 8 rfl rfl)
theorem dX10_fault_9 : decode cX10_fault 9 = .ok (.getfield 62, 3) := dk_180 0 62 (dk_at dksX10_fault_0 9 rfl rfl)
theorem dX10_fault_12 : decode cX10_fault 12 = .ok (.iload_n 1, 1) := dk_27 (dk_at dksX10_fault_0 12 rfl rfl)
theorem dX10_fault_13 : decode cX10_fault 13 = .ok (.iload_n 2, 1) := dk_28 (dk_at dksX10_fault_0 13 rfl rfl)
theorem dX10_fault_14 : decode cX10_fault 14 = .ok (.invokespecial 105, 3) := dk_183 0 105 (dk_at dksX10_fault_0 14 rfl rfl)
theorem dX10_fault_17 : decode cX10_fault 17 = .ok (.invokeinterface 58 2, 5) := by decide +kernel
theorem dX10_fault_22 : decode cX10_fault 22 = .ok (.pop, 1) := dk_87 (dk_at dksX10_fault_0 22 rfl rfl)
theorem dX10_fault_23 : decode cX10_fault 23 = .ok (.return_, 1) := dk_177 (dk_at dksX10_fault_0 23 rfl rfl)
abbrev cX10_expand : ByteArray := prog_7_method_6_code
def yX10_expand : MethodName := ⟨RX10, "expand", "(III)Z"⟩
def dkwX10_expand_5 : List UInt8 := [167, 0, 4, 3, 172]
abbrev dktX10_expand_5 : List UInt8 := dkwX10_expand_5 ++ []
def dkwX10_expand_4 : List UInt8 := [154, 0, 18, 42, 180, 0, 18, 182, 0, 100, 192, 0, 43, 182, 0, 69, 54, 6, 21, 5, 154, 0, 7, 4]
abbrev dktX10_expand_4 : List UInt8 := dkwX10_expand_4 ++ dktX10_expand_5
def dkwX10_expand_3 : List UInt8 := [46, 28, 122, 4, 126, 154, 0, 7, 4, 167, 0, 4, 3, 54, 5, 42, 27, 21, 5, 182, 0, 84, 21, 5]
abbrev dktX10_expand_3 : List UInt8 := dkwX10_expand_3 ++ dktX10_expand_4
def dkwX10_expand_2 : List UInt8 := [182, 0, 127, 172, 28, 16, 12, 159, 0, 29, 42, 180, 0, 3, 182, 0, 108, 180, 0, 130, 27, 16, 20, 100]
abbrev dktX10_expand_2 : List UInt8 := dkwX10_expand_2 ++ dktX10_expand_3
def dkwX10_expand_1 : List UInt8 := [180, 0, 3, 182, 0, 118, 27, 28, 29, 182, 0, 122, 54, 4, 21, 4, 155, 0, 10, 42, 21, 4]
abbrev dktX10_expand_1 : List UInt8 := dkwX10_expand_1 ++ dktX10_expand_2
def dkwX10_expand_0 : List UInt8 := [42, 180, 0, 39, 4, 160, 0, 18, 42, 180, 0, 3, 182, 0, 108, 27, 28, 182, 0, 112, 167, 0, 16, 42]
abbrev dktX10_expand_0 : List UInt8 := dkwX10_expand_0 ++ dktX10_expand_1
theorem dksX10_expand_0 : cX10_expand.data.toList.drop 0 = dktX10_expand_0 := by decide +kernel
theorem dksX10_expand_1 : cX10_expand.data.toList.drop 24 = dktX10_expand_1 := dk_seg dksX10_expand_0 24 rfl rfl
theorem dksX10_expand_2 : cX10_expand.data.toList.drop 46 = dktX10_expand_2 := dk_seg dksX10_expand_1 22 rfl rfl
theorem dksX10_expand_3 : cX10_expand.data.toList.drop 70 = dktX10_expand_3 := dk_seg dksX10_expand_2 24 rfl rfl
theorem dksX10_expand_4 : cX10_expand.data.toList.drop 94 = dktX10_expand_4 := dk_seg dksX10_expand_3 24 rfl rfl
theorem dksX10_expand_5 : cX10_expand.data.toList.drop 118 = dktX10_expand_5 := dk_seg dksX10_expand_4 24 rfl rfl
theorem dX10_expand_0 : decode cX10_expand 0 = .ok (.aload_n 0, 1) := dk_42 (dk_at dksX10_expand_0 0 rfl rfl)
theorem dX10_expand_1 : decode cX10_expand 1 = .ok (.getfield 39, 3) := dk_180 0 39 (dk_at dksX10_expand_0 1 rfl rfl)
theorem dX10_expand_4 : decode cX10_expand 4 = .ok (.iconst 1, 1) := dk_4 (dk_at dksX10_expand_0 4 rfl rfl)
theorem dX10_expand_5 : decode cX10_expand 5 = .ok (.if_icmp .ne 18, 3) := dk_160 0 18 (dk_at dksX10_expand_0 5 rfl rfl)
theorem dX10_expand_8 : decode cX10_expand 8 = .ok (.aload_n 0, 1) := dk_42 (dk_at dksX10_expand_0 8 rfl rfl)
theorem dX10_expand_9 : decode cX10_expand 9 = .ok (.getfield 3, 3) := dk_180 0 3 (dk_at dksX10_expand_0 9 rfl rfl)
theorem dX10_expand_12 : decode cX10_expand 12 = .ok (.invokevirtual 108, 3) := dk_182 0 108 (dk_at dksX10_expand_0 12 rfl rfl)
theorem dX10_expand_15 : decode cX10_expand 15 = .ok (.iload_n 1, 1) := dk_27 (dk_at dksX10_expand_0 15 rfl rfl)
theorem dX10_expand_16 : decode cX10_expand 16 = .ok (.iload_n 2, 1) := dk_28 (dk_at dksX10_expand_0 16 rfl rfl)
theorem dX10_expand_17 : decode cX10_expand 17 = .ok (.invokevirtual 112, 3) := dk_182 0 112 (dk_at dksX10_expand_0 17 rfl rfl)
theorem dX10_expand_20 : decode cX10_expand 20 = .ok (.goto 16, 3) := dk_167 0 16 (dk_at dksX10_expand_0 20 rfl rfl)
theorem dX10_expand_23 : decode cX10_expand 23 = .ok (.aload_n 0, 1) := dk_42 (dk_at dksX10_expand_0 23 rfl rfl)
theorem dX10_expand_24 : decode cX10_expand 24 = .ok (.getfield 3, 3) := dk_180 0 3 (dk_at dksX10_expand_1 0 rfl rfl)
theorem dX10_expand_27 : decode cX10_expand 27 = .ok (.invokevirtual 118, 3) := dk_182 0 118 (dk_at dksX10_expand_1 3 rfl rfl)
theorem dX10_expand_30 : decode cX10_expand 30 = .ok (.iload_n 1, 1) := dk_27 (dk_at dksX10_expand_1 6 rfl rfl)
theorem dX10_expand_31 : decode cX10_expand 31 = .ok (.iload_n 2, 1) := dk_28 (dk_at dksX10_expand_1 7 rfl rfl)
theorem dX10_expand_32 : decode cX10_expand 32 = .ok (.iload_n 3, 1) := dk_29 (dk_at dksX10_expand_1 8 rfl rfl)
theorem dX10_expand_33 : decode cX10_expand 33 = .ok (.invokevirtual 122, 3) := dk_182 0 122 (dk_at dksX10_expand_1 9 rfl rfl)
theorem dX10_expand_36 : decode cX10_expand 36 = .ok (.istore 4, 2) := dk_54 4 (dk_at dksX10_expand_1 12 rfl rfl)
theorem dX10_expand_38 : decode cX10_expand 38 = .ok (.iload 4, 2) := dk_21 4 (dk_at dksX10_expand_1 14 rfl rfl)
theorem dX10_expand_40 : decode cX10_expand 40 = .ok (.ifCond .lt 10, 3) := dk_155 0 10 (dk_at dksX10_expand_1 16 rfl rfl)
theorem dX10_expand_43 : decode cX10_expand 43 = .ok (.aload_n 0, 1) := dk_42 (dk_at dksX10_expand_1 19 rfl rfl)
theorem dX10_expand_44 : decode cX10_expand 44 = .ok (.iload 4, 2) := dk_21 4 (dk_at dksX10_expand_1 20 rfl rfl)
theorem dX10_expand_46 : decode cX10_expand 46 = .ok (.invokevirtual 127, 3) := dk_182 0 127 (dk_at dksX10_expand_2 0 rfl rfl)
theorem dX10_expand_49 : decode cX10_expand 49 = .ok (.ireturn, 1) := dk_172 (dk_at dksX10_expand_2 3 rfl rfl)
theorem dX10_expand_50 : decode cX10_expand 50 = .ok (.iload_n 2, 1) := dk_28 (dk_at dksX10_expand_2 4 rfl rfl)
theorem dX10_expand_51 : decode cX10_expand 51 = .ok (.bipush 12, 2) := dk_16 12 (dk_at dksX10_expand_2 5 rfl rfl)
theorem dX10_expand_53 : decode cX10_expand 53 = .ok (.if_icmp .eq 29, 3) := dk_159 0 29 (dk_at dksX10_expand_2 7 rfl rfl)
theorem dX10_expand_56 : decode cX10_expand 56 = .ok (.aload_n 0, 1) := dk_42 (dk_at dksX10_expand_2 10 rfl rfl)
theorem dX10_expand_57 : decode cX10_expand 57 = .ok (.getfield 3, 3) := dk_180 0 3 (dk_at dksX10_expand_2 11 rfl rfl)
theorem dX10_expand_60 : decode cX10_expand 60 = .ok (.invokevirtual 108, 3) := dk_182 0 108 (dk_at dksX10_expand_2 14 rfl rfl)
theorem dX10_expand_63 : decode cX10_expand 63 = .ok (.getfield 130, 3) := dk_180 0 130 (dk_at dksX10_expand_2 17 rfl rfl)
theorem dX10_expand_66 : decode cX10_expand 66 = .ok (.iload_n 1, 1) := dk_27 (dk_at dksX10_expand_2 20 rfl rfl)
theorem dX10_expand_67 : decode cX10_expand 67 = .ok (.bipush 20, 2) := dk_16 20 (dk_at dksX10_expand_2 21 rfl rfl)
theorem dX10_expand_69 : decode cX10_expand 69 = .ok (.isub, 1) := dk_100 (dk_at dksX10_expand_2 23 rfl rfl)
theorem dX10_expand_70 : decode cX10_expand 70 = .ok (.iaload, 1) := dk_46 (dk_at dksX10_expand_3 0 rfl rfl)
theorem dX10_expand_71 : decode cX10_expand 71 = .ok (.iload_n 2, 1) := dk_28 (dk_at dksX10_expand_3 1 rfl rfl)
theorem dX10_expand_72 : decode cX10_expand 72 = .ok (.ishr, 1) := dk_122 (dk_at dksX10_expand_3 2 rfl rfl)
theorem dX10_expand_73 : decode cX10_expand 73 = .ok (.iconst 1, 1) := dk_4 (dk_at dksX10_expand_3 3 rfl rfl)
theorem dX10_expand_74 : decode cX10_expand 74 = .ok (.iand, 1) := dk_126 (dk_at dksX10_expand_3 4 rfl rfl)
theorem dX10_expand_75 : decode cX10_expand 75 = .ok (.ifCond .ne 7, 3) := dk_154 0 7 (dk_at dksX10_expand_3 5 rfl rfl)
theorem dX10_expand_78 : decode cX10_expand 78 = .ok (.iconst 1, 1) := dk_4 (dk_at dksX10_expand_3 8 rfl rfl)
theorem dX10_expand_79 : decode cX10_expand 79 = .ok (.goto 4, 3) := dk_167 0 4 (dk_at dksX10_expand_3 9 rfl rfl)
theorem dX10_expand_82 : decode cX10_expand 82 = .ok (.iconst 0, 1) := dk_3 (dk_at dksX10_expand_3 12 rfl rfl)
theorem dX10_expand_83 : decode cX10_expand 83 = .ok (.istore 5, 2) := dk_54 5 (dk_at dksX10_expand_3 13 rfl rfl)
theorem dX10_expand_85 : decode cX10_expand 85 = .ok (.aload_n 0, 1) := dk_42 (dk_at dksX10_expand_3 15 rfl rfl)
theorem dX10_expand_86 : decode cX10_expand 86 = .ok (.iload_n 1, 1) := dk_27 (dk_at dksX10_expand_3 16 rfl rfl)
theorem dX10_expand_87 : decode cX10_expand 87 = .ok (.iload 5, 2) := dk_21 5 (dk_at dksX10_expand_3 17 rfl rfl)
theorem dX10_expand_89 : decode cX10_expand 89 = .ok (.invokevirtual 84, 3) := dk_182 0 84 (dk_at dksX10_expand_3 19 rfl rfl)
theorem dX10_expand_92 : decode cX10_expand 92 = .ok (.iload 5, 2) := dk_21 5 (dk_at dksX10_expand_3 22 rfl rfl)
theorem dX10_expand_94 : decode cX10_expand 94 = .ok (.ifCond .ne 18, 3) := dk_154 0 18 (dk_at dksX10_expand_4 0 rfl rfl)
theorem dX10_expand_97 : decode cX10_expand 97 = .ok (.aload_n 0, 1) := dk_42 (dk_at dksX10_expand_4 3 rfl rfl)
theorem dX10_expand_98 : decode cX10_expand 98 = .ok (.getfield 18, 3) := dk_180 0 18 (dk_at dksX10_expand_4 4 rfl rfl)
theorem dX10_expand_101 : decode cX10_expand 101 = .ok (.invokevirtual 100, 3) := dk_182 0 100 (dk_at dksX10_expand_4 7 rfl rfl)
theorem dX10_expand_104 : decode cX10_expand 104 = .ok (.checkcast 43, 3) := dk_192 0 43 (dk_at dksX10_expand_4 10 rfl rfl)
theorem dX10_expand_107 : decode cX10_expand 107 = .ok (.invokevirtual 69, 3) := dk_182 0 69 (dk_at dksX10_expand_4 13 rfl rfl)
theorem dX10_expand_110 : decode cX10_expand 110 = .ok (.istore 6, 2) := dk_54 6 (dk_at dksX10_expand_4 16 rfl rfl)
theorem dX10_expand_112 : decode cX10_expand 112 = .ok (.iload 5, 2) := dk_21 5 (dk_at dksX10_expand_4 18 rfl rfl)
theorem dX10_expand_114 : decode cX10_expand 114 = .ok (.ifCond .ne 7, 3) := dk_154 0 7 (dk_at dksX10_expand_4 20 rfl rfl)
theorem dX10_expand_117 : decode cX10_expand 117 = .ok (.iconst 1, 1) := dk_4 (dk_at dksX10_expand_4 23 rfl rfl)
theorem dX10_expand_118 : decode cX10_expand 118 = .ok (.goto 4, 3) := dk_167 0 4 (dk_at dksX10_expand_5 0 rfl rfl)
theorem dX10_expand_121 : decode cX10_expand 121 = .ok (.iconst 0, 1) := dk_3 (dk_at dksX10_expand_5 3 rfl rfl)
theorem dX10_expand_122 : decode cX10_expand 122 = .ok (.ireturn, 1) := dk_172 (dk_at dksX10_expand_5 4 rfl rfl)
abbrev cX10_apply : ByteArray := prog_7_method_7_code
def yX10_apply : MethodName := ⟨RX10, "apply", "(I)Z"⟩
def dkwX10_apply_4 : List UInt8 := [182, 0, 48, 132, 4, 255, 167, 255, 234, 4, 172]
abbrev dktX10_apply_4 : List UInt8 := dkwX10_apply_4 ++ []
def dkwX10_apply_3 : List UInt8 := [45, 190, 4, 100, 54, 4, 21, 4, 155, 0, 23, 42, 180, 0, 18, 45, 21, 4, 46, 184, 0, 42]
abbrev dktX10_apply_3 : List UInt8 := dkwX10_apply_3 ++ dktX10_apply_4
def dkwX10_apply_2 : List UInt8 := [182, 0, 69, 61, 42, 180, 0, 3, 180, 0, 134, 27, 185, 0, 65, 2, 0, 192, 0, 137, 180, 0, 139, 78]
abbrev dktX10_apply_2 : List UInt8 := dkwX10_apply_2 ++ dktX10_apply_3
def dkwX10_apply_1 : List UInt8 := [180, 0, 29, 27, 184, 0, 42, 185, 0, 58, 2, 0, 87, 42, 180, 0, 18, 182, 0, 100, 192, 0, 43]
abbrev dktX10_apply_1 : List UInt8 := dkwX10_apply_1 ++ dktX10_apply_2
def dkwX10_apply_0 : List UInt8 := [42, 180, 0, 29, 185, 0, 52, 1, 0, 17, 1, 144, 160, 0, 10, 42, 6, 181, 0, 35, 3, 172, 42]
abbrev dktX10_apply_0 : List UInt8 := dkwX10_apply_0 ++ dktX10_apply_1
theorem dksX10_apply_0 : cX10_apply.data.toList.drop 0 = dktX10_apply_0 := by decide +kernel
theorem dksX10_apply_1 : cX10_apply.data.toList.drop 23 = dktX10_apply_1 := dk_seg dksX10_apply_0 23 rfl rfl
theorem dksX10_apply_2 : cX10_apply.data.toList.drop 46 = dktX10_apply_2 := dk_seg dksX10_apply_1 23 rfl rfl
theorem dksX10_apply_3 : cX10_apply.data.toList.drop 70 = dktX10_apply_3 := dk_seg dksX10_apply_2 24 rfl rfl
theorem dksX10_apply_4 : cX10_apply.data.toList.drop 92 = dktX10_apply_4 := dk_seg dksX10_apply_3 22 rfl rfl
theorem dX10_apply_0 : decode cX10_apply 0 = .ok (.aload_n 0, 1) := dk_42 (dk_at dksX10_apply_0 0 rfl rfl)
theorem dX10_apply_1 : decode cX10_apply 1 = .ok (.getfield 29, 3) := dk_180 0 29 (dk_at dksX10_apply_0 1 rfl rfl)
theorem dX10_apply_4 : decode cX10_apply 4 = .ok (.invokeinterface 52 1, 5) := by decide +kernel
theorem dX10_apply_9 : decode cX10_apply 9 = .ok (.sipush 400, 3) := dk_17 1 144 (dk_at dksX10_apply_0 9 rfl rfl)
theorem dX10_apply_12 : decode cX10_apply 12 = .ok (.if_icmp .ne 10, 3) := dk_160 0 10 (dk_at dksX10_apply_0 12 rfl rfl)
theorem dX10_apply_15 : decode cX10_apply 15 = .ok (.aload_n 0, 1) := dk_42 (dk_at dksX10_apply_0 15 rfl rfl)
theorem dX10_apply_16 : decode cX10_apply 16 = .ok (.iconst 3, 1) := dk_6 (dk_at dksX10_apply_0 16 rfl rfl)
theorem dX10_apply_17 : decode cX10_apply 17 = .ok (.putfield 35, 3) := dk_181 0 35 (dk_at dksX10_apply_0 17 rfl rfl)
theorem dX10_apply_20 : decode cX10_apply 20 = .ok (.iconst 0, 1) := dk_3 (dk_at dksX10_apply_0 20 rfl rfl)
theorem dX10_apply_21 : decode cX10_apply 21 = .ok (.ireturn, 1) := dk_172 (dk_at dksX10_apply_0 21 rfl rfl)
theorem dX10_apply_22 : decode cX10_apply 22 = .ok (.aload_n 0, 1) := dk_42 (dk_at dksX10_apply_0 22 rfl rfl)
theorem dX10_apply_23 : decode cX10_apply 23 = .ok (.getfield 29, 3) := dk_180 0 29 (dk_at dksX10_apply_1 0 rfl rfl)
theorem dX10_apply_26 : decode cX10_apply 26 = .ok (.iload_n 1, 1) := dk_27 (dk_at dksX10_apply_1 3 rfl rfl)
theorem dX10_apply_27 : decode cX10_apply 27 = .ok (.invokestatic 42, 3) := dk_184 0 42 (dk_at dksX10_apply_1 4 rfl rfl)
theorem dX10_apply_30 : decode cX10_apply 30 = .ok (.invokeinterface 58 2, 5) := by decide +kernel
theorem dX10_apply_35 : decode cX10_apply 35 = .ok (.pop, 1) := dk_87 (dk_at dksX10_apply_1 12 rfl rfl)
theorem dX10_apply_36 : decode cX10_apply 36 = .ok (.aload_n 0, 1) := dk_42 (dk_at dksX10_apply_1 13 rfl rfl)
theorem dX10_apply_37 : decode cX10_apply 37 = .ok (.getfield 18, 3) := dk_180 0 18 (dk_at dksX10_apply_1 14 rfl rfl)
theorem dX10_apply_40 : decode cX10_apply 40 = .ok (.invokevirtual 100, 3) := dk_182 0 100 (dk_at dksX10_apply_1 17 rfl rfl)
theorem dX10_apply_43 : decode cX10_apply 43 = .ok (.checkcast 43, 3) := dk_192 0 43 (dk_at dksX10_apply_1 20 rfl rfl)
theorem dX10_apply_46 : decode cX10_apply 46 = .ok (.invokevirtual 69, 3) := dk_182 0 69 (dk_at dksX10_apply_2 0 rfl rfl)
theorem dX10_apply_49 : decode cX10_apply 49 = .ok (.istore_n 2, 1) := dk_61 (dk_at dksX10_apply_2 3 rfl rfl)
theorem dX10_apply_50 : decode cX10_apply 50 = .ok (.aload_n 0, 1) := dk_42 (dk_at dksX10_apply_2 4 rfl rfl)
theorem dX10_apply_51 : decode cX10_apply 51 = .ok (.getfield 3, 3) := dk_180 0 3 (dk_at dksX10_apply_2 5 rfl rfl)
theorem dX10_apply_54 : decode cX10_apply 54 = .ok (.getfield 134, 3) := dk_180 0 134 (dk_at dksX10_apply_2 8 rfl rfl)
theorem dX10_apply_57 : decode cX10_apply 57 = .ok (.iload_n 1, 1) := dk_27 (dk_at dksX10_apply_2 11 rfl rfl)
theorem dX10_apply_58 : decode cX10_apply 58 = .ok (.invokeinterface 65 2, 5) := by decide +kernel
theorem dX10_apply_63 : decode cX10_apply 63 = .ok (.checkcast 137, 3) := dk_192 0 137 (dk_at dksX10_apply_2 17 rfl rfl)
theorem dX10_apply_66 : decode cX10_apply 66 = .ok (.getfield 139, 3) := dk_180 0 139 (dk_at dksX10_apply_2 20 rfl rfl)
theorem dX10_apply_69 : decode cX10_apply 69 = .ok (.astore_n 3, 1) := dk_78 (dk_at dksX10_apply_2 23 rfl rfl)
theorem dX10_apply_70 : decode cX10_apply 70 = .ok (.aload_n 3, 1) := dk_45 (dk_at dksX10_apply_3 0 rfl rfl)
theorem dX10_apply_71 : decode cX10_apply 71 = .ok (.arraylength, 1) := dk_190 (dk_at dksX10_apply_3 1 rfl rfl)
theorem dX10_apply_72 : decode cX10_apply 72 = .ok (.iconst 1, 1) := dk_4 (dk_at dksX10_apply_3 2 rfl rfl)
theorem dX10_apply_73 : decode cX10_apply 73 = .ok (.isub, 1) := dk_100 (dk_at dksX10_apply_3 3 rfl rfl)
theorem dX10_apply_74 : decode cX10_apply 74 = .ok (.istore 4, 2) := dk_54 4 (dk_at dksX10_apply_3 4 rfl rfl)
theorem dX10_apply_76 : decode cX10_apply 76 = .ok (.iload 4, 2) := dk_21 4 (dk_at dksX10_apply_3 6 rfl rfl)
theorem dX10_apply_78 : decode cX10_apply 78 = .ok (.ifCond .lt 23, 3) := dk_155 0 23 (dk_at dksX10_apply_3 8 rfl rfl)
theorem dX10_apply_81 : decode cX10_apply 81 = .ok (.aload_n 0, 1) := dk_42 (dk_at dksX10_apply_3 11 rfl rfl)
theorem dX10_apply_82 : decode cX10_apply 82 = .ok (.getfield 18, 3) := dk_180 0 18 (dk_at dksX10_apply_3 12 rfl rfl)
theorem dX10_apply_85 : decode cX10_apply 85 = .ok (.aload_n 3, 1) := dk_45 (dk_at dksX10_apply_3 15 rfl rfl)
theorem dX10_apply_86 : decode cX10_apply 86 = .ok (.iload 4, 2) := dk_21 4 (dk_at dksX10_apply_3 16 rfl rfl)
theorem dX10_apply_88 : decode cX10_apply 88 = .ok (.iaload, 1) := dk_46 (dk_at dksX10_apply_3 18 rfl rfl)
theorem dX10_apply_89 : decode cX10_apply 89 = .ok (.invokestatic 42, 3) := dk_184 0 42 (dk_at dksX10_apply_3 19 rfl rfl)
theorem dX10_apply_92 : decode cX10_apply 92 = .ok (.invokevirtual 48, 3) := dk_182 0 48 (dk_at dksX10_apply_4 0 rfl rfl)
theorem dX10_apply_95 : decode cX10_apply 95 = .ok (.iinc 4 (-1), 3) := dk_132 4 255 (dk_at dksX10_apply_4 3 rfl rfl)
theorem dX10_apply_98 : decode cX10_apply 98 = .ok (.goto (-22), 3) := dk_167 255 234 (dk_at dksX10_apply_4 6 rfl rfl)
theorem dX10_apply_101 : decode cX10_apply 101 = .ok (.iconst 1, 1) := dk_4 (dk_at dksX10_apply_4 9 rfl rfl)
theorem dX10_apply_102 : decode cX10_apply 102 = .ok (.ireturn, 1) := dk_172 (dk_at dksX10_apply_4 10 rfl rfl)
theorem q171 : (Jvm.Cond.initialized "SelahGenerator$Parse") ∈ lw_all := lw_g (lw_at lw_m1 49 rfl) rfl
theorem q247 : (Jvm.Cond.fieldLinkNest "SelahGenerator$Parse" (134 : Nat) "SelahGenerator" "rules" "Ljava/util/List;" "SelahGenerator") ∈ lw_tbl := lw_at lw_m1 125 rfl
theorem q782 : (Jvm.Cond.selects "SelahGenerator$Parse" ({ cls := "java/lang/Object", name := "getClass", desc := "()Ljava/lang/Class;" } : Jvm.MethodName) ({ cls := "java/lang/Object", name := "getClass", desc := "()Ljava/lang/Class;" } : Jvm.MethodName)) ∈ lw_all := lw_g (lw_at lw_m3 180 rfl) rfl
theorem q1149 : (Jvm.Cond.fieldLinkNest "SelahGenerator$Parse" (130 : Nat) "SelahGenerator$Sets" "follow" "[I" "SelahGenerator") ∈ lw_tbl := lw_at lw_m5 67 rfl
theorem q1155 : (Jvm.Cond.fieldLinkNest "SelahGenerator$Parse" (145 : Nat) "SelahGenerator$Sets" "prediction" "[I" "SelahGenerator") ∈ lw_tbl := lw_at lw_m5 73 rfl
theorem q1415 : (Jvm.Cond.fieldLinkNest "SelahGenerator$Parse" (148 : Nat) "SelahGenerator$Pairs" "prediction" "[LSelahGenerator$Strings;" "SelahGenerator") ∈ lw_tbl := lw_at lw_m6 93 rfl
theorem q1475 : (Jvm.Cond.instanceMethod ({ cls := "SelahGenerator$Parse", name := "expected", desc := "()I" } : Jvm.MethodName)) ∈ lw_all := lw_g (lw_at lw_m6 153 rfl) rfl
theorem q1476 : (Jvm.Cond.selects "SelahGenerator$Parse" ({ cls := "SelahGenerator$Parse", name := "expected", desc := "()I" } : Jvm.MethodName) ({ cls := "SelahGenerator$Parse", name := "expected", desc := "()I" } : Jvm.MethodName)) ∈ lw_all := lw_g (lw_at lw_m6 154 rfl) rfl
theorem q1477 : (Jvm.Cond.code ({ cls := "SelahGenerator$Parse", name := "expected", desc := "()I" } : Jvm.MethodName) prog_7_method_8_code (4 : Nat) (Option.some Jvm.ClassFile.FieldType.int)) ∈ lw_all := lw_g (lw_at lw_m6 155 rfl) rfl
theorem q1478 : (Jvm.Cond.methodLink "SelahGenerator$Parse" (80 : Nat) ({ cls := "java/util/ArrayDeque", name := "isEmpty", desc := "()Z" } : Jvm.MethodName)) ∈ lw_all := lw_g (lw_at lw_m6 156 rfl) rfl
theorem q1479 : (Jvm.Cond.methodLink "SelahGenerator$Parse" (88 : Nat) ({ cls := "java/util/ArrayDeque", name := "peek", desc := "()Ljava/lang/Object;" } : Jvm.MethodName)) ∈ lw_all := lw_g (lw_at lw_m6 157 rfl) rfl
theorem q1487 : (Jvm.Cond.classLink "SelahGenerator$Parse" (43 : Nat) "java/lang/Integer") ∈ lw_all := lw_g (lw_at lw_m6 165 rfl) rfl
theorem q1488 : (Jvm.Cond.methodLink "SelahGenerator$Parse" (69 : Nat) ({ cls := "java/lang/Integer", name := "intValue", desc := "()I" } : Jvm.MethodName)) ∈ lw_all := lw_g (lw_at lw_m6 166 rfl) rfl
theorem q1489 : (Jvm.Cond.methodLinkNest "SelahGenerator$Parse" (92 : Nat) ({ cls := "SelahGenerator", name := "isNonterminal", desc := "(I)Z" } : Jvm.MethodName) "SelahGenerator") ∈ lw_tbl := lw_at lw_m6 167 rfl
theorem q1490 : (Jvm.Cond.interfaceEntry "SelahGenerator$Parse" (52 : Nat)) ∈ lw_tbl := lw_at lw_m6 168 rfl
theorem q1491 : (Jvm.Cond.methodLink "SelahGenerator$Parse" (52 : Nat) ({ cls := "java/util/List", name := "size", desc := "()I" } : Jvm.MethodName)) ∈ lw_all := lw_g (lw_at lw_m6 169 rfl) rfl
theorem q1492 : (Jvm.Cond.interfaceEntry "SelahGenerator$Parse" (65 : Nat)) ∈ lw_tbl := lw_at lw_m6 170 rfl
theorem q1493 : (Jvm.Cond.methodLink "SelahGenerator$Parse" (65 : Nat) ({ cls := "java/util/List", name := "get", desc := "(I)Ljava/lang/Object;" } : Jvm.MethodName)) ∈ lw_all := lw_g (lw_at lw_m6 171 rfl) rfl
theorem q1494 : (Jvm.Cond.classLink "SelahGenerator$Parse" (137 : Nat) "SelahGenerator$Rule") ∈ lw_all := lw_g (lw_at lw_m6 172 rfl) rfl
theorem q1495 : (Jvm.Cond.methodLinkNest "SelahGenerator$Parse" (108 : Nat) ({ cls := "SelahGenerator", name := "sets", desc := "()LSelahGenerator$Sets;" } : Jvm.MethodName) "SelahGenerator") ∈ lw_tbl := lw_at lw_m6 173 rfl
theorem q1496 : (Jvm.Cond.methodLinkNest "SelahGenerator$Parse" (118 : Nat) ({ cls := "SelahGenerator", name := "pairs", desc := "()LSelahGenerator$Pairs;" } : Jvm.MethodName) "SelahGenerator") ∈ lw_tbl := lw_at lw_m6 174 rfl
theorem q1497 : (Jvm.Cond.methodLink "SelahGenerator$Parse" (151 : Nat) ({ cls := "SelahGenerator$Strings", name := "firstTokens", desc := "()I" } : Jvm.MethodName)) ∈ lw_all := lw_g (lw_at lw_m6 175 rfl) rfl
theorem q1737 : (Jvm.Cond.fieldLinkNest "SelahGenerator$Parse" (142 : Nat) "SelahGenerator$Rule" "left" "I" "SelahGenerator") ∈ lw_tbl := lw_at lw_m7 175 rfl
theorem q1744 : (Jvm.Cond.fieldLinkNest "SelahGenerator$Parse" (139 : Nat) "SelahGenerator$Rule" "right" "[I" "SelahGenerator") ∈ lw_tbl := lw_at lw_m7 182 rfl
theorem q2365 : (Jvm.Cond.selects "SelahGenerator$Parse" ({ cls := "java/lang/Object", name := "equals", desc := "(Ljava/lang/Object;)Z" } : Jvm.MethodName) ({ cls := "java/lang/Object", name := "equals", desc := "(Ljava/lang/Object;)Z" } : Jvm.MethodName)) ∈ lw_all := lw_g (lw_at lw_m10 83 rfl) rfl
theorem q2411 : (Jvm.Cond.instantiable "SelahGenerator$Parse" (8 : Nat)) ∈ lw_all := lw_g (lw_at lw_m10 129 rfl) rfl
theorem q2413 : (Jvm.Cond.instanceMethod ({ cls := "SelahGenerator$Parse", name := "<init>", desc := "(LSelahGenerator;I)V" } : Jvm.MethodName)) ∈ lw_all := lw_g (lw_at lw_m10 131 rfl) rfl
theorem q2414 : (Jvm.Cond.code ({ cls := "SelahGenerator$Parse", name := "<init>", desc := "(LSelahGenerator;I)V" } : Jvm.MethodName) prog_7_method_1_code (3 : Nat) (Option.none : Option Jvm.ClassFile.FieldType)) ∈ lw_all := lw_g (lw_at lw_m10 132 rfl) rfl
theorem q2415 : (Jvm.Cond.methodLink "SelahGenerator$Parse" (9 : Nat) ({ cls := "java/lang/Object", name := "<init>", desc := "()V" } : Jvm.MethodName)) ∈ lw_all := lw_g (lw_at lw_m10 133 rfl) rfl
theorem q2416 : (Jvm.Cond.classLink "SelahGenerator$Parse" (15 : Nat) "java/util/ArrayDeque") ∈ lw_all := lw_g (lw_at lw_m10 134 rfl) rfl
theorem q2417 : (Jvm.Cond.methodLink "SelahGenerator$Parse" (17 : Nat) ({ cls := "java/util/ArrayDeque", name := "<init>", desc := "()V" } : Jvm.MethodName)) ∈ lw_all := lw_g (lw_at lw_m10 135 rfl) rfl
theorem q2434 : (Jvm.Cond.classLink "SelahGenerator$Parse" (22 : Nat) "java/util/ArrayList") ∈ lw_all := lw_g (lw_at lw_m10 152 rfl) rfl
theorem q2435 : (Jvm.Cond.methodLink "SelahGenerator$Parse" (24 : Nat) ({ cls := "java/util/ArrayList", name := "<init>", desc := "()V" } : Jvm.MethodName)) ∈ lw_all := lw_g (lw_at lw_m10 153 rfl) rfl
theorem q2436 : (Jvm.Cond.methodLink "SelahGenerator$Parse" (42 : Nat) ({ cls := "java/lang/Integer", name := "valueOf", desc := "(I)Ljava/lang/Integer;" } : Jvm.MethodName)) ∈ lw_all := lw_g (lw_at lw_m10 154 rfl) rfl
theorem q2437 : (Jvm.Cond.methodLink "SelahGenerator$Parse" (48 : Nat) ({ cls := "java/util/ArrayDeque", name := "push", desc := "(Ljava/lang/Object;)V" } : Jvm.MethodName)) ∈ lw_all := lw_g (lw_at lw_m10 155 rfl) rfl
theorem q2465 : (Jvm.Cond.fieldLink "SelahGenerator$Parse" (39 : Nat) "SelahGenerator$Parse" "lookahead" "I") ∈ lw_all := lw_g (lw_at lw_m10 183 rfl) rfl
theorem q2466 : (Jvm.Cond.fieldLink "SelahGenerator$Parse" (18 : Nat) "SelahGenerator$Parse" "stack" "Ljava/util/ArrayDeque;") ∈ lw_all := lw_g (lw_at lw_m10 184 rfl) rfl
theorem q2468 : (Jvm.Cond.fieldLink "SelahGenerator$Parse" (25 : Nat) "SelahGenerator$Parse" "tokens" "Ljava/util/List;") ∈ lw_all := lw_g (lw_at lw_m10 186 rfl) rfl
theorem q2470 : (Jvm.Cond.fieldLink "SelahGenerator$Parse" (29 : Nat) "SelahGenerator$Parse" "applied" "Ljava/util/List;") ∈ lw_all := lw_g (lw_at lw_m10 188 rfl) rfl
theorem q2472 : (Jvm.Cond.fieldLink "SelahGenerator$Parse" (32 : Nat) "SelahGenerator$Parse" "faults" "Ljava/util/List;") ∈ lw_all := lw_g (lw_at lw_m10 190 rfl) rfl
theorem q2474 : (Jvm.Cond.fieldLink "SelahGenerator$Parse" (35 : Nat) "SelahGenerator$Parse" "state" "I") ∈ lw_all := lw_g (lw_at lw_m10 192 rfl) rfl
theorem q2476 : (Jvm.Cond.fieldLink "SelahGenerator$Parse" (62 : Nat) "SelahGenerator$Parse" "worked" "I") ∈ lw_all := lw_g (lw_at lw_m10 194 rfl) rfl
theorem q2477 : (Jvm.Cond.fieldLink "SelahGenerator$Parse" (3 : Nat) "SelahGenerator$Parse" "this$0" "LSelahGenerator;") ∈ lw_all := lw_g (lw_at lw_m10 195 rfl) rfl
theorem q2478 : (Jvm.Cond.laysFinal "SelahGenerator$Parse" "SelahGenerator$Parse" "lookahead" "I") ∈ lw_all := lw_g (lw_at lw_m10 196 rfl) rfl
theorem q2479 : (Jvm.Cond.soleField "SelahGenerator$Parse" "lookahead") ∈ lw_all := lw_g (lw_at lw_m10 197 rfl) rfl
theorem q2480 : (Jvm.Cond.laysFinal "SelahGenerator$Parse" "SelahGenerator$Parse" "stack" "Ljava/util/ArrayDeque;") ∈ lw_all := lw_g (lw_at lw_m10 198 rfl) rfl
theorem q2481 : (Jvm.Cond.soleField "SelahGenerator$Parse" "stack") ∈ lw_all := lw_g (lw_at lw_m10 199 rfl) rfl
theorem q2482 : (Jvm.Cond.laysFinal "SelahGenerator$Parse" "SelahGenerator$Parse" "tokens" "Ljava/util/List;") ∈ lw_all := lw_g (lw_at lw_m10 200 rfl) rfl
theorem q2483 : (Jvm.Cond.soleField "SelahGenerator$Parse" "tokens") ∈ lw_all := lw_g (lw_at lw_m10 201 rfl) rfl
theorem q2484 : (Jvm.Cond.laysFinal "SelahGenerator$Parse" "SelahGenerator$Parse" "applied" "Ljava/util/List;") ∈ lw_all := lw_g (lw_at lw_m10 202 rfl) rfl
theorem q2485 : (Jvm.Cond.soleField "SelahGenerator$Parse" "applied") ∈ lw_all := lw_g (lw_at lw_m10 203 rfl) rfl
theorem q2486 : (Jvm.Cond.laysFinal "SelahGenerator$Parse" "SelahGenerator$Parse" "faults" "Ljava/util/List;") ∈ lw_all := lw_g (lw_at lw_m10 204 rfl) rfl
theorem q2487 : (Jvm.Cond.soleField "SelahGenerator$Parse" "faults") ∈ lw_all := lw_g (lw_at lw_m10 205 rfl) rfl
theorem q2488 : (Jvm.Cond.lays "SelahGenerator$Parse" "SelahGenerator$Parse" "state" "I") ∈ lw_all := lw_g (lw_at lw_m10 206 rfl) rfl
theorem q2489 : (Jvm.Cond.soleField "SelahGenerator$Parse" "state") ∈ lw_all := lw_g (lw_at lw_m10 207 rfl) rfl
theorem q2490 : (Jvm.Cond.lays "SelahGenerator$Parse" "SelahGenerator$Parse" "worked" "I") ∈ lw_all := lw_g (lw_at lw_m10 208 rfl) rfl
theorem q2491 : (Jvm.Cond.soleField "SelahGenerator$Parse" "worked") ∈ lw_all := lw_g (lw_at lw_m10 209 rfl) rfl
theorem q2492 : (Jvm.Cond.laysFinal "SelahGenerator$Parse" "SelahGenerator$Parse" "this$0" "LSelahGenerator;") ∈ lw_all := lw_g (lw_at lw_m10 210 rfl) rfl
theorem q2493 : (Jvm.Cond.soleField "SelahGenerator$Parse" "this$0") ∈ lw_all := lw_g (lw_at lw_m10 211 rfl) rfl
theorem q2494 : (Jvm.Cond.superclass "SelahGenerator$Parse" "java/lang/Object") ∈ lw_all := lw_g (lw_at lw_m10 212 rfl) rfl
theorem q2503 : (Jvm.Cond.instanceMethod ({ cls := "SelahGenerator$Parse", name := "give", desc := "(I)I" } : Jvm.MethodName)) ∈ lw_all := lw_g (lw_at lw_m10 221 rfl) rfl
theorem q2504 : (Jvm.Cond.selects "SelahGenerator$Parse" ({ cls := "SelahGenerator$Parse", name := "give", desc := "(I)I" } : Jvm.MethodName) ({ cls := "SelahGenerator$Parse", name := "give", desc := "(I)I" } : Jvm.MethodName)) ∈ lw_all := lw_g (lw_at lw_m10 222 rfl) rfl
theorem q2505 : (Jvm.Cond.code ({ cls := "SelahGenerator$Parse", name := "give", desc := "(I)I" } : Jvm.MethodName) prog_7_method_2_code (4 : Nat) (Option.some Jvm.ClassFile.FieldType.int)) ∈ lw_all := lw_g (lw_at lw_m10 223 rfl) rfl
theorem q2506 : (Jvm.Cond.interfaceEntry "SelahGenerator$Parse" (58 : Nat)) ∈ lw_tbl := lw_at lw_m10 224 rfl
theorem q2507 : (Jvm.Cond.methodLink "SelahGenerator$Parse" (58 : Nat) ({ cls := "java/util/List", name := "add", desc := "(Ljava/lang/Object;)Z" } : Jvm.MethodName)) ∈ lw_all := lw_g (lw_at lw_m10 225 rfl) rfl
theorem q2508 : (Jvm.Cond.methodLink "SelahGenerator$Parse" (72 : Nat) ({ cls := "SelahGenerator$Parse", name := "workOff", desc := "(II)V" } : Jvm.MethodName)) ∈ lw_all := lw_g (lw_at lw_m10 226 rfl) rfl
theorem q2509 : (Jvm.Cond.privateMethod ({ cls := "SelahGenerator$Parse", name := "workOff", desc := "(II)V" } : Jvm.MethodName)) ∈ lw_tbl := lw_at lw_m10 227 rfl
theorem q2510 : (Jvm.Cond.instanceMethod ({ cls := "SelahGenerator$Parse", name := "workOff", desc := "(II)V" } : Jvm.MethodName)) ∈ lw_all := lw_g (lw_at lw_m10 228 rfl) rfl
theorem q2511 : (Jvm.Cond.code ({ cls := "SelahGenerator$Parse", name := "workOff", desc := "(II)V" } : Jvm.MethodName) prog_7_method_3_code (4 : Nat) (Option.none : Option Jvm.ClassFile.FieldType)) ∈ lw_all := lw_g (lw_at lw_m10 229 rfl) rfl
theorem q2512 : (Jvm.Cond.methodLink "SelahGenerator$Parse" (76 : Nat) ({ cls := "SelahGenerator$Parse", name := "step", desc := "(II)Z" } : Jvm.MethodName)) ∈ lw_all := lw_g (lw_at lw_m10 230 rfl) rfl
theorem q2513 : (Jvm.Cond.privateMethod ({ cls := "SelahGenerator$Parse", name := "step", desc := "(II)Z" } : Jvm.MethodName)) ∈ lw_tbl := lw_at lw_m10 231 rfl
theorem q2514 : (Jvm.Cond.instanceMethod ({ cls := "SelahGenerator$Parse", name := "step", desc := "(II)Z" } : Jvm.MethodName)) ∈ lw_all := lw_g (lw_at lw_m10 232 rfl) rfl
theorem q2515 : (Jvm.Cond.code ({ cls := "SelahGenerator$Parse", name := "step", desc := "(II)Z" } : Jvm.MethodName) prog_7_method_4_code (5 : Nat) (Option.some Jvm.ClassFile.FieldType.boolean)) ∈ lw_all := lw_g (lw_at lw_m10 233 rfl) rfl
theorem q2516 : (Jvm.Cond.methodLink "SelahGenerator$Parse" (84 : Nat) ({ cls := "SelahGenerator$Parse", name := "fault", desc := "(IZ)V" } : Jvm.MethodName)) ∈ lw_all := lw_g (lw_at lw_m10 234 rfl) rfl
theorem q2517 : (Jvm.Cond.privateMethod ({ cls := "SelahGenerator$Parse", name := "fault", desc := "(IZ)V" } : Jvm.MethodName)) ∈ lw_tbl := lw_at lw_m10 235 rfl
theorem q2518 : (Jvm.Cond.instanceMethod ({ cls := "SelahGenerator$Parse", name := "fault", desc := "(IZ)V" } : Jvm.MethodName)) ∈ lw_all := lw_g (lw_at lw_m10 236 rfl) rfl
theorem q2519 : (Jvm.Cond.code ({ cls := "SelahGenerator$Parse", name := "fault", desc := "(IZ)V" } : Jvm.MethodName) prog_7_method_5_code (3 : Nat) (Option.none : Option Jvm.ClassFile.FieldType)) ∈ lw_all := lw_g (lw_at lw_m10 237 rfl) rfl
theorem q2520 : (Jvm.Cond.classLink "SelahGenerator$Parse" (103 : Nat) "SelahGenerator$Fault") ∈ lw_all := lw_g (lw_at lw_m10 238 rfl) rfl
theorem q2522 : (Jvm.Cond.methodLink "SelahGenerator$Parse" (105 : Nat) ({ cls := "SelahGenerator$Fault", name := "<init>", desc := "(IIZ)V" } : Jvm.MethodName)) ∈ lw_all := lw_g (lw_at lw_m11 0 rfl) rfl
theorem q2539 : (Jvm.Cond.methodLink "SelahGenerator$Parse" (96 : Nat) ({ cls := "SelahGenerator$Parse", name := "expand", desc := "(III)Z" } : Jvm.MethodName)) ∈ lw_all := lw_g (lw_at lw_m11 17 rfl) rfl
theorem q2540 : (Jvm.Cond.privateMethod ({ cls := "SelahGenerator$Parse", name := "expand", desc := "(III)Z" } : Jvm.MethodName)) ∈ lw_tbl := lw_at lw_m11 18 rfl
theorem q2541 : (Jvm.Cond.instanceMethod ({ cls := "SelahGenerator$Parse", name := "expand", desc := "(III)Z" } : Jvm.MethodName)) ∈ lw_all := lw_g (lw_at lw_m11 19 rfl) rfl
theorem q2542 : (Jvm.Cond.code ({ cls := "SelahGenerator$Parse", name := "expand", desc := "(III)Z" } : Jvm.MethodName) prog_7_method_6_code (7 : Nat) (Option.some Jvm.ClassFile.FieldType.boolean)) ∈ lw_all := lw_g (lw_at lw_m11 20 rfl) rfl
theorem q2543 : (Jvm.Cond.methodLink "SelahGenerator$Parse" (112 : Nat) ({ cls := "SelahGenerator$Sets", name := "predicted", desc := "(II)I" } : Jvm.MethodName)) ∈ lw_all := lw_g (lw_at lw_m11 21 rfl) rfl
theorem q2544 : (Jvm.Cond.methodLink "SelahGenerator$Parse" (122 : Nat) ({ cls := "SelahGenerator$Pairs", name := "predicted", desc := "(III)I" } : Jvm.MethodName)) ∈ lw_all := lw_g (lw_at lw_m11 22 rfl) rfl
theorem q2545 : (Jvm.Cond.methodLink "SelahGenerator$Parse" (127 : Nat) ({ cls := "SelahGenerator$Parse", name := "apply", desc := "(I)Z" } : Jvm.MethodName)) ∈ lw_all := lw_g (lw_at lw_m11 23 rfl) rfl
theorem q2546 : (Jvm.Cond.privateMethod ({ cls := "SelahGenerator$Parse", name := "apply", desc := "(I)Z" } : Jvm.MethodName)) ∈ lw_tbl := lw_at lw_m11 24 rfl
theorem q2547 : (Jvm.Cond.instanceMethod ({ cls := "SelahGenerator$Parse", name := "apply", desc := "(I)Z" } : Jvm.MethodName)) ∈ lw_all := lw_g (lw_at lw_m11 25 rfl) rfl
theorem q2548 : (Jvm.Cond.code ({ cls := "SelahGenerator$Parse", name := "apply", desc := "(I)Z" } : Jvm.MethodName) prog_7_method_7_code (5 : Nat) (Option.some Jvm.ClassFile.FieldType.boolean)) ∈ lw_all := lw_g (lw_at lw_m11 26 rfl) rfl
theorem q2549 : (Jvm.Cond.methodLink "SelahGenerator$Parse" (100 : Nat) ({ cls := "java/util/ArrayDeque", name := "pop", desc := "()Ljava/lang/Object;" } : Jvm.MethodName)) ∈ lw_all := lw_g (lw_at lw_m11 27 rfl) rfl
theorem q3318 : (Jvm.Cond.castable "SelahGenerator$Parse" "java/lang/Object") ∈ lw_tbl := lw_at lw_m14 76 rfl
theorem in_X10 : ∀ w ∈ wsX100, w ∈ lw_all := lw_in wsX100 [2478, 2480, 2482, 2484, 2486, 2488, 2490, 2492] (by decide +kernel) (by decide +kernel)
/-! SelahGenerator$Fault -/
set_option maxRecDepth 100000
def RX11 : String := "SelahGenerator$Fault"
def TX11 : u_T := fun k => match k with
  | 0 => ("SelahGenerator$Fault", "token", "I", true)
  | 1 => ("SelahGenerator$Fault", "symbol", "I", true)
  | _ => ("SelahGenerator$Fault", "skipped", "Z", true)
def tyX11 : Nat → FieldType := fun k => match k with
  | 0 => .int
  | 1 => .int
  | _ => .boolean
abbrev wsX110 : List Cond := u_ws RX11 TX11 3
theorem nmX11 : ∀ a, a < 3 → ∀ b, b < 3 → a ≠ b → (TX11 a).2.1 ≠ (TX11 b).2.1 := by decide +kernel
theorem tyX11_ok : ∀ k, k < 3 → parseFieldDescriptor (TX11 k).2.2.1 = some (tyX11 k) := by decide +kernel
abbrev cX11_init : ByteArray := prog_4_method_1_code
def yX11_init : MethodName := ⟨RX11, "<init>", "(IIZ)V"⟩
def dkwX11_init_0 : List UInt8 := [42, 183, 0, 1, 42, 27, 181, 0, 7, 42, 28, 181, 0, 13, 42, 29, 181, 0, 16, 177]
abbrev dktX11_init_0 : List UInt8 := dkwX11_init_0 ++ []
theorem dksX11_init_0 : cX11_init.data.toList.drop 0 = dktX11_init_0 := by decide +kernel
theorem dX11_init_0 : decode cX11_init 0 = .ok (.aload_n 0, 1) := dk_42 (dk_at dksX11_init_0 0 rfl rfl)
theorem dX11_init_1 : decode cX11_init 1 = .ok (.invokespecial 1, 3) := dk_183 0 1 (dk_at dksX11_init_0 1 rfl rfl)
theorem dX11_init_4 : decode cX11_init 4 = .ok (.aload_n 0, 1) := dk_42 (dk_at dksX11_init_0 4 rfl rfl)
theorem dX11_init_5 : decode cX11_init 5 = .ok (.iload_n 1, 1) := dk_27 (dk_at dksX11_init_0 5 rfl rfl)
theorem dX11_init_6 : decode cX11_init 6 = .ok (.putfield 7, 3) := dk_181 0 7 (dk_at dksX11_init_0 6 rfl rfl)
theorem dX11_init_9 : decode cX11_init 9 = .ok (.aload_n 0, 1) := dk_42 (dk_at dksX11_init_0 9 rfl rfl)
theorem dX11_init_10 : decode cX11_init 10 = .ok (.iload_n 2, 1) := dk_28 (dk_at dksX11_init_0 10 rfl rfl)
theorem dX11_init_11 : decode cX11_init 11 = .ok (.putfield 13, 3) := dk_181 0 13 (dk_at dksX11_init_0 11 rfl rfl)
theorem dX11_init_14 : decode cX11_init 14 = .ok (.aload_n 0, 1) := dk_42 (dk_at dksX11_init_0 14 rfl rfl)
theorem dX11_init_15 : decode cX11_init 15 = .ok (.iload_n 3, 1) := dk_29 (dk_at dksX11_init_0 15 rfl rfl)
theorem dX11_init_16 : decode cX11_init 16 = .ok (.putfield 16, 3) := dk_181 0 16 (dk_at dksX11_init_0 16 rfl rfl)
theorem dX11_init_19 : decode cX11_init 19 = .ok (.return_, 1) := dk_177 (dk_at dksX11_init_0 19 rfl rfl)
theorem q172 : (Jvm.Cond.initialized "SelahGenerator$Fault") ∈ lw_all := lw_g (lw_at lw_m1 50 rfl) rfl
theorem q779 : (Jvm.Cond.selects "SelahGenerator$Fault" ({ cls := "java/lang/Object", name := "getClass", desc := "()Ljava/lang/Class;" } : Jvm.MethodName) ({ cls := "java/lang/Object", name := "getClass", desc := "()Ljava/lang/Class;" } : Jvm.MethodName)) ∈ lw_all := lw_g (lw_at lw_m3 177 rfl) rfl
theorem q2362 : (Jvm.Cond.selects "SelahGenerator$Fault" ({ cls := "java/lang/Object", name := "equals", desc := "(Ljava/lang/Object;)Z" } : Jvm.MethodName) ({ cls := "java/lang/Object", name := "equals", desc := "(Ljava/lang/Object;)Z" } : Jvm.MethodName)) ∈ lw_all := lw_g (lw_at lw_m10 80 rfl) rfl
theorem q2521 : (Jvm.Cond.instantiable "SelahGenerator$Fault" (3 : Nat)) ∈ lw_all := lw_g (lw_at lw_m10 239 rfl) rfl
theorem q2523 : (Jvm.Cond.instanceMethod ({ cls := "SelahGenerator$Fault", name := "<init>", desc := "(IIZ)V" } : Jvm.MethodName)) ∈ lw_all := lw_g (lw_at lw_m11 1 rfl) rfl
theorem q2524 : (Jvm.Cond.code ({ cls := "SelahGenerator$Fault", name := "<init>", desc := "(IIZ)V" } : Jvm.MethodName) prog_4_method_1_code (4 : Nat) (Option.none : Option Jvm.ClassFile.FieldType)) ∈ lw_all := lw_g (lw_at lw_m11 2 rfl) rfl
theorem q2525 : (Jvm.Cond.methodLink "SelahGenerator$Fault" (1 : Nat) ({ cls := "java/lang/Object", name := "<init>", desc := "()V" } : Jvm.MethodName)) ∈ lw_all := lw_g (lw_at lw_m11 3 rfl) rfl
theorem q2526 : (Jvm.Cond.fieldLink "SelahGenerator$Fault" (7 : Nat) "SelahGenerator$Fault" "token" "I") ∈ lw_all := lw_g (lw_at lw_m11 4 rfl) rfl
theorem q2528 : (Jvm.Cond.fieldLink "SelahGenerator$Fault" (13 : Nat) "SelahGenerator$Fault" "symbol" "I") ∈ lw_all := lw_g (lw_at lw_m11 6 rfl) rfl
theorem q2530 : (Jvm.Cond.fieldLink "SelahGenerator$Fault" (16 : Nat) "SelahGenerator$Fault" "skipped" "Z") ∈ lw_all := lw_g (lw_at lw_m11 8 rfl) rfl
theorem q2532 : (Jvm.Cond.laysFinal "SelahGenerator$Fault" "SelahGenerator$Fault" "token" "I") ∈ lw_all := lw_g (lw_at lw_m11 10 rfl) rfl
theorem q2533 : (Jvm.Cond.soleField "SelahGenerator$Fault" "token") ∈ lw_all := lw_g (lw_at lw_m11 11 rfl) rfl
theorem q2534 : (Jvm.Cond.laysFinal "SelahGenerator$Fault" "SelahGenerator$Fault" "symbol" "I") ∈ lw_all := lw_g (lw_at lw_m11 12 rfl) rfl
theorem q2535 : (Jvm.Cond.soleField "SelahGenerator$Fault" "symbol") ∈ lw_all := lw_g (lw_at lw_m11 13 rfl) rfl
theorem q2536 : (Jvm.Cond.laysFinal "SelahGenerator$Fault" "SelahGenerator$Fault" "skipped" "Z") ∈ lw_all := lw_g (lw_at lw_m11 14 rfl) rfl
theorem q2537 : (Jvm.Cond.soleField "SelahGenerator$Fault" "skipped") ∈ lw_all := lw_g (lw_at lw_m11 15 rfl) rfl
theorem q2538 : (Jvm.Cond.superclass "SelahGenerator$Fault" "java/lang/Object") ∈ lw_all := lw_g (lw_at lw_m11 16 rfl) rfl
theorem q3320 : (Jvm.Cond.castable "SelahGenerator$Fault" "java/lang/Object") ∈ lw_tbl := lw_at lw_m14 78 rfl
theorem in_X11 : ∀ w ∈ wsX110, w ∈ lw_all := lw_in wsX110 [2532, 2534, 2536] (by decide +kernel) (by decide +kernel)
/-! SelahGenerator$Backtracking -/
set_option maxRecDepth 100000
def RX12 : String := "SelahGenerator$Backtracking"
def TX12 : u_T := fun k => match k with
  | 0 => ("SelahGenerator$Backtracking", "tokens", "Ljava/util/List;", true)
  | 1 => ("SelahGenerator$Backtracking", "known", "[I", true)
  | _ => ("SelahGenerator$Backtracking", "this$0", "LSelahGenerator;", true)
def tyX12 : Nat → FieldType := fun k => match k with
  | 0 => .object "java/util/List"
  | 1 => .array .int
  | _ => .object "SelahGenerator"
abbrev wsX120 : List Cond := u_ws RX12 TX12 3
theorem nmX12 : ∀ a, a < 3 → ∀ b, b < 3 → a ≠ b → (TX12 a).2.1 ≠ (TX12 b).2.1 := by decide +kernel
theorem tyX12_ok : ∀ k, k < 3 → parseFieldDescriptor (TX12 k).2.2.1 = some (tyX12 k) := by decide +kernel
abbrev cX12_init : ByteArray := prog_2_method_1_code
def yX12_init : MethodName := ⟨RX12, "<init>", "(LSelahGenerator;Ljava/util/List;)V"⟩
def dkwX12_init_1 : List UInt8 := [180, 0, 19, 2, 184, 0, 23, 177]
abbrev dktX12_init_1 : List UInt8 := dkwX12_init_1 ++ []
def dkwX12_init_0 : List UInt8 := [42, 43, 181, 0, 3, 42, 183, 0, 9, 42, 44, 181, 0, 15, 42, 17, 13, 140, 188, 10, 181, 0, 19, 42]
abbrev dktX12_init_0 : List UInt8 := dkwX12_init_0 ++ dktX12_init_1
theorem dksX12_init_0 : cX12_init.data.toList.drop 0 = dktX12_init_0 := by decide +kernel
theorem dksX12_init_1 : cX12_init.data.toList.drop 24 = dktX12_init_1 := dk_seg dksX12_init_0 24 rfl rfl
theorem dX12_init_0 : decode cX12_init 0 = .ok (.aload_n 0, 1) := dk_42 (dk_at dksX12_init_0 0 rfl rfl)
theorem dX12_init_1 : decode cX12_init 1 = .ok (.aload_n 1, 1) := dk_43 (dk_at dksX12_init_0 1 rfl rfl)
theorem dX12_init_2 : decode cX12_init 2 = .ok (.putfield 3, 3) := dk_181 0 3 (dk_at dksX12_init_0 2 rfl rfl)
theorem dX12_init_5 : decode cX12_init 5 = .ok (.aload_n 0, 1) := dk_42 (dk_at dksX12_init_0 5 rfl rfl)
theorem dX12_init_6 : decode cX12_init 6 = .ok (.invokespecial 9, 3) := dk_183 0 9 (dk_at dksX12_init_0 6 rfl rfl)
theorem dX12_init_9 : decode cX12_init 9 = .ok (.aload_n 0, 1) := dk_42 (dk_at dksX12_init_0 9 rfl rfl)
theorem dX12_init_10 : decode cX12_init 10 = .ok (.aload_n 2, 1) := dk_44 (dk_at dksX12_init_0 10 rfl rfl)
theorem dX12_init_11 : decode cX12_init 11 = .ok (.putfield 15, 3) := dk_181 0 15 (dk_at dksX12_init_0 11 rfl rfl)
theorem dX12_init_14 : decode cX12_init 14 = .ok (.aload_n 0, 1) := dk_42 (dk_at dksX12_init_0 14 rfl rfl)
theorem dX12_init_15 : decode cX12_init 15 = .ok (.sipush 3468, 3) := dk_17 13 140 (dk_at dksX12_init_0 15 rfl rfl)
theorem dX12_init_18 : decode cX12_init 18 = .ok (.newarray .int, 2) := dk_188_10 (dk_at dksX12_init_0 18 rfl rfl)
theorem dX12_init_20 : decode cX12_init 20 = .ok (.putfield 19, 3) := dk_181 0 19 (dk_at dksX12_init_0 20 rfl rfl)
theorem dX12_init_23 : decode cX12_init 23 = .ok (.aload_n 0, 1) := dk_42 (dk_at dksX12_init_0 23 rfl rfl)
theorem dX12_init_24 : decode cX12_init 24 = .ok (.getfield 19, 3) := dk_180 0 19 (dk_at dksX12_init_1 0 rfl rfl)
theorem dX12_init_27 : decode cX12_init 27 = .ok (.iconst (-1), 1) := dk_2 (dk_at dksX12_init_1 3 rfl rfl)
theorem dX12_init_28 : decode cX12_init 28 = .ok (.invokestatic 23, 3) := dk_184 0 23 (dk_at dksX12_init_1 4 rfl rfl)
theorem dX12_init_31 : decode cX12_init 31 = .ok (.return_, 1) := dk_177 (dk_at dksX12_init_1 7 rfl rfl)
abbrev cX12_count : ByteArray := prog_2_method_2_code
def yX12_count : MethodName := ⟨RX12, "count", "()I"⟩
def dkwX12_count_0 : List UInt8 := [42, 16, 20, 3, 42, 180, 0, 15, 185, 0, 29, 1, 0, 182, 0, 35, 172]
abbrev dktX12_count_0 : List UInt8 := dkwX12_count_0 ++ []
theorem dksX12_count_0 : cX12_count.data.toList.drop 0 = dktX12_count_0 := by decide +kernel
theorem dX12_count_0 : decode cX12_count 0 = .ok (.aload_n 0, 1) := dk_42 (dk_at dksX12_count_0 0 rfl rfl)
theorem dX12_count_1 : decode cX12_count 1 = .ok (.bipush 20, 2) := dk_16 20 (dk_at dksX12_count_0 1 rfl rfl)
theorem dX12_count_3 : decode cX12_count 3 = .ok (.iconst 0, 1) := dk_3 (dk_at dksX12_count_0 3 rfl rfl)
theorem dX12_count_4 : decode cX12_count 4 = .ok (.aload_n 0, 1) := dk_42 (dk_at dksX12_count_0 4 rfl rfl)
theorem dX12_count_5 : decode cX12_count 5 = .ok (.getfield 15, 3) := dk_180 0 15 (dk_at dksX12_count_0 5 rfl rfl)
theorem dX12_count_8 : decode cX12_count 8 = .ok (.invokeinterface 29 1, 5) := by decide +kernel
theorem dX12_count_13 : decode cX12_count 13 = .ok (.invokevirtual 35, 3) := dk_182 0 35 (dk_at dksX12_count_0 13 rfl rfl)
theorem dX12_count_16 : decode cX12_count 16 = .ok (.ireturn, 1) := dk_172 (dk_at dksX12_count_0 16 rfl rfl)
abbrev cX12_ways : ByteArray := prog_2_method_3_code
def yX12_ways : MethodName := ⟨RX12, "ways", "(III)I"⟩
def dkwX12_ways_5 : List UInt8 := [184, 0, 60, 54, 5, 132, 6, 1, 167, 255, 176, 42, 180, 0, 19, 21, 4, 21, 5, 79, 21, 5, 172]
abbrev dktX12_ways_5 : List UInt8 := dkwX12_ways_5 ++ []
def dkwX12_ways_4 : List UInt8 := [180, 0, 39, 21, 6, 185, 0, 42, 2, 0, 192, 0, 46, 180, 0, 53, 28, 29, 182, 0, 56, 96]
abbrev dktX12_ways_4 : List UInt8 := dkwX12_ways_4 ++ dktX12_ways_5
def dkwX12_ways_3 : List UInt8 := [185, 0, 42, 2, 0, 192, 0, 46, 180, 0, 48, 27, 160, 0, 39, 18, 52, 21, 5, 42, 42, 180, 0, 3]
abbrev dktX12_ways_3 : List UInt8 := dkwX12_ways_3 ++ dktX12_ways_4
def dkwX12_ways_2 : List UInt8 := [180, 0, 39, 185, 0, 29, 1, 0, 162, 0, 69, 42, 180, 0, 3, 180, 0, 39, 21, 6]
abbrev dktX12_ways_2 : List UInt8 := dkwX12_ways_2 ++ dktX12_ways_3
def dkwX12_ways_1 : List UInt8 := [159, 0, 11, 42, 180, 0, 19, 21, 4, 46, 172, 3, 54, 5, 3, 54, 6, 21, 6, 42, 180, 0, 3]
abbrev dktX12_ways_1 : List UInt8 := dkwX12_ways_1 ++ dktX12_ways_2
def dkwX12_ways_0 : List UInt8 := [27, 16, 20, 100, 16, 17, 104, 28, 96, 16, 17, 104, 29, 96, 54, 4, 42, 180, 0, 19, 21, 4, 46, 2]
abbrev dktX12_ways_0 : List UInt8 := dkwX12_ways_0 ++ dktX12_ways_1
theorem dksX12_ways_0 : cX12_ways.data.toList.drop 0 = dktX12_ways_0 := by decide +kernel
theorem dksX12_ways_1 : cX12_ways.data.toList.drop 24 = dktX12_ways_1 := dk_seg dksX12_ways_0 24 rfl rfl
theorem dksX12_ways_2 : cX12_ways.data.toList.drop 47 = dktX12_ways_2 := dk_seg dksX12_ways_1 23 rfl rfl
theorem dksX12_ways_3 : cX12_ways.data.toList.drop 67 = dktX12_ways_3 := dk_seg dksX12_ways_2 20 rfl rfl
theorem dksX12_ways_4 : cX12_ways.data.toList.drop 91 = dktX12_ways_4 := dk_seg dksX12_ways_3 24 rfl rfl
theorem dksX12_ways_5 : cX12_ways.data.toList.drop 113 = dktX12_ways_5 := dk_seg dksX12_ways_4 22 rfl rfl
theorem dX12_ways_0 : decode cX12_ways 0 = .ok (.iload_n 1, 1) := dk_27 (dk_at dksX12_ways_0 0 rfl rfl)
theorem dX12_ways_1 : decode cX12_ways 1 = .ok (.bipush 20, 2) := dk_16 20 (dk_at dksX12_ways_0 1 rfl rfl)
theorem dX12_ways_3 : decode cX12_ways 3 = .ok (.isub, 1) := dk_100 (dk_at dksX12_ways_0 3 rfl rfl)
theorem dX12_ways_4 : decode cX12_ways 4 = .ok (.bipush 17, 2) := dk_16 17 (dk_at dksX12_ways_0 4 rfl rfl)
theorem dX12_ways_6 : decode cX12_ways 6 = .ok (.imul, 1) := dk_104 (dk_at dksX12_ways_0 6 rfl rfl)
theorem dX12_ways_7 : decode cX12_ways 7 = .ok (.iload_n 2, 1) := dk_28 (dk_at dksX12_ways_0 7 rfl rfl)
theorem dX12_ways_8 : decode cX12_ways 8 = .ok (.iadd, 1) := dk_96 (dk_at dksX12_ways_0 8 rfl rfl)
theorem dX12_ways_9 : decode cX12_ways 9 = .ok (.bipush 17, 2) := dk_16 17 (dk_at dksX12_ways_0 9 rfl rfl)
theorem dX12_ways_11 : decode cX12_ways 11 = .ok (.imul, 1) := dk_104 (dk_at dksX12_ways_0 11 rfl rfl)
theorem dX12_ways_12 : decode cX12_ways 12 = .ok (.iload_n 3, 1) := dk_29 (dk_at dksX12_ways_0 12 rfl rfl)
theorem dX12_ways_13 : decode cX12_ways 13 = .ok (.iadd, 1) := dk_96 (dk_at dksX12_ways_0 13 rfl rfl)
theorem dX12_ways_14 : decode cX12_ways 14 = .ok (.istore 4, 2) := dk_54 4 (dk_at dksX12_ways_0 14 rfl rfl)
theorem dX12_ways_16 : decode cX12_ways 16 = .ok (.aload_n 0, 1) := dk_42 (dk_at dksX12_ways_0 16 rfl rfl)
theorem dX12_ways_17 : decode cX12_ways 17 = .ok (.getfield 19, 3) := dk_180 0 19 (dk_at dksX12_ways_0 17 rfl rfl)
theorem dX12_ways_20 : decode cX12_ways 20 = .ok (.iload 4, 2) := dk_21 4 (dk_at dksX12_ways_0 20 rfl rfl)
theorem dX12_ways_22 : decode cX12_ways 22 = .ok (.iaload, 1) := dk_46 (dk_at dksX12_ways_0 22 rfl rfl)
theorem dX12_ways_23 : decode cX12_ways 23 = .ok (.iconst (-1), 1) := dk_2 (dk_at dksX12_ways_0 23 rfl rfl)
theorem dX12_ways_24 : decode cX12_ways 24 = .ok (.if_icmp .eq 11, 3) := dk_159 0 11 (dk_at dksX12_ways_1 0 rfl rfl)
theorem dX12_ways_27 : decode cX12_ways 27 = .ok (.aload_n 0, 1) := dk_42 (dk_at dksX12_ways_1 3 rfl rfl)
theorem dX12_ways_28 : decode cX12_ways 28 = .ok (.getfield 19, 3) := dk_180 0 19 (dk_at dksX12_ways_1 4 rfl rfl)
theorem dX12_ways_31 : decode cX12_ways 31 = .ok (.iload 4, 2) := dk_21 4 (dk_at dksX12_ways_1 7 rfl rfl)
theorem dX12_ways_33 : decode cX12_ways 33 = .ok (.iaload, 1) := dk_46 (dk_at dksX12_ways_1 9 rfl rfl)
theorem dX12_ways_34 : decode cX12_ways 34 = .ok (.ireturn, 1) := dk_172 (dk_at dksX12_ways_1 10 rfl rfl)
theorem dX12_ways_35 : decode cX12_ways 35 = .ok (.iconst 0, 1) := dk_3 (dk_at dksX12_ways_1 11 rfl rfl)
theorem dX12_ways_36 : decode cX12_ways 36 = .ok (.istore 5, 2) := dk_54 5 (dk_at dksX12_ways_1 12 rfl rfl)
theorem dX12_ways_38 : decode cX12_ways 38 = .ok (.iconst 0, 1) := dk_3 (dk_at dksX12_ways_1 14 rfl rfl)
theorem dX12_ways_39 : decode cX12_ways 39 = .ok (.istore 6, 2) := dk_54 6 (dk_at dksX12_ways_1 15 rfl rfl)
theorem dX12_ways_41 : decode cX12_ways 41 = .ok (.iload 6, 2) := dk_21 6 (dk_at dksX12_ways_1 17 rfl rfl)
theorem dX12_ways_43 : decode cX12_ways 43 = .ok (.aload_n 0, 1) := dk_42 (dk_at dksX12_ways_1 19 rfl rfl)
theorem dX12_ways_44 : decode cX12_ways 44 = .ok (.getfield 3, 3) := dk_180 0 3 (dk_at dksX12_ways_1 20 rfl rfl)
theorem dX12_ways_47 : decode cX12_ways 47 = .ok (.getfield 39, 3) := dk_180 0 39 (dk_at dksX12_ways_2 0 rfl rfl)
theorem dX12_ways_50 : decode cX12_ways 50 = .ok (.invokeinterface 29 1, 5) := by decide +kernel
theorem dX12_ways_55 : decode cX12_ways 55 = .ok (.if_icmp .ge 69, 3) := dk_162 0 69 (dk_at dksX12_ways_2 8 rfl rfl)
theorem dX12_ways_58 : decode cX12_ways 58 = .ok (.aload_n 0, 1) := dk_42 (dk_at dksX12_ways_2 11 rfl rfl)
theorem dX12_ways_59 : decode cX12_ways 59 = .ok (.getfield 3, 3) := dk_180 0 3 (dk_at dksX12_ways_2 12 rfl rfl)
theorem dX12_ways_62 : decode cX12_ways 62 = .ok (.getfield 39, 3) := dk_180 0 39 (dk_at dksX12_ways_2 15 rfl rfl)
theorem dX12_ways_65 : decode cX12_ways 65 = .ok (.iload 6, 2) := dk_21 6 (dk_at dksX12_ways_2 18 rfl rfl)
theorem dX12_ways_67 : decode cX12_ways 67 = .ok (.invokeinterface 42 2, 5) := by decide +kernel
theorem dX12_ways_72 : decode cX12_ways 72 = .ok (.checkcast 46, 3) := dk_192 0 46 (dk_at dksX12_ways_3 5 rfl rfl)
theorem dX12_ways_75 : decode cX12_ways 75 = .ok (.getfield 48, 3) := dk_180 0 48 (dk_at dksX12_ways_3 8 rfl rfl)
theorem dX12_ways_78 : decode cX12_ways 78 = .ok (.iload_n 1, 1) := dk_27 (dk_at dksX12_ways_3 11 rfl rfl)
theorem dX12_ways_79 : decode cX12_ways 79 = .ok (.if_icmp .ne 39, 3) := dk_160 0 39 (dk_at dksX12_ways_3 12 rfl rfl)
theorem dX12_ways_82 : decode cX12_ways 82 = .ok (.ldc 52, 2) := dk_18 52 (dk_at dksX12_ways_3 15 rfl rfl)
theorem dX12_ways_84 : decode cX12_ways 84 = .ok (.iload 5, 2) := dk_21 5 (dk_at dksX12_ways_3 17 rfl rfl)
theorem dX12_ways_86 : decode cX12_ways 86 = .ok (.aload_n 0, 1) := dk_42 (dk_at dksX12_ways_3 19 rfl rfl)
theorem dX12_ways_87 : decode cX12_ways 87 = .ok (.aload_n 0, 1) := dk_42 (dk_at dksX12_ways_3 20 rfl rfl)
theorem dX12_ways_88 : decode cX12_ways 88 = .ok (.getfield 3, 3) := dk_180 0 3 (dk_at dksX12_ways_3 21 rfl rfl)
theorem dX12_ways_91 : decode cX12_ways 91 = .ok (.getfield 39, 3) := dk_180 0 39 (dk_at dksX12_ways_4 0 rfl rfl)
theorem dX12_ways_94 : decode cX12_ways 94 = .ok (.iload 6, 2) := dk_21 6 (dk_at dksX12_ways_4 3 rfl rfl)
theorem dX12_ways_96 : decode cX12_ways 96 = .ok (.invokeinterface 42 2, 5) := by decide +kernel
theorem dX12_ways_101 : decode cX12_ways 101 = .ok (.checkcast 46, 3) := dk_192 0 46 (dk_at dksX12_ways_4 10 rfl rfl)
theorem dX12_ways_104 : decode cX12_ways 104 = .ok (.getfield 53, 3) := dk_180 0 53 (dk_at dksX12_ways_4 13 rfl rfl)
theorem dX12_ways_107 : decode cX12_ways 107 = .ok (.iload_n 2, 1) := dk_28 (dk_at dksX12_ways_4 16 rfl rfl)
theorem dX12_ways_108 : decode cX12_ways 108 = .ok (.iload_n 3, 1) := dk_29 (dk_at dksX12_ways_4 17 rfl rfl)
theorem dX12_ways_109 : decode cX12_ways 109 = .ok (.invokevirtual 56, 3) := dk_182 0 56 (dk_at dksX12_ways_4 18 rfl rfl)
theorem dX12_ways_112 : decode cX12_ways 112 = .ok (.iadd, 1) := dk_96 (dk_at dksX12_ways_4 21 rfl rfl)
theorem dX12_ways_113 : decode cX12_ways 113 = .ok (.invokestatic 60, 3) := dk_184 0 60 (dk_at dksX12_ways_5 0 rfl rfl)
theorem dX12_ways_116 : decode cX12_ways 116 = .ok (.istore 5, 2) := dk_54 5 (dk_at dksX12_ways_5 3 rfl rfl)
theorem dX12_ways_118 : decode cX12_ways 118 = .ok (.iinc 6 1, 3) := dk_132 6 1 (dk_at dksX12_ways_5 5 rfl rfl)
theorem dX12_ways_121 : decode cX12_ways 121 = .ok (.goto (-80), 3) := dk_167 255 176 (dk_at dksX12_ways_5 8 rfl rfl)
theorem dX12_ways_124 : decode cX12_ways 124 = .ok (.aload_n 0, 1) := dk_42 (dk_at dksX12_ways_5 11 rfl rfl)
theorem dX12_ways_125 : decode cX12_ways 125 = .ok (.getfield 19, 3) := dk_180 0 19 (dk_at dksX12_ways_5 12 rfl rfl)
theorem dX12_ways_128 : decode cX12_ways 128 = .ok (.iload 4, 2) := dk_21 4 (dk_at dksX12_ways_5 15 rfl rfl)
theorem dX12_ways_130 : decode cX12_ways 130 = .ok (.iload 5, 2) := dk_21 5 (dk_at dksX12_ways_5 17 rfl rfl)
theorem dX12_ways_132 : decode cX12_ways 132 = .ok (.iastore, 1) := dk_79 (dk_at dksX12_ways_5 19 rfl rfl)
theorem dX12_ways_133 : decode cX12_ways 133 = .ok (.iload 5, 2) := dk_21 5 (dk_at dksX12_ways_5 20 rfl rfl)
theorem dX12_ways_135 : decode cX12_ways 135 = .ok (.ireturn, 1) := dk_172 (dk_at dksX12_ways_5 22 rfl rfl)
abbrev cX12_along : ByteArray := prog_2_method_4_code
def yX12_along : MethodName := ⟨RX12, "along", "([III)I"⟩
def dkwX12_along_4 : List UInt8 := [167, 255, 230, 25, 4, 29, 28, 100, 47, 136, 172]
abbrev dktX12_along_4 : List UInt8 := dkwX12_along_4 ++ []
def dkwX12_along_3 : List UInt8 := [162, 0, 25, 25, 5, 21, 7, 46, 54, 8, 42, 21, 8, 28, 25, 4, 182, 0, 74, 132, 7, 1]
abbrev dktX12_along_3 : List UInt8 := dkwX12_along_3 ++ dktX12_along_4
def dkwX12_along_2 : List UInt8 := [58, 4, 25, 4, 3, 10, 80, 43, 58, 5, 25, 5, 190, 54, 6, 3, 54, 7, 21, 7, 21, 6]
abbrev dktX12_along_2 : List UInt8 := dkwX12_along_2 ++ dktX12_along_3
def dkwX12_along_1 : List UInt8 := [154, 0, 17, 42, 28, 29, 43, 3, 46, 182, 0, 70, 154, 0, 5, 3, 172, 29, 28, 100, 4, 96, 188, 11]
abbrev dktX12_along_1 : List UInt8 := dkwX12_along_1 ++ dktX12_along_2
def dkwX12_along_0 : List UInt8 := [43, 190, 154, 0, 14, 28, 29, 160, 0, 7, 4, 167, 0, 4, 3, 172, 43, 3, 46, 184, 0, 66]
abbrev dktX12_along_0 : List UInt8 := dkwX12_along_0 ++ dktX12_along_1
theorem dksX12_along_0 : cX12_along.data.toList.drop 0 = dktX12_along_0 := by decide +kernel
theorem dksX12_along_1 : cX12_along.data.toList.drop 22 = dktX12_along_1 := dk_seg dksX12_along_0 22 rfl rfl
theorem dksX12_along_2 : cX12_along.data.toList.drop 46 = dktX12_along_2 := dk_seg dksX12_along_1 24 rfl rfl
theorem dksX12_along_3 : cX12_along.data.toList.drop 68 = dktX12_along_3 := dk_seg dksX12_along_2 22 rfl rfl
theorem dksX12_along_4 : cX12_along.data.toList.drop 90 = dktX12_along_4 := dk_seg dksX12_along_3 22 rfl rfl
theorem dX12_along_0 : decode cX12_along 0 = .ok (.aload_n 1, 1) := dk_43 (dk_at dksX12_along_0 0 rfl rfl)
theorem dX12_along_1 : decode cX12_along 1 = .ok (.arraylength, 1) := dk_190 (dk_at dksX12_along_0 1 rfl rfl)
theorem dX12_along_2 : decode cX12_along 2 = .ok (.ifCond .ne 14, 3) := dk_154 0 14 (dk_at dksX12_along_0 2 rfl rfl)
theorem dX12_along_5 : decode cX12_along 5 = .ok (.iload_n 2, 1) := dk_28 (dk_at dksX12_along_0 5 rfl rfl)
theorem dX12_along_6 : decode cX12_along 6 = .ok (.iload_n 3, 1) := dk_29 (dk_at dksX12_along_0 6 rfl rfl)
theorem dX12_along_7 : decode cX12_along 7 = .ok (.if_icmp .ne 7, 3) := dk_160 0 7 (dk_at dksX12_along_0 7 rfl rfl)
theorem dX12_along_10 : decode cX12_along 10 = .ok (.iconst 1, 1) := dk_4 (dk_at dksX12_along_0 10 rfl rfl)
theorem dX12_along_11 : decode cX12_along 11 = .ok (.goto 4, 3) := dk_167 0 4 (dk_at dksX12_along_0 11 rfl rfl)
theorem dX12_along_14 : decode cX12_along 14 = .ok (.iconst 0, 1) := dk_3 (dk_at dksX12_along_0 14 rfl rfl)
theorem dX12_along_15 : decode cX12_along 15 = .ok (.ireturn, 1) := dk_172 (dk_at dksX12_along_0 15 rfl rfl)
theorem dX12_along_16 : decode cX12_along 16 = .ok (.aload_n 1, 1) := dk_43 (dk_at dksX12_along_0 16 rfl rfl)
theorem dX12_along_17 : decode cX12_along 17 = .ok (.iconst 0, 1) := dk_3 (dk_at dksX12_along_0 17 rfl rfl)
theorem dX12_along_18 : decode cX12_along 18 = .ok (.iaload, 1) := dk_46 (dk_at dksX12_along_0 18 rfl rfl)
theorem dX12_along_19 : decode cX12_along 19 = .ok (.invokestatic 66, 3) := dk_184 0 66 (dk_at dksX12_along_0 19 rfl rfl)
theorem dX12_along_22 : decode cX12_along 22 = .ok (.ifCond .ne 17, 3) := dk_154 0 17 (dk_at dksX12_along_1 0 rfl rfl)
theorem dX12_along_25 : decode cX12_along 25 = .ok (.aload_n 0, 1) := dk_42 (dk_at dksX12_along_1 3 rfl rfl)
theorem dX12_along_26 : decode cX12_along 26 = .ok (.iload_n 2, 1) := dk_28 (dk_at dksX12_along_1 4 rfl rfl)
theorem dX12_along_27 : decode cX12_along 27 = .ok (.iload_n 3, 1) := dk_29 (dk_at dksX12_along_1 5 rfl rfl)
theorem dX12_along_28 : decode cX12_along 28 = .ok (.aload_n 1, 1) := dk_43 (dk_at dksX12_along_1 6 rfl rfl)
theorem dX12_along_29 : decode cX12_along 29 = .ok (.iconst 0, 1) := dk_3 (dk_at dksX12_along_1 7 rfl rfl)
theorem dX12_along_30 : decode cX12_along 30 = .ok (.iaload, 1) := dk_46 (dk_at dksX12_along_1 8 rfl rfl)
theorem dX12_along_31 : decode cX12_along 31 = .ok (.invokevirtual 70, 3) := dk_182 0 70 (dk_at dksX12_along_1 9 rfl rfl)
theorem dX12_along_34 : decode cX12_along 34 = .ok (.ifCond .ne 5, 3) := dk_154 0 5 (dk_at dksX12_along_1 12 rfl rfl)
theorem dX12_along_37 : decode cX12_along 37 = .ok (.iconst 0, 1) := dk_3 (dk_at dksX12_along_1 15 rfl rfl)
theorem dX12_along_38 : decode cX12_along 38 = .ok (.ireturn, 1) := dk_172 (dk_at dksX12_along_1 16 rfl rfl)
theorem dX12_along_39 : decode cX12_along 39 = .ok (.iload_n 3, 1) := dk_29 (dk_at dksX12_along_1 17 rfl rfl)
theorem dX12_along_40 : decode cX12_along 40 = .ok (.iload_n 2, 1) := dk_28 (dk_at dksX12_along_1 18 rfl rfl)
theorem dX12_along_41 : decode cX12_along 41 = .ok (.isub, 1) := dk_100 (dk_at dksX12_along_1 19 rfl rfl)
theorem dX12_along_42 : decode cX12_along 42 = .ok (.iconst 1, 1) := dk_4 (dk_at dksX12_along_1 20 rfl rfl)
theorem dX12_along_43 : decode cX12_along 43 = .ok (.iadd, 1) := dk_96 (dk_at dksX12_along_1 21 rfl rfl)
theorem dX12_along_44 : decode cX12_along 44 = .ok (.newarray .long, 2) := dk_188_11 (dk_at dksX12_along_1 22 rfl rfl)
theorem dX12_along_46 : decode cX12_along 46 = .ok (.astore 4, 2) := dk_58 4 (dk_at dksX12_along_2 0 rfl rfl)
theorem dX12_along_48 : decode cX12_along 48 = .ok (.aload 4, 2) := dk_25 4 (dk_at dksX12_along_2 2 rfl rfl)
theorem dX12_along_50 : decode cX12_along 50 = .ok (.iconst 0, 1) := dk_3 (dk_at dksX12_along_2 4 rfl rfl)
theorem dX12_along_51 : decode cX12_along 51 = .ok (.lconst 1, 1) := dk_10 (dk_at dksX12_along_2 5 rfl rfl)
theorem dX12_along_52 : decode cX12_along 52 = .ok (.lastore, 1) := dk_80 (dk_at dksX12_along_2 6 rfl rfl)
theorem dX12_along_53 : decode cX12_along 53 = .ok (.aload_n 1, 1) := dk_43 (dk_at dksX12_along_2 7 rfl rfl)
theorem dX12_along_54 : decode cX12_along 54 = .ok (.astore 5, 2) := dk_58 5 (dk_at dksX12_along_2 8 rfl rfl)
theorem dX12_along_56 : decode cX12_along 56 = .ok (.aload 5, 2) := dk_25 5 (dk_at dksX12_along_2 10 rfl rfl)
theorem dX12_along_58 : decode cX12_along 58 = .ok (.arraylength, 1) := dk_190 (dk_at dksX12_along_2 12 rfl rfl)
theorem dX12_along_59 : decode cX12_along 59 = .ok (.istore 6, 2) := dk_54 6 (dk_at dksX12_along_2 13 rfl rfl)
theorem dX12_along_61 : decode cX12_along 61 = .ok (.iconst 0, 1) := dk_3 (dk_at dksX12_along_2 15 rfl rfl)
theorem dX12_along_62 : decode cX12_along 62 = .ok (.istore 7, 2) := dk_54 7 (dk_at dksX12_along_2 16 rfl rfl)
theorem dX12_along_64 : decode cX12_along 64 = .ok (.iload 7, 2) := dk_21 7 (dk_at dksX12_along_2 18 rfl rfl)
theorem dX12_along_66 : decode cX12_along 66 = .ok (.iload 6, 2) := dk_21 6 (dk_at dksX12_along_2 20 rfl rfl)
theorem dX12_along_68 : decode cX12_along 68 = .ok (.if_icmp .ge 25, 3) := dk_162 0 25 (dk_at dksX12_along_3 0 rfl rfl)
theorem dX12_along_71 : decode cX12_along 71 = .ok (.aload 5, 2) := dk_25 5 (dk_at dksX12_along_3 3 rfl rfl)
theorem dX12_along_73 : decode cX12_along 73 = .ok (.iload 7, 2) := dk_21 7 (dk_at dksX12_along_3 5 rfl rfl)
theorem dX12_along_75 : decode cX12_along 75 = .ok (.iaload, 1) := dk_46 (dk_at dksX12_along_3 7 rfl rfl)
theorem dX12_along_76 : decode cX12_along 76 = .ok (.istore 8, 2) := dk_54 8 (dk_at dksX12_along_3 8 rfl rfl)
theorem dX12_along_78 : decode cX12_along 78 = .ok (.aload_n 0, 1) := dk_42 (dk_at dksX12_along_3 10 rfl rfl)
theorem dX12_along_79 : decode cX12_along 79 = .ok (.iload 8, 2) := dk_21 8 (dk_at dksX12_along_3 11 rfl rfl)
theorem dX12_along_81 : decode cX12_along 81 = .ok (.iload_n 2, 1) := dk_28 (dk_at dksX12_along_3 13 rfl rfl)
theorem dX12_along_82 : decode cX12_along 82 = .ok (.aload 4, 2) := dk_25 4 (dk_at dksX12_along_3 14 rfl rfl)
theorem dX12_along_84 : decode cX12_along 84 = .ok (.invokevirtual 74, 3) := dk_182 0 74 (dk_at dksX12_along_3 16 rfl rfl)
theorem dX12_along_87 : decode cX12_along 87 = .ok (.iinc 7 1, 3) := dk_132 7 1 (dk_at dksX12_along_3 19 rfl rfl)
theorem dX12_along_90 : decode cX12_along 90 = .ok (.goto (-26), 3) := dk_167 255 230 (dk_at dksX12_along_4 0 rfl rfl)
theorem dX12_along_93 : decode cX12_along 93 = .ok (.aload 4, 2) := dk_25 4 (dk_at dksX12_along_4 3 rfl rfl)
theorem dX12_along_95 : decode cX12_along 95 = .ok (.iload_n 3, 1) := dk_29 (dk_at dksX12_along_4 5 rfl rfl)
theorem dX12_along_96 : decode cX12_along 96 = .ok (.iload_n 2, 1) := dk_28 (dk_at dksX12_along_4 6 rfl rfl)
theorem dX12_along_97 : decode cX12_along 97 = .ok (.isub, 1) := dk_100 (dk_at dksX12_along_4 7 rfl rfl)
theorem dX12_along_98 : decode cX12_along 98 = .ok (.laload, 1) := dk_47 (dk_at dksX12_along_4 8 rfl rfl)
theorem dX12_along_99 : decode cX12_along 99 = .ok (.l2i, 1) := dk_136 (dk_at dksX12_along_4 9 rfl rfl)
theorem dX12_along_100 : decode cX12_along 100 = .ok (.ireturn, 1) := dk_172 (dk_at dksX12_along_4 10 rfl rfl)
abbrev cX12_isAt : ByteArray := prog_2_method_5_code
def yX12_isAt : MethodName := ⟨RX12, "isAt", "(III)Z"⟩
def dkwX12_isAt_1 : List UInt8 := [160, 0, 7, 4, 167, 0, 4, 3, 172]
abbrev dktX12_isAt_1 : List UInt8 := dkwX12_isAt_1 ++ []
def dkwX12_isAt_0 : List UInt8 := [27, 28, 162, 0, 27, 42, 180, 0, 15, 27, 185, 0, 42, 2, 0, 192, 0, 78, 182, 0, 80, 29]
abbrev dktX12_isAt_0 : List UInt8 := dkwX12_isAt_0 ++ dktX12_isAt_1
theorem dksX12_isAt_0 : cX12_isAt.data.toList.drop 0 = dktX12_isAt_0 := by decide +kernel
theorem dksX12_isAt_1 : cX12_isAt.data.toList.drop 22 = dktX12_isAt_1 := dk_seg dksX12_isAt_0 22 rfl rfl
theorem dX12_isAt_0 : decode cX12_isAt 0 = .ok (.iload_n 1, 1) := dk_27 (dk_at dksX12_isAt_0 0 rfl rfl)
theorem dX12_isAt_1 : decode cX12_isAt 1 = .ok (.iload_n 2, 1) := dk_28 (dk_at dksX12_isAt_0 1 rfl rfl)
theorem dX12_isAt_2 : decode cX12_isAt 2 = .ok (.if_icmp .ge 27, 3) := dk_162 0 27 (dk_at dksX12_isAt_0 2 rfl rfl)
theorem dX12_isAt_5 : decode cX12_isAt 5 = .ok (.aload_n 0, 1) := dk_42 (dk_at dksX12_isAt_0 5 rfl rfl)
theorem dX12_isAt_6 : decode cX12_isAt 6 = .ok (.getfield 15, 3) := dk_180 0 15 (dk_at dksX12_isAt_0 6 rfl rfl)
theorem dX12_isAt_9 : decode cX12_isAt 9 = .ok (.iload_n 1, 1) := dk_27 (dk_at dksX12_isAt_0 9 rfl rfl)
theorem dX12_isAt_10 : decode cX12_isAt 10 = .ok (.invokeinterface 42 2, 5) := by decide +kernel
theorem dX12_isAt_15 : decode cX12_isAt 15 = .ok (.checkcast 78, 3) := dk_192 0 78 (dk_at dksX12_isAt_0 15 rfl rfl)
theorem dX12_isAt_18 : decode cX12_isAt 18 = .ok (.invokevirtual 80, 3) := dk_182 0 80 (dk_at dksX12_isAt_0 18 rfl rfl)
theorem dX12_isAt_21 : decode cX12_isAt 21 = .ok (.iload_n 3, 1) := dk_29 (dk_at dksX12_isAt_0 21 rfl rfl)
theorem dX12_isAt_22 : decode cX12_isAt 22 = .ok (.if_icmp .ne 7, 3) := dk_160 0 7 (dk_at dksX12_isAt_1 0 rfl rfl)
theorem dX12_isAt_25 : decode cX12_isAt 25 = .ok (.iconst 1, 1) := dk_4 (dk_at dksX12_isAt_1 3 rfl rfl)
theorem dX12_isAt_26 : decode cX12_isAt 26 = .ok (.goto 4, 3) := dk_167 0 4 (dk_at dksX12_isAt_1 4 rfl rfl)
theorem dX12_isAt_29 : decode cX12_isAt 29 = .ok (.iconst 0, 1) := dk_3 (dk_at dksX12_isAt_1 7 rfl rfl)
theorem dX12_isAt_30 : decode cX12_isAt 30 = .ok (.ireturn, 1) := dk_172 (dk_at dksX12_isAt_1 8 rfl rfl)
abbrev cX12_goBehind : ByteArray := prog_2_method_6_code
def yX12_goBehind : MethodName := ⟨RX12, "goBehind", "(II[J)V"⟩
def dkwX12_goBehind_3 : List UInt8 := [22, 5, 80, 132, 4, 255, 167, 255, 185, 177]
abbrev dktX12_goBehind_3 : List UInt8 := dkwX12_goBehind_3 ++ []
def dkwX12_goBehind_2 : List UInt8 := [28, 21, 4, 96, 182, 0, 85, 105, 97, 184, 0, 89, 55, 5, 132, 7, 1, 167, 255, 208, 45, 21, 4]
abbrev dktX12_goBehind_2 : List UInt8 := dkwX12_goBehind_2 ++ dktX12_goBehind_3
def dkwX12_goBehind_1 : List UInt8 := [45, 21, 7, 47, 9, 148, 158, 0, 32, 20, 0, 83, 22, 5, 45, 21, 7, 47, 42, 27, 28, 21, 7, 96]
abbrev dktX12_goBehind_1 : List UInt8 := dkwX12_goBehind_1 ++ dktX12_goBehind_2
def dkwX12_goBehind_0 : List UInt8 := [45, 190, 4, 100, 54, 4, 21, 4, 155, 0, 72, 9, 55, 5, 3, 54, 7, 21, 7, 21, 4, 163, 0, 47]
abbrev dktX12_goBehind_0 : List UInt8 := dkwX12_goBehind_0 ++ dktX12_goBehind_1
theorem dksX12_goBehind_0 : cX12_goBehind.data.toList.drop 0 = dktX12_goBehind_0 := by decide +kernel
theorem dksX12_goBehind_1 : cX12_goBehind.data.toList.drop 24 = dktX12_goBehind_1 := dk_seg dksX12_goBehind_0 24 rfl rfl
theorem dksX12_goBehind_2 : cX12_goBehind.data.toList.drop 48 = dktX12_goBehind_2 := dk_seg dksX12_goBehind_1 24 rfl rfl
theorem dksX12_goBehind_3 : cX12_goBehind.data.toList.drop 71 = dktX12_goBehind_3 := dk_seg dksX12_goBehind_2 23 rfl rfl
theorem dX12_goBehind_0 : decode cX12_goBehind 0 = .ok (.aload_n 3, 1) := dk_45 (dk_at dksX12_goBehind_0 0 rfl rfl)
theorem dX12_goBehind_1 : decode cX12_goBehind 1 = .ok (.arraylength, 1) := dk_190 (dk_at dksX12_goBehind_0 1 rfl rfl)
theorem dX12_goBehind_2 : decode cX12_goBehind 2 = .ok (.iconst 1, 1) := dk_4 (dk_at dksX12_goBehind_0 2 rfl rfl)
theorem dX12_goBehind_3 : decode cX12_goBehind 3 = .ok (.isub, 1) := dk_100 (dk_at dksX12_goBehind_0 3 rfl rfl)
theorem dX12_goBehind_4 : decode cX12_goBehind 4 = .ok (.istore 4, 2) := dk_54 4 (dk_at dksX12_goBehind_0 4 rfl rfl)
theorem dX12_goBehind_6 : decode cX12_goBehind 6 = .ok (.iload 4, 2) := dk_21 4 (dk_at dksX12_goBehind_0 6 rfl rfl)
theorem dX12_goBehind_8 : decode cX12_goBehind 8 = .ok (.ifCond .lt 72, 3) := dk_155 0 72 (dk_at dksX12_goBehind_0 8 rfl rfl)
theorem dX12_goBehind_11 : decode cX12_goBehind 11 = .ok (.lconst 0, 1) := dk_9 (dk_at dksX12_goBehind_0 11 rfl rfl)
theorem dX12_goBehind_12 : decode cX12_goBehind 12 = .ok (.lstore 5, 2) := dk_55 5 (dk_at dksX12_goBehind_0 12 rfl rfl)
theorem dX12_goBehind_14 : decode cX12_goBehind 14 = .ok (.iconst 0, 1) := dk_3 (dk_at dksX12_goBehind_0 14 rfl rfl)
theorem dX12_goBehind_15 : decode cX12_goBehind 15 = .ok (.istore 7, 2) := dk_54 7 (dk_at dksX12_goBehind_0 15 rfl rfl)
theorem dX12_goBehind_17 : decode cX12_goBehind 17 = .ok (.iload 7, 2) := dk_21 7 (dk_at dksX12_goBehind_0 17 rfl rfl)
theorem dX12_goBehind_19 : decode cX12_goBehind 19 = .ok (.iload 4, 2) := dk_21 4 (dk_at dksX12_goBehind_0 19 rfl rfl)
theorem dX12_goBehind_21 : decode cX12_goBehind 21 = .ok (.if_icmp .gt 47, 3) := dk_163 0 47 (dk_at dksX12_goBehind_0 21 rfl rfl)
theorem dX12_goBehind_24 : decode cX12_goBehind 24 = .ok (.aload_n 3, 1) := dk_45 (dk_at dksX12_goBehind_1 0 rfl rfl)
theorem dX12_goBehind_25 : decode cX12_goBehind 25 = .ok (.iload 7, 2) := dk_21 7 (dk_at dksX12_goBehind_1 1 rfl rfl)
theorem dX12_goBehind_27 : decode cX12_goBehind 27 = .ok (.laload, 1) := dk_47 (dk_at dksX12_goBehind_1 3 rfl rfl)
theorem dX12_goBehind_28 : decode cX12_goBehind 28 = .ok (.lconst 0, 1) := dk_9 (dk_at dksX12_goBehind_1 4 rfl rfl)
theorem dX12_goBehind_29 : decode cX12_goBehind 29 = .ok (.lcmp, 1) := dk_148 (dk_at dksX12_goBehind_1 5 rfl rfl)
theorem dX12_goBehind_30 : decode cX12_goBehind 30 = .ok (.ifCond .le 32, 3) := dk_158 0 32 (dk_at dksX12_goBehind_1 6 rfl rfl)
theorem dX12_goBehind_33 : decode cX12_goBehind 33 = .ok (.ldc2_w 83, 3) := dk_20 0 83 (dk_at dksX12_goBehind_1 9 rfl rfl)
theorem dX12_goBehind_36 : decode cX12_goBehind 36 = .ok (.lload 5, 2) := dk_22 5 (dk_at dksX12_goBehind_1 12 rfl rfl)
theorem dX12_goBehind_38 : decode cX12_goBehind 38 = .ok (.aload_n 3, 1) := dk_45 (dk_at dksX12_goBehind_1 14 rfl rfl)
theorem dX12_goBehind_39 : decode cX12_goBehind 39 = .ok (.iload 7, 2) := dk_21 7 (dk_at dksX12_goBehind_1 15 rfl rfl)
theorem dX12_goBehind_41 : decode cX12_goBehind 41 = .ok (.laload, 1) := dk_47 (dk_at dksX12_goBehind_1 17 rfl rfl)
theorem dX12_goBehind_42 : decode cX12_goBehind 42 = .ok (.aload_n 0, 1) := dk_42 (dk_at dksX12_goBehind_1 18 rfl rfl)
theorem dX12_goBehind_43 : decode cX12_goBehind 43 = .ok (.iload_n 1, 1) := dk_27 (dk_at dksX12_goBehind_1 19 rfl rfl)
theorem dX12_goBehind_44 : decode cX12_goBehind 44 = .ok (.iload_n 2, 1) := dk_28 (dk_at dksX12_goBehind_1 20 rfl rfl)
theorem dX12_goBehind_45 : decode cX12_goBehind 45 = .ok (.iload 7, 2) := dk_21 7 (dk_at dksX12_goBehind_1 21 rfl rfl)
theorem dX12_goBehind_47 : decode cX12_goBehind 47 = .ok (.iadd, 1) := dk_96 (dk_at dksX12_goBehind_1 23 rfl rfl)
theorem dX12_goBehind_48 : decode cX12_goBehind 48 = .ok (.iload_n 2, 1) := dk_28 (dk_at dksX12_goBehind_2 0 rfl rfl)
theorem dX12_goBehind_49 : decode cX12_goBehind 49 = .ok (.iload 4, 2) := dk_21 4 (dk_at dksX12_goBehind_2 1 rfl rfl)
theorem dX12_goBehind_51 : decode cX12_goBehind 51 = .ok (.iadd, 1) := dk_96 (dk_at dksX12_goBehind_2 3 rfl rfl)
theorem dX12_goBehind_52 : decode cX12_goBehind 52 = .ok (.invokevirtual 85, 3) := dk_182 0 85 (dk_at dksX12_goBehind_2 4 rfl rfl)
theorem dX12_goBehind_55 : decode cX12_goBehind 55 = .ok (.lmul, 1) := dk_105 (dk_at dksX12_goBehind_2 7 rfl rfl)
theorem dX12_goBehind_56 : decode cX12_goBehind 56 = .ok (.ladd, 1) := dk_97 (dk_at dksX12_goBehind_2 8 rfl rfl)
theorem dX12_goBehind_57 : decode cX12_goBehind 57 = .ok (.invokestatic 89, 3) := dk_184 0 89 (dk_at dksX12_goBehind_2 9 rfl rfl)
theorem dX12_goBehind_60 : decode cX12_goBehind 60 = .ok (.lstore 5, 2) := dk_55 5 (dk_at dksX12_goBehind_2 12 rfl rfl)
theorem dX12_goBehind_62 : decode cX12_goBehind 62 = .ok (.iinc 7 1, 3) := dk_132 7 1 (dk_at dksX12_goBehind_2 14 rfl rfl)
theorem dX12_goBehind_65 : decode cX12_goBehind 65 = .ok (.goto (-48), 3) := dk_167 255 208 (dk_at dksX12_goBehind_2 17 rfl rfl)
theorem dX12_goBehind_68 : decode cX12_goBehind 68 = .ok (.aload_n 3, 1) := dk_45 (dk_at dksX12_goBehind_2 20 rfl rfl)
theorem dX12_goBehind_69 : decode cX12_goBehind 69 = .ok (.iload 4, 2) := dk_21 4 (dk_at dksX12_goBehind_2 21 rfl rfl)
theorem dX12_goBehind_71 : decode cX12_goBehind 71 = .ok (.lload 5, 2) := dk_22 5 (dk_at dksX12_goBehind_3 0 rfl rfl)
theorem dX12_goBehind_73 : decode cX12_goBehind 73 = .ok (.lastore, 1) := dk_80 (dk_at dksX12_goBehind_3 2 rfl rfl)
theorem dX12_goBehind_74 : decode cX12_goBehind 74 = .ok (.iinc 4 (-1), 3) := dk_132 4 255 (dk_at dksX12_goBehind_3 3 rfl rfl)
theorem dX12_goBehind_77 : decode cX12_goBehind 77 = .ok (.goto (-71), 3) := dk_167 255 185 (dk_at dksX12_goBehind_3 6 rfl rfl)
theorem dX12_goBehind_80 : decode cX12_goBehind 80 = .ok (.return_, 1) := dk_177 (dk_at dksX12_goBehind_3 9 rfl rfl)
abbrev cX12_once : ByteArray := prog_2_method_7_code
def yX12_once : MethodName := ⟨RX12, "once", "(III)J"⟩
def dkwX12_once_1 : List UInt8 := [28, 29, 27, 182, 0, 70, 153, 0, 7, 10, 167, 0, 4, 9, 173]
abbrev dktX12_once_1 : List UInt8 := dkwX12_once_1 ++ []
def dkwX12_once_0 : List UInt8 := [27, 184, 0, 66, 153, 0, 12, 42, 27, 28, 29, 182, 0, 35, 133, 173, 29, 28, 4, 96, 160, 0, 17, 42]
abbrev dktX12_once_0 : List UInt8 := dkwX12_once_0 ++ dktX12_once_1
theorem dksX12_once_0 : cX12_once.data.toList.drop 0 = dktX12_once_0 := by decide +kernel
theorem dksX12_once_1 : cX12_once.data.toList.drop 24 = dktX12_once_1 := dk_seg dksX12_once_0 24 rfl rfl
theorem dX12_once_0 : decode cX12_once 0 = .ok (.iload_n 1, 1) := dk_27 (dk_at dksX12_once_0 0 rfl rfl)
theorem dX12_once_1 : decode cX12_once 1 = .ok (.invokestatic 66, 3) := dk_184 0 66 (dk_at dksX12_once_0 1 rfl rfl)
theorem dX12_once_4 : decode cX12_once 4 = .ok (.ifCond .eq 12, 3) := dk_153 0 12 (dk_at dksX12_once_0 4 rfl rfl)
theorem dX12_once_7 : decode cX12_once 7 = .ok (.aload_n 0, 1) := dk_42 (dk_at dksX12_once_0 7 rfl rfl)
theorem dX12_once_8 : decode cX12_once 8 = .ok (.iload_n 1, 1) := dk_27 (dk_at dksX12_once_0 8 rfl rfl)
theorem dX12_once_9 : decode cX12_once 9 = .ok (.iload_n 2, 1) := dk_28 (dk_at dksX12_once_0 9 rfl rfl)
theorem dX12_once_10 : decode cX12_once 10 = .ok (.iload_n 3, 1) := dk_29 (dk_at dksX12_once_0 10 rfl rfl)
theorem dX12_once_11 : decode cX12_once 11 = .ok (.invokevirtual 35, 3) := dk_182 0 35 (dk_at dksX12_once_0 11 rfl rfl)
theorem dX12_once_14 : decode cX12_once 14 = .ok (.i2l, 1) := dk_133 (dk_at dksX12_once_0 14 rfl rfl)
theorem dX12_once_15 : decode cX12_once 15 = .ok (.lreturn, 1) := dk_173 (dk_at dksX12_once_0 15 rfl rfl)
theorem dX12_once_16 : decode cX12_once 16 = .ok (.iload_n 3, 1) := dk_29 (dk_at dksX12_once_0 16 rfl rfl)
theorem dX12_once_17 : decode cX12_once 17 = .ok (.iload_n 2, 1) := dk_28 (dk_at dksX12_once_0 17 rfl rfl)
theorem dX12_once_18 : decode cX12_once 18 = .ok (.iconst 1, 1) := dk_4 (dk_at dksX12_once_0 18 rfl rfl)
theorem dX12_once_19 : decode cX12_once 19 = .ok (.iadd, 1) := dk_96 (dk_at dksX12_once_0 19 rfl rfl)
theorem dX12_once_20 : decode cX12_once 20 = .ok (.if_icmp .ne 17, 3) := dk_160 0 17 (dk_at dksX12_once_0 20 rfl rfl)
theorem dX12_once_23 : decode cX12_once 23 = .ok (.aload_n 0, 1) := dk_42 (dk_at dksX12_once_0 23 rfl rfl)
theorem dX12_once_24 : decode cX12_once 24 = .ok (.iload_n 2, 1) := dk_28 (dk_at dksX12_once_1 0 rfl rfl)
theorem dX12_once_25 : decode cX12_once 25 = .ok (.iload_n 3, 1) := dk_29 (dk_at dksX12_once_1 1 rfl rfl)
theorem dX12_once_26 : decode cX12_once 26 = .ok (.iload_n 1, 1) := dk_27 (dk_at dksX12_once_1 2 rfl rfl)
theorem dX12_once_27 : decode cX12_once 27 = .ok (.invokevirtual 70, 3) := dk_182 0 70 (dk_at dksX12_once_1 3 rfl rfl)
theorem dX12_once_30 : decode cX12_once 30 = .ok (.ifCond .eq 7, 3) := dk_153 0 7 (dk_at dksX12_once_1 6 rfl rfl)
theorem dX12_once_33 : decode cX12_once 33 = .ok (.lconst 1, 1) := dk_10 (dk_at dksX12_once_1 9 rfl rfl)
theorem dX12_once_34 : decode cX12_once 34 = .ok (.goto 4, 3) := dk_167 0 4 (dk_at dksX12_once_1 10 rfl rfl)
theorem dX12_once_37 : decode cX12_once 37 = .ok (.lconst 0, 1) := dk_9 (dk_at dksX12_once_1 13 rfl rfl)
theorem dX12_once_38 : decode cX12_once 38 = .ok (.lreturn, 1) := dk_173 (dk_at dksX12_once_1 14 rfl rfl)
theorem q173 : (Jvm.Cond.initialized "SelahGenerator$Backtracking") ∈ lw_all := lw_g (lw_at lw_m1 51 rfl) rfl
theorem q246 : (Jvm.Cond.fieldLinkNest "SelahGenerator$Backtracking" (39 : Nat) "SelahGenerator" "rules" "Ljava/util/List;" "SelahGenerator") ∈ lw_tbl := lw_at lw_m1 124 rfl
theorem q777 : (Jvm.Cond.selects "SelahGenerator$Backtracking" ({ cls := "java/lang/Object", name := "getClass", desc := "()Ljava/lang/Class;" } : Jvm.MethodName) ({ cls := "java/lang/Object", name := "getClass", desc := "()Ljava/lang/Class;" } : Jvm.MethodName)) ∈ lw_all := lw_g (lw_at lw_m3 175 rfl) rfl
theorem q1552 : (Jvm.Cond.instantiable "SelahGenerator$Backtracking" (3 : Nat)) ∈ lw_all := lw_g (lw_at lw_m6 230 rfl) rfl
theorem q1554 : (Jvm.Cond.instanceMethod ({ cls := "SelahGenerator$Backtracking", name := "<init>", desc := "(LSelahGenerator;Ljava/util/List;)V" } : Jvm.MethodName)) ∈ lw_all := lw_g (lw_at lw_m6 232 rfl) rfl
theorem q1555 : (Jvm.Cond.code ({ cls := "SelahGenerator$Backtracking", name := "<init>", desc := "(LSelahGenerator;Ljava/util/List;)V" } : Jvm.MethodName) prog_2_method_1_code (3 : Nat) (Option.none : Option Jvm.ClassFile.FieldType)) ∈ lw_all := lw_g (lw_at lw_m6 233 rfl) rfl
theorem q1556 : (Jvm.Cond.methodLink "SelahGenerator$Backtracking" (9 : Nat) ({ cls := "java/lang/Object", name := "<init>", desc := "()V" } : Jvm.MethodName)) ∈ lw_all := lw_g (lw_at lw_m6 234 rfl) rfl
theorem q1557 : (Jvm.Cond.methodLink "SelahGenerator$Backtracking" (23 : Nat) ({ cls := "java/util/Arrays", name := "fill", desc := "([II)V" } : Jvm.MethodName)) ∈ lw_all := lw_g (lw_at lw_m6 235 rfl) rfl
theorem q1558 : (Jvm.Cond.fieldLink "SelahGenerator$Backtracking" (15 : Nat) "SelahGenerator$Backtracking" "tokens" "Ljava/util/List;") ∈ lw_all := lw_g (lw_at lw_m6 236 rfl) rfl
theorem q1559 : (Jvm.Cond.fieldLink "SelahGenerator$Backtracking" (19 : Nat) "SelahGenerator$Backtracking" "known" "[I") ∈ lw_all := lw_g (lw_at lw_m6 237 rfl) rfl
theorem q1560 : (Jvm.Cond.fieldLink "SelahGenerator$Backtracking" (3 : Nat) "SelahGenerator$Backtracking" "this$0" "LSelahGenerator;") ∈ lw_all := lw_g (lw_at lw_m6 238 rfl) rfl
theorem q1561 : (Jvm.Cond.laysFinal "SelahGenerator$Backtracking" "SelahGenerator$Backtracking" "tokens" "Ljava/util/List;") ∈ lw_all := lw_g (lw_at lw_m6 239 rfl) rfl
theorem q1562 : (Jvm.Cond.soleField "SelahGenerator$Backtracking" "tokens") ∈ lw_all := lw_g (lw_at lw_m7 0 rfl) rfl
theorem q1563 : (Jvm.Cond.laysFinal "SelahGenerator$Backtracking" "SelahGenerator$Backtracking" "known" "[I") ∈ lw_all := lw_g (lw_at lw_m7 1 rfl) rfl
theorem q1564 : (Jvm.Cond.soleField "SelahGenerator$Backtracking" "known") ∈ lw_all := lw_g (lw_at lw_m7 2 rfl) rfl
theorem q1565 : (Jvm.Cond.laysFinal "SelahGenerator$Backtracking" "SelahGenerator$Backtracking" "this$0" "LSelahGenerator;") ∈ lw_all := lw_g (lw_at lw_m7 3 rfl) rfl
theorem q1566 : (Jvm.Cond.soleField "SelahGenerator$Backtracking" "this$0") ∈ lw_all := lw_g (lw_at lw_m7 4 rfl) rfl
theorem q1567 : (Jvm.Cond.superclass "SelahGenerator$Backtracking" "java/lang/Object") ∈ lw_all := lw_g (lw_at lw_m7 5 rfl) rfl
theorem q1569 : (Jvm.Cond.instanceMethod ({ cls := "SelahGenerator$Backtracking", name := "count", desc := "()I" } : Jvm.MethodName)) ∈ lw_all := lw_g (lw_at lw_m7 7 rfl) rfl
theorem q1570 : (Jvm.Cond.selects "SelahGenerator$Backtracking" ({ cls := "SelahGenerator$Backtracking", name := "count", desc := "()I" } : Jvm.MethodName) ({ cls := "SelahGenerator$Backtracking", name := "count", desc := "()I" } : Jvm.MethodName)) ∈ lw_all := lw_g (lw_at lw_m7 8 rfl) rfl
theorem q1571 : (Jvm.Cond.code ({ cls := "SelahGenerator$Backtracking", name := "count", desc := "()I" } : Jvm.MethodName) prog_2_method_2_code (1 : Nat) (Option.some Jvm.ClassFile.FieldType.int)) ∈ lw_all := lw_g (lw_at lw_m7 9 rfl) rfl
theorem q1572 : (Jvm.Cond.interfaceEntry "SelahGenerator$Backtracking" (29 : Nat)) ∈ lw_tbl := lw_at lw_m7 10 rfl
theorem q1573 : (Jvm.Cond.methodLink "SelahGenerator$Backtracking" (29 : Nat) ({ cls := "java/util/List", name := "size", desc := "()I" } : Jvm.MethodName)) ∈ lw_all := lw_g (lw_at lw_m7 11 rfl) rfl
theorem q1574 : (Jvm.Cond.methodLink "SelahGenerator$Backtracking" (35 : Nat) ({ cls := "SelahGenerator$Backtracking", name := "ways", desc := "(III)I" } : Jvm.MethodName)) ∈ lw_all := lw_g (lw_at lw_m7 12 rfl) rfl
theorem q1575 : (Jvm.Cond.privateMethod ({ cls := "SelahGenerator$Backtracking", name := "ways", desc := "(III)I" } : Jvm.MethodName)) ∈ lw_tbl := lw_at lw_m7 13 rfl
theorem q1576 : (Jvm.Cond.instanceMethod ({ cls := "SelahGenerator$Backtracking", name := "ways", desc := "(III)I" } : Jvm.MethodName)) ∈ lw_all := lw_g (lw_at lw_m7 14 rfl) rfl
theorem q1577 : (Jvm.Cond.code ({ cls := "SelahGenerator$Backtracking", name := "ways", desc := "(III)I" } : Jvm.MethodName) prog_2_method_3_code (7 : Nat) (Option.some Jvm.ClassFile.FieldType.int)) ∈ lw_all := lw_g (lw_at lw_m7 15 rfl) rfl
theorem q1578 : (Jvm.Cond.interfaceEntry "SelahGenerator$Backtracking" (42 : Nat)) ∈ lw_tbl := lw_at lw_m7 16 rfl
theorem q1579 : (Jvm.Cond.methodLink "SelahGenerator$Backtracking" (42 : Nat) ({ cls := "java/util/List", name := "get", desc := "(I)Ljava/lang/Object;" } : Jvm.MethodName)) ∈ lw_all := lw_g (lw_at lw_m7 17 rfl) rfl
theorem q1580 : (Jvm.Cond.classLink "SelahGenerator$Backtracking" (46 : Nat) "SelahGenerator$Rule") ∈ lw_all := lw_g (lw_at lw_m7 18 rfl) rfl
theorem q1581 : (Jvm.Cond.constant "SelahGenerator$Backtracking" (52 : Nat) (1000000 : Int32)) ∈ lw_all := lw_g (lw_at lw_m7 19 rfl) rfl
theorem q1582 : (Jvm.Cond.methodLink "SelahGenerator$Backtracking" (56 : Nat) ({ cls := "SelahGenerator$Backtracking", name := "along", desc := "([III)I" } : Jvm.MethodName)) ∈ lw_all := lw_g (lw_at lw_m7 20 rfl) rfl
theorem q1583 : (Jvm.Cond.privateMethod ({ cls := "SelahGenerator$Backtracking", name := "along", desc := "([III)I" } : Jvm.MethodName)) ∈ lw_tbl := lw_at lw_m7 21 rfl
theorem q1584 : (Jvm.Cond.instanceMethod ({ cls := "SelahGenerator$Backtracking", name := "along", desc := "([III)I" } : Jvm.MethodName)) ∈ lw_all := lw_g (lw_at lw_m7 22 rfl) rfl
theorem q1585 : (Jvm.Cond.code ({ cls := "SelahGenerator$Backtracking", name := "along", desc := "([III)I" } : Jvm.MethodName) prog_2_method_4_code (9 : Nat) (Option.some Jvm.ClassFile.FieldType.int)) ∈ lw_all := lw_g (lw_at lw_m7 23 rfl) rfl
theorem q1586 : (Jvm.Cond.methodLinkNest "SelahGenerator$Backtracking" (66 : Nat) ({ cls := "SelahGenerator", name := "isNonterminal", desc := "(I)Z" } : Jvm.MethodName) "SelahGenerator") ∈ lw_tbl := lw_at lw_m7 24 rfl
theorem q1587 : (Jvm.Cond.methodLink "SelahGenerator$Backtracking" (70 : Nat) ({ cls := "SelahGenerator$Backtracking", name := "isAt", desc := "(III)Z" } : Jvm.MethodName)) ∈ lw_all := lw_g (lw_at lw_m7 25 rfl) rfl
theorem q1588 : (Jvm.Cond.privateMethod ({ cls := "SelahGenerator$Backtracking", name := "isAt", desc := "(III)Z" } : Jvm.MethodName)) ∈ lw_tbl := lw_at lw_m7 26 rfl
theorem q1589 : (Jvm.Cond.instanceMethod ({ cls := "SelahGenerator$Backtracking", name := "isAt", desc := "(III)Z" } : Jvm.MethodName)) ∈ lw_all := lw_g (lw_at lw_m7 27 rfl) rfl
theorem q1590 : (Jvm.Cond.code ({ cls := "SelahGenerator$Backtracking", name := "isAt", desc := "(III)Z" } : Jvm.MethodName) prog_2_method_5_code (4 : Nat) (Option.some Jvm.ClassFile.FieldType.boolean)) ∈ lw_all := lw_g (lw_at lw_m7 28 rfl) rfl
theorem q1591 : (Jvm.Cond.classLink "SelahGenerator$Backtracking" (78 : Nat) "java/lang/Integer") ∈ lw_all := lw_g (lw_at lw_m7 29 rfl) rfl
theorem q1592 : (Jvm.Cond.methodLink "SelahGenerator$Backtracking" (80 : Nat) ({ cls := "java/lang/Integer", name := "intValue", desc := "()I" } : Jvm.MethodName)) ∈ lw_all := lw_g (lw_at lw_m7 30 rfl) rfl
theorem q1593 : (Jvm.Cond.methodLink "SelahGenerator$Backtracking" (74 : Nat) ({ cls := "SelahGenerator$Backtracking", name := "goBehind", desc := "(II[J)V" } : Jvm.MethodName)) ∈ lw_all := lw_g (lw_at lw_m7 31 rfl) rfl
theorem q1594 : (Jvm.Cond.privateMethod ({ cls := "SelahGenerator$Backtracking", name := "goBehind", desc := "(II[J)V" } : Jvm.MethodName)) ∈ lw_tbl := lw_at lw_m7 32 rfl
theorem q1595 : (Jvm.Cond.instanceMethod ({ cls := "SelahGenerator$Backtracking", name := "goBehind", desc := "(II[J)V" } : Jvm.MethodName)) ∈ lw_all := lw_g (lw_at lw_m7 33 rfl) rfl
theorem q1596 : (Jvm.Cond.code ({ cls := "SelahGenerator$Backtracking", name := "goBehind", desc := "(II[J)V" } : Jvm.MethodName) prog_2_method_6_code (8 : Nat) (Option.none : Option Jvm.ClassFile.FieldType)) ∈ lw_all := lw_g (lw_at lw_m7 34 rfl) rfl
theorem q1597 : (Jvm.Cond.constantLong "SelahGenerator$Backtracking" (83 : Nat) (1000000 : Int64)) ∈ lw_all := lw_g (lw_at lw_m7 35 rfl) rfl
theorem q1598 : (Jvm.Cond.methodLink "SelahGenerator$Backtracking" (85 : Nat) ({ cls := "SelahGenerator$Backtracking", name := "once", desc := "(III)J" } : Jvm.MethodName)) ∈ lw_all := lw_g (lw_at lw_m7 36 rfl) rfl
theorem q1599 : (Jvm.Cond.privateMethod ({ cls := "SelahGenerator$Backtracking", name := "once", desc := "(III)J" } : Jvm.MethodName)) ∈ lw_tbl := lw_at lw_m7 37 rfl
theorem q1600 : (Jvm.Cond.instanceMethod ({ cls := "SelahGenerator$Backtracking", name := "once", desc := "(III)J" } : Jvm.MethodName)) ∈ lw_all := lw_g (lw_at lw_m7 38 rfl) rfl
theorem q1601 : (Jvm.Cond.code ({ cls := "SelahGenerator$Backtracking", name := "once", desc := "(III)J" } : Jvm.MethodName) prog_2_method_7_code (4 : Nat) (Option.some Jvm.ClassFile.FieldType.long)) ∈ lw_all := lw_g (lw_at lw_m7 39 rfl) rfl
theorem q1602 : (Jvm.Cond.methodLink "SelahGenerator$Backtracking" (89 : Nat) ({ cls := "java/lang/Math", name := "min", desc := "(JJ)J" } : Jvm.MethodName)) ∈ lw_all := lw_g (lw_at lw_m7 40 rfl) rfl
theorem q1605 : (Jvm.Cond.methodLink "SelahGenerator$Backtracking" (60 : Nat) ({ cls := "java/lang/Math", name := "min", desc := "(II)I" } : Jvm.MethodName)) ∈ lw_all := lw_g (lw_at lw_m7 43 rfl) rfl
theorem q1736 : (Jvm.Cond.fieldLinkNest "SelahGenerator$Backtracking" (48 : Nat) "SelahGenerator$Rule" "left" "I" "SelahGenerator") ∈ lw_tbl := lw_at lw_m7 174 rfl
theorem q1743 : (Jvm.Cond.fieldLinkNest "SelahGenerator$Backtracking" (53 : Nat) "SelahGenerator$Rule" "right" "[I" "SelahGenerator") ∈ lw_tbl := lw_at lw_m7 181 rfl
theorem q2360 : (Jvm.Cond.selects "SelahGenerator$Backtracking" ({ cls := "java/lang/Object", name := "equals", desc := "(Ljava/lang/Object;)Z" } : Jvm.MethodName) ({ cls := "java/lang/Object", name := "equals", desc := "(Ljava/lang/Object;)Z" } : Jvm.MethodName)) ∈ lw_all := lw_g (lw_at lw_m10 78 rfl) rfl
theorem q3322 : (Jvm.Cond.castable "SelahGenerator$Backtracking" "java/lang/Object") ∈ lw_tbl := lw_at lw_m14 80 rfl
theorem in_X12 : ∀ w ∈ wsX120, w ∈ lw_all := lw_in wsX120 [1561, 1563, 1565] (by decide +kernel) (by decide +kernel)
