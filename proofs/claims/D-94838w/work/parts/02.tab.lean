set_option maxRecDepth 100000
/-! DECODE ROWS BY BYTES: one lemma an opcode; a method's code is cut into short pieces once, and a row reads its own piece alone. -/
set_option maxRecDepth 100000
/-- the code has just these bytes from pc on -/
def DkAt (code : ByteArray) (pc : Nat) (bs : List UInt8) : Prop := ∀ (j : Nat) (b : UInt8), bs[j]? = some b → code.data.toList[pc + j]? = some b
/-- the piece W has the bytes bs from its place j on -/
def dkIn (W : List UInt8) (j : Nat) (bs : List UInt8) : Bool := decide ((W.drop j).take bs.length = bs)
theorem dk_seg {l W T : List UInt8} {o o2 : Nat} (h : l.drop o = W ++ T) (n : Nat) (hn : W.length = n) (ho : o + n = o2) : l.drop o2 = T := by
  subst ho
  rw [← List.drop_drop, h, List.drop_left' hn]
theorem dk_at {code : ByteArray} {W T bs : List UInt8} {o pc : Nat} (h : code.data.toList.drop o = W ++ T) (j : Nat) (hp : o + j = pc) (hw : dkIn W j bs = true) : DkAt code pc bs := by
  subst hp
  intro i b e
  have h1 := of_decide_eq_true hw
  have h2 : i < bs.length := (List.getElem?_eq_some_iff.mp e).1
  have h3 : W[j + i]? = some b := by
    rw [← h1, List.getElem?_take, if_pos h2, List.getElem?_drop] at e
    exact e
  have h4 : j + i < W.length := (List.getElem?_eq_some_iff.mp h3).1
  have h5 : (code.data.toList.drop o)[j + i]? = some b := by
    rw [h, List.getElem?_append_left h4]
    exact h3
  rw [List.getElem?_drop, ← Nat.add_assoc] at h5
  exact h5
theorem dk_u1 {A : ByteArray} {p : Nat} {b : UInt8} (h : A.data.toList[p]? = some b) : (Reader.u1 : Reader DecodeError Nat) A p = .ok (b.toNat, p + 1) := by
  obtain ⟨h1, h2⟩ := List.getElem?_eq_some_iff.mp h
  have h3 : p < A.size := by simpa using h1
  have h4 : A[p]'h3 = b := h2
  have e : (Reader.u1 : Reader DecodeError Nat) A p = (if h : p < A.size then .ok (A[p].toNat, p + 1) else .error (HasTruncated.truncated p)) := by
    show (do if h : p < A.size then do set (p + 1); Pure.pure A[p].toNat else MonadExcept.throw (HasTruncated.truncated p) : Reader DecodeError Nat) A p = _
    by_cases hi : p < A.size
    · rw [dif_pos hi, dif_pos hi]; rfl
    · rw [dif_neg hi, dif_neg hi]; rfl
  rw [e, dif_pos h3, h4]
theorem dk_bind {α β : Type} {r : Reader DecodeError α} {f : α → Reader DecodeError β} {A : ByteArray} {p s : Nat} {a : α} (h : r A p = .ok (a, s)) : (r >>= f) A p = f a A s := by
  show (do let (a, s) ← r A p; f a A s : Except DecodeError (β × Nat)) = _
  rw [h]
  rfl
theorem dk_map {α β : Type} {r : Reader DecodeError α} {g : α → β} {A : ByteArray} {p s : Nat} {a : α} (h : r A p = .ok (a, s)) : (g <$> r) A p = .ok (g a, s) := by
  show (do let (a, s) ← r A p; .ok (g a, s) : Except DecodeError (β × Nat)) = _
  rw [h]
  rfl
theorem dk_u2 {A : ByteArray} {p : Nat} {a b : UInt8} (h : A.data.toList[p]? = some a) (h2 : A.data.toList[p + 1]? = some b) : (Reader.u2 : Reader DecodeError Nat) A p = .ok (a.toNat * 256 + b.toNat, p + 2) := by
  show (Reader.u1 >>= fun hi => Reader.u1 >>= fun lo => Pure.pure (hi * 256 + lo) : Reader DecodeError Nat) A p = _
  rw [dk_bind (dk_u1 h), dk_bind (dk_u1 h2)]
  rfl
theorem dk_of {code : ByteArray} {pc n : Nat} {i : Instr} (h : Decoder.instr pc code pc = .ok (i, pc + n)) : decode code pc = .ok (i, n) := by
  have e : decode code pc = (match Decoder.instr pc code pc with | .error x => .error x | .ok (j, s) => .ok (j, s - pc)) := by
    show (do let (j, s) ← Decoder.instr pc code pc; Pure.pure (j, s - pc) : Except DecodeError (Instr × Nat)) = _
    cases Decoder.instr pc code pc <;> rfl
  rw [e, h]
  show Except.ok (i, pc + n - pc) = _
  rw [Nat.add_sub_cancel_left]
theorem dk_1 {code : ByteArray} {pc : Nat} (h : DkAt code pc [1]) : decode code pc = .ok (.aconst_null, 1) := dk_of ((dk_bind (dk_u1 (h 0 _ rfl))).trans rfl)
theorem dk_2 {code : ByteArray} {pc : Nat} (h : DkAt code pc [2]) : decode code pc = .ok (.iconst (-1), 1) := dk_of ((dk_bind (dk_u1 (h 0 _ rfl))).trans rfl)
theorem dk_3 {code : ByteArray} {pc : Nat} (h : DkAt code pc [3]) : decode code pc = .ok (.iconst 0, 1) := dk_of ((dk_bind (dk_u1 (h 0 _ rfl))).trans rfl)
theorem dk_4 {code : ByteArray} {pc : Nat} (h : DkAt code pc [4]) : decode code pc = .ok (.iconst 1, 1) := dk_of ((dk_bind (dk_u1 (h 0 _ rfl))).trans rfl)
theorem dk_5 {code : ByteArray} {pc : Nat} (h : DkAt code pc [5]) : decode code pc = .ok (.iconst 2, 1) := dk_of ((dk_bind (dk_u1 (h 0 _ rfl))).trans rfl)
theorem dk_6 {code : ByteArray} {pc : Nat} (h : DkAt code pc [6]) : decode code pc = .ok (.iconst 3, 1) := dk_of ((dk_bind (dk_u1 (h 0 _ rfl))).trans rfl)
theorem dk_7 {code : ByteArray} {pc : Nat} (h : DkAt code pc [7]) : decode code pc = .ok (.iconst 4, 1) := dk_of ((dk_bind (dk_u1 (h 0 _ rfl))).trans rfl)
theorem dk_8 {code : ByteArray} {pc : Nat} (h : DkAt code pc [8]) : decode code pc = .ok (.iconst 5, 1) := dk_of ((dk_bind (dk_u1 (h 0 _ rfl))).trans rfl)
theorem dk_9 {code : ByteArray} {pc : Nat} (h : DkAt code pc [9]) : decode code pc = .ok (.lconst 0, 1) := dk_of ((dk_bind (dk_u1 (h 0 _ rfl))).trans rfl)
theorem dk_10 {code : ByteArray} {pc : Nat} (h : DkAt code pc [10]) : decode code pc = .ok (.lconst 1, 1) := dk_of ((dk_bind (dk_u1 (h 0 _ rfl))).trans rfl)
theorem dk_16 {code : ByteArray} {pc : Nat} (a : UInt8) (h : DkAt code pc [16, a]) : decode code pc = .ok (.bipush (Reader.signed 8 a.toNat), 2) := dk_of ((dk_bind (dk_u1 (h 0 _ rfl))).trans ((dk_bind (dk_map (dk_u1 (h 1 _ rfl)))).trans rfl))
theorem dk_17 {code : ByteArray} {pc : Nat} (a b : UInt8) (h : DkAt code pc [17, a, b]) : decode code pc = .ok (.sipush (Reader.signed 16 (a.toNat * 256 + b.toNat)), 3) := dk_of ((dk_bind (dk_u1 (h 0 _ rfl))).trans ((dk_bind (dk_map (dk_u2 (h 1 _ rfl) (h 2 _ rfl)))).trans rfl))
theorem dk_18 {code : ByteArray} {pc : Nat} (a : UInt8) (h : DkAt code pc [18, a]) : decode code pc = .ok (.ldc a.toNat, 2) := dk_of ((dk_bind (dk_u1 (h 0 _ rfl))).trans ((dk_bind (dk_u1 (h 1 _ rfl))).trans rfl))
theorem dk_19 {code : ByteArray} {pc : Nat} (a b : UInt8) (h : DkAt code pc [19, a, b]) : decode code pc = .ok (.ldc_w (a.toNat * 256 + b.toNat), 3) := dk_of ((dk_bind (dk_u1 (h 0 _ rfl))).trans ((dk_bind (dk_u2 (h 1 _ rfl) (h 2 _ rfl))).trans rfl))
theorem dk_20 {code : ByteArray} {pc : Nat} (a b : UInt8) (h : DkAt code pc [20, a, b]) : decode code pc = .ok (.ldc2_w (a.toNat * 256 + b.toNat), 3) := dk_of ((dk_bind (dk_u1 (h 0 _ rfl))).trans ((dk_bind (dk_u2 (h 1 _ rfl) (h 2 _ rfl))).trans rfl))
theorem dk_21 {code : ByteArray} {pc : Nat} (a : UInt8) (h : DkAt code pc [21, a]) : decode code pc = .ok (.iload a.toNat, 2) := dk_of ((dk_bind (dk_u1 (h 0 _ rfl))).trans ((dk_bind (dk_u1 (h 1 _ rfl))).trans rfl))
theorem dk_22 {code : ByteArray} {pc : Nat} (a : UInt8) (h : DkAt code pc [22, a]) : decode code pc = .ok (.lload a.toNat, 2) := dk_of ((dk_bind (dk_u1 (h 0 _ rfl))).trans ((dk_bind (dk_u1 (h 1 _ rfl))).trans rfl))
theorem dk_25 {code : ByteArray} {pc : Nat} (a : UInt8) (h : DkAt code pc [25, a]) : decode code pc = .ok (.aload a.toNat, 2) := dk_of ((dk_bind (dk_u1 (h 0 _ rfl))).trans ((dk_bind (dk_u1 (h 1 _ rfl))).trans rfl))
theorem dk_26 {code : ByteArray} {pc : Nat} (h : DkAt code pc [26]) : decode code pc = .ok (.iload_n 0, 1) := dk_of ((dk_bind (dk_u1 (h 0 _ rfl))).trans rfl)
theorem dk_27 {code : ByteArray} {pc : Nat} (h : DkAt code pc [27]) : decode code pc = .ok (.iload_n 1, 1) := dk_of ((dk_bind (dk_u1 (h 0 _ rfl))).trans rfl)
theorem dk_28 {code : ByteArray} {pc : Nat} (h : DkAt code pc [28]) : decode code pc = .ok (.iload_n 2, 1) := dk_of ((dk_bind (dk_u1 (h 0 _ rfl))).trans rfl)
theorem dk_29 {code : ByteArray} {pc : Nat} (h : DkAt code pc [29]) : decode code pc = .ok (.iload_n 3, 1) := dk_of ((dk_bind (dk_u1 (h 0 _ rfl))).trans rfl)
theorem dk_30 {code : ByteArray} {pc : Nat} (h : DkAt code pc [30]) : decode code pc = .ok (.lload_n 0, 1) := dk_of ((dk_bind (dk_u1 (h 0 _ rfl))).trans rfl)
theorem dk_31 {code : ByteArray} {pc : Nat} (h : DkAt code pc [31]) : decode code pc = .ok (.lload_n 1, 1) := dk_of ((dk_bind (dk_u1 (h 0 _ rfl))).trans rfl)
theorem dk_32 {code : ByteArray} {pc : Nat} (h : DkAt code pc [32]) : decode code pc = .ok (.lload_n 2, 1) := dk_of ((dk_bind (dk_u1 (h 0 _ rfl))).trans rfl)
theorem dk_33 {code : ByteArray} {pc : Nat} (h : DkAt code pc [33]) : decode code pc = .ok (.lload_n 3, 1) := dk_of ((dk_bind (dk_u1 (h 0 _ rfl))).trans rfl)
theorem dk_42 {code : ByteArray} {pc : Nat} (h : DkAt code pc [42]) : decode code pc = .ok (.aload_n 0, 1) := dk_of ((dk_bind (dk_u1 (h 0 _ rfl))).trans rfl)
theorem dk_43 {code : ByteArray} {pc : Nat} (h : DkAt code pc [43]) : decode code pc = .ok (.aload_n 1, 1) := dk_of ((dk_bind (dk_u1 (h 0 _ rfl))).trans rfl)
theorem dk_44 {code : ByteArray} {pc : Nat} (h : DkAt code pc [44]) : decode code pc = .ok (.aload_n 2, 1) := dk_of ((dk_bind (dk_u1 (h 0 _ rfl))).trans rfl)
theorem dk_45 {code : ByteArray} {pc : Nat} (h : DkAt code pc [45]) : decode code pc = .ok (.aload_n 3, 1) := dk_of ((dk_bind (dk_u1 (h 0 _ rfl))).trans rfl)
theorem dk_46 {code : ByteArray} {pc : Nat} (h : DkAt code pc [46]) : decode code pc = .ok (.iaload, 1) := dk_of ((dk_bind (dk_u1 (h 0 _ rfl))).trans rfl)
theorem dk_47 {code : ByteArray} {pc : Nat} (h : DkAt code pc [47]) : decode code pc = .ok (.laload, 1) := dk_of ((dk_bind (dk_u1 (h 0 _ rfl))).trans rfl)
theorem dk_50 {code : ByteArray} {pc : Nat} (h : DkAt code pc [50]) : decode code pc = .ok (.aaload, 1) := dk_of ((dk_bind (dk_u1 (h 0 _ rfl))).trans rfl)
theorem dk_51 {code : ByteArray} {pc : Nat} (h : DkAt code pc [51]) : decode code pc = .ok (.baload, 1) := dk_of ((dk_bind (dk_u1 (h 0 _ rfl))).trans rfl)
theorem dk_53 {code : ByteArray} {pc : Nat} (h : DkAt code pc [53]) : decode code pc = .ok (.saload, 1) := dk_of ((dk_bind (dk_u1 (h 0 _ rfl))).trans rfl)
theorem dk_54 {code : ByteArray} {pc : Nat} (a : UInt8) (h : DkAt code pc [54, a]) : decode code pc = .ok (.istore a.toNat, 2) := dk_of ((dk_bind (dk_u1 (h 0 _ rfl))).trans ((dk_bind (dk_u1 (h 1 _ rfl))).trans rfl))
theorem dk_55 {code : ByteArray} {pc : Nat} (a : UInt8) (h : DkAt code pc [55, a]) : decode code pc = .ok (.lstore a.toNat, 2) := dk_of ((dk_bind (dk_u1 (h 0 _ rfl))).trans ((dk_bind (dk_u1 (h 1 _ rfl))).trans rfl))
theorem dk_58 {code : ByteArray} {pc : Nat} (a : UInt8) (h : DkAt code pc [58, a]) : decode code pc = .ok (.astore a.toNat, 2) := dk_of ((dk_bind (dk_u1 (h 0 _ rfl))).trans ((dk_bind (dk_u1 (h 1 _ rfl))).trans rfl))
theorem dk_59 {code : ByteArray} {pc : Nat} (h : DkAt code pc [59]) : decode code pc = .ok (.istore_n 0, 1) := dk_of ((dk_bind (dk_u1 (h 0 _ rfl))).trans rfl)
theorem dk_60 {code : ByteArray} {pc : Nat} (h : DkAt code pc [60]) : decode code pc = .ok (.istore_n 1, 1) := dk_of ((dk_bind (dk_u1 (h 0 _ rfl))).trans rfl)
theorem dk_61 {code : ByteArray} {pc : Nat} (h : DkAt code pc [61]) : decode code pc = .ok (.istore_n 2, 1) := dk_of ((dk_bind (dk_u1 (h 0 _ rfl))).trans rfl)
theorem dk_62 {code : ByteArray} {pc : Nat} (h : DkAt code pc [62]) : decode code pc = .ok (.istore_n 3, 1) := dk_of ((dk_bind (dk_u1 (h 0 _ rfl))).trans rfl)
theorem dk_64 {code : ByteArray} {pc : Nat} (h : DkAt code pc [64]) : decode code pc = .ok (.lstore_n 1, 1) := dk_of ((dk_bind (dk_u1 (h 0 _ rfl))).trans rfl)
theorem dk_66 {code : ByteArray} {pc : Nat} (h : DkAt code pc [66]) : decode code pc = .ok (.lstore_n 3, 1) := dk_of ((dk_bind (dk_u1 (h 0 _ rfl))).trans rfl)
theorem dk_76 {code : ByteArray} {pc : Nat} (h : DkAt code pc [76]) : decode code pc = .ok (.astore_n 1, 1) := dk_of ((dk_bind (dk_u1 (h 0 _ rfl))).trans rfl)
theorem dk_77 {code : ByteArray} {pc : Nat} (h : DkAt code pc [77]) : decode code pc = .ok (.astore_n 2, 1) := dk_of ((dk_bind (dk_u1 (h 0 _ rfl))).trans rfl)
theorem dk_78 {code : ByteArray} {pc : Nat} (h : DkAt code pc [78]) : decode code pc = .ok (.astore_n 3, 1) := dk_of ((dk_bind (dk_u1 (h 0 _ rfl))).trans rfl)
theorem dk_79 {code : ByteArray} {pc : Nat} (h : DkAt code pc [79]) : decode code pc = .ok (.iastore, 1) := dk_of ((dk_bind (dk_u1 (h 0 _ rfl))).trans rfl)
theorem dk_80 {code : ByteArray} {pc : Nat} (h : DkAt code pc [80]) : decode code pc = .ok (.lastore, 1) := dk_of ((dk_bind (dk_u1 (h 0 _ rfl))).trans rfl)
theorem dk_83 {code : ByteArray} {pc : Nat} (h : DkAt code pc [83]) : decode code pc = .ok (.aastore, 1) := dk_of ((dk_bind (dk_u1 (h 0 _ rfl))).trans rfl)
theorem dk_84 {code : ByteArray} {pc : Nat} (h : DkAt code pc [84]) : decode code pc = .ok (.bastore, 1) := dk_of ((dk_bind (dk_u1 (h 0 _ rfl))).trans rfl)
theorem dk_86 {code : ByteArray} {pc : Nat} (h : DkAt code pc [86]) : decode code pc = .ok (.sastore, 1) := dk_of ((dk_bind (dk_u1 (h 0 _ rfl))).trans rfl)
theorem dk_87 {code : ByteArray} {pc : Nat} (h : DkAt code pc [87]) : decode code pc = .ok (.pop, 1) := dk_of ((dk_bind (dk_u1 (h 0 _ rfl))).trans rfl)
theorem dk_89 {code : ByteArray} {pc : Nat} (h : DkAt code pc [89]) : decode code pc = .ok (.dup, 1) := dk_of ((dk_bind (dk_u1 (h 0 _ rfl))).trans rfl)
theorem dk_92 {code : ByteArray} {pc : Nat} (h : DkAt code pc [92]) : decode code pc = .ok (.dup2, 1) := dk_of ((dk_bind (dk_u1 (h 0 _ rfl))).trans rfl)
theorem dk_96 {code : ByteArray} {pc : Nat} (h : DkAt code pc [96]) : decode code pc = .ok (.iadd, 1) := dk_of ((dk_bind (dk_u1 (h 0 _ rfl))).trans rfl)
theorem dk_97 {code : ByteArray} {pc : Nat} (h : DkAt code pc [97]) : decode code pc = .ok (.ladd, 1) := dk_of ((dk_bind (dk_u1 (h 0 _ rfl))).trans rfl)
theorem dk_100 {code : ByteArray} {pc : Nat} (h : DkAt code pc [100]) : decode code pc = .ok (.isub, 1) := dk_of ((dk_bind (dk_u1 (h 0 _ rfl))).trans rfl)
theorem dk_104 {code : ByteArray} {pc : Nat} (h : DkAt code pc [104]) : decode code pc = .ok (.imul, 1) := dk_of ((dk_bind (dk_u1 (h 0 _ rfl))).trans rfl)
theorem dk_105 {code : ByteArray} {pc : Nat} (h : DkAt code pc [105]) : decode code pc = .ok (.lmul, 1) := dk_of ((dk_bind (dk_u1 (h 0 _ rfl))).trans rfl)
theorem dk_108 {code : ByteArray} {pc : Nat} (h : DkAt code pc [108]) : decode code pc = .ok (.idiv, 1) := dk_of ((dk_bind (dk_u1 (h 0 _ rfl))).trans rfl)
theorem dk_109 {code : ByteArray} {pc : Nat} (h : DkAt code pc [109]) : decode code pc = .ok (.ldiv, 1) := dk_of ((dk_bind (dk_u1 (h 0 _ rfl))).trans rfl)
theorem dk_112 {code : ByteArray} {pc : Nat} (h : DkAt code pc [112]) : decode code pc = .ok (.irem, 1) := dk_of ((dk_bind (dk_u1 (h 0 _ rfl))).trans rfl)
theorem dk_113 {code : ByteArray} {pc : Nat} (h : DkAt code pc [113]) : decode code pc = .ok (.lrem, 1) := dk_of ((dk_bind (dk_u1 (h 0 _ rfl))).trans rfl)
theorem dk_116 {code : ByteArray} {pc : Nat} (h : DkAt code pc [116]) : decode code pc = .ok (.ineg, 1) := dk_of ((dk_bind (dk_u1 (h 0 _ rfl))).trans rfl)
theorem dk_120 {code : ByteArray} {pc : Nat} (h : DkAt code pc [120]) : decode code pc = .ok (.ishl, 1) := dk_of ((dk_bind (dk_u1 (h 0 _ rfl))).trans rfl)
theorem dk_122 {code : ByteArray} {pc : Nat} (h : DkAt code pc [122]) : decode code pc = .ok (.ishr, 1) := dk_of ((dk_bind (dk_u1 (h 0 _ rfl))).trans rfl)
theorem dk_124 {code : ByteArray} {pc : Nat} (h : DkAt code pc [124]) : decode code pc = .ok (.iushr, 1) := dk_of ((dk_bind (dk_u1 (h 0 _ rfl))).trans rfl)
theorem dk_126 {code : ByteArray} {pc : Nat} (h : DkAt code pc [126]) : decode code pc = .ok (.iand, 1) := dk_of ((dk_bind (dk_u1 (h 0 _ rfl))).trans rfl)
theorem dk_128 {code : ByteArray} {pc : Nat} (h : DkAt code pc [128]) : decode code pc = .ok (.ior, 1) := dk_of ((dk_bind (dk_u1 (h 0 _ rfl))).trans rfl)
theorem dk_130 {code : ByteArray} {pc : Nat} (h : DkAt code pc [130]) : decode code pc = .ok (.ixor, 1) := dk_of ((dk_bind (dk_u1 (h 0 _ rfl))).trans rfl)
theorem dk_132 {code : ByteArray} {pc : Nat} (a b : UInt8) (h : DkAt code pc [132, a, b]) : decode code pc = .ok (.iinc a.toNat (Reader.signed 8 b.toNat), 3) := dk_of ((dk_bind (dk_u1 (h 0 _ rfl))).trans ((dk_bind (dk_u1 (h 1 _ rfl))).trans ((dk_bind (dk_map (dk_u1 (h 2 _ rfl)))).trans rfl)))
theorem dk_133 {code : ByteArray} {pc : Nat} (h : DkAt code pc [133]) : decode code pc = .ok (.i2l, 1) := dk_of ((dk_bind (dk_u1 (h 0 _ rfl))).trans rfl)
theorem dk_145 {code : ByteArray} {pc : Nat} (h : DkAt code pc [145]) : decode code pc = .ok (.i2b, 1) := dk_of ((dk_bind (dk_u1 (h 0 _ rfl))).trans rfl)
theorem dk_146 {code : ByteArray} {pc : Nat} (h : DkAt code pc [146]) : decode code pc = .ok (.i2c, 1) := dk_of ((dk_bind (dk_u1 (h 0 _ rfl))).trans rfl)
theorem dk_147 {code : ByteArray} {pc : Nat} (h : DkAt code pc [147]) : decode code pc = .ok (.i2s, 1) := dk_of ((dk_bind (dk_u1 (h 0 _ rfl))).trans rfl)
theorem dk_148 {code : ByteArray} {pc : Nat} (h : DkAt code pc [148]) : decode code pc = .ok (.lcmp, 1) := dk_of ((dk_bind (dk_u1 (h 0 _ rfl))).trans rfl)
theorem dk_153 {code : ByteArray} {pc : Nat} (a b : UInt8) (h : DkAt code pc [153, a, b]) : decode code pc = .ok (.ifCond .eq (Reader.signed 16 (a.toNat * 256 + b.toNat)), 3) := dk_of ((dk_bind (dk_u1 (h 0 _ rfl))).trans ((dk_bind (dk_map (dk_u2 (h 1 _ rfl) (h 2 _ rfl)))).trans rfl))
theorem dk_154 {code : ByteArray} {pc : Nat} (a b : UInt8) (h : DkAt code pc [154, a, b]) : decode code pc = .ok (.ifCond .ne (Reader.signed 16 (a.toNat * 256 + b.toNat)), 3) := dk_of ((dk_bind (dk_u1 (h 0 _ rfl))).trans ((dk_bind (dk_map (dk_u2 (h 1 _ rfl) (h 2 _ rfl)))).trans rfl))
theorem dk_155 {code : ByteArray} {pc : Nat} (a b : UInt8) (h : DkAt code pc [155, a, b]) : decode code pc = .ok (.ifCond .lt (Reader.signed 16 (a.toNat * 256 + b.toNat)), 3) := dk_of ((dk_bind (dk_u1 (h 0 _ rfl))).trans ((dk_bind (dk_map (dk_u2 (h 1 _ rfl) (h 2 _ rfl)))).trans rfl))
theorem dk_156 {code : ByteArray} {pc : Nat} (a b : UInt8) (h : DkAt code pc [156, a, b]) : decode code pc = .ok (.ifCond .ge (Reader.signed 16 (a.toNat * 256 + b.toNat)), 3) := dk_of ((dk_bind (dk_u1 (h 0 _ rfl))).trans ((dk_bind (dk_map (dk_u2 (h 1 _ rfl) (h 2 _ rfl)))).trans rfl))
theorem dk_157 {code : ByteArray} {pc : Nat} (a b : UInt8) (h : DkAt code pc [157, a, b]) : decode code pc = .ok (.ifCond .gt (Reader.signed 16 (a.toNat * 256 + b.toNat)), 3) := dk_of ((dk_bind (dk_u1 (h 0 _ rfl))).trans ((dk_bind (dk_map (dk_u2 (h 1 _ rfl) (h 2 _ rfl)))).trans rfl))
theorem dk_158 {code : ByteArray} {pc : Nat} (a b : UInt8) (h : DkAt code pc [158, a, b]) : decode code pc = .ok (.ifCond .le (Reader.signed 16 (a.toNat * 256 + b.toNat)), 3) := dk_of ((dk_bind (dk_u1 (h 0 _ rfl))).trans ((dk_bind (dk_map (dk_u2 (h 1 _ rfl) (h 2 _ rfl)))).trans rfl))
theorem dk_159 {code : ByteArray} {pc : Nat} (a b : UInt8) (h : DkAt code pc [159, a, b]) : decode code pc = .ok (.if_icmp .eq (Reader.signed 16 (a.toNat * 256 + b.toNat)), 3) := dk_of ((dk_bind (dk_u1 (h 0 _ rfl))).trans ((dk_bind (dk_map (dk_u2 (h 1 _ rfl) (h 2 _ rfl)))).trans rfl))
theorem dk_160 {code : ByteArray} {pc : Nat} (a b : UInt8) (h : DkAt code pc [160, a, b]) : decode code pc = .ok (.if_icmp .ne (Reader.signed 16 (a.toNat * 256 + b.toNat)), 3) := dk_of ((dk_bind (dk_u1 (h 0 _ rfl))).trans ((dk_bind (dk_map (dk_u2 (h 1 _ rfl) (h 2 _ rfl)))).trans rfl))
theorem dk_161 {code : ByteArray} {pc : Nat} (a b : UInt8) (h : DkAt code pc [161, a, b]) : decode code pc = .ok (.if_icmp .lt (Reader.signed 16 (a.toNat * 256 + b.toNat)), 3) := dk_of ((dk_bind (dk_u1 (h 0 _ rfl))).trans ((dk_bind (dk_map (dk_u2 (h 1 _ rfl) (h 2 _ rfl)))).trans rfl))
theorem dk_162 {code : ByteArray} {pc : Nat} (a b : UInt8) (h : DkAt code pc [162, a, b]) : decode code pc = .ok (.if_icmp .ge (Reader.signed 16 (a.toNat * 256 + b.toNat)), 3) := dk_of ((dk_bind (dk_u1 (h 0 _ rfl))).trans ((dk_bind (dk_map (dk_u2 (h 1 _ rfl) (h 2 _ rfl)))).trans rfl))
theorem dk_163 {code : ByteArray} {pc : Nat} (a b : UInt8) (h : DkAt code pc [163, a, b]) : decode code pc = .ok (.if_icmp .gt (Reader.signed 16 (a.toNat * 256 + b.toNat)), 3) := dk_of ((dk_bind (dk_u1 (h 0 _ rfl))).trans ((dk_bind (dk_map (dk_u2 (h 1 _ rfl) (h 2 _ rfl)))).trans rfl))
theorem dk_164 {code : ByteArray} {pc : Nat} (a b : UInt8) (h : DkAt code pc [164, a, b]) : decode code pc = .ok (.if_icmp .le (Reader.signed 16 (a.toNat * 256 + b.toNat)), 3) := dk_of ((dk_bind (dk_u1 (h 0 _ rfl))).trans ((dk_bind (dk_map (dk_u2 (h 1 _ rfl) (h 2 _ rfl)))).trans rfl))
theorem dk_167 {code : ByteArray} {pc : Nat} (a b : UInt8) (h : DkAt code pc [167, a, b]) : decode code pc = .ok (.goto (Reader.signed 16 (a.toNat * 256 + b.toNat)), 3) := dk_of ((dk_bind (dk_u1 (h 0 _ rfl))).trans ((dk_bind (dk_map (dk_u2 (h 1 _ rfl) (h 2 _ rfl)))).trans rfl))
theorem dk_172 {code : ByteArray} {pc : Nat} (h : DkAt code pc [172]) : decode code pc = .ok (.ireturn, 1) := dk_of ((dk_bind (dk_u1 (h 0 _ rfl))).trans rfl)
theorem dk_173 {code : ByteArray} {pc : Nat} (h : DkAt code pc [173]) : decode code pc = .ok (.lreturn, 1) := dk_of ((dk_bind (dk_u1 (h 0 _ rfl))).trans rfl)
theorem dk_176 {code : ByteArray} {pc : Nat} (h : DkAt code pc [176]) : decode code pc = .ok (.areturn, 1) := dk_of ((dk_bind (dk_u1 (h 0 _ rfl))).trans rfl)
theorem dk_177 {code : ByteArray} {pc : Nat} (h : DkAt code pc [177]) : decode code pc = .ok (.return_, 1) := dk_of ((dk_bind (dk_u1 (h 0 _ rfl))).trans rfl)
theorem dk_178 {code : ByteArray} {pc : Nat} (a b : UInt8) (h : DkAt code pc [178, a, b]) : decode code pc = .ok (.getstatic (a.toNat * 256 + b.toNat), 3) := dk_of ((dk_bind (dk_u1 (h 0 _ rfl))).trans ((dk_bind (dk_u2 (h 1 _ rfl) (h 2 _ rfl))).trans rfl))
theorem dk_180 {code : ByteArray} {pc : Nat} (a b : UInt8) (h : DkAt code pc [180, a, b]) : decode code pc = .ok (.getfield (a.toNat * 256 + b.toNat), 3) := dk_of ((dk_bind (dk_u1 (h 0 _ rfl))).trans ((dk_bind (dk_u2 (h 1 _ rfl) (h 2 _ rfl))).trans rfl))
theorem dk_181 {code : ByteArray} {pc : Nat} (a b : UInt8) (h : DkAt code pc [181, a, b]) : decode code pc = .ok (.putfield (a.toNat * 256 + b.toNat), 3) := dk_of ((dk_bind (dk_u1 (h 0 _ rfl))).trans ((dk_bind (dk_u2 (h 1 _ rfl) (h 2 _ rfl))).trans rfl))
theorem dk_182 {code : ByteArray} {pc : Nat} (a b : UInt8) (h : DkAt code pc [182, a, b]) : decode code pc = .ok (.invokevirtual (a.toNat * 256 + b.toNat), 3) := dk_of ((dk_bind (dk_u1 (h 0 _ rfl))).trans ((dk_bind (dk_u2 (h 1 _ rfl) (h 2 _ rfl))).trans rfl))
theorem dk_183 {code : ByteArray} {pc : Nat} (a b : UInt8) (h : DkAt code pc [183, a, b]) : decode code pc = .ok (.invokespecial (a.toNat * 256 + b.toNat), 3) := dk_of ((dk_bind (dk_u1 (h 0 _ rfl))).trans ((dk_bind (dk_u2 (h 1 _ rfl) (h 2 _ rfl))).trans rfl))
theorem dk_184 {code : ByteArray} {pc : Nat} (a b : UInt8) (h : DkAt code pc [184, a, b]) : decode code pc = .ok (.invokestatic (a.toNat * 256 + b.toNat), 3) := dk_of ((dk_bind (dk_u1 (h 0 _ rfl))).trans ((dk_bind (dk_u2 (h 1 _ rfl) (h 2 _ rfl))).trans rfl))
theorem dk_187 {code : ByteArray} {pc : Nat} (a b : UInt8) (h : DkAt code pc [187, a, b]) : decode code pc = .ok (.new (a.toNat * 256 + b.toNat), 3) := dk_of ((dk_bind (dk_u1 (h 0 _ rfl))).trans ((dk_bind (dk_u2 (h 1 _ rfl) (h 2 _ rfl))).trans rfl))
theorem dk_188_4 {code : ByteArray} {pc : Nat} (h : DkAt code pc [188, 4]) : decode code pc = .ok (.newarray .boolean, 2) := dk_of ((dk_bind (dk_u1 (h 0 _ rfl))).trans ((dk_bind (dk_u1 (h 1 _ rfl))).trans rfl))
theorem dk_188_8 {code : ByteArray} {pc : Nat} (h : DkAt code pc [188, 8]) : decode code pc = .ok (.newarray .byte, 2) := dk_of ((dk_bind (dk_u1 (h 0 _ rfl))).trans ((dk_bind (dk_u1 (h 1 _ rfl))).trans rfl))
theorem dk_188_9 {code : ByteArray} {pc : Nat} (h : DkAt code pc [188, 9]) : decode code pc = .ok (.newarray .short, 2) := dk_of ((dk_bind (dk_u1 (h 0 _ rfl))).trans ((dk_bind (dk_u1 (h 1 _ rfl))).trans rfl))
theorem dk_188_10 {code : ByteArray} {pc : Nat} (h : DkAt code pc [188, 10]) : decode code pc = .ok (.newarray .int, 2) := dk_of ((dk_bind (dk_u1 (h 0 _ rfl))).trans ((dk_bind (dk_u1 (h 1 _ rfl))).trans rfl))
theorem dk_188_11 {code : ByteArray} {pc : Nat} (h : DkAt code pc [188, 11]) : decode code pc = .ok (.newarray .long, 2) := dk_of ((dk_bind (dk_u1 (h 0 _ rfl))).trans ((dk_bind (dk_u1 (h 1 _ rfl))).trans rfl))
theorem dk_189 {code : ByteArray} {pc : Nat} (a b : UInt8) (h : DkAt code pc [189, a, b]) : decode code pc = .ok (.anewarray (a.toNat * 256 + b.toNat), 3) := dk_of ((dk_bind (dk_u1 (h 0 _ rfl))).trans ((dk_bind (dk_u2 (h 1 _ rfl) (h 2 _ rfl))).trans rfl))
theorem dk_190 {code : ByteArray} {pc : Nat} (h : DkAt code pc [190]) : decode code pc = .ok (.arraylength, 1) := dk_of ((dk_bind (dk_u1 (h 0 _ rfl))).trans rfl)
theorem dk_191 {code : ByteArray} {pc : Nat} (h : DkAt code pc [191]) : decode code pc = .ok (.athrow, 1) := dk_of ((dk_bind (dk_u1 (h 0 _ rfl))).trans rfl)
theorem dk_192 {code : ByteArray} {pc : Nat} (a b : UInt8) (h : DkAt code pc [192, a, b]) : decode code pc = .ok (.checkcast (a.toNat * 256 + b.toNat), 3) := dk_of ((dk_bind (dk_u1 (h 0 _ rfl))).trans ((dk_bind (dk_u2 (h 1 _ rfl) (h 2 _ rfl))).trans rfl))
theorem dk_193 {code : ByteArray} {pc : Nat} (a b : UInt8) (h : DkAt code pc [193, a, b]) : decode code pc = .ok (.instanceof (a.toNat * 256 + b.toNat), 3) := dk_of ((dk_bind (dk_u1 (h 0 _ rfl))).trans ((dk_bind (dk_u2 (h 1 _ rfl) (h 2 _ rfl))).trans rfl))
theorem dk_198 {code : ByteArray} {pc : Nat} (a b : UInt8) (h : DkAt code pc [198, a, b]) : decode code pc = .ok (.ifnull (Reader.signed 16 (a.toNat * 256 + b.toNat)), 3) := dk_of ((dk_bind (dk_u1 (h 0 _ rfl))).trans ((dk_bind (dk_map (dk_u2 (h 1 _ rfl) (h 2 _ rfl)))).trans rfl))
theorem dk_199 {code : ByteArray} {pc : Nat} (a b : UInt8) (h : DkAt code pc [199, a, b]) : decode code pc = .ok (.ifnonnull (Reader.signed 16 (a.toNat * 256 + b.toNat)), 3) := dk_of ((dk_bind (dk_u1 (h 0 _ rfl))).trans ((dk_bind (dk_map (dk_u2 (h 1 _ rfl) (h 2 _ rfl)))).trans rfl))

def RJ0 : String := "java/lang/Math"
abbrev cJ0_min : ByteArray := prog_29_method_69_code
def yJ0_min : MethodName := ⟨RJ0, "min", "(II)I"⟩
abbrev cJ0_max : ByteArray := prog_29_method_65_code
def yJ0_max : MethodName := ⟨RJ0, "max", "(II)I"⟩
theorem q90 : (Jvm.Cond.initialized "java/lang/Math") ∈ lw_all := lw_g (lw_at lw_m1 16 rfl) rfl
theorem q533 : (Jvm.Cond.static ({ cls := "java/lang/Math", name := "min", desc := "(II)I" } : Jvm.MethodName)) ∈ lw_all := lw_g (lw_at lw_m2 219 rfl) rfl
theorem q534 : (Jvm.Cond.code ({ cls := "java/lang/Math", name := "min", desc := "(II)I" } : Jvm.MethodName) prog_29_method_69_code (2 : Nat) (Option.some Jvm.ClassFile.FieldType.int)) ∈ lw_all := lw_g (lw_at lw_m2 220 rfl) rfl
theorem q767 : (Jvm.Cond.static ({ cls := "java/lang/Math", name := "max", desc := "(II)I" } : Jvm.MethodName)) ∈ lw_all := lw_g (lw_at lw_m3 213 rfl) rfl
theorem q768 : (Jvm.Cond.code ({ cls := "java/lang/Math", name := "max", desc := "(II)I" } : Jvm.MethodName) prog_29_method_65_code (2 : Nat) (Option.some Jvm.ClassFile.FieldType.int)) ∈ lw_all := lw_g (lw_at lw_m3 214 rfl) rfl
def RJ1 : String := "java/lang/Throwable"
def TJ1 : u_T := fun k => match k with
  | 0 => ("java/lang/Throwable", "cause", "Ljava/lang/Throwable;", false)
  | 1 => ("java/lang/Throwable", "stackTrace", "[Ljava/lang/StackTraceElement;", false)
  | 2 => ("java/lang/Throwable", "suppressedExceptions", "Ljava/util/List;", false)
  | 3 => ("java/lang/Throwable", "detailMessage", "Ljava/lang/String;", false)
  | _ => ("java/lang/Throwable", "backtrace", "Ljava/lang/Object;", false)
def tyJ1 : Nat → FieldType := fun k => match k with
  | 0 => .object "java/lang/Throwable"
  | 1 => .array (.object "java/lang/StackTraceElement")
  | 2 => .object "java/util/List"
  | 3 => .object "java/lang/String"
  | _ => .object "java/lang/Object"
abbrev wsJ10 : List Cond := u_ws RJ1 TJ1 5
theorem nmJ1 : ∀ a, a < 5 → ∀ b, b < 5 → a ≠ b → (TJ1 a).2.1 ≠ (TJ1 b).2.1 := by decide +kernel
theorem tyJ1_ok : ∀ k, k < 5 → parseFieldDescriptor (TJ1 k).2.2.1 = some (tyJ1 k) := by decide +kernel
abbrev cJ1_init : ByteArray := prog_36_method_1_code
def yJ1_init : MethodName := ⟨RJ1, "<init>", "()V"⟩
abbrev cJ1_init_2 : ByteArray := prog_36_method_2_code
def yJ1_init_2 : MethodName := ⟨RJ1, "<init>", "(Ljava/lang/String;)V"⟩
theorem q91 : (Jvm.Cond.initialized "java/lang/Throwable") ∈ lw_all := lw_g (lw_at lw_m1 17 rfl) rfl
theorem q563 : (Jvm.Cond.declares ({ cls := "java/lang/Throwable", name := "<init>", desc := "()V" } : Jvm.MethodName)) ∈ lw_tbl := lw_at lw_m3 9 rfl
theorem q564 : (Jvm.Cond.declares ({ cls := "java/lang/Throwable", name := "<init>", desc := "(Ljava/lang/String;)V" } : Jvm.MethodName)) ∈ lw_tbl := lw_at lw_m3 10 rfl
theorem q568 : (Jvm.Cond.lays "java/lang/Throwable" "java/lang/Throwable" "cause" "Ljava/lang/Throwable;") ∈ lw_all := lw_g (lw_at lw_m3 14 rfl) rfl
theorem q570 : (Jvm.Cond.lays "java/lang/Throwable" "java/lang/Throwable" "stackTrace" "[Ljava/lang/StackTraceElement;") ∈ lw_all := lw_g (lw_at lw_m3 16 rfl) rfl
theorem q572 : (Jvm.Cond.lays "java/lang/Throwable" "java/lang/Throwable" "suppressedExceptions" "Ljava/util/List;") ∈ lw_all := lw_g (lw_at lw_m3 18 rfl) rfl
theorem q574 : (Jvm.Cond.lays "java/lang/Throwable" "java/lang/Throwable" "detailMessage" "Ljava/lang/String;") ∈ lw_all := lw_g (lw_at lw_m3 20 rfl) rfl
theorem q576 : (Jvm.Cond.lays "java/lang/Throwable" "java/lang/Throwable" "backtrace" "Ljava/lang/Object;") ∈ lw_all := lw_g (lw_at lw_m3 22 rfl) rfl
theorem q577 : (Jvm.Cond.fieldLink "java/lang/Throwable" (198 : Nat) "java/lang/Throwable" "backtrace" "Ljava/lang/Object;") ∈ lw_all := lw_g (lw_at lw_m3 23 rfl) rfl
theorem q578 : (Jvm.Cond.superclass "java/lang/Throwable" "java/lang/Object") ∈ lw_all := lw_g (lw_at lw_m3 24 rfl) rfl
theorem q579 : (Jvm.Cond.instanceMethod ({ cls := "java/lang/Throwable", name := "<init>", desc := "()V" } : Jvm.MethodName)) ∈ lw_all := lw_g (lw_at lw_m3 25 rfl) rfl
theorem q580 : (Jvm.Cond.code ({ cls := "java/lang/Throwable", name := "<init>", desc := "()V" } : Jvm.MethodName) prog_36_method_1_code (1 : Nat) (Option.none : Option Jvm.ClassFile.FieldType)) ∈ lw_all := lw_g (lw_at lw_m3 26 rfl) rfl
theorem q581 : (Jvm.Cond.methodLink "java/lang/Throwable" (1 : Nat) ({ cls := "java/lang/Object", name := "<init>", desc := "()V" } : Jvm.MethodName)) ∈ lw_all := lw_g (lw_at lw_m3 27 rfl) rfl
theorem q582 : (Jvm.Cond.fieldLink "java/lang/Throwable" (13 : Nat) "java/lang/Throwable" "UNASSIGNED_STACK" "[Ljava/lang/StackTraceElement;") ∈ lw_all := lw_g (lw_at lw_m3 28 rfl) rfl
theorem q583 : (Jvm.Cond.laysStatic "java/lang/Throwable" "UNASSIGNED_STACK" "[Ljava/lang/StackTraceElement;") ∈ lw_tbl := lw_at lw_m3 29 rfl
theorem q584 : (Jvm.Cond.fieldLink "java/lang/Throwable" (20 : Nat) "java/lang/Throwable" "SUPPRESSED_SENTINEL" "Ljava/util/List;") ∈ lw_all := lw_g (lw_at lw_m3 30 rfl) rfl
theorem q585 : (Jvm.Cond.laysStatic "java/lang/Throwable" "SUPPRESSED_SENTINEL" "Ljava/util/List;") ∈ lw_tbl := lw_at lw_m3 31 rfl
theorem q586 : (Jvm.Cond.methodLink "java/lang/Throwable" (27 : Nat) ({ cls := "java/lang/Throwable", name := "fillInStackTrace", desc := "()Ljava/lang/Throwable;" } : Jvm.MethodName)) ∈ lw_all := lw_g (lw_at lw_m3 32 rfl) rfl
theorem q587 : (Jvm.Cond.instanceMethod ({ cls := "java/lang/Throwable", name := "fillInStackTrace", desc := "()Ljava/lang/Throwable;" } : Jvm.MethodName)) ∈ lw_all := lw_g (lw_at lw_m3 33 rfl) rfl
theorem q588 : (Jvm.Cond.sameMethod "java/lang/Throwable" "java/lang/Throwable" "fillInStackTrace" "()Ljava/lang/Throwable;") ∈ lw_all := lw_g (lw_at lw_m3 34 rfl) rfl
theorem q591 : (Jvm.Cond.codeSync ({ cls := "java/lang/Throwable", name := "fillInStackTrace", desc := "()Ljava/lang/Throwable;" } : Jvm.MethodName) prog_36_method_18_code (1 : Nat) (Option.some (Jvm.ClassFile.FieldType.object "java/lang/Throwable"))) ∈ lw_all := lw_g (lw_at lw_m3 37 rfl) rfl
theorem q592 : (Jvm.Cond.methodLink "java/lang/Throwable" (202 : Nat) ({ cls := "java/lang/Throwable", name := "fillInStackTrace", desc := "(I)Ljava/lang/Throwable;" } : Jvm.MethodName)) ∈ lw_all := lw_g (lw_at lw_m3 38 rfl) rfl
theorem q593 : (Jvm.Cond.privateMethod ({ cls := "java/lang/Throwable", name := "fillInStackTrace", desc := "(I)Ljava/lang/Throwable;" } : Jvm.MethodName)) ∈ lw_tbl := lw_at lw_m3 39 rfl
theorem q594 : (Jvm.Cond.instanceMethod ({ cls := "java/lang/Throwable", name := "fillInStackTrace", desc := "(I)Ljava/lang/Throwable;" } : Jvm.MethodName)) ∈ lw_all := lw_g (lw_at lw_m3 40 rfl) rfl
theorem q595 : (Jvm.Cond.instantiable "java/lang/Throwable" (6 : Nat)) ∈ lw_all := lw_g (lw_at lw_m3 41 rfl) rfl
theorem q596 : (Jvm.Cond.native ({ cls := "java/lang/Throwable", name := "fillInStackTrace", desc := "(I)Ljava/lang/Throwable;" } : Jvm.MethodName)) ∈ lw_all := lw_g (lw_at lw_m3 42 rfl) rfl
theorem q606 : (Jvm.Cond.fieldLink "java/lang/Throwable" (198 : Nat) "java/lang/Throwable" "backtrace" "Ljava/lang/Object;") ∈ lw_all := lw_g (lw_at lw_m3 52 rfl) rfl
theorem q607 : (Jvm.Cond.fieldLink "java/lang/Throwable" (31 : Nat) "java/lang/Throwable" "detailMessage" "Ljava/lang/String;") ∈ lw_all := lw_g (lw_at lw_m3 53 rfl) rfl
theorem q608 : (Jvm.Cond.fieldLink "java/lang/Throwable" (7 : Nat) "java/lang/Throwable" "cause" "Ljava/lang/Throwable;") ∈ lw_all := lw_g (lw_at lw_m3 54 rfl) rfl
theorem q609 : (Jvm.Cond.fieldLink "java/lang/Throwable" (17 : Nat) "java/lang/Throwable" "stackTrace" "[Ljava/lang/StackTraceElement;") ∈ lw_all := lw_g (lw_at lw_m3 55 rfl) rfl
theorem q610 : (Jvm.Cond.fieldLink "java/lang/Throwable" (24 : Nat) "java/lang/Throwable" "suppressedExceptions" "Ljava/util/List;") ∈ lw_all := lw_g (lw_at lw_m3 56 rfl) rfl
theorem q613 : (Jvm.Cond.soleField "java/lang/Throwable" "backtrace") ∈ lw_all := lw_g (lw_at lw_m3 59 rfl) rfl
theorem q614 : (Jvm.Cond.soleField "java/lang/Throwable" "detailMessage") ∈ lw_all := lw_g (lw_at lw_m3 60 rfl) rfl
theorem q615 : (Jvm.Cond.soleField "java/lang/Throwable" "cause") ∈ lw_all := lw_g (lw_at lw_m3 61 rfl) rfl
theorem q616 : (Jvm.Cond.soleField "java/lang/Throwable" "stackTrace") ∈ lw_all := lw_g (lw_at lw_m3 62 rfl) rfl
theorem q618 : (Jvm.Cond.soleField "java/lang/Throwable" "depth") ∈ lw_all := lw_g (lw_at lw_m3 64 rfl) rfl
theorem q619 : (Jvm.Cond.soleField "java/lang/Throwable" "suppressedExceptions") ∈ lw_all := lw_g (lw_at lw_m3 65 rfl) rfl
theorem q880 : (Jvm.Cond.instanceMethod ({ cls := "java/lang/Throwable", name := "<init>", desc := "(Ljava/lang/String;)V" } : Jvm.MethodName)) ∈ lw_all := lw_g (lw_at lw_m4 86 rfl) rfl
theorem q881 : (Jvm.Cond.code ({ cls := "java/lang/Throwable", name := "<init>", desc := "(Ljava/lang/String;)V" } : Jvm.MethodName) prog_36_method_2_code (2 : Nat) (Option.none : Option Jvm.ClassFile.FieldType)) ∈ lw_all := lw_g (lw_at lw_m4 87 rfl) rfl
theorem q1944 : (Jvm.Cond.sameMethod "java/lang/Throwable" "java/lang/Throwable" "fillInStackTrace" "(I)Ljava/lang/Throwable;") ∈ lw_all := lw_g (lw_at lw_m8 190 rfl) rfl
theorem q1968 : (Jvm.Cond.castable "java/lang/Throwable" "java/lang/Object") ∈ lw_tbl := lw_at lw_m8 214 rfl
theorem in_J1 : ∀ w ∈ wsJ10, w ∈ lw_all := lw_in wsJ10 [568, 570, 572, 574, 576] (by decide +kernel) (by decide +kernel)
def RJ2 : String := "java/lang/Exception"
abbrev cJ2_init : ByteArray := prog_27_method_1_code
def yJ2_init : MethodName := ⟨RJ2, "<init>", "()V"⟩
abbrev cJ2_init_2 : ByteArray := prog_27_method_2_code
def yJ2_init_2 : MethodName := ⟨RJ2, "<init>", "(Ljava/lang/String;)V"⟩
theorem q92 : (Jvm.Cond.initialized "java/lang/Exception") ∈ lw_all := lw_g (lw_at lw_m1 18 rfl) rfl
theorem q561 : (Jvm.Cond.declares ({ cls := "java/lang/Exception", name := "<init>", desc := "()V" } : Jvm.MethodName)) ∈ lw_tbl := lw_at lw_m3 7 rfl
theorem q562 : (Jvm.Cond.declares ({ cls := "java/lang/Exception", name := "<init>", desc := "(Ljava/lang/String;)V" } : Jvm.MethodName)) ∈ lw_tbl := lw_at lw_m3 8 rfl
theorem q601 : (Jvm.Cond.instanceMethod ({ cls := "java/lang/Exception", name := "<init>", desc := "()V" } : Jvm.MethodName)) ∈ lw_all := lw_g (lw_at lw_m3 47 rfl) rfl
theorem q602 : (Jvm.Cond.code ({ cls := "java/lang/Exception", name := "<init>", desc := "()V" } : Jvm.MethodName) prog_27_method_1_code (1 : Nat) (Option.none : Option Jvm.ClassFile.FieldType)) ∈ lw_all := lw_g (lw_at lw_m3 48 rfl) rfl
theorem q603 : (Jvm.Cond.methodLink "java/lang/Exception" (1 : Nat) ({ cls := "java/lang/Throwable", name := "<init>", desc := "()V" } : Jvm.MethodName)) ∈ lw_all := lw_g (lw_at lw_m3 49 rfl) rfl
theorem q877 : (Jvm.Cond.instanceMethod ({ cls := "java/lang/Exception", name := "<init>", desc := "(Ljava/lang/String;)V" } : Jvm.MethodName)) ∈ lw_all := lw_g (lw_at lw_m4 83 rfl) rfl
theorem q878 : (Jvm.Cond.code ({ cls := "java/lang/Exception", name := "<init>", desc := "(Ljava/lang/String;)V" } : Jvm.MethodName) prog_27_method_2_code (2 : Nat) (Option.none : Option Jvm.ClassFile.FieldType)) ∈ lw_all := lw_g (lw_at lw_m4 84 rfl) rfl
theorem q879 : (Jvm.Cond.methodLink "java/lang/Exception" (7 : Nat) ({ cls := "java/lang/Throwable", name := "<init>", desc := "(Ljava/lang/String;)V" } : Jvm.MethodName)) ∈ lw_all := lw_g (lw_at lw_m4 85 rfl) rfl
def RJ3 : String := "java/lang/String"
def TJ3 : u_T := fun k => match k with
  | 0 => ("java/lang/String", "value", "[B", true)
  | _ => ("java/lang/String", "coder", "B", true)
def tyJ3 : Nat → FieldType := fun k => match k with
  | 0 => .array .byte
  | _ => .byte
abbrev wsJ30 : List Cond := u_ws RJ3 TJ3 2
theorem nmJ3 : ∀ a, a < 2 → ∀ b, b < 2 → a ≠ b → (TJ3 a).2.1 ≠ (TJ3 b).2.1 := by decide +kernel
theorem tyJ3_ok : ∀ k, k < 2 → parseFieldDescriptor (TJ3 k).2.2.1 = some (tyJ3 k) := by decide +kernel
abbrev cJ3_indexOf : ByteArray := prog_32_method_79_code
def yJ3_indexOf : MethodName := ⟨RJ3, "indexOf", "(I)I"⟩
abbrev cJ3_indexOf_2 : ByteArray := prog_32_method_80_code
def yJ3_indexOf_2 : MethodName := ⟨RJ3, "indexOf", "(II)I"⟩
abbrev cJ3_isLatin1 : ByteArray := prog_32_method_154_code
def yJ3_isLatin1 : MethodName := ⟨RJ3, "isLatin1", "()Z"⟩
abbrev cJ3_length : ByteArray := prog_32_method_54_code
def yJ3_length : MethodName := ⟨RJ3, "length", "()I"⟩
abbrev cJ3_coder : ByteArray := prog_32_method_152_code
def yJ3_coder : MethodName := ⟨RJ3, "coder", "()B"⟩
abbrev cJ3_checkBoundsBeginEnd : ByteArray := prog_32_method_158_code
def yJ3_checkBoundsBeginEnd : MethodName := ⟨RJ3, "checkBoundsBeginEnd", "(III)V"⟩
abbrev cJ3_charAt : ByteArray := prog_32_method_56_code
def yJ3_charAt : MethodName := ⟨RJ3, "charAt", "(I)C"⟩
abbrev cJ3_checkIndex : ByteArray := prog_32_method_155_code
def yJ3_checkIndex : MethodName := ⟨RJ3, "checkIndex", "(II)V"⟩
theorem q95 : (Jvm.Cond.initialized "java/lang/String") ∈ lw_all := lw_g (lw_at lw_m1 21 rfl) rfl
theorem q739 : (Jvm.Cond.instanceMethod ({ cls := "java/lang/String", name := "indexOf", desc := "(I)I" } : Jvm.MethodName)) ∈ lw_all := lw_g (lw_at lw_m3 185 rfl) rfl
theorem q740 : (Jvm.Cond.selects "java/lang/String" ({ cls := "java/lang/String", name := "indexOf", desc := "(I)I" } : Jvm.MethodName) ({ cls := "java/lang/String", name := "indexOf", desc := "(I)I" } : Jvm.MethodName)) ∈ lw_all := lw_g (lw_at lw_m3 186 rfl) rfl
theorem q741 : (Jvm.Cond.code ({ cls := "java/lang/String", name := "indexOf", desc := "(I)I" } : Jvm.MethodName) prog_32_method_79_code (2 : Nat) (Option.some Jvm.ClassFile.FieldType.int)) ∈ lw_all := lw_g (lw_at lw_m3 187 rfl) rfl
theorem q742 : (Jvm.Cond.methodLink "java/lang/String" (633 : Nat) ({ cls := "java/lang/String", name := "indexOf", desc := "(II)I" } : Jvm.MethodName)) ∈ lw_all := lw_g (lw_at lw_m3 188 rfl) rfl
theorem q743 : (Jvm.Cond.instanceMethod ({ cls := "java/lang/String", name := "indexOf", desc := "(II)I" } : Jvm.MethodName)) ∈ lw_all := lw_g (lw_at lw_m3 189 rfl) rfl
theorem q744 : (Jvm.Cond.selects "java/lang/String" ({ cls := "java/lang/String", name := "indexOf", desc := "(II)I" } : Jvm.MethodName) ({ cls := "java/lang/String", name := "indexOf", desc := "(II)I" } : Jvm.MethodName)) ∈ lw_all := lw_g (lw_at lw_m3 190 rfl) rfl
theorem q745 : (Jvm.Cond.code ({ cls := "java/lang/String", name := "indexOf", desc := "(II)I" } : Jvm.MethodName) prog_32_method_80_code (3 : Nat) (Option.some Jvm.ClassFile.FieldType.int)) ∈ lw_all := lw_g (lw_at lw_m3 191 rfl) rfl
theorem q746 : (Jvm.Cond.methodLink "java/lang/String" (492 : Nat) ({ cls := "java/lang/String", name := "isLatin1", desc := "()Z" } : Jvm.MethodName)) ∈ lw_all := lw_g (lw_at lw_m3 192 rfl) rfl
theorem q747 : (Jvm.Cond.instanceMethod ({ cls := "java/lang/String", name := "isLatin1", desc := "()Z" } : Jvm.MethodName)) ∈ lw_all := lw_g (lw_at lw_m3 193 rfl) rfl
theorem q748 : (Jvm.Cond.selects "java/lang/String" ({ cls := "java/lang/String", name := "isLatin1", desc := "()Z" } : Jvm.MethodName) ({ cls := "java/lang/String", name := "isLatin1", desc := "()Z" } : Jvm.MethodName)) ∈ lw_all := lw_g (lw_at lw_m3 194 rfl) rfl
theorem q749 : (Jvm.Cond.code ({ cls := "java/lang/String", name := "isLatin1", desc := "()Z" } : Jvm.MethodName) prog_32_method_154_code (1 : Nat) (Option.some Jvm.ClassFile.FieldType.boolean)) ∈ lw_all := lw_g (lw_at lw_m3 195 rfl) rfl
theorem q750 : (Jvm.Cond.fieldLink "java/lang/String" (38 : Nat) "java/lang/String" "COMPACT_STRINGS" "Z") ∈ lw_all := lw_g (lw_at lw_m3 196 rfl) rfl
theorem q751 : (Jvm.Cond.laysStatic "java/lang/String" "COMPACT_STRINGS" "Z") ∈ lw_tbl := lw_at lw_m3 197 rfl
theorem q752 : (Jvm.Cond.methodLink "java/lang/String" (505 : Nat) ({ cls := "java/lang/String", name := "length", desc := "()I" } : Jvm.MethodName)) ∈ lw_all := lw_g (lw_at lw_m3 198 rfl) rfl
theorem q753 : (Jvm.Cond.instanceMethod ({ cls := "java/lang/String", name := "length", desc := "()I" } : Jvm.MethodName)) ∈ lw_all := lw_g (lw_at lw_m3 199 rfl) rfl
theorem q754 : (Jvm.Cond.selects "java/lang/String" ({ cls := "java/lang/String", name := "length", desc := "()I" } : Jvm.MethodName) ({ cls := "java/lang/String", name := "length", desc := "()I" } : Jvm.MethodName)) ∈ lw_all := lw_g (lw_at lw_m3 200 rfl) rfl
theorem q755 : (Jvm.Cond.code ({ cls := "java/lang/String", name := "length", desc := "()I" } : Jvm.MethodName) prog_32_method_54_code (1 : Nat) (Option.some Jvm.ClassFile.FieldType.int)) ∈ lw_all := lw_g (lw_at lw_m3 201 rfl) rfl
theorem q756 : (Jvm.Cond.methodLink "java/lang/String" (335 : Nat) ({ cls := "java/lang/String", name := "coder", desc := "()B" } : Jvm.MethodName)) ∈ lw_all := lw_g (lw_at lw_m3 202 rfl) rfl
theorem q757 : (Jvm.Cond.instanceMethod ({ cls := "java/lang/String", name := "coder", desc := "()B" } : Jvm.MethodName)) ∈ lw_all := lw_g (lw_at lw_m3 203 rfl) rfl
theorem q758 : (Jvm.Cond.selects "java/lang/String" ({ cls := "java/lang/String", name := "coder", desc := "()B" } : Jvm.MethodName) ({ cls := "java/lang/String", name := "coder", desc := "()B" } : Jvm.MethodName)) ∈ lw_all := lw_g (lw_at lw_m3 204 rfl) rfl
theorem q759 : (Jvm.Cond.code ({ cls := "java/lang/String", name := "coder", desc := "()B" } : Jvm.MethodName) prog_32_method_152_code (1 : Nat) (Option.some Jvm.ClassFile.FieldType.byte)) ∈ lw_all := lw_g (lw_at lw_m3 205 rfl) rfl
theorem q760 : (Jvm.Cond.methodLink "java/lang/String" (637 : Nat) ({ cls := "java/lang/StringLatin1", name := "indexOf", desc := "([BIII)I" } : Jvm.MethodName)) ∈ lw_all := lw_g (lw_at lw_m3 206 rfl) rfl
theorem q773 : (Jvm.Cond.methodLink "java/lang/String" (640 : Nat) ({ cls := "java/lang/StringUTF16", name := "indexOf", desc := "([BIII)I" } : Jvm.MethodName)) ∈ lw_all := lw_g (lw_at lw_m3 219 rfl) rfl
theorem q789 : (Jvm.Cond.static ({ cls := "java/lang/String", name := "checkBoundsBeginEnd", desc := "(III)V" } : Jvm.MethodName)) ∈ lw_all := lw_g (lw_at lw_m3 235 rfl) rfl
theorem q790 : (Jvm.Cond.code ({ cls := "java/lang/String", name := "checkBoundsBeginEnd", desc := "(III)V" } : Jvm.MethodName) prog_32_method_158_code (3 : Nat) (Option.none : Option Jvm.ClassFile.FieldType)) ∈ lw_all := lw_g (lw_at lw_m3 236 rfl) rfl
theorem q791 : (Jvm.Cond.fieldLink "java/lang/String" (1053 : Nat) "jdk/internal/util/Preconditions" "SIOOBE_FORMATTER" "Ljava/util/function/BiFunction;") ∈ lw_all := lw_g (lw_at lw_m3 237 rfl) rfl
theorem q793 : (Jvm.Cond.methodLink "java/lang/String" (1062 : Nat) ({ cls := "jdk/internal/util/Preconditions", name := "checkFromToIndex", desc := "(IIILjava/util/function/BiFunction;)I" } : Jvm.MethodName)) ∈ lw_all := lw_g (lw_at lw_m3 239 rfl) rfl
theorem q893 : (Jvm.Cond.instantiable "java/lang/String" (4 : Nat)) ∈ lw_all := lw_g (lw_at lw_m4 99 rfl) rfl
theorem q894 : (Jvm.Cond.laysFinal "java/lang/String" "java/lang/String" "value" "[B") ∈ lw_all := lw_g (lw_at lw_m4 100 rfl) rfl
theorem q895 : (Jvm.Cond.soleField "java/lang/String" "value") ∈ lw_all := lw_g (lw_at lw_m4 101 rfl) rfl
theorem q896 : (Jvm.Cond.laysFinal "java/lang/String" "java/lang/String" "coder" "B") ∈ lw_all := lw_g (lw_at lw_m4 102 rfl) rfl
theorem q897 : (Jvm.Cond.soleField "java/lang/String" "coder") ∈ lw_all := lw_g (lw_at lw_m4 103 rfl) rfl
theorem q1554 : (Jvm.Cond.instanceMethod ({ cls := "java/lang/String", name := "charAt", desc := "(I)C" } : Jvm.MethodName)) ∈ lw_all := lw_g (lw_at lw_m7 40 rfl) rfl
theorem q1555 : (Jvm.Cond.selects "java/lang/String" ({ cls := "java/lang/String", name := "charAt", desc := "(I)C" } : Jvm.MethodName) ({ cls := "java/lang/String", name := "charAt", desc := "(I)C" } : Jvm.MethodName)) ∈ lw_all := lw_g (lw_at lw_m7 41 rfl) rfl
theorem q1556 : (Jvm.Cond.code ({ cls := "java/lang/String", name := "charAt", desc := "(I)C" } : Jvm.MethodName) prog_32_method_56_code (2 : Nat) (Option.some Jvm.ClassFile.FieldType.char)) ∈ lw_all := lw_g (lw_at lw_m7 42 rfl) rfl
theorem q1557 : (Jvm.Cond.methodLink "java/lang/String" (495 : Nat) ({ cls := "java/lang/StringLatin1", name := "charAt", desc := "([BI)C" } : Jvm.MethodName)) ∈ lw_all := lw_g (lw_at lw_m7 43 rfl) rfl
theorem q1561 : (Jvm.Cond.static ({ cls := "java/lang/String", name := "checkIndex", desc := "(II)V" } : Jvm.MethodName)) ∈ lw_all := lw_g (lw_at lw_m7 47 rfl) rfl
theorem q1562 : (Jvm.Cond.code ({ cls := "java/lang/String", name := "checkIndex", desc := "(II)V" } : Jvm.MethodName) prog_32_method_155_code (2 : Nat) (Option.none : Option Jvm.ClassFile.FieldType)) ∈ lw_all := lw_g (lw_at lw_m7 48 rfl) rfl
theorem q1563 : (Jvm.Cond.methodLink "java/lang/String" (1059 : Nat) ({ cls := "jdk/internal/util/Preconditions", name := "checkIndex", desc := "(IILjava/util/function/BiFunction;)I" } : Jvm.MethodName)) ∈ lw_all := lw_g (lw_at lw_m7 49 rfl) rfl
theorem q1566 : (Jvm.Cond.methodLink "java/lang/String" (498 : Nat) ({ cls := "java/lang/StringUTF16", name := "charAt", desc := "([BI)C" } : Jvm.MethodName)) ∈ lw_all := lw_g (lw_at lw_m7 52 rfl) rfl
theorem q1969 : (Jvm.Cond.castable "java/lang/String" "java/lang/Object") ∈ lw_tbl := lw_at lw_m8 215 rfl
theorem q1970 : (Jvm.Cond.fieldLink "java/lang/String" (9 : Nat) "java/lang/String" "value" "[B") ∈ lw_all := lw_g (lw_at lw_m8 216 rfl) rfl
theorem q1971 : (Jvm.Cond.fieldLink "java/lang/String" (15 : Nat) "java/lang/String" "coder" "B") ∈ lw_all := lw_g (lw_at lw_m8 217 rfl) rfl
theorem in_J3 : ∀ w ∈ wsJ30, w ∈ lw_all := lw_in wsJ30 [894, 896] (by decide +kernel) (by decide +kernel)
def RJ4 : String := "java/lang/StringLatin1"
abbrev cJ4_indexOf : ByteArray := prog_33_method_22_code
def yJ4_indexOf : MethodName := ⟨RJ4, "indexOf", "([BIII)I"⟩
abbrev cJ4_canEncode : ByteArray := prog_33_method_4_code
def yJ4_canEncode : MethodName := ⟨RJ4, "canEncode", "(I)Z"⟩
abbrev cJ4_indexOfChar : ByteArray := prog_33_method_23_code
def yJ4_indexOfChar : MethodName := ⟨RJ4, "indexOfChar", "([BIII)I"⟩
abbrev cJ4_charAt : ByteArray := prog_33_method_2_code
def yJ4_charAt : MethodName := ⟨RJ4, "charAt", "([BI)C"⟩
theorem q96 : (Jvm.Cond.initialized "java/lang/StringLatin1") ∈ lw_all := lw_g (lw_at lw_m1 22 rfl) rfl
theorem q761 : (Jvm.Cond.static ({ cls := "java/lang/StringLatin1", name := "indexOf", desc := "([BIII)I" } : Jvm.MethodName)) ∈ lw_all := lw_g (lw_at lw_m3 207 rfl) rfl
theorem q762 : (Jvm.Cond.code ({ cls := "java/lang/StringLatin1", name := "indexOf", desc := "([BIII)I" } : Jvm.MethodName) prog_33_method_22_code (4 : Nat) (Option.some Jvm.ClassFile.FieldType.int)) ∈ lw_all := lw_g (lw_at lw_m3 208 rfl) rfl
theorem q763 : (Jvm.Cond.methodLink "java/lang/StringLatin1" (88 : Nat) ({ cls := "java/lang/StringLatin1", name := "canEncode", desc := "(I)Z" } : Jvm.MethodName)) ∈ lw_all := lw_g (lw_at lw_m3 209 rfl) rfl
theorem q764 : (Jvm.Cond.static ({ cls := "java/lang/StringLatin1", name := "canEncode", desc := "(I)Z" } : Jvm.MethodName)) ∈ lw_all := lw_g (lw_at lw_m3 210 rfl) rfl
theorem q765 : (Jvm.Cond.code ({ cls := "java/lang/StringLatin1", name := "canEncode", desc := "(I)Z" } : Jvm.MethodName) prog_33_method_4_code (1 : Nat) (Option.some Jvm.ClassFile.FieldType.boolean)) ∈ lw_all := lw_g (lw_at lw_m3 211 rfl) rfl
theorem q766 : (Jvm.Cond.methodLink "java/lang/StringLatin1" (92 : Nat) ({ cls := "java/lang/Math", name := "max", desc := "(II)I" } : Jvm.MethodName)) ∈ lw_all := lw_g (lw_at lw_m3 212 rfl) rfl
theorem q769 : (Jvm.Cond.methodLink "java/lang/StringLatin1" (38 : Nat) ({ cls := "java/lang/Math", name := "min", desc := "(II)I" } : Jvm.MethodName)) ∈ lw_all := lw_g (lw_at lw_m3 215 rfl) rfl
theorem q770 : (Jvm.Cond.methodLink "java/lang/StringLatin1" (95 : Nat) ({ cls := "java/lang/StringLatin1", name := "indexOfChar", desc := "([BIII)I" } : Jvm.MethodName)) ∈ lw_all := lw_g (lw_at lw_m3 216 rfl) rfl
theorem q771 : (Jvm.Cond.static ({ cls := "java/lang/StringLatin1", name := "indexOfChar", desc := "([BIII)I" } : Jvm.MethodName)) ∈ lw_all := lw_g (lw_at lw_m3 217 rfl) rfl
theorem q772 : (Jvm.Cond.code ({ cls := "java/lang/StringLatin1", name := "indexOfChar", desc := "([BIII)I" } : Jvm.MethodName) prog_33_method_23_code (6 : Nat) (Option.some Jvm.ClassFile.FieldType.int)) ∈ lw_all := lw_g (lw_at lw_m3 218 rfl) rfl
theorem q1558 : (Jvm.Cond.static ({ cls := "java/lang/StringLatin1", name := "charAt", desc := "([BI)C" } : Jvm.MethodName)) ∈ lw_all := lw_g (lw_at lw_m7 44 rfl) rfl
theorem q1559 : (Jvm.Cond.code ({ cls := "java/lang/StringLatin1", name := "charAt", desc := "([BI)C" } : Jvm.MethodName) prog_33_method_2_code (2 : Nat) (Option.some Jvm.ClassFile.FieldType.char)) ∈ lw_all := lw_g (lw_at lw_m7 45 rfl) rfl
theorem q1560 : (Jvm.Cond.methodLink "java/lang/StringLatin1" (9 : Nat) ({ cls := "java/lang/String", name := "checkIndex", desc := "(II)V" } : Jvm.MethodName)) ∈ lw_all := lw_g (lw_at lw_m7 46 rfl) rfl
def RJ5 : String := "jdk/internal/util/Preconditions"
abbrev cJ5_checkFromToIndex : ByteArray := prog_41_method_12_code
def yJ5_checkFromToIndex : MethodName := ⟨RJ5, "checkFromToIndex", "(IIILjava/util/function/BiFunction;)I"⟩
abbrev cJ5_checkIndex : ByteArray := prog_41_method_11_code
def yJ5_checkIndex : MethodName := ⟨RJ5, "checkIndex", "(IILjava/util/function/BiFunction;)I"⟩
theorem q97 : (Jvm.Cond.initialized "jdk/internal/util/Preconditions") ∈ lw_all := lw_g (lw_at lw_m1 23 rfl) rfl
theorem q792 : (Jvm.Cond.laysStatic "jdk/internal/util/Preconditions" "SIOOBE_FORMATTER" "Ljava/util/function/BiFunction;") ∈ lw_tbl := lw_at lw_m3 238 rfl
theorem q794 : (Jvm.Cond.static ({ cls := "jdk/internal/util/Preconditions", name := "checkFromToIndex", desc := "(IIILjava/util/function/BiFunction;)I" } : Jvm.MethodName)) ∈ lw_all := lw_g (lw_at lw_m4 0 rfl) rfl
theorem q795 : (Jvm.Cond.code ({ cls := "jdk/internal/util/Preconditions", name := "checkFromToIndex", desc := "(IIILjava/util/function/BiFunction;)I" } : Jvm.MethodName) prog_41_method_12_code (4 : Nat) (Option.some Jvm.ClassFile.FieldType.int)) ∈ lw_all := lw_g (lw_at lw_m4 1 rfl) rfl
theorem q1564 : (Jvm.Cond.static ({ cls := "jdk/internal/util/Preconditions", name := "checkIndex", desc := "(IILjava/util/function/BiFunction;)I" } : Jvm.MethodName)) ∈ lw_all := lw_g (lw_at lw_m7 50 rfl) rfl
theorem q1565 : (Jvm.Cond.code ({ cls := "jdk/internal/util/Preconditions", name := "checkIndex", desc := "(IILjava/util/function/BiFunction;)I" } : Jvm.MethodName) prog_41_method_11_code (3 : Nat) (Option.some Jvm.ClassFile.FieldType.int)) ∈ lw_all := lw_g (lw_at lw_m7 51 rfl) rfl
def RJ6 : String := "java/lang/StringUTF16"
abbrev cJ6_indexOf : ByteArray := prog_34_method_40_code
def yJ6_indexOf : MethodName := ⟨RJ6, "indexOf", "([BIII)I"⟩
abbrev cJ6_indexOfChar : ByteArray := prog_34_method_47_code
def yJ6_indexOfChar : MethodName := ⟨RJ6, "indexOfChar", "([BIII)I"⟩
abbrev cJ6_checkBoundsBeginEnd : ByteArray := prog_34_method_93_code
def yJ6_checkBoundsBeginEnd : MethodName := ⟨RJ6, "checkBoundsBeginEnd", "(II[B)V"⟩
abbrev cJ6_length : ByteArray := prog_34_method_6_code
def yJ6_length : MethodName := ⟨RJ6, "length", "([B)I"⟩
abbrev cJ6_indexOfCharUnsafe : ByteArray := prog_34_method_48_code
def yJ6_indexOfCharUnsafe : MethodName := ⟨RJ6, "indexOfCharUnsafe", "([BIII)I"⟩
abbrev cJ6_getChar : ByteArray := prog_34_method_5_code
def yJ6_getChar : MethodName := ⟨RJ6, "getChar", "([BI)C"⟩
abbrev cJ6_indexOfSupplementary : ByteArray := prog_34_method_49_code
def yJ6_indexOfSupplementary : MethodName := ⟨RJ6, "indexOfSupplementary", "([BIII)I"⟩
abbrev cJ6_charAt : ByteArray := prog_34_method_83_code
def yJ6_charAt : MethodName := ⟨RJ6, "charAt", "([BI)C"⟩
abbrev cJ6_checkIndex : ByteArray := prog_34_method_91_code
def yJ6_checkIndex : MethodName := ⟨RJ6, "checkIndex", "(I[B)V"⟩
theorem q98 : (Jvm.Cond.initialized "java/lang/StringUTF16") ∈ lw_all := lw_g (lw_at lw_m1 24 rfl) rfl
theorem q774 : (Jvm.Cond.static ({ cls := "java/lang/StringUTF16", name := "indexOf", desc := "([BIII)I" } : Jvm.MethodName)) ∈ lw_all := lw_g (lw_at lw_m3 220 rfl) rfl
theorem q775 : (Jvm.Cond.code ({ cls := "java/lang/StringUTF16", name := "indexOf", desc := "([BIII)I" } : Jvm.MethodName) prog_34_method_40_code (4 : Nat) (Option.some Jvm.ClassFile.FieldType.int)) ∈ lw_all := lw_g (lw_at lw_m3 221 rfl) rfl
theorem q776 : (Jvm.Cond.methodLink "java/lang/StringUTF16" (224 : Nat) ({ cls := "java/lang/Math", name := "max", desc := "(II)I" } : Jvm.MethodName)) ∈ lw_all := lw_g (lw_at lw_m3 222 rfl) rfl
theorem q777 : (Jvm.Cond.methodLink "java/lang/StringUTF16" (183 : Nat) ({ cls := "java/lang/Math", name := "min", desc := "(II)I" } : Jvm.MethodName)) ∈ lw_all := lw_g (lw_at lw_m3 223 rfl) rfl
theorem q778 : (Jvm.Cond.constant "java/lang/StringUTF16" (227 : Nat) (65536 : Int32)) ∈ lw_all := lw_g (lw_at lw_m3 224 rfl) rfl
theorem q779 : (Jvm.Cond.methodLink "java/lang/StringUTF16" (228 : Nat) ({ cls := "java/lang/StringUTF16", name := "indexOfChar", desc := "([BIII)I" } : Jvm.MethodName)) ∈ lw_all := lw_g (lw_at lw_m3 225 rfl) rfl
theorem q780 : (Jvm.Cond.static ({ cls := "java/lang/StringUTF16", name := "indexOfChar", desc := "([BIII)I" } : Jvm.MethodName)) ∈ lw_all := lw_g (lw_at lw_m3 226 rfl) rfl
theorem q781 : (Jvm.Cond.code ({ cls := "java/lang/StringUTF16", name := "indexOfChar", desc := "([BIII)I" } : Jvm.MethodName) prog_34_method_47_code (4 : Nat) (Option.some Jvm.ClassFile.FieldType.int)) ∈ lw_all := lw_g (lw_at lw_m3 227 rfl) rfl
theorem q782 : (Jvm.Cond.methodLink "java/lang/StringUTF16" (96 : Nat) ({ cls := "java/lang/StringUTF16", name := "checkBoundsBeginEnd", desc := "(II[B)V" } : Jvm.MethodName)) ∈ lw_all := lw_g (lw_at lw_m3 228 rfl) rfl
theorem q783 : (Jvm.Cond.static ({ cls := "java/lang/StringUTF16", name := "checkBoundsBeginEnd", desc := "(II[B)V" } : Jvm.MethodName)) ∈ lw_all := lw_g (lw_at lw_m3 229 rfl) rfl
theorem q784 : (Jvm.Cond.code ({ cls := "java/lang/StringUTF16", name := "checkBoundsBeginEnd", desc := "(II[B)V" } : Jvm.MethodName) prog_34_method_93_code (3 : Nat) (Option.none : Option Jvm.ClassFile.FieldType)) ∈ lw_all := lw_g (lw_at lw_m3 230 rfl) rfl
theorem q785 : (Jvm.Cond.methodLink "java/lang/StringUTF16" (48 : Nat) ({ cls := "java/lang/StringUTF16", name := "length", desc := "([B)I" } : Jvm.MethodName)) ∈ lw_all := lw_g (lw_at lw_m3 231 rfl) rfl
theorem q786 : (Jvm.Cond.static ({ cls := "java/lang/StringUTF16", name := "length", desc := "([B)I" } : Jvm.MethodName)) ∈ lw_all := lw_g (lw_at lw_m3 232 rfl) rfl
theorem q787 : (Jvm.Cond.code ({ cls := "java/lang/StringUTF16", name := "length", desc := "([B)I" } : Jvm.MethodName) prog_34_method_6_code (1 : Nat) (Option.some Jvm.ClassFile.FieldType.int)) ∈ lw_all := lw_g (lw_at lw_m3 233 rfl) rfl
theorem q788 : (Jvm.Cond.methodLink "java/lang/StringUTF16" (241 : Nat) ({ cls := "java/lang/String", name := "checkBoundsBeginEnd", desc := "(III)V" } : Jvm.MethodName)) ∈ lw_all := lw_g (lw_at lw_m3 234 rfl) rfl
theorem q796 : (Jvm.Cond.methodLink "java/lang/StringUTF16" (244 : Nat) ({ cls := "java/lang/StringUTF16", name := "indexOfCharUnsafe", desc := "([BIII)I" } : Jvm.MethodName)) ∈ lw_all := lw_g (lw_at lw_m4 2 rfl) rfl
theorem q797 : (Jvm.Cond.static ({ cls := "java/lang/StringUTF16", name := "indexOfCharUnsafe", desc := "([BIII)I" } : Jvm.MethodName)) ∈ lw_all := lw_g (lw_at lw_m4 3 rfl) rfl
theorem q798 : (Jvm.Cond.code ({ cls := "java/lang/StringUTF16", name := "indexOfCharUnsafe", desc := "([BIII)I" } : Jvm.MethodName) prog_34_method_48_code (5 : Nat) (Option.some Jvm.ClassFile.FieldType.int)) ∈ lw_all := lw_g (lw_at lw_m4 4 rfl) rfl
theorem q799 : (Jvm.Cond.methodLink "java/lang/StringUTF16" (71 : Nat) ({ cls := "java/lang/StringUTF16", name := "getChar", desc := "([BI)C" } : Jvm.MethodName)) ∈ lw_all := lw_g (lw_at lw_m4 5 rfl) rfl
theorem q800 : (Jvm.Cond.static ({ cls := "java/lang/StringUTF16", name := "getChar", desc := "([BI)C" } : Jvm.MethodName)) ∈ lw_all := lw_g (lw_at lw_m4 6 rfl) rfl
theorem q801 : (Jvm.Cond.code ({ cls := "java/lang/StringUTF16", name := "getChar", desc := "([BI)C" } : Jvm.MethodName) prog_34_method_5_code (2 : Nat) (Option.some Jvm.ClassFile.FieldType.char)) ∈ lw_all := lw_g (lw_at lw_m4 7 rfl) rfl
theorem q802 : (Jvm.Cond.fieldLink "java/lang/StringUTF16" (44 : Nat) "java/lang/StringUTF16" "$assertionsDisabled" "Z") ∈ lw_all := lw_g (lw_at lw_m4 8 rfl) rfl
theorem q803 : (Jvm.Cond.laysStatic "java/lang/StringUTF16" "$assertionsDisabled" "Z") ∈ lw_tbl := lw_at lw_m4 9 rfl
theorem q804 : (Jvm.Cond.fieldLink "java/lang/StringUTF16" (59 : Nat) "java/lang/StringUTF16" "HI_BYTE_SHIFT" "I") ∈ lw_all := lw_g (lw_at lw_m4 10 rfl) rfl
theorem q805 : (Jvm.Cond.laysStatic "java/lang/StringUTF16" "HI_BYTE_SHIFT" "I") ∈ lw_tbl := lw_at lw_m4 11 rfl
theorem q806 : (Jvm.Cond.fieldLink "java/lang/StringUTF16" (63 : Nat) "java/lang/StringUTF16" "LO_BYTE_SHIFT" "I") ∈ lw_all := lw_g (lw_at lw_m4 12 rfl) rfl
theorem q807 : (Jvm.Cond.laysStatic "java/lang/StringUTF16" "LO_BYTE_SHIFT" "I") ∈ lw_tbl := lw_at lw_m4 13 rfl
theorem q808 : (Jvm.Cond.methodLink "java/lang/StringUTF16" (232 : Nat) ({ cls := "java/lang/StringUTF16", name := "indexOfSupplementary", desc := "([BIII)I" } : Jvm.MethodName)) ∈ lw_all := lw_g (lw_at lw_m4 14 rfl) rfl
theorem q809 : (Jvm.Cond.static ({ cls := "java/lang/StringUTF16", name := "indexOfSupplementary", desc := "([BIII)I" } : Jvm.MethodName)) ∈ lw_all := lw_g (lw_at lw_m4 15 rfl) rfl
theorem q810 : (Jvm.Cond.code ({ cls := "java/lang/StringUTF16", name := "indexOfSupplementary", desc := "([BIII)I" } : Jvm.MethodName) prog_34_method_49_code (7 : Nat) (Option.some Jvm.ClassFile.FieldType.int)) ∈ lw_all := lw_g (lw_at lw_m4 16 rfl) rfl
theorem q811 : (Jvm.Cond.methodLink "java/lang/StringUTF16" (164 : Nat) ({ cls := "java/lang/Character", name := "isValidCodePoint", desc := "(I)Z" } : Jvm.MethodName)) ∈ lw_all := lw_g (lw_at lw_m4 17 rfl) rfl
theorem q814 : (Jvm.Cond.methodLink "java/lang/StringUTF16" (157 : Nat) ({ cls := "java/lang/Character", name := "highSurrogate", desc := "(I)C" } : Jvm.MethodName)) ∈ lw_all := lw_g (lw_at lw_m4 20 rfl) rfl
theorem q818 : (Jvm.Cond.methodLink "java/lang/StringUTF16" (161 : Nat) ({ cls := "java/lang/Character", name := "lowSurrogate", desc := "(I)C" } : Jvm.MethodName)) ∈ lw_all := lw_g (lw_at lw_m4 24 rfl) rfl
theorem q1567 : (Jvm.Cond.static ({ cls := "java/lang/StringUTF16", name := "charAt", desc := "([BI)C" } : Jvm.MethodName)) ∈ lw_all := lw_g (lw_at lw_m7 53 rfl) rfl
theorem q1568 : (Jvm.Cond.code ({ cls := "java/lang/StringUTF16", name := "charAt", desc := "([BI)C" } : Jvm.MethodName) prog_34_method_83_code (2 : Nat) (Option.some Jvm.ClassFile.FieldType.char)) ∈ lw_all := lw_g (lw_at lw_m7 54 rfl) rfl
theorem q1569 : (Jvm.Cond.methodLink "java/lang/StringUTF16" (67 : Nat) ({ cls := "java/lang/StringUTF16", name := "checkIndex", desc := "(I[B)V" } : Jvm.MethodName)) ∈ lw_all := lw_g (lw_at lw_m7 55 rfl) rfl
theorem q1570 : (Jvm.Cond.static ({ cls := "java/lang/StringUTF16", name := "checkIndex", desc := "(I[B)V" } : Jvm.MethodName)) ∈ lw_all := lw_g (lw_at lw_m7 56 rfl) rfl
theorem q1571 : (Jvm.Cond.code ({ cls := "java/lang/StringUTF16", name := "checkIndex", desc := "(I[B)V" } : Jvm.MethodName) prog_34_method_91_code (2 : Nat) (Option.none : Option Jvm.ClassFile.FieldType)) ∈ lw_all := lw_g (lw_at lw_m7 57 rfl) rfl
theorem q1572 : (Jvm.Cond.methodLink "java/lang/StringUTF16" (414 : Nat) ({ cls := "java/lang/String", name := "checkIndex", desc := "(II)V" } : Jvm.MethodName)) ∈ lw_all := lw_g (lw_at lw_m7 58 rfl) rfl
def RJ7 : String := "java/lang/Character"
abbrev cJ7_isValidCodePoint : ByteArray := prog_24_method_11_code
def yJ7_isValidCodePoint : MethodName := ⟨RJ7, "isValidCodePoint", "(I)Z"⟩
abbrev cJ7_highSurrogate : ByteArray := prog_24_method_28_code
def yJ7_highSurrogate : MethodName := ⟨RJ7, "highSurrogate", "(I)C"⟩
abbrev cJ7_lowSurrogate : ByteArray := prog_24_method_29_code
def yJ7_lowSurrogate : MethodName := ⟨RJ7, "lowSurrogate", "(I)C"⟩
theorem q100 : (Jvm.Cond.initialized "java/lang/Character") ∈ lw_all := lw_g (lw_at lw_m1 26 rfl) rfl
theorem q812 : (Jvm.Cond.static ({ cls := "java/lang/Character", name := "isValidCodePoint", desc := "(I)Z" } : Jvm.MethodName)) ∈ lw_all := lw_g (lw_at lw_m4 18 rfl) rfl
theorem q813 : (Jvm.Cond.code ({ cls := "java/lang/Character", name := "isValidCodePoint", desc := "(I)Z" } : Jvm.MethodName) prog_24_method_11_code (2 : Nat) (Option.some Jvm.ClassFile.FieldType.boolean)) ∈ lw_all := lw_g (lw_at lw_m4 19 rfl) rfl
theorem q815 : (Jvm.Cond.static ({ cls := "java/lang/Character", name := "highSurrogate", desc := "(I)C" } : Jvm.MethodName)) ∈ lw_all := lw_g (lw_at lw_m4 21 rfl) rfl
theorem q816 : (Jvm.Cond.code ({ cls := "java/lang/Character", name := "highSurrogate", desc := "(I)C" } : Jvm.MethodName) prog_24_method_28_code (1 : Nat) (Option.some Jvm.ClassFile.FieldType.char)) ∈ lw_all := lw_g (lw_at lw_m4 22 rfl) rfl
theorem q817 : (Jvm.Cond.constant "java/lang/Character" (110 : Nat) (55232 : Int32)) ∈ lw_all := lw_g (lw_at lw_m4 23 rfl) rfl
theorem q819 : (Jvm.Cond.static ({ cls := "java/lang/Character", name := "lowSurrogate", desc := "(I)C" } : Jvm.MethodName)) ∈ lw_all := lw_g (lw_at lw_m4 25 rfl) rfl
theorem q820 : (Jvm.Cond.code ({ cls := "java/lang/Character", name := "lowSurrogate", desc := "(I)C" } : Jvm.MethodName) prog_24_method_29_code (1 : Nat) (Option.some Jvm.ClassFile.FieldType.char)) ∈ lw_all := lw_g (lw_at lw_m4 26 rfl) rfl
theorem q821 : (Jvm.Cond.constant "java/lang/Character" (76 : Nat) (56320 : Int32)) ∈ lw_all := lw_g (lw_at lw_m4 27 rfl) rfl
def RJ8 : String := "java/lang/Integer"
abbrev cJ8_bitCount : ByteArray := prog_28_method_49_code
def yJ8_bitCount : MethodName := ⟨RJ8, "bitCount", "(I)I"⟩
theorem q101 : (Jvm.Cond.initialized "java/lang/Integer") ∈ lw_all := lw_g (lw_at lw_m1 27 rfl) rfl
theorem q835 : (Jvm.Cond.static ({ cls := "java/lang/Integer", name := "bitCount", desc := "(I)I" } : Jvm.MethodName)) ∈ lw_all := lw_g (lw_at lw_m4 41 rfl) rfl
theorem q836 : (Jvm.Cond.code ({ cls := "java/lang/Integer", name := "bitCount", desc := "(I)I" } : Jvm.MethodName) prog_28_method_49_code (1 : Nat) (Option.some Jvm.ClassFile.FieldType.int)) ∈ lw_all := lw_g (lw_at lw_m4 42 rfl) rfl
theorem q837 : (Jvm.Cond.constant "java/lang/Integer" (265 : Nat) (1431655765 : Int32)) ∈ lw_all := lw_g (lw_at lw_m4 43 rfl) rfl
theorem q838 : (Jvm.Cond.constant "java/lang/Integer" (266 : Nat) (858993459 : Int32)) ∈ lw_all := lw_g (lw_at lw_m4 44 rfl) rfl
theorem q839 : (Jvm.Cond.constant "java/lang/Integer" (267 : Nat) (252645135 : Int32)) ∈ lw_all := lw_g (lw_at lw_m4 45 rfl) rfl
def RJ9 : String := "java/lang/RuntimeException"
abbrev cJ9_init : ByteArray := prog_31_method_2_code
def yJ9_init : MethodName := ⟨RJ9, "<init>", "(Ljava/lang/String;)V"⟩
abbrev cJ9_init_2 : ByteArray := prog_31_method_1_code
def yJ9_init_2 : MethodName := ⟨RJ9, "<init>", "()V"⟩
theorem q102 : (Jvm.Cond.initialized "java/lang/RuntimeException") ∈ lw_all := lw_g (lw_at lw_m1 28 rfl) rfl
theorem q874 : (Jvm.Cond.instanceMethod ({ cls := "java/lang/RuntimeException", name := "<init>", desc := "(Ljava/lang/String;)V" } : Jvm.MethodName)) ∈ lw_all := lw_g (lw_at lw_m4 80 rfl) rfl
theorem q875 : (Jvm.Cond.code ({ cls := "java/lang/RuntimeException", name := "<init>", desc := "(Ljava/lang/String;)V" } : Jvm.MethodName) prog_31_method_2_code (2 : Nat) (Option.none : Option Jvm.ClassFile.FieldType)) ∈ lw_all := lw_g (lw_at lw_m4 81 rfl) rfl
theorem q876 : (Jvm.Cond.methodLink "java/lang/RuntimeException" (7 : Nat) ({ cls := "java/lang/Exception", name := "<init>", desc := "(Ljava/lang/String;)V" } : Jvm.MethodName)) ∈ lw_all := lw_g (lw_at lw_m4 82 rfl) rfl
theorem q890 : (Jvm.Cond.declares ({ cls := "java/lang/RuntimeException", name := "<init>", desc := "()V" } : Jvm.MethodName)) ∈ lw_tbl := lw_at lw_m4 96 rfl
theorem q891 : (Jvm.Cond.declares ({ cls := "java/lang/RuntimeException", name := "<init>", desc := "(Ljava/lang/String;)V" } : Jvm.MethodName)) ∈ lw_tbl := lw_at lw_m4 97 rfl
theorem q1322 : (Jvm.Cond.instanceMethod ({ cls := "java/lang/RuntimeException", name := "<init>", desc := "()V" } : Jvm.MethodName)) ∈ lw_all := lw_g (lw_at lw_m6 48 rfl) rfl
theorem q1323 : (Jvm.Cond.code ({ cls := "java/lang/RuntimeException", name := "<init>", desc := "()V" } : Jvm.MethodName) prog_31_method_1_code (1 : Nat) (Option.none : Option Jvm.ClassFile.FieldType)) ∈ lw_all := lw_g (lw_at lw_m6 49 rfl) rfl
theorem q1324 : (Jvm.Cond.methodLink "java/lang/RuntimeException" (1 : Nat) ({ cls := "java/lang/Exception", name := "<init>", desc := "()V" } : Jvm.MethodName)) ∈ lw_all := lw_g (lw_at lw_m6 50 rfl) rfl
def RJ10 : String := "java/util/NoSuchElementException"
def TJ10 : u_T := fun k => match k with
  | 0 => ("java/lang/Throwable", "cause", "Ljava/lang/Throwable;", false)
  | 1 => ("java/lang/Throwable", "stackTrace", "[Ljava/lang/StackTraceElement;", false)
  | 2 => ("java/lang/Throwable", "suppressedExceptions", "Ljava/util/List;", false)
  | 3 => ("java/lang/Throwable", "detailMessage", "Ljava/lang/String;", false)
  | 4 => ("java/lang/Throwable", "backtrace", "Ljava/lang/Object;", false)
  | _ => ("java/lang/Throwable", "depth", "I", false)
def tyJ10 : Nat → FieldType := fun k => match k with
  | 0 => .object "java/lang/Throwable"
  | 1 => .array (.object "java/lang/StackTraceElement")
  | 2 => .object "java/util/List"
  | 3 => .object "java/lang/String"
  | 4 => .object "java/lang/Object"
  | _ => .int
abbrev wsJ100 : List Cond := u_ws RJ10 TJ10 6
theorem nmJ10 : ∀ a, a < 6 → ∀ b, b < 6 → a ≠ b → (TJ10 a).2.1 ≠ (TJ10 b).2.1 := by decide +kernel
theorem tyJ10_ok : ∀ k, k < 6 → parseFieldDescriptor (TJ10 k).2.2.1 = some (tyJ10 k) := by decide +kernel
abbrev cJ10_init : ByteArray := prog_40_method_1_code
def yJ10_init : MethodName := ⟨RJ10, "<init>", "()V"⟩
theorem q103 : (Jvm.Cond.initialized "java/util/NoSuchElementException") ∈ lw_all := lw_g (lw_at lw_m1 29 rfl) rfl
theorem q590 : (Jvm.Cond.selects "java/util/NoSuchElementException" ({ cls := "java/lang/Throwable", name := "fillInStackTrace", desc := "()Ljava/lang/Throwable;" } : Jvm.MethodName) ({ cls := "java/lang/Throwable", name := "fillInStackTrace", desc := "()Ljava/lang/Throwable;" } : Jvm.MethodName)) ∈ lw_all := lw_g (lw_at lw_m3 36 rfl) rfl
theorem q1310 : (Jvm.Cond.instantiable "java/util/NoSuchElementException" (6 : Nat)) ∈ lw_all := lw_g (lw_at lw_m6 36 rfl) rfl
theorem q1311 : (Jvm.Cond.castable "java/util/NoSuchElementException" "java/util/NoSuchElementException") ∈ lw_tbl := lw_at lw_m6 37 rfl
theorem q1312 : (Jvm.Cond.selects "java/util/NoSuchElementException" ({ cls := "java/lang/Throwable", name := "fillInStackTrace", desc := "(I)Ljava/lang/Throwable;" } : Jvm.MethodName) ({ cls := "java/lang/Throwable", name := "fillInStackTrace", desc := "(I)Ljava/lang/Throwable;" } : Jvm.MethodName)) ∈ lw_all := lw_g (lw_at lw_m6 38 rfl) rfl
theorem q1313 : (Jvm.Cond.lays "java/util/NoSuchElementException" "java/lang/Throwable" "cause" "Ljava/lang/Throwable;") ∈ lw_all := lw_g (lw_at lw_m6 39 rfl) rfl
theorem q1314 : (Jvm.Cond.lays "java/util/NoSuchElementException" "java/lang/Throwable" "stackTrace" "[Ljava/lang/StackTraceElement;") ∈ lw_all := lw_g (lw_at lw_m6 40 rfl) rfl
theorem q1315 : (Jvm.Cond.lays "java/util/NoSuchElementException" "java/lang/Throwable" "suppressedExceptions" "Ljava/util/List;") ∈ lw_all := lw_g (lw_at lw_m6 41 rfl) rfl
theorem q1316 : (Jvm.Cond.lays "java/util/NoSuchElementException" "java/lang/Throwable" "detailMessage" "Ljava/lang/String;") ∈ lw_all := lw_g (lw_at lw_m6 42 rfl) rfl
theorem q1317 : (Jvm.Cond.lays "java/util/NoSuchElementException" "java/lang/Throwable" "backtrace" "Ljava/lang/Object;") ∈ lw_all := lw_g (lw_at lw_m6 43 rfl) rfl
theorem q1319 : (Jvm.Cond.instanceMethod ({ cls := "java/util/NoSuchElementException", name := "<init>", desc := "()V" } : Jvm.MethodName)) ∈ lw_all := lw_g (lw_at lw_m6 45 rfl) rfl
theorem q1320 : (Jvm.Cond.code ({ cls := "java/util/NoSuchElementException", name := "<init>", desc := "()V" } : Jvm.MethodName) prog_40_method_1_code (1 : Nat) (Option.none : Option Jvm.ClassFile.FieldType)) ∈ lw_all := lw_g (lw_at lw_m6 46 rfl) rfl
theorem q1321 : (Jvm.Cond.methodLink "java/util/NoSuchElementException" (1 : Nat) ({ cls := "java/lang/RuntimeException", name := "<init>", desc := "()V" } : Jvm.MethodName)) ∈ lw_all := lw_g (lw_at lw_m6 47 rfl) rfl
theorem q1325 : (Jvm.Cond.lays "java/util/NoSuchElementException" "java/lang/Throwable" "depth" "I") ∈ lw_all := lw_g (lw_at lw_m6 51 rfl) rfl
theorem q1326 : (Jvm.Cond.superclass "java/util/NoSuchElementException" "java/lang/RuntimeException") ∈ lw_all := lw_g (lw_at lw_m6 52 rfl) rfl
theorem q1965 : (Jvm.Cond.castable "java/util/NoSuchElementException" "java/lang/Object") ∈ lw_tbl := lw_at lw_m8 211 rfl
theorem in_J10 : ∀ w ∈ wsJ100, w ∈ lw_all := lw_in wsJ100 [1313, 1314, 1315, 1316, 1317, 1325] (by decide +kernel) (by decide +kernel)
def RJ11 : String := "java/lang/NegativeArraySizeException"
def TJ11 : u_T := fun k => match k with
  | 0 => ("java/lang/Throwable", "backtrace", "Ljava/lang/Object;", false)
  | 1 => ("java/lang/Throwable", "detailMessage", "Ljava/lang/String;", false)
  | 2 => ("java/lang/Throwable", "cause", "Ljava/lang/Throwable;", false)
  | 3 => ("java/lang/Throwable", "stackTrace", "[Ljava/lang/StackTraceElement;", false)
  | 4 => ("java/lang/Throwable", "depth", "I", false)
  | _ => ("java/lang/Throwable", "suppressedExceptions", "Ljava/util/List;", false)
def tyJ11 : Nat → FieldType := fun k => match k with
  | 0 => .object "java/lang/Object"
  | 1 => .object "java/lang/String"
  | 2 => .object "java/lang/Throwable"
  | 3 => .array (.object "java/lang/StackTraceElement")
  | 4 => .int
  | _ => .object "java/util/List"
abbrev wsJ110 : List Cond := u_ws RJ11 TJ11 6
theorem nmJ11 : ∀ a, a < 6 → ∀ b, b < 6 → a ≠ b → (TJ11 a).2.1 ≠ (TJ11 b).2.1 := by decide +kernel
theorem tyJ11_ok : ∀ k, k < 6 → parseFieldDescriptor (TJ11 k).2.2.1 = some (tyJ11 k) := by decide +kernel
abbrev cJ11_init : ByteArray := prog_30_method_2_code
def yJ11_init : MethodName := ⟨RJ11, "<init>", "(Ljava/lang/String;)V"⟩
theorem q104 : (Jvm.Cond.initialized "java/lang/NegativeArraySizeException") ∈ lw_all := lw_g (lw_at lw_m1 30 rfl) rfl
theorem q589 : (Jvm.Cond.selects "java/lang/NegativeArraySizeException" ({ cls := "java/lang/Throwable", name := "fillInStackTrace", desc := "()Ljava/lang/Throwable;" } : Jvm.MethodName) ({ cls := "java/lang/Throwable", name := "fillInStackTrace", desc := "()Ljava/lang/Throwable;" } : Jvm.MethodName)) ∈ lw_all := lw_g (lw_at lw_m3 35 rfl) rfl
theorem q870 : (Jvm.Cond.instantiable "java/lang/NegativeArraySizeException" (6 : Nat)) ∈ lw_all := lw_g (lw_at lw_m4 76 rfl) rfl
theorem q871 : (Jvm.Cond.instanceMethod ({ cls := "java/lang/NegativeArraySizeException", name := "<init>", desc := "(Ljava/lang/String;)V" } : Jvm.MethodName)) ∈ lw_all := lw_g (lw_at lw_m4 77 rfl) rfl
theorem q872 : (Jvm.Cond.code ({ cls := "java/lang/NegativeArraySizeException", name := "<init>", desc := "(Ljava/lang/String;)V" } : Jvm.MethodName) prog_30_method_2_code (2 : Nat) (Option.none : Option Jvm.ClassFile.FieldType)) ∈ lw_all := lw_g (lw_at lw_m4 78 rfl) rfl
theorem q873 : (Jvm.Cond.methodLink "java/lang/NegativeArraySizeException" (7 : Nat) ({ cls := "java/lang/RuntimeException", name := "<init>", desc := "(Ljava/lang/String;)V" } : Jvm.MethodName)) ∈ lw_all := lw_g (lw_at lw_m4 79 rfl) rfl
theorem q882 : (Jvm.Cond.lays "java/lang/NegativeArraySizeException" "java/lang/Throwable" "backtrace" "Ljava/lang/Object;") ∈ lw_all := lw_g (lw_at lw_m4 88 rfl) rfl
theorem q883 : (Jvm.Cond.lays "java/lang/NegativeArraySizeException" "java/lang/Throwable" "detailMessage" "Ljava/lang/String;") ∈ lw_all := lw_g (lw_at lw_m4 89 rfl) rfl
theorem q884 : (Jvm.Cond.lays "java/lang/NegativeArraySizeException" "java/lang/Throwable" "cause" "Ljava/lang/Throwable;") ∈ lw_all := lw_g (lw_at lw_m4 90 rfl) rfl
theorem q885 : (Jvm.Cond.lays "java/lang/NegativeArraySizeException" "java/lang/Throwable" "stackTrace" "[Ljava/lang/StackTraceElement;") ∈ lw_all := lw_g (lw_at lw_m4 91 rfl) rfl
theorem q886 : (Jvm.Cond.lays "java/lang/NegativeArraySizeException" "java/lang/Throwable" "depth" "I") ∈ lw_all := lw_g (lw_at lw_m4 92 rfl) rfl
theorem q887 : (Jvm.Cond.lays "java/lang/NegativeArraySizeException" "java/lang/Throwable" "suppressedExceptions" "Ljava/util/List;") ∈ lw_all := lw_g (lw_at lw_m4 93 rfl) rfl
theorem q888 : (Jvm.Cond.superclass "java/lang/NegativeArraySizeException" "java/lang/RuntimeException") ∈ lw_all := lw_g (lw_at lw_m4 94 rfl) rfl
theorem q889 : (Jvm.Cond.castable "java/lang/NegativeArraySizeException" "java/lang/NegativeArraySizeException") ∈ lw_tbl := lw_at lw_m4 95 rfl
theorem q892 : (Jvm.Cond.selects "java/lang/NegativeArraySizeException" ({ cls := "java/lang/Throwable", name := "fillInStackTrace", desc := "(I)Ljava/lang/Throwable;" } : Jvm.MethodName) ({ cls := "java/lang/Throwable", name := "fillInStackTrace", desc := "(I)Ljava/lang/Throwable;" } : Jvm.MethodName)) ∈ lw_all := lw_g (lw_at lw_m4 98 rfl) rfl
theorem q1966 : (Jvm.Cond.castable "java/lang/NegativeArraySizeException" "java/lang/Object") ∈ lw_tbl := lw_at lw_m8 212 rfl
theorem in_J11 : ∀ w ∈ wsJ110, w ∈ lw_all := lw_in wsJ110 [882, 883, 884, 885, 886, 887] (by decide +kernel) (by decide +kernel)
def RJ12 : String := "java/util/Arrays"
abbrev cJ12_fill : ByteArray := prog_39_method_103_code
def yJ12_fill : MethodName := ⟨RJ12, "fill", "([II)V"⟩
abbrev cJ12_fill_2 : ByteArray := prog_39_method_101_code
def yJ12_fill_2 : MethodName := ⟨RJ12, "fill", "([JJ)V"⟩
theorem q105 : (Jvm.Cond.initialized "java/util/Arrays") ∈ lw_all := lw_g (lw_at lw_m1 31 rfl) rfl
theorem q1098 : (Jvm.Cond.static ({ cls := "java/util/Arrays", name := "fill", desc := "([II)V" } : Jvm.MethodName)) ∈ lw_all := lw_g (lw_at lw_m5 64 rfl) rfl
theorem q1099 : (Jvm.Cond.code ({ cls := "java/util/Arrays", name := "fill", desc := "([II)V" } : Jvm.MethodName) prog_39_method_103_code (4 : Nat) (Option.none : Option Jvm.ClassFile.FieldType)) ∈ lw_all := lw_g (lw_at lw_m5 65 rfl) rfl
theorem q1252 : (Jvm.Cond.static ({ cls := "java/util/Arrays", name := "fill", desc := "([JJ)V" } : Jvm.MethodName)) ∈ lw_all := lw_g (lw_at lw_m5 218 rfl) rfl
theorem q1253 : (Jvm.Cond.code ({ cls := "java/util/Arrays", name := "fill", desc := "([JJ)V" } : Jvm.MethodName) prog_39_method_101_code (5 : Nat) (Option.none : Option Jvm.ClassFile.FieldType)) ∈ lw_all := lw_g (lw_at lw_m5 219 rfl) rfl
def RJ13 : String := "java/lang/Object"
abbrev cJ13_init : ByteArray := object_method_1_code
def yJ13_init : MethodName := ⟨RJ13, "<init>", "()V"⟩
theorem q113 : (Jvm.Cond.instanceMethod ({ cls := "java/lang/Object", name := "<init>", desc := "()V" } : Jvm.MethodName)) ∈ lw_all := lw_g (lw_at lw_m1 39 rfl) rfl
theorem q114 : (Jvm.Cond.code ({ cls := "java/lang/Object", name := "<init>", desc := "()V" } : Jvm.MethodName) object_method_1_code (1 : Nat) (Option.none : Option Jvm.ClassFile.FieldType)) ∈ lw_all := lw_g (lw_at lw_m1 40 rfl) rfl
theorem q673 : (Jvm.Cond.native ({ cls := "java/lang/Object", name := "clone", desc := "()Ljava/lang/Object;" } : Jvm.MethodName)) ∈ lw_all := lw_g (lw_at lw_m3 119 rfl) rfl
theorem q674 : (Jvm.Cond.instanceMethod ({ cls := "java/lang/Object", name := "clone", desc := "()Ljava/lang/Object;" } : Jvm.MethodName)) ∈ lw_all := lw_g (lw_at lw_m3 120 rfl) rfl
theorem q1947 : (Jvm.Cond.initialized "java/lang/Object") ∈ lw_all := lw_g (lw_at lw_m8 193 rfl) rfl
def RX0 : String := "HeavierServesLaw"
abbrev cX0_of : ByteArray := method_3_code
def yX0_of : MethodName := ⟨RX0, "of", "(LHeavierServes;II[J)I"⟩
abbrev cX0_change : ByteArray := method_4_code
def yX0_change : MethodName := ⟨RX0, "change", "(LHeavierServes;II[J)I"⟩
abbrev cX0_laws : ByteArray := method_5_code
def yX0_laws : MethodName := ⟨RX0, "laws", "(LHeavierServes;II[J)I"⟩
abbrev cX0_fool : ByteArray := method_6_code
def yX0_fool : MethodName := ⟨RX0, "fool", "(LHeavierServes;II[J)I"⟩
abbrev cX0_row : ByteArray := method_7_code
def yX0_row : MethodName := ⟨RX0, "row", "(LHeavierServes;I[J)I"⟩
theorem q74 : (Jvm.Cond.initialized "HeavierServesLaw") ∈ lw_all := lw_g (lw_at lw_m1 0 rfl) rfl
theorem q107 : (Jvm.Cond.classLink "HeavierServesLaw" (8 : Nat) "HeavierServes") ∈ lw_all := lw_g (lw_at lw_m1 33 rfl) rfl
theorem q109 : (Jvm.Cond.methodLink "HeavierServesLaw" (28 : Nat) ({ cls := "HeavierServes", name := "<init>", desc := "()V" } : Jvm.MethodName)) ∈ lw_all := lw_g (lw_at lw_m1 35 rfl) rfl
theorem q506 : (Jvm.Cond.methodLink "HeavierServesLaw" (32 : Nat) ({ cls := "HeavierServes", name := "sign", desc := "(I)I" } : Jvm.MethodName)) ∈ lw_all := lw_g (lw_at lw_m2 192 rfl) rfl
theorem q510 : (Jvm.Cond.methodLink "HeavierServesLaw" (37 : Nat) ({ cls := "HeavierServes", name := "end", desc := "(I)Z" } : Jvm.MethodName)) ∈ lw_all := lw_g (lw_at lw_m2 196 rfl) rfl
theorem q517 : (Jvm.Cond.methodLink "HeavierServesLaw" (42 : Nat) ({ cls := "HeavierServes", name := "town", desc := "()I" } : Jvm.MethodName)) ∈ lw_all := lw_g (lw_at lw_m2 203 rfl) rfl
theorem q667 : (Jvm.Cond.methodLink "HeavierServesLaw" (47 : Nat) ({ cls := "HeavierServes", name := "will", desc := "()I" } : Jvm.MethodName)) ∈ lw_all := lw_g (lw_at lw_m3 113 rfl) rfl
theorem q844 : (Jvm.Cond.methodLink "HeavierServesLaw" (51 : Nat) ({ cls := "HeavierServes", name := "habit", desc := "(I)I" } : Jvm.MethodName)) ∈ lw_all := lw_g (lw_at lw_m4 50 rfl) rfl
theorem q853 : (Jvm.Cond.methodLink "HeavierServesLaw" (67 : Nat) ({ cls := "HeavierServes", name := "set", desc := "(III)I" } : Jvm.MethodName)) ∈ lw_all := lw_g (lw_at lw_m4 59 rfl) rfl
theorem q860 : (Jvm.Cond.methodLink "HeavierServesLaw" (72 : Nat) ({ cls := "HeavierServes", name := "scale", desc := "(II)Z" } : Jvm.MethodName)) ∈ lw_all := lw_g (lw_at lw_m4 66 rfl) rfl
theorem q865 : (Jvm.Cond.methodLink "HeavierServesLaw" (77 : Nat) ({ cls := "HeavierServes", name := "sheet", desc := "(IIII)I" } : Jvm.MethodName)) ∈ lw_all := lw_g (lw_at lw_m4 71 rfl) rfl
theorem q909 : (Jvm.Cond.methodLink "HeavierServesLaw" (82 : Nat) ({ cls := "HeavierServes", name := "stand", desc := "(I)I" } : Jvm.MethodName)) ∈ lw_all := lw_g (lw_at lw_m4 115 rfl) rfl
theorem q1017 : (Jvm.Cond.methodLink "HeavierServesLaw" (86 : Nat) ({ cls := "HeavierServes", name := "weeks", desc := "(I)I" } : Jvm.MethodName)) ∈ lw_all := lw_g (lw_at lw_m4 223 rfl) rfl
theorem q1022 : (Jvm.Cond.methodLink "HeavierServesLaw" (90 : Nat) ({ cls := "HeavierServes", name := "year", desc := "()I" } : Jvm.MethodName)) ∈ lw_all := lw_g (lw_at lw_m4 228 rfl) rfl
theorem q1032 : (Jvm.Cond.methodLink "HeavierServesLaw" (94 : Nat) ({ cls := "HeavierServes", name := "law", desc := "()I" } : Jvm.MethodName)) ∈ lw_all := lw_g (lw_at lw_m4 238 rfl) rfl
theorem q1036 : (Jvm.Cond.methodLink "HeavierServesLaw" (101 : Nat) ({ cls := "HeavierServes", name := "feed", desc := "(II)I" } : Jvm.MethodName)) ∈ lw_all := lw_g (lw_at lw_m5 2 rfl) rfl
theorem q1044 : (Jvm.Cond.methodLink "HeavierServesLaw" (105 : Nat) ({ cls := "HeavierServes", name := "fast", desc := "(II)I" } : Jvm.MethodName)) ∈ lw_all := lw_g (lw_at lw_m5 10 rfl) rfl
theorem q1048 : (Jvm.Cond.methodLink "HeavierServesLaw" (109 : Nat) ({ cls := "HeavierServes", name := "dies", desc := "(I)I" } : Jvm.MethodName)) ∈ lw_all := lw_g (lw_at lw_m5 14 rfl) rfl
theorem q1052 : (Jvm.Cond.methodLink "HeavierServesLaw" (113 : Nat) ({ cls := "HeavierServes", name := "undo", desc := "()I" } : Jvm.MethodName)) ∈ lw_all := lw_g (lw_at lw_m5 18 rfl) rfl
theorem q1056 : (Jvm.Cond.methodLink "HeavierServesLaw" (117 : Nat) ({ cls := "HeavierServes", name := "served", desc := "(I)I" } : Jvm.MethodName)) ∈ lw_all := lw_g (lw_at lw_m5 22 rfl) rfl
theorem q1060 : (Jvm.Cond.methodLink "HeavierServesLaw" (121 : Nat) ({ cls := "HeavierServes", name := "later", desc := "(II)I" } : Jvm.MethodName)) ∈ lw_all := lw_g (lw_at lw_m5 26 rfl) rfl
theorem q1064 : (Jvm.Cond.methodLink "HeavierServesLaw" (125 : Nat) ({ cls := "HeavierServes", name := "then", desc := "(I)I" } : Jvm.MethodName)) ∈ lw_all := lw_g (lw_at lw_m5 30 rfl) rfl
theorem q1068 : (Jvm.Cond.methodLink "HeavierServesLaw" (129 : Nat) ({ cls := "HeavierServes", name := "soonest", desc := "(I)I" } : Jvm.MethodName)) ∈ lw_all := lw_g (lw_at lw_m5 34 rfl) rfl
theorem q1072 : (Jvm.Cond.methodLink "HeavierServesLaw" (133 : Nat) ({ cls := "HeavierServes", name := "ever", desc := "(I)I" } : Jvm.MethodName)) ∈ lw_all := lw_g (lw_at lw_m5 38 rfl) rfl
theorem q1081 : (Jvm.Cond.methodLink "HeavierServesLaw" (137 : Nat) ({ cls := "HeavierServes", name := "most", desc := "(II)I" } : Jvm.MethodName)) ∈ lw_all := lw_g (lw_at lw_m5 47 rfl) rfl
theorem q1091 : (Jvm.Cond.methodLink "HeavierServesLaw" (141 : Nat) ({ cls := "HeavierServes", name := "rests", desc := "(II)I" } : Jvm.MethodName)) ∈ lw_all := lw_g (lw_at lw_m5 57 rfl) rfl
theorem q1104 : (Jvm.Cond.methodLink "HeavierServesLaw" (145 : Nat) ({ cls := "HeavierServes", name := "party", desc := "(I)I" } : Jvm.MethodName)) ∈ lw_all := lw_g (lw_at lw_m5 70 rfl) rfl
theorem q1112 : (Jvm.Cond.methodLink "HeavierServesLaw" (149 : Nat) ({ cls := "HeavierServes", name := "byTurns", desc := "(II)I" } : Jvm.MethodName)) ∈ lw_all := lw_g (lw_at lw_m5 78 rfl) rfl
theorem q1116 : (Jvm.Cond.methodLink "HeavierServesLaw" (156 : Nat) ({ cls := "HeavierServes", name := "hold", desc := "(I)I" } : Jvm.MethodName)) ∈ lw_all := lw_g (lw_at lw_m5 82 rfl) rfl
theorem q1164 : (Jvm.Cond.methodLink "HeavierServesLaw" (160 : Nat) ({ cls := "HeavierServes", name := "bribe", desc := "(II)I" } : Jvm.MethodName)) ∈ lw_all := lw_g (lw_at lw_m5 130 rfl) rfl
theorem q1169 : (Jvm.Cond.methodLink "HeavierServesLaw" (164 : Nat) ({ cls := "HeavierServes", name := "starve", desc := "(II)I" } : Jvm.MethodName)) ∈ lw_all := lw_g (lw_at lw_m5 135 rfl) rfl
theorem q1173 : (Jvm.Cond.methodLink "HeavierServesLaw" (168 : Nat) ({ cls := "HeavierServes", name := "cheapest", desc := "()I" } : Jvm.MethodName)) ∈ lw_all := lw_g (lw_at lw_m5 139 rfl) rfl
theorem q1177 : (Jvm.Cond.methodLink "HeavierServesLaw" (172 : Nat) ({ cls := "HeavierServes", name := "weighed", desc := "(II)I" } : Jvm.MethodName)) ∈ lw_all := lw_g (lw_at lw_m5 143 rfl) rfl
theorem q1182 : (Jvm.Cond.methodLink "HeavierServesLaw" (176 : Nat) ({ cls := "HeavierServes", name := "forget", desc := "()I" } : Jvm.MethodName)) ∈ lw_all := lw_g (lw_at lw_m5 148 rfl) rfl
theorem q1186 : (Jvm.Cond.methodLink "HeavierServesLaw" (180 : Nat) ({ cls := "HeavierServes", name := "grains", desc := "()I" } : Jvm.MethodName)) ∈ lw_all := lw_g (lw_at lw_m5 152 rfl) rfl
theorem q1198 : (Jvm.Cond.methodLink "HeavierServesLaw" (184 : Nat) ({ cls := "HeavierServes", name := "span", desc := "(I)I" } : Jvm.MethodName)) ∈ lw_all := lw_g (lw_at lw_m5 164 rfl) rfl
theorem q1202 : (Jvm.Cond.methodLink "HeavierServesLaw" (188 : Nat) ({ cls := "HeavierServes", name := "offs", desc := "()I" } : Jvm.MethodName)) ∈ lw_all := lw_g (lw_at lw_m5 168 rfl) rfl
theorem q1210 : (Jvm.Cond.methodLink "HeavierServesLaw" (192 : Nat) ({ cls := "HeavierServes", name := "cheats", desc := "()I" } : Jvm.MethodName)) ∈ lw_all := lw_g (lw_at lw_m5 176 rfl) rfl
theorem q1214 : (Jvm.Cond.methodLink "HeavierServesLaw" (196 : Nat) ({ cls := "HeavierServes", name := "told", desc := "(II)I" } : Jvm.MethodName)) ∈ lw_all := lw_g (lw_at lw_m5 180 rfl) rfl
theorem q1218 : (Jvm.Cond.methodLink "HeavierServesLaw" (200 : Nat) ({ cls := "HeavierServes", name := "wipe", desc := "()I" } : Jvm.MethodName)) ∈ lw_all := lw_g (lw_at lw_m5 184 rfl) rfl
theorem q1222 : (Jvm.Cond.methodLink "HeavierServesLaw" (204 : Nat) ({ cls := "HeavierServes", name := "explains", desc := "(I)I" } : Jvm.MethodName)) ∈ lw_all := lw_g (lw_at lw_m5 188 rfl) rfl
theorem q1230 : (Jvm.Cond.methodLink "HeavierServesLaw" (208 : Nat) ({ cls := "HeavierServes", name := "absent", desc := "()I" } : Jvm.MethodName)) ∈ lw_all := lw_g (lw_at lw_m5 196 rfl) rfl
theorem q1234 : (Jvm.Cond.methodLink "HeavierServesLaw" (212 : Nat) ({ cls := "HeavierServes", name := "twin", desc := "(I)I" } : Jvm.MethodName)) ∈ lw_all := lw_g (lw_at lw_m5 200 rfl) rfl
theorem q1238 : (Jvm.Cond.methodLink "HeavierServesLaw" (216 : Nat) ({ cls := "HeavierServes", name := "odds", desc := "(II)I" } : Jvm.MethodName)) ∈ lw_all := lw_g (lw_at lw_m5 204 rfl) rfl
theorem q1264 : (Jvm.Cond.methodLink "HeavierServesLaw" (220 : Nat) ({ cls := "HeavierServes", name := "likely", desc := "()I" } : Jvm.MethodName)) ∈ lw_all := lw_g (lw_at lw_m5 230 rfl) rfl
theorem q1268 : (Jvm.Cond.methodLink "HeavierServesLaw" (224 : Nat) ({ cls := "HeavierServes", name := "keep", desc := "(I)Z" } : Jvm.MethodName)) ∈ lw_all := lw_g (lw_at lw_m5 234 rfl) rfl
theorem q1292 : (Jvm.Cond.methodLink "HeavierServesLaw" (228 : Nat) ({ cls := "HeavierServes", name := "again", desc := "(I)Z" } : Jvm.MethodName)) ∈ lw_all := lw_g (lw_at lw_m6 18 rfl) rfl
theorem q1296 : (Jvm.Cond.methodLink "HeavierServesLaw" (232 : Nat) ({ cls := "HeavierServes", name := "count", desc := "(I)I" } : Jvm.MethodName)) ∈ lw_all := lw_g (lw_at lw_m6 22 rfl) rfl
theorem q1301 : (Jvm.Cond.methodLink "HeavierServesLaw" (55 : Nat) ({ cls := "HeavierServesLaw", name := "of", desc := "(LHeavierServes;II[J)I" } : Jvm.MethodName)) ∈ lw_all := lw_g (lw_at lw_m6 27 rfl) rfl
theorem q1302 : (Jvm.Cond.static ({ cls := "HeavierServesLaw", name := "of", desc := "(LHeavierServes;II[J)I" } : Jvm.MethodName)) ∈ lw_all := lw_g (lw_at lw_m6 28 rfl) rfl
theorem q1303 : (Jvm.Cond.codeWith ({ cls := "HeavierServesLaw", name := "of", desc := "(LHeavierServes;II[J)I" } : Jvm.MethodName) method_3_code (5 : Nat) (Option.some Jvm.ClassFile.FieldType.int) [((0 : Nat), (10 : Nat), (13 : Nat), (13 : Nat))]) ∈ lw_all := lw_g (lw_at lw_m6 29 rfl) rfl
theorem q1304 : (Jvm.Cond.classLink "HeavierServesLaw" (13 : Nat) "java/util/NoSuchElementException") ∈ lw_all := lw_g (lw_at lw_m6 30 rfl) rfl
theorem q1305 : (Jvm.Cond.methodLink "HeavierServesLaw" (7 : Nat) ({ cls := "HeavierServes", name := "of", desc := "(II)I" } : Jvm.MethodName)) ∈ lw_all := lw_g (lw_at lw_m6 31 rfl) rfl
theorem q1327 : (Jvm.Cond.methodLink "HeavierServesLaw" (64 : Nat) ({ cls := "HeavierServesLaw", name := "change", desc := "(LHeavierServes;II[J)I" } : Jvm.MethodName)) ∈ lw_all := lw_g (lw_at lw_m6 53 rfl) rfl
theorem q1328 : (Jvm.Cond.static ({ cls := "HeavierServesLaw", name := "change", desc := "(LHeavierServes;II[J)I" } : Jvm.MethodName)) ∈ lw_all := lw_g (lw_at lw_m6 54 rfl) rfl
theorem q1329 : (Jvm.Cond.codeWith ({ cls := "HeavierServesLaw", name := "change", desc := "(LHeavierServes;II[J)I" } : Jvm.MethodName) method_4_code (5 : Nat) (Option.some Jvm.ClassFile.FieldType.int) [((0 : Nat), (10 : Nat), (13 : Nat), (13 : Nat))]) ∈ lw_all := lw_g (lw_at lw_m6 55 rfl) rfl
theorem q1330 : (Jvm.Cond.methodLink "HeavierServesLaw" (15 : Nat) ({ cls := "HeavierServes", name := "change", desc := "(II)I" } : Jvm.MethodName)) ∈ lw_all := lw_g (lw_at lw_m6 56 rfl) rfl
theorem q1334 : (Jvm.Cond.methodLink "HeavierServesLaw" (98 : Nat) ({ cls := "HeavierServesLaw", name := "laws", desc := "(LHeavierServes;II[J)I" } : Jvm.MethodName)) ∈ lw_all := lw_g (lw_at lw_m6 60 rfl) rfl
theorem q1335 : (Jvm.Cond.static ({ cls := "HeavierServesLaw", name := "laws", desc := "(LHeavierServes;II[J)I" } : Jvm.MethodName)) ∈ lw_all := lw_g (lw_at lw_m6 61 rfl) rfl
theorem q1336 : (Jvm.Cond.codeWith ({ cls := "HeavierServesLaw", name := "laws", desc := "(LHeavierServes;II[J)I" } : Jvm.MethodName) method_5_code (5 : Nat) (Option.some Jvm.ClassFile.FieldType.int) [((0 : Nat), (10 : Nat), (13 : Nat), (13 : Nat))]) ∈ lw_all := lw_g (lw_at lw_m6 62 rfl) rfl
theorem q1337 : (Jvm.Cond.methodLink "HeavierServesLaw" (18 : Nat) ({ cls := "HeavierServes", name := "laws", desc := "(II)I" } : Jvm.MethodName)) ∈ lw_all := lw_g (lw_at lw_m6 63 rfl) rfl
theorem q1342 : (Jvm.Cond.methodLink "HeavierServesLaw" (153 : Nat) ({ cls := "HeavierServesLaw", name := "fool", desc := "(LHeavierServes;II[J)I" } : Jvm.MethodName)) ∈ lw_all := lw_g (lw_at lw_m6 68 rfl) rfl
theorem q1343 : (Jvm.Cond.static ({ cls := "HeavierServesLaw", name := "fool", desc := "(LHeavierServes;II[J)I" } : Jvm.MethodName)) ∈ lw_all := lw_g (lw_at lw_m6 69 rfl) rfl
theorem q1344 : (Jvm.Cond.codeWith ({ cls := "HeavierServesLaw", name := "fool", desc := "(LHeavierServes;II[J)I" } : Jvm.MethodName) method_6_code (5 : Nat) (Option.some Jvm.ClassFile.FieldType.int) [((0 : Nat), (10 : Nat), (13 : Nat), (13 : Nat))]) ∈ lw_all := lw_g (lw_at lw_m6 70 rfl) rfl
theorem q1345 : (Jvm.Cond.methodLink "HeavierServesLaw" (21 : Nat) ({ cls := "HeavierServes", name := "fool", desc := "(II)I" } : Jvm.MethodName)) ∈ lw_all := lw_g (lw_at lw_m6 71 rfl) rfl
theorem q1349 : (Jvm.Cond.methodLink "HeavierServesLaw" (236 : Nat) ({ cls := "HeavierServesLaw", name := "row", desc := "(LHeavierServes;I[J)I" } : Jvm.MethodName)) ∈ lw_all := lw_g (lw_at lw_m6 75 rfl) rfl
theorem q1350 : (Jvm.Cond.static ({ cls := "HeavierServesLaw", name := "row", desc := "(LHeavierServes;I[J)I" } : Jvm.MethodName)) ∈ lw_all := lw_g (lw_at lw_m6 76 rfl) rfl
theorem q1351 : (Jvm.Cond.codeWith ({ cls := "HeavierServesLaw", name := "row", desc := "(LHeavierServes;I[J)I" } : Jvm.MethodName) method_7_code (4 : Nat) (Option.some Jvm.ClassFile.FieldType.int) [((0 : Nat), (8 : Nat), (11 : Nat), (13 : Nat))]) ∈ lw_all := lw_g (lw_at lw_m6 77 rfl) rfl
theorem q1352 : (Jvm.Cond.methodLink "HeavierServesLaw" (24 : Nat) ({ cls := "HeavierServes", name := "row", desc := "(I)J" } : Jvm.MethodName)) ∈ lw_all := lw_g (lw_at lw_m6 78 rfl) rfl
theorem q1356 : (Jvm.Cond.methodLink "HeavierServesLaw" (61 : Nat) ({ cls := "HeavierServesModel", name := "thrown", desc := "()I" } : Jvm.MethodName)) ∈ lw_all := lw_g (lw_at lw_m6 82 rfl) rfl
theorem q1360 : (Jvm.Cond.classLink "HeavierServesLaw" (29 : Nat) "HeavierServesModel") ∈ lw_all := lw_g (lw_at lw_m6 86 rfl) rfl
theorem q1362 : (Jvm.Cond.methodLink "HeavierServesLaw" (31 : Nat) ({ cls := "HeavierServesModel", name := "<init>", desc := "()V" } : Jvm.MethodName)) ∈ lw_all := lw_g (lw_at lw_m6 88 rfl) rfl
theorem q1506 : (Jvm.Cond.methodLink "HeavierServesLaw" (36 : Nat) ({ cls := "HeavierServesModel", name := "sign", desc := "(I)I" } : Jvm.MethodName)) ∈ lw_all := lw_g (lw_at lw_m6 232 rfl) rfl
theorem q1510 : (Jvm.Cond.methodLink "HeavierServesLaw" (41 : Nat) ({ cls := "HeavierServesModel", name := "end", desc := "(I)Z" } : Jvm.MethodName)) ∈ lw_all := lw_g (lw_at lw_m6 236 rfl) rfl
theorem q1517 : (Jvm.Cond.methodLink "HeavierServesLaw" (46 : Nat) ({ cls := "HeavierServesModel", name := "town", desc := "()I" } : Jvm.MethodName)) ∈ lw_all := lw_g (lw_at lw_m7 3 rfl) rfl
theorem q1590 : (Jvm.Cond.methodLink "HeavierServesLaw" (54 : Nat) ({ cls := "HeavierServesModel", name := "habit", desc := "(I)I" } : Jvm.MethodName)) ∈ lw_all := lw_g (lw_at lw_m7 76 rfl) rfl
theorem q1598 : (Jvm.Cond.methodLink "HeavierServesLaw" (50 : Nat) ({ cls := "HeavierServesModel", name := "will", desc := "()I" } : Jvm.MethodName)) ∈ lw_all := lw_g (lw_at lw_m7 84 rfl) rfl
theorem q1617 : (Jvm.Cond.methodLink "HeavierServesLaw" (60 : Nat) ({ cls := "HeavierServesModel", name := "of", desc := "(II)I" } : Jvm.MethodName)) ∈ lw_all := lw_g (lw_at lw_m7 103 rfl) rfl
theorem q1649 : (Jvm.Cond.methodLink "HeavierServesLaw" (66 : Nat) ({ cls := "HeavierServesModel", name := "change", desc := "(II)I" } : Jvm.MethodName)) ∈ lw_all := lw_g (lw_at lw_m7 135 rfl) rfl
theorem q1653 : (Jvm.Cond.methodLink "HeavierServesLaw" (71 : Nat) ({ cls := "HeavierServesModel", name := "set", desc := "(III)I" } : Jvm.MethodName)) ∈ lw_all := lw_g (lw_at lw_m7 139 rfl) rfl
theorem q1660 : (Jvm.Cond.methodLink "HeavierServesLaw" (76 : Nat) ({ cls := "HeavierServesModel", name := "scale", desc := "(II)Z" } : Jvm.MethodName)) ∈ lw_all := lw_g (lw_at lw_m7 146 rfl) rfl
theorem q1665 : (Jvm.Cond.methodLink "HeavierServesLaw" (81 : Nat) ({ cls := "HeavierServesModel", name := "sheet", desc := "(IIII)I" } : Jvm.MethodName)) ∈ lw_all := lw_g (lw_at lw_m7 151 rfl) rfl
theorem q1669 : (Jvm.Cond.methodLink "HeavierServesLaw" (116 : Nat) ({ cls := "HeavierServesModel", name := "undo", desc := "()I" } : Jvm.MethodName)) ∈ lw_all := lw_g (lw_at lw_m7 155 rfl) rfl
theorem q1673 : (Jvm.Cond.methodLink "HeavierServesLaw" (85 : Nat) ({ cls := "HeavierServesModel", name := "stand", desc := "(I)I" } : Jvm.MethodName)) ∈ lw_all := lw_g (lw_at lw_m7 159 rfl) rfl
theorem q1693 : (Jvm.Cond.methodLink "HeavierServesLaw" (89 : Nat) ({ cls := "HeavierServesModel", name := "weeks", desc := "(I)I" } : Jvm.MethodName)) ∈ lw_all := lw_g (lw_at lw_m7 179 rfl) rfl
theorem q1702 : (Jvm.Cond.methodLink "HeavierServesLaw" (93 : Nat) ({ cls := "HeavierServesModel", name := "year", desc := "()I" } : Jvm.MethodName)) ∈ lw_all := lw_g (lw_at lw_m7 188 rfl) rfl
theorem q1710 : (Jvm.Cond.methodLink "HeavierServesLaw" (97 : Nat) ({ cls := "HeavierServesModel", name := "law", desc := "()I" } : Jvm.MethodName)) ∈ lw_all := lw_g (lw_at lw_m7 196 rfl) rfl
theorem q1714 : (Jvm.Cond.methodLink "HeavierServesLaw" (100 : Nat) ({ cls := "HeavierServesModel", name := "laws", desc := "(II)I" } : Jvm.MethodName)) ∈ lw_all := lw_g (lw_at lw_m7 200 rfl) rfl
theorem q1718 : (Jvm.Cond.methodLink "HeavierServesLaw" (104 : Nat) ({ cls := "HeavierServesModel", name := "feed", desc := "(II)I" } : Jvm.MethodName)) ∈ lw_all := lw_g (lw_at lw_m7 204 rfl) rfl
theorem q1730 : (Jvm.Cond.methodLink "HeavierServesLaw" (108 : Nat) ({ cls := "HeavierServesModel", name := "fast", desc := "(II)I" } : Jvm.MethodName)) ∈ lw_all := lw_g (lw_at lw_m7 216 rfl) rfl
theorem q1734 : (Jvm.Cond.methodLink "HeavierServesLaw" (112 : Nat) ({ cls := "HeavierServesModel", name := "dies", desc := "(I)I" } : Jvm.MethodName)) ∈ lw_all := lw_g (lw_at lw_m7 220 rfl) rfl
theorem q1738 : (Jvm.Cond.methodLink "HeavierServesLaw" (120 : Nat) ({ cls := "HeavierServesModel", name := "served", desc := "(I)I" } : Jvm.MethodName)) ∈ lw_all := lw_g (lw_at lw_m7 224 rfl) rfl
theorem q1742 : (Jvm.Cond.methodLink "HeavierServesLaw" (124 : Nat) ({ cls := "HeavierServesModel", name := "later", desc := "(II)I" } : Jvm.MethodName)) ∈ lw_all := lw_g (lw_at lw_m7 228 rfl) rfl
theorem q1764 : (Jvm.Cond.methodLink "HeavierServesLaw" (128 : Nat) ({ cls := "HeavierServesModel", name := "then", desc := "(I)I" } : Jvm.MethodName)) ∈ lw_all := lw_g (lw_at lw_m8 10 rfl) rfl
theorem q1768 : (Jvm.Cond.methodLink "HeavierServesLaw" (132 : Nat) ({ cls := "HeavierServesModel", name := "soonest", desc := "(I)I" } : Jvm.MethodName)) ∈ lw_all := lw_g (lw_at lw_m8 14 rfl) rfl
theorem q1772 : (Jvm.Cond.methodLink "HeavierServesLaw" (136 : Nat) ({ cls := "HeavierServesModel", name := "ever", desc := "(I)I" } : Jvm.MethodName)) ∈ lw_all := lw_g (lw_at lw_m8 18 rfl) rfl
theorem q1777 : (Jvm.Cond.methodLink "HeavierServesLaw" (140 : Nat) ({ cls := "HeavierServesModel", name := "most", desc := "(II)I" } : Jvm.MethodName)) ∈ lw_all := lw_g (lw_at lw_m8 23 rfl) rfl
theorem q1783 : (Jvm.Cond.methodLink "HeavierServesLaw" (144 : Nat) ({ cls := "HeavierServesModel", name := "rests", desc := "(II)I" } : Jvm.MethodName)) ∈ lw_all := lw_g (lw_at lw_m8 29 rfl) rfl
theorem q1797 : (Jvm.Cond.methodLink "HeavierServesLaw" (148 : Nat) ({ cls := "HeavierServesModel", name := "party", desc := "(I)I" } : Jvm.MethodName)) ∈ lw_all := lw_g (lw_at lw_m8 43 rfl) rfl
theorem q1805 : (Jvm.Cond.methodLink "HeavierServesLaw" (152 : Nat) ({ cls := "HeavierServesModel", name := "byTurns", desc := "(II)I" } : Jvm.MethodName)) ∈ lw_all := lw_g (lw_at lw_m8 51 rfl) rfl
theorem q1809 : (Jvm.Cond.methodLink "HeavierServesLaw" (155 : Nat) ({ cls := "HeavierServesModel", name := "fool", desc := "(II)I" } : Jvm.MethodName)) ∈ lw_all := lw_g (lw_at lw_m8 55 rfl) rfl
theorem q1813 : (Jvm.Cond.methodLink "HeavierServesLaw" (159 : Nat) ({ cls := "HeavierServesModel", name := "hold", desc := "(I)I" } : Jvm.MethodName)) ∈ lw_all := lw_g (lw_at lw_m8 59 rfl) rfl
theorem q1825 : (Jvm.Cond.methodLink "HeavierServesLaw" (163 : Nat) ({ cls := "HeavierServesModel", name := "bribe", desc := "(II)I" } : Jvm.MethodName)) ∈ lw_all := lw_g (lw_at lw_m8 71 rfl) rfl
theorem q1829 : (Jvm.Cond.methodLink "HeavierServesLaw" (167 : Nat) ({ cls := "HeavierServesModel", name := "starve", desc := "(II)I" } : Jvm.MethodName)) ∈ lw_all := lw_g (lw_at lw_m8 75 rfl) rfl
theorem q1833 : (Jvm.Cond.methodLink "HeavierServesLaw" (171 : Nat) ({ cls := "HeavierServesModel", name := "cheapest", desc := "()I" } : Jvm.MethodName)) ∈ lw_all := lw_g (lw_at lw_m8 79 rfl) rfl
theorem q1837 : (Jvm.Cond.methodLink "HeavierServesLaw" (175 : Nat) ({ cls := "HeavierServesModel", name := "weighed", desc := "(II)I" } : Jvm.MethodName)) ∈ lw_all := lw_g (lw_at lw_m8 83 rfl) rfl
theorem q1842 : (Jvm.Cond.methodLink "HeavierServesLaw" (179 : Nat) ({ cls := "HeavierServesModel", name := "forget", desc := "()I" } : Jvm.MethodName)) ∈ lw_all := lw_g (lw_at lw_m8 88 rfl) rfl
theorem q1846 : (Jvm.Cond.methodLink "HeavierServesLaw" (183 : Nat) ({ cls := "HeavierServesModel", name := "grains", desc := "()I" } : Jvm.MethodName)) ∈ lw_all := lw_g (lw_at lw_m8 92 rfl) rfl
theorem q1862 : (Jvm.Cond.methodLink "HeavierServesLaw" (187 : Nat) ({ cls := "HeavierServesModel", name := "span", desc := "(I)I" } : Jvm.MethodName)) ∈ lw_all := lw_g (lw_at lw_m8 108 rfl) rfl
theorem q1866 : (Jvm.Cond.methodLink "HeavierServesLaw" (191 : Nat) ({ cls := "HeavierServesModel", name := "offs", desc := "()I" } : Jvm.MethodName)) ∈ lw_all := lw_g (lw_at lw_m8 112 rfl) rfl
theorem q1874 : (Jvm.Cond.methodLink "HeavierServesLaw" (195 : Nat) ({ cls := "HeavierServesModel", name := "cheats", desc := "()I" } : Jvm.MethodName)) ∈ lw_all := lw_g (lw_at lw_m8 120 rfl) rfl
theorem q1878 : (Jvm.Cond.methodLink "HeavierServesLaw" (199 : Nat) ({ cls := "HeavierServesModel", name := "told", desc := "(II)I" } : Jvm.MethodName)) ∈ lw_all := lw_g (lw_at lw_m8 124 rfl) rfl
theorem q1882 : (Jvm.Cond.methodLink "HeavierServesLaw" (203 : Nat) ({ cls := "HeavierServesModel", name := "wipe", desc := "()I" } : Jvm.MethodName)) ∈ lw_all := lw_g (lw_at lw_m8 128 rfl) rfl
theorem q1886 : (Jvm.Cond.methodLink "HeavierServesLaw" (207 : Nat) ({ cls := "HeavierServesModel", name := "explains", desc := "(I)I" } : Jvm.MethodName)) ∈ lw_all := lw_g (lw_at lw_m8 132 rfl) rfl
theorem q1894 : (Jvm.Cond.methodLink "HeavierServesLaw" (211 : Nat) ({ cls := "HeavierServesModel", name := "absent", desc := "()I" } : Jvm.MethodName)) ∈ lw_all := lw_g (lw_at lw_m8 140 rfl) rfl
theorem q1898 : (Jvm.Cond.methodLink "HeavierServesLaw" (215 : Nat) ({ cls := "HeavierServesModel", name := "twin", desc := "(I)I" } : Jvm.MethodName)) ∈ lw_all := lw_g (lw_at lw_m8 144 rfl) rfl
theorem q1902 : (Jvm.Cond.methodLink "HeavierServesLaw" (219 : Nat) ({ cls := "HeavierServesModel", name := "odds", desc := "(II)I" } : Jvm.MethodName)) ∈ lw_all := lw_g (lw_at lw_m8 148 rfl) rfl
theorem q1920 : (Jvm.Cond.methodLink "HeavierServesLaw" (223 : Nat) ({ cls := "HeavierServesModel", name := "likely", desc := "()I" } : Jvm.MethodName)) ∈ lw_all := lw_g (lw_at lw_m8 166 rfl) rfl
theorem q1924 : (Jvm.Cond.methodLink "HeavierServesLaw" (227 : Nat) ({ cls := "HeavierServesModel", name := "keep", desc := "(I)Z" } : Jvm.MethodName)) ∈ lw_all := lw_g (lw_at lw_m8 170 rfl) rfl
theorem q1928 : (Jvm.Cond.methodLink "HeavierServesLaw" (231 : Nat) ({ cls := "HeavierServesModel", name := "again", desc := "(I)Z" } : Jvm.MethodName)) ∈ lw_all := lw_g (lw_at lw_m8 174 rfl) rfl
theorem q1932 : (Jvm.Cond.methodLink "HeavierServesLaw" (235 : Nat) ({ cls := "HeavierServesModel", name := "count", desc := "(I)I" } : Jvm.MethodName)) ∈ lw_all := lw_g (lw_at lw_m8 178 rfl) rfl
theorem q1940 : (Jvm.Cond.methodLink "HeavierServesLaw" (239 : Nat) ({ cls := "HeavierServesModel", name := "row", desc := "(I)J" } : Jvm.MethodName)) ∈ lw_all := lw_g (lw_at lw_m8 186 rfl) rfl
def RX1 : String := "HeavierServes"
def TX1 : u_T := fun k => match k with
  | 0 => ("HeavierServes", "people", "[LHeavierServes$One;", true)
  | 1 => ("HeavierServes", "now", "LHeavierServes$Time;", true)
  | 2 => ("HeavierServes", "tried", "LHeavierServes$Time;", true)
  | 3 => ("HeavierServes", "ahead", "[LHeavierServes$Time;", true)
  | 4 => ("HeavierServes", "many", "I", false)
  | 5 => ("HeavierServes", "came", "I", false)
  | 6 => ("HeavierServes", "undoMany", "I", false)
  | 7 => ("HeavierServes", "grain", "I", false)
  | 8 => ("HeavierServes", "off", "I", false)
  | 9 => ("HeavierServes", "text", "[B", true)
  | 10 => ("HeavierServes", "typed", "I", false)
  | 11 => ("HeavierServes", "row", "[J", true)
  | 12 => ("HeavierServes", "rowMany", "I", false)
  | 13 => ("HeavierServes", "comes", "[LHeavierServes$One;", true)
  | 14 => ("HeavierServes", "comeWeights", "[I", true)
  | 15 => ("HeavierServes", "rule", "LHeavierServes$Will;", false)
  | 16 => ("HeavierServes", "byWill", "LHeavierServes$ByWill;", true)
  | 17 => ("HeavierServes", "asTold", "LHeavierServes$Told;", true)
  | 18 => ("HeavierServes", "planned", "LHeavierServes$Planned;", true)
  | 19 => ("HeavierServes", "allPlanned", "LHeavierServes$AllPlanned;", true)
  | 20 => ("HeavierServes", "inTurn", "LHeavierServes$InTurn;", true)
  | 21 => ("HeavierServes", "isOther", "Z", false)
  | 22 => ("HeavierServes", "fallen", "I", false)
  | 23 => ("HeavierServes", "year", "[I", true)
  | 24 => ("HeavierServes", "weeksOf", "[I", true)
  | 25 => ("HeavierServes", "without", "LHeavierServes$Without;", true)
  | 26 => ("HeavierServes", "holds", "LHeavierServes$Holds;", true)
  | 27 => ("HeavierServes", "serves", "LHeavierServes$Serves;", true)
  | 28 => ("HeavierServes", "servesNever", "LHeavierServes$ServesNever;", true)
  | 29 => ("HeavierServes", "servesNext", "LHeavierServes$ServesNext;", true)
  | 30 => ("HeavierServes", "weighedOne", "[I", true)
  | 31 => ("HeavierServes", "weighedAs", "[I", true)
  | 32 => ("HeavierServes", "weighings", "I", false)
  | 33 => ("HeavierServes", "toldOne", "[I", true)
  | 34 => ("HeavierServes", "toldWeek", "[I", true)
  | 35 => ("HeavierServes", "toldMany", "I", false)
  | 36 => ("HeavierServes", "gone", "[LHeavierServes$Time;", true)
  | 37 => ("HeavierServes", "likely", "[J", true)
  | 38 => ("HeavierServes", "likelyThen", "[J", true)
  | _ => ("HeavierServes", "kept", "[LHeavierServes$Kept;", true)
def tyX1 : Nat → FieldType := fun k => match k with
  | 0 => .array (.object "HeavierServes$One")
  | 1 => .object "HeavierServes$Time"
  | 2 => .object "HeavierServes$Time"
  | 3 => .array (.object "HeavierServes$Time")
  | 4 => .int
  | 5 => .int
  | 6 => .int
  | 7 => .int
  | 8 => .int
  | 9 => .array .byte
  | 10 => .int
  | 11 => .array .long
  | 12 => .int
  | 13 => .array (.object "HeavierServes$One")
  | 14 => .array .int
  | 15 => .object "HeavierServes$Will"
  | 16 => .object "HeavierServes$ByWill"
  | 17 => .object "HeavierServes$Told"
  | 18 => .object "HeavierServes$Planned"
  | 19 => .object "HeavierServes$AllPlanned"
  | 20 => .object "HeavierServes$InTurn"
  | 21 => .boolean
  | 22 => .int
  | 23 => .array .int
  | 24 => .array .int
  | 25 => .object "HeavierServes$Without"
  | 26 => .object "HeavierServes$Holds"
  | 27 => .object "HeavierServes$Serves"
  | 28 => .object "HeavierServes$ServesNever"
  | 29 => .object "HeavierServes$ServesNext"
  | 30 => .array .int
  | 31 => .array .int
  | 32 => .int
  | 33 => .array .int
  | 34 => .array .int
  | 35 => .int
  | 36 => .array (.object "HeavierServes$Time")
  | 37 => .array .long
  | 38 => .array .long
  | _ => .array (.object "HeavierServes$Kept")
abbrev wsX10 : List Cond := u_ws RX1 TX1 40
theorem nmX1 : ∀ a, a < 40 → ∀ b, b < 40 → a ≠ b → (TX1 a).2.1 ≠ (TX1 b).2.1 := by decide +kernel
theorem tyX1_ok : ∀ k, k < 40 → parseFieldDescriptor (TX1 k).2.2.1 = some (tyX1 k) := by decide +kernel
abbrev cX1_init : ByteArray := prog_1_method_3_code
def yX1_init : MethodName := ⟨RX1, "<init>", "()V"⟩
abbrev cX1_sign : ByteArray := prog_1_method_9_code
def yX1_sign : MethodName := ⟨RX1, "sign", "(I)I"⟩
abbrev cX1_end : ByteArray := prog_1_method_10_code
def yX1_end : MethodName := ⟨RX1, "end", "(I)Z"⟩
abbrev cX1_in : ByteArray := prog_1_method_1_code
def yX1_in : MethodName := ⟨RX1, "in", "(JJJ)Z"⟩
abbrev cX1_town : ByteArray := prog_1_method_11_code
def yX1_town : MethodName := ⟨RX1, "town", "()I"⟩
abbrev cX1_words : ByteArray := prog_1_method_8_code
def yX1_words : MethodName := ⟨RX1, "words", "(I)LHeavierServes$Words;"⟩
abbrev cX1_add : ByteArray := prog_1_method_12_code
def yX1_add : MethodName := ⟨RX1, "add", "(LHeavierServes$One;I)V"⟩
abbrev cX1_will : ByteArray := prog_1_method_13_code
def yX1_will : MethodName := ⟨RX1, "will", "()I"⟩
abbrev cX1_habit : ByteArray := prog_1_method_15_code
def yX1_habit : MethodName := ⟨RX1, "habit", "(I)I"⟩
abbrev cX1_isOne : ByteArray := prog_1_method_5_code
def yX1_isOne : MethodName := ⟨RX1, "isOne", "(I)Z"⟩
abbrev cX1_set : ByteArray := prog_1_method_18_code
def yX1_set : MethodName := ⟨RX1, "set", "(III)I"⟩
abbrev cX1_scale : ByteArray := prog_1_method_19_code
def yX1_scale : MethodName := ⟨RX1, "scale", "(II)Z"⟩
abbrev cX1_sheet : ByteArray := prog_1_method_22_code
def yX1_sheet : MethodName := ⟨RX1, "sheet", "(IIII)I"⟩
abbrev cX1_rowOf : ByteArray := prog_1_method_20_code
def yX1_rowOf : MethodName := ⟨RX1, "rowOf", "(IIII)Ljava/lang/Object;"⟩
abbrev cX1_entry : ByteArray := prog_1_method_21_code
def yX1_entry : MethodName := ⟨RX1, "entry", "(Ljava/lang/Object;I)I"⟩
abbrev cX1_stand : ByteArray := prog_1_method_28_code
def yX1_stand : MethodName := ⟨RX1, "stand", "(I)I"⟩
abbrev cX1_remember : ByteArray := prog_1_method_27_code
def yX1_remember : MethodName := ⟨RX1, "remember", "()V"⟩
abbrev cX1_goes : ByteArray := prog_1_method_24_code
def yX1_goes : MethodName := ⟨RX1, "goes", "(LHeavierServes$Time;LHeavierServes$Chooser;)V"⟩
abbrev cX1_heir : ByteArray := prog_1_method_23_code
def yX1_heir : MethodName := ⟨RX1, "heir", "(LHeavierServes$Time;LHeavierServes$Chooser;)I"⟩
abbrev cX1_has : ByteArray := prog_1_method_2_code
def yX1_has : MethodName := ⟨RX1, "has", "(II)Z"⟩
abbrev cX1_willOf : ByteArray := prog_1_method_14_code
def yX1_willOf : MethodName := ⟨RX1, "willOf", "(LHeavierServes$Time;I)I"⟩
abbrev cX1_shows : ByteArray := prog_1_method_7_code
def yX1_shows : MethodName := ⟨RX1, "shows", "(I)I"⟩
abbrev cX1_comeTo : ByteArray := prog_1_method_25_code
def yX1_comeTo : MethodName := ⟨RX1, "comeTo", "(LHeavierServes$Time;I)V"⟩
abbrev cX1_changeIn : ByteArray := prog_1_method_26_code
def yX1_changeIn : MethodName := ⟨RX1, "changeIn", "(II)I"⟩
abbrev cX1_tell : ByteArray := prog_1_method_4_code
def yX1_tell : MethodName := ⟨RX1, "tell", "(J)V"⟩
abbrev cX1_weeks : ByteArray := prog_1_method_29_code
def yX1_weeks : MethodName := ⟨RX1, "weeks", "(I)I"⟩
abbrev cX1_year : ByteArray := prog_1_method_30_code
def yX1_year : MethodName := ⟨RX1, "year", "()I"⟩
abbrev cX1_letters : ByteArray := prog_1_method_31_code
def yX1_letters : MethodName := ⟨RX1, "letters", "(LHeavierServes$Words;)I"⟩
abbrev cX1_law : ByteArray := prog_1_method_32_code
def yX1_law : MethodName := ⟨RX1, "law", "()I"⟩
abbrev cX1_feed : ByteArray := prog_1_method_34_code
def yX1_feed : MethodName := ⟨RX1, "feed", "(II)I"⟩
abbrev cX1_isAlive : ByteArray := prog_1_method_6_code
def yX1_isAlive : MethodName := ⟨RX1, "isAlive", "(I)Z"⟩
abbrev cX1_fast : ByteArray := prog_1_method_35_code
def yX1_fast : MethodName := ⟨RX1, "fast", "(II)I"⟩
abbrev cX1_dies : ByteArray := prog_1_method_36_code
def yX1_dies : MethodName := ⟨RX1, "dies", "(I)I"⟩
abbrev cX1_undo : ByteArray := prog_1_method_37_code
def yX1_undo : MethodName := ⟨RX1, "undo", "()I"⟩
abbrev cX1_served : ByteArray := prog_1_method_38_code
def yX1_served : MethodName := ⟨RX1, "served", "(I)I"⟩
abbrev cX1_later : ByteArray := prog_1_method_39_code
def yX1_later : MethodName := ⟨RX1, "later", "(II)I"⟩
abbrev cX1_then : ByteArray := prog_1_method_40_code
def yX1_then : MethodName := ⟨RX1, "then", "(I)I"⟩
abbrev cX1_soonest : ByteArray := prog_1_method_41_code
def yX1_soonest : MethodName := ⟨RX1, "soonest", "(I)I"⟩
abbrev cX1_ever : ByteArray := prog_1_method_42_code
def yX1_ever : MethodName := ⟨RX1, "ever", "(I)I"⟩
abbrev cX1_canFollow : ByteArray := prog_1_method_43_code
def yX1_canFollow : MethodName := ⟨RX1, "canFollow", "(II)Z"⟩
abbrev cX1_most : ByteArray := prog_1_method_45_code
def yX1_most : MethodName := ⟨RX1, "most", "(II)I"⟩
abbrev cX1_servesBy : ByteArray := prog_1_method_44_code
def yX1_servesBy : MethodName := ⟨RX1, "servesBy", "(IILHeavierServes$Chooser;)I"⟩
abbrev cX1_rests : ByteArray := prog_1_method_46_code
def yX1_rests : MethodName := ⟨RX1, "rests", "(II)I"⟩
abbrev cX1_takesAnother : ByteArray := prog_1_method_47_code
def yX1_takesAnother : MethodName := ⟨RX1, "takesAnother", "(II)Z"⟩
abbrev cX1_party : ByteArray := prog_1_method_49_code
def yX1_party : MethodName := ⟨RX1, "party", "(I)I"⟩
abbrev cX1_partiesBy : ByteArray := prog_1_method_48_code
def yX1_partiesBy : MethodName := ⟨RX1, "partiesBy", "(ILHeavierServes$Chooser;)V"⟩
abbrev cX1_byTurns : ByteArray := prog_1_method_50_code
def yX1_byTurns : MethodName := ⟨RX1, "byTurns", "(II)I"⟩
abbrev cX1_hold : ByteArray := prog_1_method_54_code
def yX1_hold : MethodName := ⟨RX1, "hold", "(I)I"⟩
abbrev cX1_fewestBy : ByteArray := prog_1_method_52_code
def yX1_fewestBy : MethodName := ⟨RX1, "fewestBy", "(LHeavierServes$Wanted;)I"⟩
abbrev cX1_begin : ByteArray := prog_1_method_53_code
def yX1_begin : MethodName := ⟨RX1, "begin", "(II)V"⟩
abbrev cX1_bribe : ByteArray := prog_1_method_55_code
def yX1_bribe : MethodName := ⟨RX1, "bribe", "(II)I"⟩
abbrev cX1_starve : ByteArray := prog_1_method_56_code
def yX1_starve : MethodName := ⟨RX1, "starve", "(II)I"⟩
abbrev cX1_cheapest : ByteArray := prog_1_method_57_code
def yX1_cheapest : MethodName := ⟨RX1, "cheapest", "()I"⟩
abbrev cX1_weighed : ByteArray := prog_1_method_58_code
def yX1_weighed : MethodName := ⟨RX1, "weighed", "(II)I"⟩
abbrev cX1_forget : ByteArray := prog_1_method_59_code
def yX1_forget : MethodName := ⟨RX1, "forget", "()I"⟩
abbrev cX1_grains : ByteArray := prog_1_method_62_code
def yX1_grains : MethodName := ⟨RX1, "grains", "()I"⟩
abbrev cX1_canBe : ByteArray := prog_1_method_61_code
def yX1_canBe : MethodName := ⟨RX1, "canBe", "(I)Z"⟩
abbrev cX1_isShown : ByteArray := prog_1_method_60_code
def yX1_isShown : MethodName := ⟨RX1, "isShown", "(II)Z"⟩
abbrev cX1_span : ByteArray := prog_1_method_63_code
def yX1_span : MethodName := ⟨RX1, "span", "(I)I"⟩
abbrev cX1_offs : ByteArray := prog_1_method_65_code
def yX1_offs : MethodName := ⟨RX1, "offs", "()I"⟩
abbrev cX1_liars : ByteArray := prog_1_method_64_code
def yX1_liars : MethodName := ⟨RX1, "liars", "()I"⟩
abbrev cX1_cheats : ByteArray := prog_1_method_66_code
def yX1_cheats : MethodName := ⟨RX1, "cheats", "()I"⟩
abbrev cX1_told : ByteArray := prog_1_method_67_code
def yX1_told : MethodName := ⟨RX1, "told", "(II)I"⟩
abbrev cX1_wipe : ByteArray := prog_1_method_68_code
def yX1_wipe : MethodName := ⟨RX1, "wipe", "()I"⟩
abbrev cX1_explains : ByteArray := prog_1_method_70_code
def yX1_explains : MethodName := ⟨RX1, "explains", "(I)I"⟩
abbrev cX1_isSo : ByteArray := prog_1_method_69_code
def yX1_isSo : MethodName := ⟨RX1, "isSo", "(LHeavierServes$Chooser;)Z"⟩
abbrev cX1_absent : ByteArray := prog_1_method_71_code
def yX1_absent : MethodName := ⟨RX1, "absent", "()I"⟩
abbrev cX1_twin : ByteArray := prog_1_method_72_code
def yX1_twin : MethodName := ⟨RX1, "twin", "(I)I"⟩
abbrev cX1_odds : ByteArray := prog_1_method_77_code
def yX1_odds : MethodName := ⟨RX1, "odds", "(II)I"⟩
abbrev cX1_oddsOf : ByteArray := prog_1_method_74_code
def yX1_oddsOf : MethodName := ⟨RX1, "oddsOf", "(III)J"⟩
abbrev cX1_findLikely : ByteArray := prog_1_method_73_code
def yX1_findLikely : MethodName := ⟨RX1, "findLikely", "(LHeavierServes$Time;[J)V"⟩
abbrev cX1_tellPart : ByteArray := prog_1_method_76_code
def yX1_tellPart : MethodName := ⟨RX1, "tellPart", "(JJ)V"⟩
abbrev cX1_common : ByteArray := prog_1_method_75_code
def yX1_common : MethodName := ⟨RX1, "common", "(JJ)J"⟩
abbrev cX1_likely : ByteArray := prog_1_method_78_code
def yX1_likely : MethodName := ⟨RX1, "likely", "()I"⟩
abbrev cX1_keep : ByteArray := prog_1_method_79_code
def yX1_keep : MethodName := ⟨RX1, "keep", "(I)Z"⟩
abbrev cX1_again : ByteArray := prog_1_method_80_code
def yX1_again : MethodName := ⟨RX1, "again", "(I)Z"⟩
abbrev cX1_count : ByteArray := prog_1_method_81_code
def yX1_count : MethodName := ⟨RX1, "count", "(I)I"⟩
abbrev cX1_of : ByteArray := prog_1_method_16_code
def yX1_of : MethodName := ⟨RX1, "of", "(II)I"⟩
abbrev cX1_change : ByteArray := prog_1_method_17_code
def yX1_change : MethodName := ⟨RX1, "change", "(II)I"⟩
abbrev cX1_laws : ByteArray := prog_1_method_33_code
def yX1_laws : MethodName := ⟨RX1, "laws", "(II)I"⟩
abbrev cX1_fool : ByteArray := prog_1_method_51_code
def yX1_fool : MethodName := ⟨RX1, "fool", "(II)I"⟩
abbrev cX1_row : ByteArray := prog_1_method_82_code
def yX1_row : MethodName := ⟨RX1, "row", "(I)J"⟩
theorem q75 : (Jvm.Cond.initialized "HeavierServes") ∈ lw_all := lw_g (lw_at lw_m1 1 rfl) rfl
theorem q108 : (Jvm.Cond.instantiable "HeavierServes" (40 : Nat)) ∈ lw_all := lw_g (lw_at lw_m1 34 rfl) rfl
theorem q110 : (Jvm.Cond.instanceMethod ({ cls := "HeavierServes", name := "<init>", desc := "()V" } : Jvm.MethodName)) ∈ lw_all := lw_g (lw_at lw_m1 36 rfl) rfl
theorem q111 : (Jvm.Cond.code ({ cls := "HeavierServes", name := "<init>", desc := "()V" } : Jvm.MethodName) prog_1_method_3_code (2 : Nat) (Option.none : Option Jvm.ClassFile.FieldType)) ∈ lw_all := lw_g (lw_at lw_m1 37 rfl) rfl
theorem q112 : (Jvm.Cond.methodLink "HeavierServes" (1 : Nat) ({ cls := "java/lang/Object", name := "<init>", desc := "()V" } : Jvm.MethodName)) ∈ lw_all := lw_g (lw_at lw_m1 38 rfl) rfl
theorem q115 : (Jvm.Cond.classLink "HeavierServes" (9 : Nat) "HeavierServes$One") ∈ lw_all := lw_g (lw_at lw_m1 41 rfl) rfl
theorem q117 : (Jvm.Cond.classLink "HeavierServes" (15 : Nat) "HeavierServes$Time") ∈ lw_all := lw_g (lw_at lw_m1 43 rfl) rfl
theorem q119 : (Jvm.Cond.methodLinkNest "HeavierServes" (17 : Nat) ({ cls := "HeavierServes$Time", name := "<init>", desc := "()V" } : Jvm.MethodName) "HeavierServes") ∈ lw_tbl := lw_at lw_m1 45 rfl
theorem q125 : (Jvm.Cond.fieldLink "HeavierServes" (236 : Nat) "HeavierServes$Time" "weights" "[I") ∈ lw_all := lw_g (lw_at lw_m1 51 rfl) rfl
theorem q128 : (Jvm.Cond.fieldLink "HeavierServes" (239 : Nat) "HeavierServes$Time" "served" "[I") ∈ lw_all := lw_g (lw_at lw_m1 54 rfl) rfl
theorem q130 : (Jvm.Cond.fieldLink "HeavierServes" (391 : Nat) "HeavierServes$Time" "maker" "[I") ∈ lw_all := lw_g (lw_at lw_m1 56 rfl) rfl
theorem q132 : (Jvm.Cond.fieldLink "HeavierServes" (394 : Nat) "HeavierServes$Time" "made" "[I") ∈ lw_all := lw_g (lw_at lw_m1 58 rfl) rfl
theorem q134 : (Jvm.Cond.fieldLink "HeavierServes" (397 : Nat) "HeavierServes$Time" "fell" "[I") ∈ lw_all := lw_g (lw_at lw_m1 60 rfl) rfl
theorem q136 : (Jvm.Cond.fieldLink "HeavierServes" (345 : Nat) "HeavierServes$Time" "known" "[I") ∈ lw_all := lw_g (lw_at lw_m1 62 rfl) rfl
theorem q139 : (Jvm.Cond.fieldLink "HeavierServes" (168 : Nat) "HeavierServes$Time" "alive" "I") ∈ lw_all := lw_g (lw_at lw_m1 65 rfl) rfl
theorem q146 : (Jvm.Cond.fieldLink "HeavierServes" (315 : Nat) "HeavierServes$Time" "server" "I") ∈ lw_all := lw_g (lw_at lw_m1 72 rfl) rfl
theorem q149 : (Jvm.Cond.fieldLink "HeavierServes" (342 : Nat) "HeavierServes$Time" "term" "I") ∈ lw_all := lw_g (lw_at lw_m1 75 rfl) rfl
theorem q155 : (Jvm.Cond.fieldLink "HeavierServes" (348 : Nat) "HeavierServes$Time" "week" "I") ∈ lw_all := lw_g (lw_at lw_m1 81 rfl) rfl
theorem q157 : (Jvm.Cond.fieldLink "HeavierServes" (388 : Nat) "HeavierServes$Time" "laws" "I") ∈ lw_all := lw_g (lw_at lw_m1 83 rfl) rfl
theorem q184 : (Jvm.Cond.methodLinkNest "HeavierServes" (41 : Nat) ({ cls := "HeavierServes$One", name := "<init>", desc := "()V" } : Jvm.MethodName) "HeavierServes") ∈ lw_tbl := lw_at lw_m1 110 rfl
theorem q191 : (Jvm.Cond.fieldLink "HeavierServes" (211 : Nat) "HeavierServes$One" "party" "I") ∈ lw_all := lw_g (lw_at lw_m1 117 rfl) rfl
theorem q193 : (Jvm.Cond.fieldLink "HeavierServes" (214 : Nat) "HeavierServes$One" "ill" "I") ∈ lw_all := lw_g (lw_at lw_m1 119 rfl) rfl
theorem q196 : (Jvm.Cond.fieldLink "HeavierServes" (270 : Nat) "HeavierServes$One" "changes" "I") ∈ lw_all := lw_g (lw_at lw_m1 122 rfl) rfl
theorem q199 : (Jvm.Cond.fieldLink "HeavierServes" (273 : Nat) "HeavierServes$One" "habit" "[I") ∈ lw_all := lw_g (lw_at lw_m1 125 rfl) rfl
theorem q211 : (Jvm.Cond.classLink "HeavierServes" (49 : Nat) "HeavierServes$ByWill") ∈ lw_all := lw_g (lw_at lw_m1 137 rfl) rfl
theorem q213 : (Jvm.Cond.methodLinkNest "HeavierServes" (51 : Nat) ({ cls := "HeavierServes$ByWill", name := "<init>", desc := "(LHeavierServes;)V" } : Jvm.MethodName) "HeavierServes") ∈ lw_tbl := lw_at lw_m1 139 rfl
theorem q221 : (Jvm.Cond.classLink "HeavierServes" (58 : Nat) "HeavierServes$Told") ∈ lw_all := lw_g (lw_at lw_m1 147 rfl) rfl
theorem q223 : (Jvm.Cond.methodLinkNest "HeavierServes" (60 : Nat) ({ cls := "HeavierServes$Told", name := "<init>", desc := "()V" } : Jvm.MethodName) "HeavierServes") ∈ lw_tbl := lw_at lw_m1 149 rfl
theorem q229 : (Jvm.Cond.fieldLink "HeavierServes" (360 : Nat) "HeavierServes$Told" "those" "I") ∈ lw_all := lw_g (lw_at lw_m1 155 rfl) rfl
theorem q233 : (Jvm.Cond.classLink "HeavierServes" (65 : Nat) "HeavierServes$Planned") ∈ lw_all := lw_g (lw_at lw_m1 159 rfl) rfl
theorem q235 : (Jvm.Cond.methodLinkNest "HeavierServes" (67 : Nat) ({ cls := "HeavierServes$Planned", name := "<init>", desc := "(LHeavierServes;)V" } : Jvm.MethodName) "HeavierServes") ∈ lw_tbl := lw_at lw_m1 161 rfl
theorem q240 : (Jvm.Cond.fieldLink "HeavierServes" (412 : Nat) "HeavierServes$Planned" "who" "I") ∈ lw_all := lw_g (lw_at lw_m1 166 rfl) rfl
theorem q242 : (Jvm.Cond.fieldLink "HeavierServes" (418 : Nat) "HeavierServes$Planned" "plan" "I") ∈ lw_all := lw_g (lw_at lw_m1 168 rfl) rfl
theorem q244 : (Jvm.Cond.fieldLink "HeavierServes" (415 : Nat) "HeavierServes$Planned" "from" "I") ∈ lw_all := lw_g (lw_at lw_m1 170 rfl) rfl
theorem q255 : (Jvm.Cond.classLink "HeavierServes" (72 : Nat) "HeavierServes$AllPlanned") ∈ lw_all := lw_g (lw_at lw_m1 181 rfl) rfl
theorem q257 : (Jvm.Cond.methodLinkNest "HeavierServes" (74 : Nat) ({ cls := "HeavierServes$AllPlanned", name := "<init>", desc := "()V" } : Jvm.MethodName) "HeavierServes") ∈ lw_tbl := lw_at lw_m1 183 rfl
theorem q262 : (Jvm.Cond.fieldLink "HeavierServes" (435 : Nat) "HeavierServes$AllPlanned" "plans" "[I") ∈ lw_all := lw_g (lw_at lw_m1 188 rfl) rfl
theorem q264 : (Jvm.Cond.fieldLink "HeavierServes" (434 : Nat) "HeavierServes$AllPlanned" "from" "I") ∈ lw_all := lw_g (lw_at lw_m1 190 rfl) rfl
theorem q270 : (Jvm.Cond.classLink "HeavierServes" (79 : Nat) "HeavierServes$InTurn") ∈ lw_all := lw_g (lw_at lw_m1 196 rfl) rfl
theorem q272 : (Jvm.Cond.methodLinkNest "HeavierServes" (81 : Nat) ({ cls := "HeavierServes$InTurn", name := "<init>", desc := "(LHeavierServes;)V" } : Jvm.MethodName) "HeavierServes") ∈ lw_tbl := lw_at lw_m1 198 rfl
theorem q277 : (Jvm.Cond.fieldLink "HeavierServes" (451 : Nat) "HeavierServes$InTurn" "party" "I") ∈ lw_all := lw_g (lw_at lw_m1 203 rfl) rfl
theorem q279 : (Jvm.Cond.fieldLink "HeavierServes" (452 : Nat) "HeavierServes$InTurn" "from" "I") ∈ lw_all := lw_g (lw_at lw_m1 205 rfl) rfl
theorem q288 : (Jvm.Cond.classLink "HeavierServes" (92 : Nat) "HeavierServes$Without") ∈ lw_all := lw_g (lw_at lw_m1 214 rfl) rfl
theorem q290 : (Jvm.Cond.methodLinkNest "HeavierServes" (94 : Nat) ({ cls := "HeavierServes$Without", name := "<init>", desc := "(LHeavierServes;)V" } : Jvm.MethodName) "HeavierServes") ∈ lw_tbl := lw_at lw_m1 216 rfl
theorem q295 : (Jvm.Cond.fieldLink "HeavierServes" (453 : Nat) "HeavierServes$Without" "who" "I") ∈ lw_all := lw_g (lw_at lw_m1 221 rfl) rfl
theorem q302 : (Jvm.Cond.classLink "HeavierServes" (99 : Nat) "HeavierServes$Holds") ∈ lw_all := lw_g (lw_at lw_m1 228 rfl) rfl
theorem q304 : (Jvm.Cond.methodLinkNest "HeavierServes" (101 : Nat) ({ cls := "HeavierServes$Holds", name := "<init>", desc := "(LHeavierServes;)V" } : Jvm.MethodName) "HeavierServes") ∈ lw_tbl := lw_at lw_m1 230 rfl
theorem q309 : (Jvm.Cond.fieldLink "HeavierServes" (461 : Nat) "HeavierServes$Holds" "n" "I") ∈ lw_all := lw_g (lw_at lw_m1 235 rfl) rfl
theorem q316 : (Jvm.Cond.classLink "HeavierServes" (106 : Nat) "HeavierServes$Serves") ∈ lw_all := lw_g (lw_at lw_m2 2 rfl) rfl
theorem q318 : (Jvm.Cond.methodLinkNest "HeavierServes" (108 : Nat) ({ cls := "HeavierServes$Serves", name := "<init>", desc := "(LHeavierServes;)V" } : Jvm.MethodName) "HeavierServes") ∈ lw_tbl := lw_at lw_m2 4 rfl
theorem q323 : (Jvm.Cond.fieldLink "HeavierServes" (468 : Nat) "HeavierServes$Serves" "who" "I") ∈ lw_all := lw_g (lw_at lw_m2 9 rfl) rfl
theorem q325 : (Jvm.Cond.fieldLink "HeavierServes" (469 : Nat) "HeavierServes$Serves" "n" "I") ∈ lw_all := lw_g (lw_at lw_m2 11 rfl) rfl
theorem q334 : (Jvm.Cond.classLink "HeavierServes" (113 : Nat) "HeavierServes$ServesNever") ∈ lw_all := lw_g (lw_at lw_m2 20 rfl) rfl
theorem q336 : (Jvm.Cond.methodLinkNest "HeavierServes" (115 : Nat) ({ cls := "HeavierServes$ServesNever", name := "<init>", desc := "(LHeavierServes;)V" } : Jvm.MethodName) "HeavierServes") ∈ lw_tbl := lw_at lw_m2 22 rfl
theorem q341 : (Jvm.Cond.fieldLink "HeavierServes" (471 : Nat) "HeavierServes$ServesNever" "who" "I") ∈ lw_all := lw_g (lw_at lw_m2 27 rfl) rfl
theorem q343 : (Jvm.Cond.fieldLink "HeavierServes" (472 : Nat) "HeavierServes$ServesNever" "n" "I") ∈ lw_all := lw_g (lw_at lw_m2 29 rfl) rfl
theorem q352 : (Jvm.Cond.classLink "HeavierServes" (120 : Nat) "HeavierServes$ServesNext") ∈ lw_all := lw_g (lw_at lw_m2 38 rfl) rfl
theorem q354 : (Jvm.Cond.methodLinkNest "HeavierServes" (122 : Nat) ({ cls := "HeavierServes$ServesNext", name := "<init>", desc := "(LHeavierServes;)V" } : Jvm.MethodName) "HeavierServes") ∈ lw_tbl := lw_at lw_m2 40 rfl
theorem q359 : (Jvm.Cond.fieldLink "HeavierServes" (473 : Nat) "HeavierServes$ServesNext" "who" "I") ∈ lw_all := lw_g (lw_at lw_m2 45 rfl) rfl
theorem q366 : (Jvm.Cond.classLink "HeavierServes" (148 : Nat) "HeavierServes$Kept") ∈ lw_all := lw_g (lw_at lw_m2 52 rfl) rfl
theorem q369 : (Jvm.Cond.fieldLink "HeavierServes" (11 : Nat) "HeavierServes" "people" "[LHeavierServes$One;") ∈ lw_all := lw_g (lw_at lw_m2 55 rfl) rfl
theorem q373 : (Jvm.Cond.fieldLink "HeavierServes" (18 : Nat) "HeavierServes" "now" "LHeavierServes$Time;") ∈ lw_all := lw_g (lw_at lw_m2 59 rfl) rfl
theorem q378 : (Jvm.Cond.fieldLink "HeavierServes" (22 : Nat) "HeavierServes" "tried" "LHeavierServes$Time;") ∈ lw_all := lw_g (lw_at lw_m2 64 rfl) rfl
theorem q379 : (Jvm.Cond.fieldLink "HeavierServes" (25 : Nat) "HeavierServes" "ahead" "[LHeavierServes$Time;") ∈ lw_all := lw_g (lw_at lw_m2 65 rfl) rfl
theorem q382 : (Jvm.Cond.fieldLink "HeavierServes" (157 : Nat) "HeavierServes" "many" "I") ∈ lw_all := lw_g (lw_at lw_m2 68 rfl) rfl
theorem q384 : (Jvm.Cond.fieldLink "HeavierServes" (242 : Nat) "HeavierServes" "came" "I") ∈ lw_all := lw_g (lw_at lw_m2 70 rfl) rfl
theorem q385 : (Jvm.Cond.fieldLink "HeavierServes" (245 : Nat) "HeavierServes" "undoMany" "I") ∈ lw_all := lw_g (lw_at lw_m2 71 rfl) rfl
theorem q386 : (Jvm.Cond.fieldLink "HeavierServes" (29 : Nat) "HeavierServes" "grain" "I") ∈ lw_all := lw_g (lw_at lw_m2 72 rfl) rfl
theorem q387 : (Jvm.Cond.fieldLink "HeavierServes" (175 : Nat) "HeavierServes" "off" "I") ∈ lw_all := lw_g (lw_at lw_m2 73 rfl) rfl
theorem q388 : (Jvm.Cond.fieldLink "HeavierServes" (33 : Nat) "HeavierServes" "text" "[B") ∈ lw_all := lw_g (lw_at lw_m2 74 rfl) rfl
theorem q389 : (Jvm.Cond.fieldLink "HeavierServes" (186 : Nat) "HeavierServes" "typed" "I") ∈ lw_all := lw_g (lw_at lw_m2 75 rfl) rfl
theorem q390 : (Jvm.Cond.fieldLink "HeavierServes" (37 : Nat) "HeavierServes" "row" "[J") ∈ lw_all := lw_g (lw_at lw_m2 76 rfl) rfl
theorem q391 : (Jvm.Cond.fieldLink "HeavierServes" (154 : Nat) "HeavierServes" "rowMany" "I") ∈ lw_all := lw_g (lw_at lw_m2 77 rfl) rfl
theorem q392 : (Jvm.Cond.fieldLink "HeavierServes" (42 : Nat) "HeavierServes" "comes" "[LHeavierServes$One;") ∈ lw_all := lw_g (lw_at lw_m2 78 rfl) rfl
theorem q393 : (Jvm.Cond.fieldLink "HeavierServes" (45 : Nat) "HeavierServes" "comeWeights" "[I") ∈ lw_all := lw_g (lw_at lw_m2 79 rfl) rfl
theorem q394 : (Jvm.Cond.fieldLink "HeavierServes" (253 : Nat) "HeavierServes" "rule" "LHeavierServes$Will;") ∈ lw_all := lw_g (lw_at lw_m2 80 rfl) rfl
theorem q399 : (Jvm.Cond.fieldLink "HeavierServes" (54 : Nat) "HeavierServes" "byWill" "LHeavierServes$ByWill;") ∈ lw_all := lw_g (lw_at lw_m2 85 rfl) rfl
theorem q401 : (Jvm.Cond.fieldLink "HeavierServes" (61 : Nat) "HeavierServes" "asTold" "LHeavierServes$Told;") ∈ lw_all := lw_g (lw_at lw_m2 87 rfl) rfl
theorem q402 : (Jvm.Cond.fieldLink "HeavierServes" (68 : Nat) "HeavierServes" "planned" "LHeavierServes$Planned;") ∈ lw_all := lw_g (lw_at lw_m2 88 rfl) rfl
theorem q403 : (Jvm.Cond.fieldLink "HeavierServes" (75 : Nat) "HeavierServes" "allPlanned" "LHeavierServes$AllPlanned;") ∈ lw_all := lw_g (lw_at lw_m2 89 rfl) rfl
theorem q404 : (Jvm.Cond.fieldLink "HeavierServes" (82 : Nat) "HeavierServes" "inTurn" "LHeavierServes$InTurn;") ∈ lw_all := lw_g (lw_at lw_m2 90 rfl) rfl
theorem q406 : (Jvm.Cond.fieldLink "HeavierServes" (332 : Nat) "HeavierServes" "isOther" "Z") ∈ lw_all := lw_g (lw_at lw_m2 92 rfl) rfl
theorem q407 : (Jvm.Cond.fieldLink "HeavierServes" (336 : Nat) "HeavierServes" "fallen" "I") ∈ lw_all := lw_g (lw_at lw_m2 93 rfl) rfl
theorem q408 : (Jvm.Cond.fieldLink "HeavierServes" (86 : Nat) "HeavierServes" "year" "[I") ∈ lw_all := lw_g (lw_at lw_m2 94 rfl) rfl
theorem q409 : (Jvm.Cond.fieldLink "HeavierServes" (89 : Nat) "HeavierServes" "weeksOf" "[I") ∈ lw_all := lw_g (lw_at lw_m2 95 rfl) rfl
theorem q410 : (Jvm.Cond.fieldLink "HeavierServes" (95 : Nat) "HeavierServes" "without" "LHeavierServes$Without;") ∈ lw_all := lw_g (lw_at lw_m2 96 rfl) rfl
theorem q411 : (Jvm.Cond.fieldLink "HeavierServes" (102 : Nat) "HeavierServes" "holds" "LHeavierServes$Holds;") ∈ lw_all := lw_g (lw_at lw_m2 97 rfl) rfl
theorem q412 : (Jvm.Cond.fieldLink "HeavierServes" (109 : Nat) "HeavierServes" "serves" "LHeavierServes$Serves;") ∈ lw_all := lw_g (lw_at lw_m2 98 rfl) rfl
theorem q413 : (Jvm.Cond.fieldLink "HeavierServes" (116 : Nat) "HeavierServes" "servesNever" "LHeavierServes$ServesNever;") ∈ lw_all := lw_g (lw_at lw_m2 99 rfl) rfl
theorem q414 : (Jvm.Cond.fieldLink "HeavierServes" (123 : Nat) "HeavierServes" "servesNext" "LHeavierServes$ServesNext;") ∈ lw_all := lw_g (lw_at lw_m2 100 rfl) rfl
theorem q415 : (Jvm.Cond.fieldLink "HeavierServes" (127 : Nat) "HeavierServes" "weighedOne" "[I") ∈ lw_all := lw_g (lw_at lw_m2 101 rfl) rfl
theorem q416 : (Jvm.Cond.fieldLink "HeavierServes" (130 : Nat) "HeavierServes" "weighedAs" "[I") ∈ lw_all := lw_g (lw_at lw_m2 102 rfl) rfl
theorem q417 : (Jvm.Cond.fieldLink "HeavierServes" (476 : Nat) "HeavierServes" "weighings" "I") ∈ lw_all := lw_g (lw_at lw_m2 103 rfl) rfl
theorem q418 : (Jvm.Cond.fieldLink "HeavierServes" (133 : Nat) "HeavierServes" "toldOne" "[I") ∈ lw_all := lw_g (lw_at lw_m2 104 rfl) rfl
theorem q419 : (Jvm.Cond.fieldLink "HeavierServes" (136 : Nat) "HeavierServes" "toldWeek" "[I") ∈ lw_all := lw_g (lw_at lw_m2 105 rfl) rfl
theorem q420 : (Jvm.Cond.fieldLink "HeavierServes" (488 : Nat) "HeavierServes" "toldMany" "I") ∈ lw_all := lw_g (lw_at lw_m2 106 rfl) rfl
theorem q421 : (Jvm.Cond.fieldLink "HeavierServes" (139 : Nat) "HeavierServes" "gone" "[LHeavierServes$Time;") ∈ lw_all := lw_g (lw_at lw_m2 107 rfl) rfl
theorem q422 : (Jvm.Cond.fieldLink "HeavierServes" (142 : Nat) "HeavierServes" "likely" "[J") ∈ lw_all := lw_g (lw_at lw_m2 108 rfl) rfl
theorem q423 : (Jvm.Cond.fieldLink "HeavierServes" (145 : Nat) "HeavierServes" "likelyThen" "[J") ∈ lw_all := lw_g (lw_at lw_m2 109 rfl) rfl
theorem q424 : (Jvm.Cond.fieldLink "HeavierServes" (150 : Nat) "HeavierServes" "kept" "[LHeavierServes$Kept;") ∈ lw_all := lw_g (lw_at lw_m2 110 rfl) rfl
theorem q425 : (Jvm.Cond.laysFinal "HeavierServes" "HeavierServes" "people" "[LHeavierServes$One;") ∈ lw_all := lw_g (lw_at lw_m2 111 rfl) rfl
theorem q426 : (Jvm.Cond.soleField "HeavierServes" "people") ∈ lw_all := lw_g (lw_at lw_m2 112 rfl) rfl
theorem q427 : (Jvm.Cond.laysFinal "HeavierServes" "HeavierServes" "now" "LHeavierServes$Time;") ∈ lw_all := lw_g (lw_at lw_m2 113 rfl) rfl
theorem q428 : (Jvm.Cond.soleField "HeavierServes" "now") ∈ lw_all := lw_g (lw_at lw_m2 114 rfl) rfl
theorem q429 : (Jvm.Cond.laysFinal "HeavierServes" "HeavierServes" "tried" "LHeavierServes$Time;") ∈ lw_all := lw_g (lw_at lw_m2 115 rfl) rfl
theorem q430 : (Jvm.Cond.soleField "HeavierServes" "tried") ∈ lw_all := lw_g (lw_at lw_m2 116 rfl) rfl
theorem q431 : (Jvm.Cond.laysFinal "HeavierServes" "HeavierServes" "ahead" "[LHeavierServes$Time;") ∈ lw_all := lw_g (lw_at lw_m2 117 rfl) rfl
theorem q432 : (Jvm.Cond.soleField "HeavierServes" "ahead") ∈ lw_all := lw_g (lw_at lw_m2 118 rfl) rfl
theorem q433 : (Jvm.Cond.lays "HeavierServes" "HeavierServes" "many" "I") ∈ lw_all := lw_g (lw_at lw_m2 119 rfl) rfl
theorem q434 : (Jvm.Cond.soleField "HeavierServes" "many") ∈ lw_all := lw_g (lw_at lw_m2 120 rfl) rfl
theorem q435 : (Jvm.Cond.lays "HeavierServes" "HeavierServes" "came" "I") ∈ lw_all := lw_g (lw_at lw_m2 121 rfl) rfl
theorem q436 : (Jvm.Cond.soleField "HeavierServes" "came") ∈ lw_all := lw_g (lw_at lw_m2 122 rfl) rfl
theorem q437 : (Jvm.Cond.lays "HeavierServes" "HeavierServes" "undoMany" "I") ∈ lw_all := lw_g (lw_at lw_m2 123 rfl) rfl
theorem q438 : (Jvm.Cond.soleField "HeavierServes" "undoMany") ∈ lw_all := lw_g (lw_at lw_m2 124 rfl) rfl
theorem q439 : (Jvm.Cond.lays "HeavierServes" "HeavierServes" "grain" "I") ∈ lw_all := lw_g (lw_at lw_m2 125 rfl) rfl
theorem q440 : (Jvm.Cond.soleField "HeavierServes" "grain") ∈ lw_all := lw_g (lw_at lw_m2 126 rfl) rfl
theorem q441 : (Jvm.Cond.lays "HeavierServes" "HeavierServes" "off" "I") ∈ lw_all := lw_g (lw_at lw_m2 127 rfl) rfl
theorem q442 : (Jvm.Cond.soleField "HeavierServes" "off") ∈ lw_all := lw_g (lw_at lw_m2 128 rfl) rfl
theorem q443 : (Jvm.Cond.laysFinal "HeavierServes" "HeavierServes" "text" "[B") ∈ lw_all := lw_g (lw_at lw_m2 129 rfl) rfl
theorem q444 : (Jvm.Cond.soleField "HeavierServes" "text") ∈ lw_all := lw_g (lw_at lw_m2 130 rfl) rfl
theorem q445 : (Jvm.Cond.lays "HeavierServes" "HeavierServes" "typed" "I") ∈ lw_all := lw_g (lw_at lw_m2 131 rfl) rfl
theorem q446 : (Jvm.Cond.soleField "HeavierServes" "typed") ∈ lw_all := lw_g (lw_at lw_m2 132 rfl) rfl
theorem q447 : (Jvm.Cond.laysFinal "HeavierServes" "HeavierServes" "row" "[J") ∈ lw_all := lw_g (lw_at lw_m2 133 rfl) rfl
theorem q448 : (Jvm.Cond.soleField "HeavierServes" "row") ∈ lw_all := lw_g (lw_at lw_m2 134 rfl) rfl
theorem q449 : (Jvm.Cond.lays "HeavierServes" "HeavierServes" "rowMany" "I") ∈ lw_all := lw_g (lw_at lw_m2 135 rfl) rfl
theorem q450 : (Jvm.Cond.soleField "HeavierServes" "rowMany") ∈ lw_all := lw_g (lw_at lw_m2 136 rfl) rfl
theorem q451 : (Jvm.Cond.laysFinal "HeavierServes" "HeavierServes" "comes" "[LHeavierServes$One;") ∈ lw_all := lw_g (lw_at lw_m2 137 rfl) rfl
theorem q452 : (Jvm.Cond.soleField "HeavierServes" "comes") ∈ lw_all := lw_g (lw_at lw_m2 138 rfl) rfl
theorem q453 : (Jvm.Cond.laysFinal "HeavierServes" "HeavierServes" "comeWeights" "[I") ∈ lw_all := lw_g (lw_at lw_m2 139 rfl) rfl
theorem q454 : (Jvm.Cond.soleField "HeavierServes" "comeWeights") ∈ lw_all := lw_g (lw_at lw_m2 140 rfl) rfl
theorem q455 : (Jvm.Cond.lays "HeavierServes" "HeavierServes" "rule" "LHeavierServes$Will;") ∈ lw_all := lw_g (lw_at lw_m2 141 rfl) rfl
theorem q456 : (Jvm.Cond.soleField "HeavierServes" "rule") ∈ lw_all := lw_g (lw_at lw_m2 142 rfl) rfl
theorem q457 : (Jvm.Cond.laysFinal "HeavierServes" "HeavierServes" "byWill" "LHeavierServes$ByWill;") ∈ lw_all := lw_g (lw_at lw_m2 143 rfl) rfl
theorem q458 : (Jvm.Cond.soleField "HeavierServes" "byWill") ∈ lw_all := lw_g (lw_at lw_m2 144 rfl) rfl
theorem q459 : (Jvm.Cond.laysFinal "HeavierServes" "HeavierServes" "asTold" "LHeavierServes$Told;") ∈ lw_all := lw_g (lw_at lw_m2 145 rfl) rfl
theorem q460 : (Jvm.Cond.soleField "HeavierServes" "asTold") ∈ lw_all := lw_g (lw_at lw_m2 146 rfl) rfl
theorem q461 : (Jvm.Cond.laysFinal "HeavierServes" "HeavierServes" "planned" "LHeavierServes$Planned;") ∈ lw_all := lw_g (lw_at lw_m2 147 rfl) rfl
theorem q462 : (Jvm.Cond.soleField "HeavierServes" "planned") ∈ lw_all := lw_g (lw_at lw_m2 148 rfl) rfl
theorem q463 : (Jvm.Cond.laysFinal "HeavierServes" "HeavierServes" "allPlanned" "LHeavierServes$AllPlanned;") ∈ lw_all := lw_g (lw_at lw_m2 149 rfl) rfl
theorem q464 : (Jvm.Cond.soleField "HeavierServes" "allPlanned") ∈ lw_all := lw_g (lw_at lw_m2 150 rfl) rfl
theorem q465 : (Jvm.Cond.laysFinal "HeavierServes" "HeavierServes" "inTurn" "LHeavierServes$InTurn;") ∈ lw_all := lw_g (lw_at lw_m2 151 rfl) rfl
theorem q466 : (Jvm.Cond.soleField "HeavierServes" "inTurn") ∈ lw_all := lw_g (lw_at lw_m2 152 rfl) rfl
theorem q467 : (Jvm.Cond.lays "HeavierServes" "HeavierServes" "isOther" "Z") ∈ lw_all := lw_g (lw_at lw_m2 153 rfl) rfl
theorem q468 : (Jvm.Cond.soleField "HeavierServes" "isOther") ∈ lw_all := lw_g (lw_at lw_m2 154 rfl) rfl
theorem q469 : (Jvm.Cond.lays "HeavierServes" "HeavierServes" "fallen" "I") ∈ lw_all := lw_g (lw_at lw_m2 155 rfl) rfl
theorem q470 : (Jvm.Cond.soleField "HeavierServes" "fallen") ∈ lw_all := lw_g (lw_at lw_m2 156 rfl) rfl
theorem q471 : (Jvm.Cond.laysFinal "HeavierServes" "HeavierServes" "year" "[I") ∈ lw_all := lw_g (lw_at lw_m2 157 rfl) rfl
theorem q472 : (Jvm.Cond.soleField "HeavierServes" "year") ∈ lw_all := lw_g (lw_at lw_m2 158 rfl) rfl
theorem q473 : (Jvm.Cond.laysFinal "HeavierServes" "HeavierServes" "weeksOf" "[I") ∈ lw_all := lw_g (lw_at lw_m2 159 rfl) rfl
theorem q474 : (Jvm.Cond.soleField "HeavierServes" "weeksOf") ∈ lw_all := lw_g (lw_at lw_m2 160 rfl) rfl
theorem q475 : (Jvm.Cond.laysFinal "HeavierServes" "HeavierServes" "without" "LHeavierServes$Without;") ∈ lw_all := lw_g (lw_at lw_m2 161 rfl) rfl
theorem q476 : (Jvm.Cond.soleField "HeavierServes" "without") ∈ lw_all := lw_g (lw_at lw_m2 162 rfl) rfl
theorem q477 : (Jvm.Cond.laysFinal "HeavierServes" "HeavierServes" "holds" "LHeavierServes$Holds;") ∈ lw_all := lw_g (lw_at lw_m2 163 rfl) rfl
theorem q478 : (Jvm.Cond.soleField "HeavierServes" "holds") ∈ lw_all := lw_g (lw_at lw_m2 164 rfl) rfl
theorem q479 : (Jvm.Cond.laysFinal "HeavierServes" "HeavierServes" "serves" "LHeavierServes$Serves;") ∈ lw_all := lw_g (lw_at lw_m2 165 rfl) rfl
theorem q480 : (Jvm.Cond.soleField "HeavierServes" "serves") ∈ lw_all := lw_g (lw_at lw_m2 166 rfl) rfl
theorem q481 : (Jvm.Cond.laysFinal "HeavierServes" "HeavierServes" "servesNever" "LHeavierServes$ServesNever;") ∈ lw_all := lw_g (lw_at lw_m2 167 rfl) rfl
theorem q482 : (Jvm.Cond.soleField "HeavierServes" "servesNever") ∈ lw_all := lw_g (lw_at lw_m2 168 rfl) rfl
theorem q483 : (Jvm.Cond.laysFinal "HeavierServes" "HeavierServes" "servesNext" "LHeavierServes$ServesNext;") ∈ lw_all := lw_g (lw_at lw_m2 169 rfl) rfl
theorem q484 : (Jvm.Cond.soleField "HeavierServes" "servesNext") ∈ lw_all := lw_g (lw_at lw_m2 170 rfl) rfl
theorem q485 : (Jvm.Cond.laysFinal "HeavierServes" "HeavierServes" "weighedOne" "[I") ∈ lw_all := lw_g (lw_at lw_m2 171 rfl) rfl
theorem q486 : (Jvm.Cond.soleField "HeavierServes" "weighedOne") ∈ lw_all := lw_g (lw_at lw_m2 172 rfl) rfl
theorem q487 : (Jvm.Cond.laysFinal "HeavierServes" "HeavierServes" "weighedAs" "[I") ∈ lw_all := lw_g (lw_at lw_m2 173 rfl) rfl
theorem q488 : (Jvm.Cond.soleField "HeavierServes" "weighedAs") ∈ lw_all := lw_g (lw_at lw_m2 174 rfl) rfl
theorem q489 : (Jvm.Cond.lays "HeavierServes" "HeavierServes" "weighings" "I") ∈ lw_all := lw_g (lw_at lw_m2 175 rfl) rfl
theorem q490 : (Jvm.Cond.soleField "HeavierServes" "weighings") ∈ lw_all := lw_g (lw_at lw_m2 176 rfl) rfl
theorem q491 : (Jvm.Cond.laysFinal "HeavierServes" "HeavierServes" "toldOne" "[I") ∈ lw_all := lw_g (lw_at lw_m2 177 rfl) rfl
theorem q492 : (Jvm.Cond.soleField "HeavierServes" "toldOne") ∈ lw_all := lw_g (lw_at lw_m2 178 rfl) rfl
theorem q493 : (Jvm.Cond.laysFinal "HeavierServes" "HeavierServes" "toldWeek" "[I") ∈ lw_all := lw_g (lw_at lw_m2 179 rfl) rfl
theorem q494 : (Jvm.Cond.soleField "HeavierServes" "toldWeek") ∈ lw_all := lw_g (lw_at lw_m2 180 rfl) rfl
theorem q495 : (Jvm.Cond.lays "HeavierServes" "HeavierServes" "toldMany" "I") ∈ lw_all := lw_g (lw_at lw_m2 181 rfl) rfl
theorem q496 : (Jvm.Cond.soleField "HeavierServes" "toldMany") ∈ lw_all := lw_g (lw_at lw_m2 182 rfl) rfl
theorem q497 : (Jvm.Cond.laysFinal "HeavierServes" "HeavierServes" "gone" "[LHeavierServes$Time;") ∈ lw_all := lw_g (lw_at lw_m2 183 rfl) rfl
theorem q498 : (Jvm.Cond.soleField "HeavierServes" "gone") ∈ lw_all := lw_g (lw_at lw_m2 184 rfl) rfl
theorem q499 : (Jvm.Cond.laysFinal "HeavierServes" "HeavierServes" "likely" "[J") ∈ lw_all := lw_g (lw_at lw_m2 185 rfl) rfl
theorem q500 : (Jvm.Cond.soleField "HeavierServes" "likely") ∈ lw_all := lw_g (lw_at lw_m2 186 rfl) rfl
theorem q501 : (Jvm.Cond.laysFinal "HeavierServes" "HeavierServes" "likelyThen" "[J") ∈ lw_all := lw_g (lw_at lw_m2 187 rfl) rfl
theorem q502 : (Jvm.Cond.soleField "HeavierServes" "likelyThen") ∈ lw_all := lw_g (lw_at lw_m2 188 rfl) rfl
theorem q503 : (Jvm.Cond.laysFinal "HeavierServes" "HeavierServes" "kept" "[LHeavierServes$Kept;") ∈ lw_all := lw_g (lw_at lw_m2 189 rfl) rfl
theorem q504 : (Jvm.Cond.soleField "HeavierServes" "kept") ∈ lw_all := lw_g (lw_at lw_m2 190 rfl) rfl
theorem q505 : (Jvm.Cond.superclass "HeavierServes" "java/lang/Object") ∈ lw_all := lw_g (lw_at lw_m2 191 rfl) rfl
theorem q507 : (Jvm.Cond.instanceMethod ({ cls := "HeavierServes", name := "sign", desc := "(I)I" } : Jvm.MethodName)) ∈ lw_all := lw_g (lw_at lw_m2 193 rfl) rfl
theorem q508 : (Jvm.Cond.selects "HeavierServes" ({ cls := "HeavierServes", name := "sign", desc := "(I)I" } : Jvm.MethodName) ({ cls := "HeavierServes", name := "sign", desc := "(I)I" } : Jvm.MethodName)) ∈ lw_all := lw_g (lw_at lw_m2 194 rfl) rfl
theorem q509 : (Jvm.Cond.code ({ cls := "HeavierServes", name := "sign", desc := "(I)I" } : Jvm.MethodName) prog_1_method_9_code (3 : Nat) (Option.some Jvm.ClassFile.FieldType.int)) ∈ lw_all := lw_g (lw_at lw_m2 195 rfl) rfl
theorem q511 : (Jvm.Cond.instanceMethod ({ cls := "HeavierServes", name := "end", desc := "(I)Z" } : Jvm.MethodName)) ∈ lw_all := lw_g (lw_at lw_m2 197 rfl) rfl
theorem q512 : (Jvm.Cond.selects "HeavierServes" ({ cls := "HeavierServes", name := "end", desc := "(I)Z" } : Jvm.MethodName) ({ cls := "HeavierServes", name := "end", desc := "(I)Z" } : Jvm.MethodName)) ∈ lw_all := lw_g (lw_at lw_m2 198 rfl) rfl
theorem q513 : (Jvm.Cond.code ({ cls := "HeavierServes", name := "end", desc := "(I)Z" } : Jvm.MethodName) prog_1_method_10_code (2 : Nat) (Option.some Jvm.ClassFile.FieldType.boolean)) ∈ lw_all := lw_g (lw_at lw_m2 199 rfl) rfl
theorem q514 : (Jvm.Cond.methodLink "HeavierServes" (160 : Nat) ({ cls := "HeavierServes", name := "in", desc := "(JJJ)Z" } : Jvm.MethodName)) ∈ lw_all := lw_g (lw_at lw_m2 200 rfl) rfl
theorem q515 : (Jvm.Cond.static ({ cls := "HeavierServes", name := "in", desc := "(JJJ)Z" } : Jvm.MethodName)) ∈ lw_all := lw_g (lw_at lw_m2 201 rfl) rfl
theorem q516 : (Jvm.Cond.code ({ cls := "HeavierServes", name := "in", desc := "(JJJ)Z" } : Jvm.MethodName) prog_1_method_1_code (6 : Nat) (Option.some Jvm.ClassFile.FieldType.boolean)) ∈ lw_all := lw_g (lw_at lw_m2 202 rfl) rfl
theorem q518 : (Jvm.Cond.instanceMethod ({ cls := "HeavierServes", name := "town", desc := "()I" } : Jvm.MethodName)) ∈ lw_all := lw_g (lw_at lw_m2 204 rfl) rfl
theorem q519 : (Jvm.Cond.selects "HeavierServes" ({ cls := "HeavierServes", name := "town", desc := "()I" } : Jvm.MethodName) ({ cls := "HeavierServes", name := "town", desc := "()I" } : Jvm.MethodName)) ∈ lw_all := lw_g (lw_at lw_m2 205 rfl) rfl
theorem q520 : (Jvm.Cond.codeWith ({ cls := "HeavierServes", name := "town", desc := "()I" } : Jvm.MethodName) prog_1_method_11_code (4 : Nat) (Option.some Jvm.ClassFile.FieldType.int) [((16 : Nat), (140 : Nat), (141 : Nat), (228 : Nat))]) ∈ lw_all := lw_g (lw_at lw_m2 206 rfl) rfl
theorem q521 : (Jvm.Cond.classLink "HeavierServes" (228 : Nat) "HeavierServes$Fault") ∈ lw_all := lw_g (lw_at lw_m2 207 rfl) rfl
theorem q522 : (Jvm.Cond.methodLink "HeavierServes" (192 : Nat) ({ cls := "HeavierServes", name := "words", desc := "(I)LHeavierServes$Words;" } : Jvm.MethodName)) ∈ lw_all := lw_g (lw_at lw_m2 208 rfl) rfl
theorem q523 : (Jvm.Cond.privateMethod ({ cls := "HeavierServes", name := "words", desc := "(I)LHeavierServes$Words;" } : Jvm.MethodName)) ∈ lw_tbl := lw_at lw_m2 209 rfl
theorem q524 : (Jvm.Cond.instanceMethod ({ cls := "HeavierServes", name := "words", desc := "(I)LHeavierServes$Words;" } : Jvm.MethodName)) ∈ lw_all := lw_g (lw_at lw_m2 210 rfl) rfl
theorem q525 : (Jvm.Cond.code ({ cls := "HeavierServes", name := "words", desc := "(I)LHeavierServes$Words;" } : Jvm.MethodName) prog_1_method_8_code (3 : Nat) (Option.some (Jvm.ClassFile.FieldType.object "HeavierServes$Words"))) ∈ lw_all := lw_g (lw_at lw_m2 211 rfl) rfl
theorem q526 : (Jvm.Cond.classLink "HeavierServes" (184 : Nat) "HeavierServes$Words") ∈ lw_all := lw_g (lw_at lw_m2 212 rfl) rfl
theorem q528 : (Jvm.Cond.methodLink "HeavierServes" (189 : Nat) ({ cls := "HeavierServes$Words", name := "<init>", desc := "([BII)V" } : Jvm.MethodName)) ∈ lw_all := lw_g (lw_at lw_m2 214 rfl) rfl
theorem q537 : (Jvm.Cond.fieldLink "HeavierServes" (196 : Nat) "HeavierServes$Words" "size" "I") ∈ lw_all := lw_g (lw_at lw_m2 223 rfl) rfl
theorem q542 : (Jvm.Cond.fieldLink "HeavierServes" (385 : Nat) "HeavierServes$Words" "at" "I") ∈ lw_all := lw_g (lw_at lw_m2 228 rfl) rfl
theorem q552 : (Jvm.Cond.methodLink "HeavierServes" (199 : Nat) ({ cls := "HeavierServes$Words", name := "need", desc := "(Z)V" } : Jvm.MethodName)) ∈ lw_all := lw_g (lw_at lw_m2 238 rfl) rfl
theorem q605 : (Jvm.Cond.fieldLinkNest "HeavierServes" (230 : Nat) "HeavierServes$Fault" "place" "I" "HeavierServes") ∈ lw_tbl := lw_at lw_m3 51 rfl
theorem q621 : (Jvm.Cond.methodLink "HeavierServes" (203 : Nat) ({ cls := "HeavierServes$Words", name := "number", desc := "(III)I" } : Jvm.MethodName)) ∈ lw_all := lw_g (lw_at lw_m3 67 rfl) rfl
theorem q637 : (Jvm.Cond.methodLink "HeavierServes" (207 : Nat) ({ cls := "HeavierServes$Words", name := "passes", desc := "(C)Z" } : Jvm.MethodName)) ∈ lw_all := lw_g (lw_at lw_m3 83 rfl) rfl
theorem q643 : (Jvm.Cond.methodLink "HeavierServes" (217 : Nat) ({ cls := "HeavierServes$Words", name := "habit", desc := "(LHeavierServes$One;)V" } : Jvm.MethodName)) ∈ lw_all := lw_g (lw_at lw_m3 89 rfl) rfl
theorem q650 : (Jvm.Cond.methodLink "HeavierServes" (221 : Nat) ({ cls := "HeavierServes$Words", name := "needEnd", desc := "()V" } : Jvm.MethodName)) ∈ lw_all := lw_g (lw_at lw_m3 96 rfl) rfl
theorem q656 : (Jvm.Cond.methodLink "HeavierServes" (224 : Nat) ({ cls := "HeavierServes", name := "add", desc := "(LHeavierServes$One;I)V" } : Jvm.MethodName)) ∈ lw_all := lw_g (lw_at lw_m3 102 rfl) rfl
theorem q657 : (Jvm.Cond.privateMethod ({ cls := "HeavierServes", name := "add", desc := "(LHeavierServes$One;I)V" } : Jvm.MethodName)) ∈ lw_tbl := lw_at lw_m3 103 rfl
theorem q658 : (Jvm.Cond.instanceMethod ({ cls := "HeavierServes", name := "add", desc := "(LHeavierServes$One;I)V" } : Jvm.MethodName)) ∈ lw_all := lw_g (lw_at lw_m3 104 rfl) rfl
theorem q659 : (Jvm.Cond.code ({ cls := "HeavierServes", name := "add", desc := "(LHeavierServes$One;I)V" } : Jvm.MethodName) prog_1_method_12_code (3 : Nat) (Option.none : Option Jvm.ClassFile.FieldType)) ∈ lw_all := lw_g (lw_at lw_m3 105 rfl) rfl
theorem q660 : (Jvm.Cond.methodLink "HeavierServes" (233 : Nat) ({ cls := "HeavierServes$One", name := "be", desc := "(LHeavierServes$One;)V" } : Jvm.MethodName)) ∈ lw_all := lw_g (lw_at lw_m3 106 rfl) rfl
theorem q668 : (Jvm.Cond.instanceMethod ({ cls := "HeavierServes", name := "will", desc := "()I" } : Jvm.MethodName)) ∈ lw_all := lw_g (lw_at lw_m3 114 rfl) rfl
theorem q669 : (Jvm.Cond.selects "HeavierServes" ({ cls := "HeavierServes", name := "will", desc := "()I" } : Jvm.MethodName) ({ cls := "HeavierServes", name := "will", desc := "()I" } : Jvm.MethodName)) ∈ lw_all := lw_g (lw_at lw_m3 115 rfl) rfl
theorem q670 : (Jvm.Cond.codeWith ({ cls := "HeavierServes", name := "will", desc := "()I" } : Jvm.MethodName) prog_1_method_13_code (4 : Nat) (Option.some Jvm.ClassFile.FieldType.int) [((32 : Nat), (50 : Nat), (51 : Nat), (228 : Nat))]) ∈ lw_all := lw_g (lw_at lw_m3 116 rfl) rfl
theorem q671 : (Jvm.Cond.methodLink "HeavierServes" (248 : Nat) ({ cls := "[B", name := "clone", desc := "()Ljava/lang/Object;" } : Jvm.MethodName)) ∈ lw_all := lw_g (lw_at lw_m3 117 rfl) rfl
theorem q677 : (Jvm.Cond.classLink "HeavierServes" (249 : Nat) "[B") ∈ lw_all := lw_g (lw_at lw_m3 123 rfl) rfl
theorem q678 : (Jvm.Cond.classLink "HeavierServes" (257 : Nat) "HeavierServes$Will") ∈ lw_all := lw_g (lw_at lw_m3 124 rfl) rfl
theorem q680 : (Jvm.Cond.methodLink "HeavierServes" (259 : Nat) ({ cls := "HeavierServes$Will", name := "<init>", desc := "(LHeavierServes;[BI)V" } : Jvm.MethodName)) ∈ lw_all := lw_g (lw_at lw_m3 126 rfl) rfl
theorem q698 : (Jvm.Cond.methodLink "HeavierServes" (262 : Nat) ({ cls := "HeavierServes$Will", name := "read", desc := "()LHeavierServes$Will;" } : Jvm.MethodName)) ∈ lw_all := lw_g (lw_at lw_m3 144 rfl) rfl
theorem q845 : (Jvm.Cond.instanceMethod ({ cls := "HeavierServes", name := "habit", desc := "(I)I" } : Jvm.MethodName)) ∈ lw_all := lw_g (lw_at lw_m4 51 rfl) rfl
theorem q846 : (Jvm.Cond.selects "HeavierServes" ({ cls := "HeavierServes", name := "habit", desc := "(I)I" } : Jvm.MethodName) ({ cls := "HeavierServes", name := "habit", desc := "(I)I" } : Jvm.MethodName)) ∈ lw_all := lw_g (lw_at lw_m4 52 rfl) rfl
theorem q847 : (Jvm.Cond.codeWith ({ cls := "HeavierServes", name := "habit", desc := "(I)I" } : Jvm.MethodName) prog_1_method_15_code (5 : Nat) (Option.some Jvm.ClassFile.FieldType.int) [((25 : Nat), (34 : Nat), (37 : Nat), (228 : Nat))]) ∈ lw_all := lw_g (lw_at lw_m4 53 rfl) rfl
theorem q848 : (Jvm.Cond.methodLink "HeavierServes" (164 : Nat) ({ cls := "HeavierServes", name := "isOne", desc := "(I)Z" } : Jvm.MethodName)) ∈ lw_all := lw_g (lw_at lw_m4 54 rfl) rfl
theorem q849 : (Jvm.Cond.privateMethod ({ cls := "HeavierServes", name := "isOne", desc := "(I)Z" } : Jvm.MethodName)) ∈ lw_tbl := lw_at lw_m4 55 rfl
theorem q850 : (Jvm.Cond.instanceMethod ({ cls := "HeavierServes", name := "isOne", desc := "(I)Z" } : Jvm.MethodName)) ∈ lw_all := lw_g (lw_at lw_m4 56 rfl) rfl
theorem q851 : (Jvm.Cond.code ({ cls := "HeavierServes", name := "isOne", desc := "(I)Z" } : Jvm.MethodName) prog_1_method_5_code (2 : Nat) (Option.some Jvm.ClassFile.FieldType.boolean)) ∈ lw_all := lw_g (lw_at lw_m4 57 rfl) rfl
theorem q852 : (Jvm.Cond.methodLink "HeavierServes" (275 : Nat) ({ cls := "java/lang/System", name := "arraycopy", desc := "(Ljava/lang/Object;ILjava/lang/Object;II)V" } : Jvm.MethodName)) ∈ lw_all := lw_g (lw_at lw_m4 58 rfl) rfl
theorem q854 : (Jvm.Cond.instanceMethod ({ cls := "HeavierServes", name := "set", desc := "(III)I" } : Jvm.MethodName)) ∈ lw_all := lw_g (lw_at lw_m4 60 rfl) rfl
theorem q855 : (Jvm.Cond.selects "HeavierServes" ({ cls := "HeavierServes", name := "set", desc := "(III)I" } : Jvm.MethodName) ({ cls := "HeavierServes", name := "set", desc := "(III)I" } : Jvm.MethodName)) ∈ lw_all := lw_g (lw_at lw_m4 61 rfl) rfl
theorem q856 : (Jvm.Cond.code ({ cls := "HeavierServes", name := "set", desc := "(III)I" } : Jvm.MethodName) prog_1_method_18_code (5 : Nat) (Option.some Jvm.ClassFile.FieldType.int)) ∈ lw_all := lw_g (lw_at lw_m4 62 rfl) rfl
theorem q857 : (Jvm.Cond.constantLong "HeavierServes" (291 : Nat) (999 : Int64)) ∈ lw_all := lw_g (lw_at lw_m4 63 rfl) rfl
theorem q858 : (Jvm.Cond.constantLong "HeavierServes" (293 : Nat) (3 : Int64)) ∈ lw_all := lw_g (lw_at lw_m4 64 rfl) rfl
theorem q859 : (Jvm.Cond.constantLong "HeavierServes" (295 : Nat) (9 : Int64)) ∈ lw_all := lw_g (lw_at lw_m4 65 rfl) rfl
theorem q861 : (Jvm.Cond.instanceMethod ({ cls := "HeavierServes", name := "scale", desc := "(II)Z" } : Jvm.MethodName)) ∈ lw_all := lw_g (lw_at lw_m4 67 rfl) rfl
theorem q862 : (Jvm.Cond.selects "HeavierServes" ({ cls := "HeavierServes", name := "scale", desc := "(II)Z" } : Jvm.MethodName) ({ cls := "HeavierServes", name := "scale", desc := "(II)Z" } : Jvm.MethodName)) ∈ lw_all := lw_g (lw_at lw_m4 68 rfl) rfl
theorem q863 : (Jvm.Cond.code ({ cls := "HeavierServes", name := "scale", desc := "(II)Z" } : Jvm.MethodName) prog_1_method_19_code (3 : Nat) (Option.some Jvm.ClassFile.FieldType.boolean)) ∈ lw_all := lw_g (lw_at lw_m4 69 rfl) rfl
theorem q864 : (Jvm.Cond.constantLong "HeavierServes" (297 : Nat) (-9 : Int64)) ∈ lw_all := lw_g (lw_at lw_m4 70 rfl) rfl
theorem q866 : (Jvm.Cond.instanceMethod ({ cls := "HeavierServes", name := "sheet", desc := "(IIII)I" } : Jvm.MethodName)) ∈ lw_all := lw_g (lw_at lw_m4 72 rfl) rfl
theorem q867 : (Jvm.Cond.selects "HeavierServes" ({ cls := "HeavierServes", name := "sheet", desc := "(IIII)I" } : Jvm.MethodName) ({ cls := "HeavierServes", name := "sheet", desc := "(IIII)I" } : Jvm.MethodName)) ∈ lw_all := lw_g (lw_at lw_m4 73 rfl) rfl
theorem q868 : (Jvm.Cond.codeWith ({ cls := "HeavierServes", name := "sheet", desc := "(IIII)I" } : Jvm.MethodName) prog_1_method_22_code (8 : Nat) (Option.some Jvm.ClassFile.FieldType.int) [((28 : Nat), (38 : Nat), (41 : Nat), (306 : Nat))]) ∈ lw_all := lw_g (lw_at lw_m4 74 rfl) rfl
theorem q869 : (Jvm.Cond.classLink "HeavierServes" (306 : Nat) "java/lang/NegativeArraySizeException") ∈ lw_all := lw_g (lw_at lw_m4 75 rfl) rfl
theorem q898 : (Jvm.Cond.methodLink "HeavierServes" (302 : Nat) ({ cls := "HeavierServes", name := "rowOf", desc := "(IIII)Ljava/lang/Object;" } : Jvm.MethodName)) ∈ lw_all := lw_g (lw_at lw_m4 104 rfl) rfl
theorem q899 : (Jvm.Cond.static ({ cls := "HeavierServes", name := "rowOf", desc := "(IIII)Ljava/lang/Object;" } : Jvm.MethodName)) ∈ lw_all := lw_g (lw_at lw_m4 105 rfl) rfl
theorem q900 : (Jvm.Cond.code ({ cls := "HeavierServes", name := "rowOf", desc := "(IIII)Ljava/lang/Object;" } : Jvm.MethodName) prog_1_method_20_code (7 : Nat) (Option.some (Jvm.ClassFile.FieldType.object "java/lang/Object"))) ∈ lw_all := lw_g (lw_at lw_m4 106 rfl) rfl
theorem q901 : (Jvm.Cond.methodLink "HeavierServes" (308 : Nat) ({ cls := "HeavierServes", name := "entry", desc := "(Ljava/lang/Object;I)I" } : Jvm.MethodName)) ∈ lw_all := lw_g (lw_at lw_m4 107 rfl) rfl
theorem q902 : (Jvm.Cond.static ({ cls := "HeavierServes", name := "entry", desc := "(Ljava/lang/Object;I)I" } : Jvm.MethodName)) ∈ lw_all := lw_g (lw_at lw_m4 108 rfl) rfl
theorem q903 : (Jvm.Cond.code ({ cls := "HeavierServes", name := "entry", desc := "(Ljava/lang/Object;I)I" } : Jvm.MethodName) prog_1_method_21_code (2 : Nat) (Option.some Jvm.ClassFile.FieldType.int)) ∈ lw_all := lw_g (lw_at lw_m4 109 rfl) rfl
theorem q904 : (Jvm.Cond.classLink "HeavierServes" (299 : Nat) "[S") ∈ lw_all := lw_g (lw_at lw_m4 110 rfl) rfl
theorem q905 : (Jvm.Cond.classLink "HeavierServes" (301 : Nat) "[I") ∈ lw_all := lw_g (lw_at lw_m4 111 rfl) rfl
theorem q906 : (Jvm.Cond.methodLink "HeavierServes" (312 : Nat) ({ cls := "java/lang/Math", name := "min", desc := "(II)I" } : Jvm.MethodName)) ∈ lw_all := lw_g (lw_at lw_m4 112 rfl) rfl
theorem q907 : (Jvm.Cond.methodLink "HeavierServes" (178 : Nat) ({ cls := "java/lang/Math", name := "max", desc := "(II)I" } : Jvm.MethodName)) ∈ lw_all := lw_g (lw_at lw_m4 113 rfl) rfl
theorem q910 : (Jvm.Cond.instanceMethod ({ cls := "HeavierServes", name := "stand", desc := "(I)I" } : Jvm.MethodName)) ∈ lw_all := lw_g (lw_at lw_m4 116 rfl) rfl
theorem q911 : (Jvm.Cond.selects "HeavierServes" ({ cls := "HeavierServes", name := "stand", desc := "(I)I" } : Jvm.MethodName) ({ cls := "HeavierServes", name := "stand", desc := "(I)I" } : Jvm.MethodName)) ∈ lw_all := lw_g (lw_at lw_m4 117 rfl) rfl
theorem q912 : (Jvm.Cond.code ({ cls := "HeavierServes", name := "stand", desc := "(I)I" } : Jvm.MethodName) prog_1_method_28_code (2 : Nat) (Option.some Jvm.ClassFile.FieldType.int)) ∈ lw_all := lw_g (lw_at lw_m4 118 rfl) rfl
theorem q913 : (Jvm.Cond.methodLink "HeavierServes" (357 : Nat) ({ cls := "HeavierServes", name := "remember", desc := "()V" } : Jvm.MethodName)) ∈ lw_all := lw_g (lw_at lw_m4 119 rfl) rfl
theorem q914 : (Jvm.Cond.privateMethod ({ cls := "HeavierServes", name := "remember", desc := "()V" } : Jvm.MethodName)) ∈ lw_tbl := lw_at lw_m4 120 rfl
theorem q915 : (Jvm.Cond.instanceMethod ({ cls := "HeavierServes", name := "remember", desc := "()V" } : Jvm.MethodName)) ∈ lw_all := lw_g (lw_at lw_m4 121 rfl) rfl
theorem q916 : (Jvm.Cond.code ({ cls := "HeavierServes", name := "remember", desc := "()V" } : Jvm.MethodName) prog_1_method_27_code (2 : Nat) (Option.none : Option Jvm.ClassFile.FieldType)) ∈ lw_all := lw_g (lw_at lw_m4 122 rfl) rfl
theorem q917 : (Jvm.Cond.methodLink "HeavierServes" (354 : Nat) ({ cls := "HeavierServes$Time", name := "be", desc := "(LHeavierServes$Time;)V" } : Jvm.MethodName)) ∈ lw_all := lw_g (lw_at lw_m4 123 rfl) rfl
theorem q922 : (Jvm.Cond.methodLink "HeavierServes" (363 : Nat) ({ cls := "HeavierServes", name := "goes", desc := "(LHeavierServes$Time;LHeavierServes$Chooser;)V" } : Jvm.MethodName)) ∈ lw_all := lw_g (lw_at lw_m4 128 rfl) rfl
theorem q923 : (Jvm.Cond.privateMethod ({ cls := "HeavierServes", name := "goes", desc := "(LHeavierServes$Time;LHeavierServes$Chooser;)V" } : Jvm.MethodName)) ∈ lw_tbl := lw_at lw_m4 129 rfl
theorem q924 : (Jvm.Cond.instanceMethod ({ cls := "HeavierServes", name := "goes", desc := "(LHeavierServes$Time;LHeavierServes$Chooser;)V" } : Jvm.MethodName)) ∈ lw_all := lw_g (lw_at lw_m4 130 rfl) rfl
theorem q925 : (Jvm.Cond.code ({ cls := "HeavierServes", name := "goes", desc := "(LHeavierServes$Time;LHeavierServes$Chooser;)V" } : Jvm.MethodName) prog_1_method_24_code (3 : Nat) (Option.none : Option Jvm.ClassFile.FieldType)) ∈ lw_all := lw_g (lw_at lw_m4 131 rfl) rfl
theorem q926 : (Jvm.Cond.methodLink "HeavierServes" (324 : Nat) ({ cls := "HeavierServes", name := "heir", desc := "(LHeavierServes$Time;LHeavierServes$Chooser;)I" } : Jvm.MethodName)) ∈ lw_all := lw_g (lw_at lw_m4 132 rfl) rfl
theorem q927 : (Jvm.Cond.privateMethod ({ cls := "HeavierServes", name := "heir", desc := "(LHeavierServes$Time;LHeavierServes$Chooser;)I" } : Jvm.MethodName)) ∈ lw_tbl := lw_at lw_m4 133 rfl
theorem q928 : (Jvm.Cond.instanceMethod ({ cls := "HeavierServes", name := "heir", desc := "(LHeavierServes$Time;LHeavierServes$Chooser;)I" } : Jvm.MethodName)) ∈ lw_all := lw_g (lw_at lw_m4 134 rfl) rfl
theorem q929 : (Jvm.Cond.code ({ cls := "HeavierServes", name := "heir", desc := "(LHeavierServes$Time;LHeavierServes$Chooser;)I" } : Jvm.MethodName) prog_1_method_23_code (5 : Nat) (Option.some Jvm.ClassFile.FieldType.int)) ∈ lw_all := lw_g (lw_at lw_m4 135 rfl) rfl
theorem q930 : (Jvm.Cond.methodLink "HeavierServes" (171 : Nat) ({ cls := "HeavierServes", name := "has", desc := "(II)Z" } : Jvm.MethodName)) ∈ lw_all := lw_g (lw_at lw_m4 136 rfl) rfl
theorem q931 : (Jvm.Cond.static ({ cls := "HeavierServes", name := "has", desc := "(II)Z" } : Jvm.MethodName)) ∈ lw_all := lw_g (lw_at lw_m4 137 rfl) rfl
theorem q932 : (Jvm.Cond.code ({ cls := "HeavierServes", name := "has", desc := "(II)Z" } : Jvm.MethodName) prog_1_method_2_code (2 : Nat) (Option.some Jvm.ClassFile.FieldType.boolean)) ∈ lw_all := lw_g (lw_at lw_m4 138 rfl) rfl
theorem q933 : (Jvm.Cond.interfaceEntry "HeavierServes" (318 : Nat)) ∈ lw_tbl := lw_at lw_m4 139 rfl
theorem q934 : (Jvm.Cond.methodLink "HeavierServes" (318 : Nat) ({ cls := "HeavierServes$Chooser", name := "stands", desc := "(LHeavierServes$Time;I)Z" } : Jvm.MethodName)) ∈ lw_all := lw_g (lw_at lw_m4 140 rfl) rfl
theorem q951 : (Jvm.Cond.privateMethod ({ cls := "HeavierServes", name := "willOf", desc := "(LHeavierServes$Time;I)I" } : Jvm.MethodName)) ∈ lw_tbl := lw_at lw_m4 157 rfl
theorem q952 : (Jvm.Cond.instanceMethod ({ cls := "HeavierServes", name := "willOf", desc := "(LHeavierServes$Time;I)I" } : Jvm.MethodName)) ∈ lw_all := lw_g (lw_at lw_m4 158 rfl) rfl
theorem q953 : (Jvm.Cond.code ({ cls := "HeavierServes", name := "willOf", desc := "(LHeavierServes$Time;I)I" } : Jvm.MethodName) prog_1_method_14_code (3 : Nat) (Option.some Jvm.ClassFile.FieldType.int)) ∈ lw_all := lw_g (lw_at lw_m4 159 rfl) rfl
theorem q954 : (Jvm.Cond.methodLink "HeavierServes" (266 : Nat) ({ cls := "HeavierServes$Will", name := "of", desc := "(LHeavierServes$Time;I)I" } : Jvm.MethodName)) ∈ lw_all := lw_g (lw_at lw_m4 160 rfl) rfl
theorem q997 : (Jvm.Cond.methodLink "HeavierServes" (284 : Nat) ({ cls := "HeavierServes", name := "shows", desc := "(I)I" } : Jvm.MethodName)) ∈ lw_all := lw_g (lw_at lw_m4 203 rfl) rfl
theorem q998 : (Jvm.Cond.privateMethod ({ cls := "HeavierServes", name := "shows", desc := "(I)I" } : Jvm.MethodName)) ∈ lw_tbl := lw_at lw_m4 204 rfl
theorem q999 : (Jvm.Cond.instanceMethod ({ cls := "HeavierServes", name := "shows", desc := "(I)I" } : Jvm.MethodName)) ∈ lw_all := lw_g (lw_at lw_m4 205 rfl) rfl
theorem q1000 : (Jvm.Cond.code ({ cls := "HeavierServes", name := "shows", desc := "(I)I" } : Jvm.MethodName) prog_1_method_7_code (3 : Nat) (Option.some Jvm.ClassFile.FieldType.int)) ∈ lw_all := lw_g (lw_at lw_m4 206 rfl) rfl
theorem q1001 : (Jvm.Cond.methodLink "HeavierServes" (328 : Nat) ({ cls := "HeavierServes", name := "comeTo", desc := "(LHeavierServes$Time;I)V" } : Jvm.MethodName)) ∈ lw_all := lw_g (lw_at lw_m4 207 rfl) rfl
theorem q1002 : (Jvm.Cond.privateMethod ({ cls := "HeavierServes", name := "comeTo", desc := "(LHeavierServes$Time;I)V" } : Jvm.MethodName)) ∈ lw_tbl := lw_at lw_m4 208 rfl
theorem q1003 : (Jvm.Cond.instanceMethod ({ cls := "HeavierServes", name := "comeTo", desc := "(LHeavierServes$Time;I)V" } : Jvm.MethodName)) ∈ lw_all := lw_g (lw_at lw_m4 209 rfl) rfl
theorem q1004 : (Jvm.Cond.code ({ cls := "HeavierServes", name := "comeTo", desc := "(LHeavierServes$Time;I)V" } : Jvm.MethodName) prog_1_method_25_code (4 : Nat) (Option.none : Option Jvm.ClassFile.FieldType)) ∈ lw_all := lw_g (lw_at lw_m4 210 rfl) rfl
theorem q1005 : (Jvm.Cond.methodLink "HeavierServes" (339 : Nat) ({ cls := "HeavierServes$Time", name := "fall", desc := "(I)I" } : Jvm.MethodName)) ∈ lw_all := lw_g (lw_at lw_m4 211 rfl) rfl
theorem q1009 : (Jvm.Cond.methodLink "HeavierServes" (351 : Nat) ({ cls := "HeavierServes", name := "changeIn", desc := "(II)I" } : Jvm.MethodName)) ∈ lw_all := lw_g (lw_at lw_m4 215 rfl) rfl
theorem q1010 : (Jvm.Cond.privateMethod ({ cls := "HeavierServes", name := "changeIn", desc := "(II)I" } : Jvm.MethodName)) ∈ lw_tbl := lw_at lw_m4 216 rfl
theorem q1011 : (Jvm.Cond.instanceMethod ({ cls := "HeavierServes", name := "changeIn", desc := "(II)I" } : Jvm.MethodName)) ∈ lw_all := lw_g (lw_at lw_m4 217 rfl) rfl
theorem q1012 : (Jvm.Cond.code ({ cls := "HeavierServes", name := "changeIn", desc := "(II)I" } : Jvm.MethodName) prog_1_method_26_code (4 : Nat) (Option.some Jvm.ClassFile.FieldType.int)) ∈ lw_all := lw_g (lw_at lw_m4 218 rfl) rfl
theorem q1013 : (Jvm.Cond.methodLink "HeavierServes" (367 : Nat) ({ cls := "HeavierServes", name := "tell", desc := "(J)V" } : Jvm.MethodName)) ∈ lw_all := lw_g (lw_at lw_m4 219 rfl) rfl
theorem q1014 : (Jvm.Cond.privateMethod ({ cls := "HeavierServes", name := "tell", desc := "(J)V" } : Jvm.MethodName)) ∈ lw_tbl := lw_at lw_m4 220 rfl
theorem q1015 : (Jvm.Cond.instanceMethod ({ cls := "HeavierServes", name := "tell", desc := "(J)V" } : Jvm.MethodName)) ∈ lw_all := lw_g (lw_at lw_m4 221 rfl) rfl
theorem q1016 : (Jvm.Cond.code ({ cls := "HeavierServes", name := "tell", desc := "(J)V" } : Jvm.MethodName) prog_1_method_4_code (3 : Nat) (Option.none : Option Jvm.ClassFile.FieldType)) ∈ lw_all := lw_g (lw_at lw_m4 222 rfl) rfl
theorem q1018 : (Jvm.Cond.instanceMethod ({ cls := "HeavierServes", name := "weeks", desc := "(I)I" } : Jvm.MethodName)) ∈ lw_all := lw_g (lw_at lw_m4 224 rfl) rfl
theorem q1019 : (Jvm.Cond.selects "HeavierServes" ({ cls := "HeavierServes", name := "weeks", desc := "(I)I" } : Jvm.MethodName) ({ cls := "HeavierServes", name := "weeks", desc := "(I)I" } : Jvm.MethodName)) ∈ lw_all := lw_g (lw_at lw_m4 225 rfl) rfl
theorem q1020 : (Jvm.Cond.code ({ cls := "HeavierServes", name := "weeks", desc := "(I)I" } : Jvm.MethodName) prog_1_method_29_code (5 : Nat) (Option.some Jvm.ClassFile.FieldType.int)) ∈ lw_all := lw_g (lw_at lw_m4 226 rfl) rfl
theorem q1021 : (Jvm.Cond.constantLong "HeavierServes" (371 : Nat) (99 : Int64)) ∈ lw_all := lw_g (lw_at lw_m4 227 rfl) rfl
theorem q1023 : (Jvm.Cond.instanceMethod ({ cls := "HeavierServes", name := "year", desc := "()I" } : Jvm.MethodName)) ∈ lw_all := lw_g (lw_at lw_m4 229 rfl) rfl
theorem q1024 : (Jvm.Cond.selects "HeavierServes" ({ cls := "HeavierServes", name := "year", desc := "()I" } : Jvm.MethodName) ({ cls := "HeavierServes", name := "year", desc := "()I" } : Jvm.MethodName)) ∈ lw_all := lw_g (lw_at lw_m4 230 rfl) rfl
theorem q1025 : (Jvm.Cond.codeWith ({ cls := "HeavierServes", name := "year", desc := "()I" } : Jvm.MethodName) prog_1_method_30_code (4 : Nat) (Option.some Jvm.ClassFile.FieldType.int) [((9 : Nat), (42 : Nat), (45 : Nat), (228 : Nat))]) ∈ lw_all := lw_g (lw_at lw_m4 231 rfl) rfl
theorem q1026 : (Jvm.Cond.methodLink "HeavierServes" (373 : Nat) ({ cls := "HeavierServes", name := "letters", desc := "(LHeavierServes$Words;)I" } : Jvm.MethodName)) ∈ lw_all := lw_g (lw_at lw_m4 232 rfl) rfl
theorem q1027 : (Jvm.Cond.static ({ cls := "HeavierServes", name := "letters", desc := "(LHeavierServes$Words;)I" } : Jvm.MethodName)) ∈ lw_all := lw_g (lw_at lw_m4 233 rfl) rfl
theorem q1028 : (Jvm.Cond.code ({ cls := "HeavierServes", name := "letters", desc := "(LHeavierServes$Words;)I" } : Jvm.MethodName) prog_1_method_31_code (3 : Nat) (Option.some Jvm.ClassFile.FieldType.int)) ∈ lw_all := lw_g (lw_at lw_m4 234 rfl) rfl
theorem q1029 : (Jvm.Cond.methodLink "HeavierServes" (377 : Nat) ({ cls := "HeavierServes$Words", name := "here", desc := "()I" } : Jvm.MethodName)) ∈ lw_all := lw_g (lw_at lw_m4 235 rfl) rfl
theorem q1030 : (Jvm.Cond.constantLong "HeavierServes" (381 : Nat) (97 : Int64)) ∈ lw_all := lw_g (lw_at lw_m4 236 rfl) rfl
theorem q1031 : (Jvm.Cond.constantLong "HeavierServes" (383 : Nat) (104 : Int64)) ∈ lw_all := lw_g (lw_at lw_m4 237 rfl) rfl
theorem q1033 : (Jvm.Cond.instanceMethod ({ cls := "HeavierServes", name := "law", desc := "()I" } : Jvm.MethodName)) ∈ lw_all := lw_g (lw_at lw_m4 239 rfl) rfl
theorem q1034 : (Jvm.Cond.selects "HeavierServes" ({ cls := "HeavierServes", name := "law", desc := "()I" } : Jvm.MethodName) ({ cls := "HeavierServes", name := "law", desc := "()I" } : Jvm.MethodName)) ∈ lw_all := lw_g (lw_at lw_m5 0 rfl) rfl
theorem q1035 : (Jvm.Cond.code ({ cls := "HeavierServes", name := "law", desc := "()I" } : Jvm.MethodName) prog_1_method_32_code (1 : Nat) (Option.some Jvm.ClassFile.FieldType.int)) ∈ lw_all := lw_g (lw_at lw_m5 1 rfl) rfl
theorem q1037 : (Jvm.Cond.instanceMethod ({ cls := "HeavierServes", name := "feed", desc := "(II)I" } : Jvm.MethodName)) ∈ lw_all := lw_g (lw_at lw_m5 3 rfl) rfl
theorem q1038 : (Jvm.Cond.selects "HeavierServes" ({ cls := "HeavierServes", name := "feed", desc := "(II)I" } : Jvm.MethodName) ({ cls := "HeavierServes", name := "feed", desc := "(II)I" } : Jvm.MethodName)) ∈ lw_all := lw_g (lw_at lw_m5 4 rfl) rfl
theorem q1039 : (Jvm.Cond.code ({ cls := "HeavierServes", name := "feed", desc := "(II)I" } : Jvm.MethodName) prog_1_method_34_code (3 : Nat) (Option.some Jvm.ClassFile.FieldType.int)) ∈ lw_all := lw_g (lw_at lw_m5 5 rfl) rfl
theorem q1040 : (Jvm.Cond.methodLink "HeavierServes" (402 : Nat) ({ cls := "HeavierServes", name := "isAlive", desc := "(I)Z" } : Jvm.MethodName)) ∈ lw_all := lw_g (lw_at lw_m5 6 rfl) rfl
theorem q1041 : (Jvm.Cond.privateMethod ({ cls := "HeavierServes", name := "isAlive", desc := "(I)Z" } : Jvm.MethodName)) ∈ lw_tbl := lw_at lw_m5 7 rfl
theorem q1042 : (Jvm.Cond.instanceMethod ({ cls := "HeavierServes", name := "isAlive", desc := "(I)Z" } : Jvm.MethodName)) ∈ lw_all := lw_g (lw_at lw_m5 8 rfl) rfl
theorem q1043 : (Jvm.Cond.code ({ cls := "HeavierServes", name := "isAlive", desc := "(I)Z" } : Jvm.MethodName) prog_1_method_6_code (2 : Nat) (Option.some Jvm.ClassFile.FieldType.boolean)) ∈ lw_all := lw_g (lw_at lw_m5 9 rfl) rfl
theorem q1045 : (Jvm.Cond.instanceMethod ({ cls := "HeavierServes", name := "fast", desc := "(II)I" } : Jvm.MethodName)) ∈ lw_all := lw_g (lw_at lw_m5 11 rfl) rfl
theorem q1046 : (Jvm.Cond.selects "HeavierServes" ({ cls := "HeavierServes", name := "fast", desc := "(II)I" } : Jvm.MethodName) ({ cls := "HeavierServes", name := "fast", desc := "(II)I" } : Jvm.MethodName)) ∈ lw_all := lw_g (lw_at lw_m5 12 rfl) rfl
theorem q1047 : (Jvm.Cond.code ({ cls := "HeavierServes", name := "fast", desc := "(II)I" } : Jvm.MethodName) prog_1_method_35_code (3 : Nat) (Option.some Jvm.ClassFile.FieldType.int)) ∈ lw_all := lw_g (lw_at lw_m5 13 rfl) rfl
theorem q1049 : (Jvm.Cond.instanceMethod ({ cls := "HeavierServes", name := "dies", desc := "(I)I" } : Jvm.MethodName)) ∈ lw_all := lw_g (lw_at lw_m5 15 rfl) rfl
theorem q1050 : (Jvm.Cond.selects "HeavierServes" ({ cls := "HeavierServes", name := "dies", desc := "(I)I" } : Jvm.MethodName) ({ cls := "HeavierServes", name := "dies", desc := "(I)I" } : Jvm.MethodName)) ∈ lw_all := lw_g (lw_at lw_m5 16 rfl) rfl
theorem q1051 : (Jvm.Cond.code ({ cls := "HeavierServes", name := "dies", desc := "(I)I" } : Jvm.MethodName) prog_1_method_36_code (3 : Nat) (Option.some Jvm.ClassFile.FieldType.int)) ∈ lw_all := lw_g (lw_at lw_m5 17 rfl) rfl
theorem q1053 : (Jvm.Cond.instanceMethod ({ cls := "HeavierServes", name := "undo", desc := "()I" } : Jvm.MethodName)) ∈ lw_all := lw_g (lw_at lw_m5 19 rfl) rfl
theorem q1054 : (Jvm.Cond.selects "HeavierServes" ({ cls := "HeavierServes", name := "undo", desc := "()I" } : Jvm.MethodName) ({ cls := "HeavierServes", name := "undo", desc := "()I" } : Jvm.MethodName)) ∈ lw_all := lw_g (lw_at lw_m5 20 rfl) rfl
theorem q1055 : (Jvm.Cond.code ({ cls := "HeavierServes", name := "undo", desc := "()I" } : Jvm.MethodName) prog_1_method_37_code (1 : Nat) (Option.some Jvm.ClassFile.FieldType.int)) ∈ lw_all := lw_g (lw_at lw_m5 21 rfl) rfl
theorem q1057 : (Jvm.Cond.instanceMethod ({ cls := "HeavierServes", name := "served", desc := "(I)I" } : Jvm.MethodName)) ∈ lw_all := lw_g (lw_at lw_m5 23 rfl) rfl
theorem q1058 : (Jvm.Cond.selects "HeavierServes" ({ cls := "HeavierServes", name := "served", desc := "(I)I" } : Jvm.MethodName) ({ cls := "HeavierServes", name := "served", desc := "(I)I" } : Jvm.MethodName)) ∈ lw_all := lw_g (lw_at lw_m5 24 rfl) rfl
theorem q1059 : (Jvm.Cond.code ({ cls := "HeavierServes", name := "served", desc := "(I)I" } : Jvm.MethodName) prog_1_method_38_code (2 : Nat) (Option.some Jvm.ClassFile.FieldType.int)) ∈ lw_all := lw_g (lw_at lw_m5 25 rfl) rfl
theorem q1061 : (Jvm.Cond.instanceMethod ({ cls := "HeavierServes", name := "later", desc := "(II)I" } : Jvm.MethodName)) ∈ lw_all := lw_g (lw_at lw_m5 27 rfl) rfl
theorem q1062 : (Jvm.Cond.selects "HeavierServes" ({ cls := "HeavierServes", name := "later", desc := "(II)I" } : Jvm.MethodName) ({ cls := "HeavierServes", name := "later", desc := "(II)I" } : Jvm.MethodName)) ∈ lw_all := lw_g (lw_at lw_m5 28 rfl) rfl
theorem q1063 : (Jvm.Cond.code ({ cls := "HeavierServes", name := "later", desc := "(II)I" } : Jvm.MethodName) prog_1_method_39_code (5 : Nat) (Option.some Jvm.ClassFile.FieldType.int)) ∈ lw_all := lw_g (lw_at lw_m5 29 rfl) rfl
theorem q1065 : (Jvm.Cond.instanceMethod ({ cls := "HeavierServes", name := "then", desc := "(I)I" } : Jvm.MethodName)) ∈ lw_all := lw_g (lw_at lw_m5 31 rfl) rfl
theorem q1066 : (Jvm.Cond.selects "HeavierServes" ({ cls := "HeavierServes", name := "then", desc := "(I)I" } : Jvm.MethodName) ({ cls := "HeavierServes", name := "then", desc := "(I)I" } : Jvm.MethodName)) ∈ lw_all := lw_g (lw_at lw_m5 32 rfl) rfl
theorem q1067 : (Jvm.Cond.code ({ cls := "HeavierServes", name := "then", desc := "(I)I" } : Jvm.MethodName) prog_1_method_40_code (3 : Nat) (Option.some Jvm.ClassFile.FieldType.int)) ∈ lw_all := lw_g (lw_at lw_m5 33 rfl) rfl
theorem q1069 : (Jvm.Cond.instanceMethod ({ cls := "HeavierServes", name := "soonest", desc := "(I)I" } : Jvm.MethodName)) ∈ lw_all := lw_g (lw_at lw_m5 35 rfl) rfl
theorem q1070 : (Jvm.Cond.selects "HeavierServes" ({ cls := "HeavierServes", name := "soonest", desc := "(I)I" } : Jvm.MethodName) ({ cls := "HeavierServes", name := "soonest", desc := "(I)I" } : Jvm.MethodName)) ∈ lw_all := lw_g (lw_at lw_m5 36 rfl) rfl
theorem q1071 : (Jvm.Cond.code ({ cls := "HeavierServes", name := "soonest", desc := "(I)I" } : Jvm.MethodName) prog_1_method_41_code (3 : Nat) (Option.some Jvm.ClassFile.FieldType.int)) ∈ lw_all := lw_g (lw_at lw_m5 37 rfl) rfl
theorem q1073 : (Jvm.Cond.instanceMethod ({ cls := "HeavierServes", name := "ever", desc := "(I)I" } : Jvm.MethodName)) ∈ lw_all := lw_g (lw_at lw_m5 39 rfl) rfl
theorem q1074 : (Jvm.Cond.selects "HeavierServes" ({ cls := "HeavierServes", name := "ever", desc := "(I)I" } : Jvm.MethodName) ({ cls := "HeavierServes", name := "ever", desc := "(I)I" } : Jvm.MethodName)) ∈ lw_all := lw_g (lw_at lw_m5 40 rfl) rfl
theorem q1075 : (Jvm.Cond.code ({ cls := "HeavierServes", name := "ever", desc := "(I)I" } : Jvm.MethodName) prog_1_method_42_code (8 : Nat) (Option.some Jvm.ClassFile.FieldType.int)) ∈ lw_all := lw_g (lw_at lw_m5 41 rfl) rfl
theorem q1076 : (Jvm.Cond.constantLong "HeavierServes" (405 : Nat) (12 : Int64)) ∈ lw_all := lw_g (lw_at lw_m5 42 rfl) rfl
theorem q1077 : (Jvm.Cond.methodLink "HeavierServes" (407 : Nat) ({ cls := "HeavierServes", name := "canFollow", desc := "(II)Z" } : Jvm.MethodName)) ∈ lw_all := lw_g (lw_at lw_m5 43 rfl) rfl
theorem q1078 : (Jvm.Cond.privateMethod ({ cls := "HeavierServes", name := "canFollow", desc := "(II)Z" } : Jvm.MethodName)) ∈ lw_tbl := lw_at lw_m5 44 rfl
theorem q1079 : (Jvm.Cond.instanceMethod ({ cls := "HeavierServes", name := "canFollow", desc := "(II)Z" } : Jvm.MethodName)) ∈ lw_all := lw_g (lw_at lw_m5 45 rfl) rfl
theorem q1080 : (Jvm.Cond.code ({ cls := "HeavierServes", name := "canFollow", desc := "(II)Z" } : Jvm.MethodName) prog_1_method_43_code (4 : Nat) (Option.some Jvm.ClassFile.FieldType.boolean)) ∈ lw_all := lw_g (lw_at lw_m5 46 rfl) rfl
theorem q1082 : (Jvm.Cond.instanceMethod ({ cls := "HeavierServes", name := "most", desc := "(II)I" } : Jvm.MethodName)) ∈ lw_all := lw_g (lw_at lw_m5 48 rfl) rfl
theorem q1083 : (Jvm.Cond.selects "HeavierServes" ({ cls := "HeavierServes", name := "most", desc := "(II)I" } : Jvm.MethodName) ({ cls := "HeavierServes", name := "most", desc := "(II)I" } : Jvm.MethodName)) ∈ lw_all := lw_g (lw_at lw_m5 49 rfl) rfl
theorem q1084 : (Jvm.Cond.code ({ cls := "HeavierServes", name := "most", desc := "(II)I" } : Jvm.MethodName) prog_1_method_45_code (7 : Nat) (Option.some Jvm.ClassFile.FieldType.int)) ∈ lw_all := lw_g (lw_at lw_m5 50 rfl) rfl
theorem q1085 : (Jvm.Cond.constantLong "HeavierServes" (410 : Nat) (10 : Int64)) ∈ lw_all := lw_g (lw_at lw_m5 51 rfl) rfl
theorem q1086 : (Jvm.Cond.methodLink "HeavierServes" (421 : Nat) ({ cls := "HeavierServes", name := "servesBy", desc := "(IILHeavierServes$Chooser;)I" } : Jvm.MethodName)) ∈ lw_all := lw_g (lw_at lw_m5 52 rfl) rfl
theorem q1087 : (Jvm.Cond.privateMethod ({ cls := "HeavierServes", name := "servesBy", desc := "(IILHeavierServes$Chooser;)I" } : Jvm.MethodName)) ∈ lw_tbl := lw_at lw_m5 53 rfl
theorem q1088 : (Jvm.Cond.instanceMethod ({ cls := "HeavierServes", name := "servesBy", desc := "(IILHeavierServes$Chooser;)I" } : Jvm.MethodName)) ∈ lw_all := lw_g (lw_at lw_m5 54 rfl) rfl
theorem q1089 : (Jvm.Cond.code ({ cls := "HeavierServes", name := "servesBy", desc := "(IILHeavierServes$Chooser;)I" } : Jvm.MethodName) prog_1_method_44_code (5 : Nat) (Option.some Jvm.ClassFile.FieldType.int)) ∈ lw_all := lw_g (lw_at lw_m5 55 rfl) rfl
theorem q1090 : (Jvm.Cond.methodLink "HeavierServes" (425 : Nat) ({ cls := "java/lang/Integer", name := "bitCount", desc := "(I)I" } : Jvm.MethodName)) ∈ lw_all := lw_g (lw_at lw_m5 56 rfl) rfl
theorem q1092 : (Jvm.Cond.instanceMethod ({ cls := "HeavierServes", name := "rests", desc := "(II)I" } : Jvm.MethodName)) ∈ lw_all := lw_g (lw_at lw_m5 58 rfl) rfl
theorem q1093 : (Jvm.Cond.selects "HeavierServes" ({ cls := "HeavierServes", name := "rests", desc := "(II)I" } : Jvm.MethodName) ({ cls := "HeavierServes", name := "rests", desc := "(II)I" } : Jvm.MethodName)) ∈ lw_all := lw_g (lw_at lw_m5 59 rfl) rfl
theorem q1094 : (Jvm.Cond.code ({ cls := "HeavierServes", name := "rests", desc := "(II)I" } : Jvm.MethodName) prog_1_method_46_code (6 : Nat) (Option.some Jvm.ClassFile.FieldType.int)) ∈ lw_all := lw_g (lw_at lw_m5 60 rfl) rfl
theorem q1095 : (Jvm.Cond.constantLong "HeavierServes" (430 : Nat) (4 : Int64)) ∈ lw_all := lw_g (lw_at lw_m5 61 rfl) rfl
theorem q1096 : (Jvm.Cond.constantLong "HeavierServes" (432 : Nat) (20 : Int64)) ∈ lw_all := lw_g (lw_at lw_m5 62 rfl) rfl
theorem q1097 : (Jvm.Cond.methodLink "HeavierServes" (438 : Nat) ({ cls := "java/util/Arrays", name := "fill", desc := "([II)V" } : Jvm.MethodName)) ∈ lw_all := lw_g (lw_at lw_m5 63 rfl) rfl
theorem q1100 : (Jvm.Cond.methodLink "HeavierServes" (444 : Nat) ({ cls := "HeavierServes", name := "takesAnother", desc := "(II)Z" } : Jvm.MethodName)) ∈ lw_all := lw_g (lw_at lw_m5 66 rfl) rfl
theorem q1101 : (Jvm.Cond.privateMethod ({ cls := "HeavierServes", name := "takesAnother", desc := "(II)Z" } : Jvm.MethodName)) ∈ lw_tbl := lw_at lw_m5 67 rfl
theorem q1102 : (Jvm.Cond.instanceMethod ({ cls := "HeavierServes", name := "takesAnother", desc := "(II)Z" } : Jvm.MethodName)) ∈ lw_all := lw_g (lw_at lw_m5 68 rfl) rfl
theorem q1103 : (Jvm.Cond.code ({ cls := "HeavierServes", name := "takesAnother", desc := "(II)Z" } : Jvm.MethodName) prog_1_method_47_code (8 : Nat) (Option.some Jvm.ClassFile.FieldType.boolean)) ∈ lw_all := lw_g (lw_at lw_m5 69 rfl) rfl
theorem q1105 : (Jvm.Cond.instanceMethod ({ cls := "HeavierServes", name := "party", desc := "(I)I" } : Jvm.MethodName)) ∈ lw_all := lw_g (lw_at lw_m5 71 rfl) rfl
theorem q1106 : (Jvm.Cond.selects "HeavierServes" ({ cls := "HeavierServes", name := "party", desc := "(I)I" } : Jvm.MethodName) ({ cls := "HeavierServes", name := "party", desc := "(I)I" } : Jvm.MethodName)) ∈ lw_all := lw_g (lw_at lw_m5 72 rfl) rfl
theorem q1107 : (Jvm.Cond.code ({ cls := "HeavierServes", name := "party", desc := "(I)I" } : Jvm.MethodName) prog_1_method_49_code (8 : Nat) (Option.some Jvm.ClassFile.FieldType.int)) ∈ lw_all := lw_g (lw_at lw_m5 73 rfl) rfl
theorem q1108 : (Jvm.Cond.methodLink "HeavierServes" (447 : Nat) ({ cls := "HeavierServes", name := "partiesBy", desc := "(ILHeavierServes$Chooser;)V" } : Jvm.MethodName)) ∈ lw_all := lw_g (lw_at lw_m5 74 rfl) rfl
theorem q1109 : (Jvm.Cond.privateMethod ({ cls := "HeavierServes", name := "partiesBy", desc := "(ILHeavierServes$Chooser;)V" } : Jvm.MethodName)) ∈ lw_tbl := lw_at lw_m5 75 rfl
theorem q1110 : (Jvm.Cond.instanceMethod ({ cls := "HeavierServes", name := "partiesBy", desc := "(ILHeavierServes$Chooser;)V" } : Jvm.MethodName)) ∈ lw_all := lw_g (lw_at lw_m5 76 rfl) rfl
theorem q1111 : (Jvm.Cond.code ({ cls := "HeavierServes", name := "partiesBy", desc := "(ILHeavierServes$Chooser;)V" } : Jvm.MethodName) prog_1_method_48_code (4 : Nat) (Option.none : Option Jvm.ClassFile.FieldType)) ∈ lw_all := lw_g (lw_at lw_m5 77 rfl) rfl
theorem q1113 : (Jvm.Cond.instanceMethod ({ cls := "HeavierServes", name := "byTurns", desc := "(II)I" } : Jvm.MethodName)) ∈ lw_all := lw_g (lw_at lw_m5 79 rfl) rfl
theorem q1114 : (Jvm.Cond.selects "HeavierServes" ({ cls := "HeavierServes", name := "byTurns", desc := "(II)I" } : Jvm.MethodName) ({ cls := "HeavierServes", name := "byTurns", desc := "(II)I" } : Jvm.MethodName)) ∈ lw_all := lw_g (lw_at lw_m5 80 rfl) rfl
theorem q1115 : (Jvm.Cond.code ({ cls := "HeavierServes", name := "byTurns", desc := "(II)I" } : Jvm.MethodName) prog_1_method_50_code (4 : Nat) (Option.some Jvm.ClassFile.FieldType.int)) ∈ lw_all := lw_g (lw_at lw_m5 81 rfl) rfl
theorem q1117 : (Jvm.Cond.instanceMethod ({ cls := "HeavierServes", name := "hold", desc := "(I)I" } : Jvm.MethodName)) ∈ lw_all := lw_g (lw_at lw_m5 83 rfl) rfl
theorem q1118 : (Jvm.Cond.selects "HeavierServes" ({ cls := "HeavierServes", name := "hold", desc := "(I)I" } : Jvm.MethodName) ({ cls := "HeavierServes", name := "hold", desc := "(I)I" } : Jvm.MethodName)) ∈ lw_all := lw_g (lw_at lw_m5 84 rfl) rfl
theorem q1119 : (Jvm.Cond.code ({ cls := "HeavierServes", name := "hold", desc := "(I)I" } : Jvm.MethodName) prog_1_method_54_code (3 : Nat) (Option.some Jvm.ClassFile.FieldType.int)) ∈ lw_all := lw_g (lw_at lw_m5 85 rfl) rfl
theorem q1120 : (Jvm.Cond.constantLong "HeavierServes" (459 : Nat) (60 : Int64)) ∈ lw_all := lw_g (lw_at lw_m5 86 rfl) rfl
theorem q1121 : (Jvm.Cond.methodLink "HeavierServes" (464 : Nat) ({ cls := "HeavierServes", name := "fewestBy", desc := "(LHeavierServes$Wanted;)I" } : Jvm.MethodName)) ∈ lw_all := lw_g (lw_at lw_m5 87 rfl) rfl
theorem q1122 : (Jvm.Cond.static ({ cls := "HeavierServes", name := "fewestBy", desc := "(LHeavierServes$Wanted;)I" } : Jvm.MethodName)) ∈ lw_all := lw_g (lw_at lw_m5 88 rfl) rfl
theorem q1123 : (Jvm.Cond.code ({ cls := "HeavierServes", name := "fewestBy", desc := "(LHeavierServes$Wanted;)I" } : Jvm.MethodName) prog_1_method_52_code (2 : Nat) (Option.some Jvm.ClassFile.FieldType.int)) ∈ lw_all := lw_g (lw_at lw_m5 89 rfl) rfl
theorem q1124 : (Jvm.Cond.interfaceEntry "HeavierServes" (454 : Nat)) ∈ lw_tbl := lw_at lw_m5 90 rfl
theorem q1125 : (Jvm.Cond.methodLink "HeavierServes" (454 : Nat) ({ cls := "HeavierServes$Wanted", name := "isSo", desc := "(I)Z" } : Jvm.MethodName)) ∈ lw_all := lw_g (lw_at lw_m5 91 rfl) rfl
theorem q1135 : (Jvm.Cond.privateMethod ({ cls := "HeavierServes", name := "begin", desc := "(II)V" } : Jvm.MethodName)) ∈ lw_tbl := lw_at lw_m5 101 rfl
theorem q1136 : (Jvm.Cond.instanceMethod ({ cls := "HeavierServes", name := "begin", desc := "(II)V" } : Jvm.MethodName)) ∈ lw_all := lw_g (lw_at lw_m5 102 rfl) rfl
theorem q1137 : (Jvm.Cond.code ({ cls := "HeavierServes", name := "begin", desc := "(II)V" } : Jvm.MethodName) prog_1_method_53_code (3 : Nat) (Option.none : Option Jvm.ClassFile.FieldType)) ∈ lw_all := lw_g (lw_at lw_m5 103 rfl) rfl
theorem q1165 : (Jvm.Cond.instanceMethod ({ cls := "HeavierServes", name := "bribe", desc := "(II)I" } : Jvm.MethodName)) ∈ lw_all := lw_g (lw_at lw_m5 131 rfl) rfl
theorem q1166 : (Jvm.Cond.selects "HeavierServes" ({ cls := "HeavierServes", name := "bribe", desc := "(II)I" } : Jvm.MethodName) ({ cls := "HeavierServes", name := "bribe", desc := "(II)I" } : Jvm.MethodName)) ∈ lw_all := lw_g (lw_at lw_m5 132 rfl) rfl
theorem q1167 : (Jvm.Cond.code ({ cls := "HeavierServes", name := "bribe", desc := "(II)I" } : Jvm.MethodName) prog_1_method_55_code (4 : Nat) (Option.some Jvm.ClassFile.FieldType.int)) ∈ lw_all := lw_g (lw_at lw_m5 133 rfl) rfl
theorem q1168 : (Jvm.Cond.methodLink "HeavierServes" (470 : Nat) ({ cls := "HeavierServes$Serves", name := "isSo", desc := "(I)Z" } : Jvm.MethodName)) ∈ lw_all := lw_g (lw_at lw_m5 134 rfl) rfl
theorem q1170 : (Jvm.Cond.instanceMethod ({ cls := "HeavierServes", name := "starve", desc := "(II)I" } : Jvm.MethodName)) ∈ lw_all := lw_g (lw_at lw_m5 136 rfl) rfl
theorem q1171 : (Jvm.Cond.selects "HeavierServes" ({ cls := "HeavierServes", name := "starve", desc := "(II)I" } : Jvm.MethodName) ({ cls := "HeavierServes", name := "starve", desc := "(II)I" } : Jvm.MethodName)) ∈ lw_all := lw_g (lw_at lw_m5 137 rfl) rfl
theorem q1172 : (Jvm.Cond.code ({ cls := "HeavierServes", name := "starve", desc := "(II)I" } : Jvm.MethodName) prog_1_method_56_code (4 : Nat) (Option.some Jvm.ClassFile.FieldType.int)) ∈ lw_all := lw_g (lw_at lw_m5 138 rfl) rfl
theorem q1174 : (Jvm.Cond.instanceMethod ({ cls := "HeavierServes", name := "cheapest", desc := "()I" } : Jvm.MethodName)) ∈ lw_all := lw_g (lw_at lw_m5 140 rfl) rfl
theorem q1175 : (Jvm.Cond.selects "HeavierServes" ({ cls := "HeavierServes", name := "cheapest", desc := "()I" } : Jvm.MethodName) ({ cls := "HeavierServes", name := "cheapest", desc := "()I" } : Jvm.MethodName)) ∈ lw_all := lw_g (lw_at lw_m5 141 rfl) rfl
theorem q1176 : (Jvm.Cond.code ({ cls := "HeavierServes", name := "cheapest", desc := "()I" } : Jvm.MethodName) prog_1_method_57_code (5 : Nat) (Option.some Jvm.ClassFile.FieldType.int)) ∈ lw_all := lw_g (lw_at lw_m5 142 rfl) rfl
theorem q1178 : (Jvm.Cond.instanceMethod ({ cls := "HeavierServes", name := "weighed", desc := "(II)I" } : Jvm.MethodName)) ∈ lw_all := lw_g (lw_at lw_m5 144 rfl) rfl
theorem q1179 : (Jvm.Cond.selects "HeavierServes" ({ cls := "HeavierServes", name := "weighed", desc := "(II)I" } : Jvm.MethodName) ({ cls := "HeavierServes", name := "weighed", desc := "(II)I" } : Jvm.MethodName)) ∈ lw_all := lw_g (lw_at lw_m5 145 rfl) rfl
theorem q1180 : (Jvm.Cond.code ({ cls := "HeavierServes", name := "weighed", desc := "(II)I" } : Jvm.MethodName) prog_1_method_58_code (3 : Nat) (Option.some Jvm.ClassFile.FieldType.int)) ∈ lw_all := lw_g (lw_at lw_m5 146 rfl) rfl
theorem q1181 : (Jvm.Cond.constantLong "HeavierServes" (474 : Nat) (1010 : Int64)) ∈ lw_all := lw_g (lw_at lw_m5 147 rfl) rfl
theorem q1183 : (Jvm.Cond.instanceMethod ({ cls := "HeavierServes", name := "forget", desc := "()I" } : Jvm.MethodName)) ∈ lw_all := lw_g (lw_at lw_m5 149 rfl) rfl
theorem q1184 : (Jvm.Cond.selects "HeavierServes" ({ cls := "HeavierServes", name := "forget", desc := "()I" } : Jvm.MethodName) ({ cls := "HeavierServes", name := "forget", desc := "()I" } : Jvm.MethodName)) ∈ lw_all := lw_g (lw_at lw_m5 150 rfl) rfl
theorem q1185 : (Jvm.Cond.code ({ cls := "HeavierServes", name := "forget", desc := "()I" } : Jvm.MethodName) prog_1_method_59_code (1 : Nat) (Option.some Jvm.ClassFile.FieldType.int)) ∈ lw_all := lw_g (lw_at lw_m5 151 rfl) rfl
theorem q1187 : (Jvm.Cond.instanceMethod ({ cls := "HeavierServes", name := "grains", desc := "()I" } : Jvm.MethodName)) ∈ lw_all := lw_g (lw_at lw_m5 153 rfl) rfl
theorem q1188 : (Jvm.Cond.selects "HeavierServes" ({ cls := "HeavierServes", name := "grains", desc := "()I" } : Jvm.MethodName) ({ cls := "HeavierServes", name := "grains", desc := "()I" } : Jvm.MethodName)) ∈ lw_all := lw_g (lw_at lw_m5 154 rfl) rfl
theorem q1189 : (Jvm.Cond.codeWith ({ cls := "HeavierServes", name := "grains", desc := "()I" } : Jvm.MethodName) prog_1_method_62_code (6 : Nat) (Option.some Jvm.ClassFile.FieldType.int) [((7 : Nat), (82 : Nat), (90 : Nat), (0 : Nat)), ((90 : Nat), (92 : Nat), (90 : Nat), (0 : Nat))]) ∈ lw_all := lw_g (lw_at lw_m5 155 rfl) rfl
theorem q1190 : (Jvm.Cond.methodLink "HeavierServes" (482 : Nat) ({ cls := "HeavierServes", name := "canBe", desc := "(I)Z" } : Jvm.MethodName)) ∈ lw_all := lw_g (lw_at lw_m5 156 rfl) rfl
theorem q1191 : (Jvm.Cond.privateMethod ({ cls := "HeavierServes", name := "canBe", desc := "(I)Z" } : Jvm.MethodName)) ∈ lw_tbl := lw_at lw_m5 157 rfl
theorem q1192 : (Jvm.Cond.instanceMethod ({ cls := "HeavierServes", name := "canBe", desc := "(I)Z" } : Jvm.MethodName)) ∈ lw_all := lw_g (lw_at lw_m5 158 rfl) rfl
theorem q1193 : (Jvm.Cond.code ({ cls := "HeavierServes", name := "canBe", desc := "(I)Z" } : Jvm.MethodName) prog_1_method_61_code (3 : Nat) (Option.some Jvm.ClassFile.FieldType.boolean)) ∈ lw_all := lw_g (lw_at lw_m5 159 rfl) rfl
theorem q1194 : (Jvm.Cond.methodLink "HeavierServes" (479 : Nat) ({ cls := "HeavierServes", name := "isShown", desc := "(II)Z" } : Jvm.MethodName)) ∈ lw_all := lw_g (lw_at lw_m5 160 rfl) rfl
theorem q1195 : (Jvm.Cond.privateMethod ({ cls := "HeavierServes", name := "isShown", desc := "(II)Z" } : Jvm.MethodName)) ∈ lw_tbl := lw_at lw_m5 161 rfl
theorem q1196 : (Jvm.Cond.instanceMethod ({ cls := "HeavierServes", name := "isShown", desc := "(II)Z" } : Jvm.MethodName)) ∈ lw_all := lw_g (lw_at lw_m5 162 rfl) rfl
theorem q1197 : (Jvm.Cond.code ({ cls := "HeavierServes", name := "isShown", desc := "(II)Z" } : Jvm.MethodName) prog_1_method_60_code (4 : Nat) (Option.some Jvm.ClassFile.FieldType.boolean)) ∈ lw_all := lw_g (lw_at lw_m5 163 rfl) rfl
theorem q1199 : (Jvm.Cond.instanceMethod ({ cls := "HeavierServes", name := "span", desc := "(I)I" } : Jvm.MethodName)) ∈ lw_all := lw_g (lw_at lw_m5 165 rfl) rfl
theorem q1200 : (Jvm.Cond.selects "HeavierServes" ({ cls := "HeavierServes", name := "span", desc := "(I)I" } : Jvm.MethodName) ({ cls := "HeavierServes", name := "span", desc := "(I)I" } : Jvm.MethodName)) ∈ lw_all := lw_g (lw_at lw_m5 166 rfl) rfl
theorem q1201 : (Jvm.Cond.code ({ cls := "HeavierServes", name := "span", desc := "(I)I" } : Jvm.MethodName) prog_1_method_63_code (6 : Nat) (Option.some Jvm.ClassFile.FieldType.int)) ∈ lw_all := lw_g (lw_at lw_m5 167 rfl) rfl
theorem q1203 : (Jvm.Cond.instanceMethod ({ cls := "HeavierServes", name := "offs", desc := "()I" } : Jvm.MethodName)) ∈ lw_all := lw_g (lw_at lw_m5 169 rfl) rfl
theorem q1204 : (Jvm.Cond.selects "HeavierServes" ({ cls := "HeavierServes", name := "offs", desc := "()I" } : Jvm.MethodName) ({ cls := "HeavierServes", name := "offs", desc := "()I" } : Jvm.MethodName)) ∈ lw_all := lw_g (lw_at lw_m5 170 rfl) rfl
theorem q1205 : (Jvm.Cond.codeWith ({ cls := "HeavierServes", name := "offs", desc := "()I" } : Jvm.MethodName) prog_1_method_65_code (6 : Nat) (Option.some Jvm.ClassFile.FieldType.int) [((12 : Nat), (72 : Nat), (80 : Nat), (0 : Nat)), ((80 : Nat), (82 : Nat), (80 : Nat), (0 : Nat))]) ∈ lw_all := lw_g (lw_at lw_m5 171 rfl) rfl
theorem q1206 : (Jvm.Cond.methodLink "HeavierServes" (485 : Nat) ({ cls := "HeavierServes", name := "liars", desc := "()I" } : Jvm.MethodName)) ∈ lw_all := lw_g (lw_at lw_m5 172 rfl) rfl
theorem q1207 : (Jvm.Cond.privateMethod ({ cls := "HeavierServes", name := "liars", desc := "()I" } : Jvm.MethodName)) ∈ lw_tbl := lw_at lw_m5 173 rfl
theorem q1208 : (Jvm.Cond.instanceMethod ({ cls := "HeavierServes", name := "liars", desc := "()I" } : Jvm.MethodName)) ∈ lw_all := lw_g (lw_at lw_m5 174 rfl) rfl
theorem q1209 : (Jvm.Cond.code ({ cls := "HeavierServes", name := "liars", desc := "()I" } : Jvm.MethodName) prog_1_method_64_code (3 : Nat) (Option.some Jvm.ClassFile.FieldType.int)) ∈ lw_all := lw_g (lw_at lw_m5 175 rfl) rfl
theorem q1211 : (Jvm.Cond.instanceMethod ({ cls := "HeavierServes", name := "cheats", desc := "()I" } : Jvm.MethodName)) ∈ lw_all := lw_g (lw_at lw_m5 177 rfl) rfl
theorem q1212 : (Jvm.Cond.selects "HeavierServes" ({ cls := "HeavierServes", name := "cheats", desc := "()I" } : Jvm.MethodName) ({ cls := "HeavierServes", name := "cheats", desc := "()I" } : Jvm.MethodName)) ∈ lw_all := lw_g (lw_at lw_m5 178 rfl) rfl
theorem q1213 : (Jvm.Cond.codeWith ({ cls := "HeavierServes", name := "cheats", desc := "()I" } : Jvm.MethodName) prog_1_method_66_code (7 : Nat) (Option.some Jvm.ClassFile.FieldType.int) [((14 : Nat), (79 : Nat), (87 : Nat), (0 : Nat)), ((87 : Nat), (89 : Nat), (87 : Nat), (0 : Nat))]) ∈ lw_all := lw_g (lw_at lw_m5 179 rfl) rfl
theorem q1215 : (Jvm.Cond.instanceMethod ({ cls := "HeavierServes", name := "told", desc := "(II)I" } : Jvm.MethodName)) ∈ lw_all := lw_g (lw_at lw_m5 181 rfl) rfl
theorem q1216 : (Jvm.Cond.selects "HeavierServes" ({ cls := "HeavierServes", name := "told", desc := "(II)I" } : Jvm.MethodName) ({ cls := "HeavierServes", name := "told", desc := "(II)I" } : Jvm.MethodName)) ∈ lw_all := lw_g (lw_at lw_m5 182 rfl) rfl
theorem q1217 : (Jvm.Cond.code ({ cls := "HeavierServes", name := "told", desc := "(II)I" } : Jvm.MethodName) prog_1_method_67_code (3 : Nat) (Option.some Jvm.ClassFile.FieldType.int)) ∈ lw_all := lw_g (lw_at lw_m5 183 rfl) rfl
theorem q1219 : (Jvm.Cond.instanceMethod ({ cls := "HeavierServes", name := "wipe", desc := "()I" } : Jvm.MethodName)) ∈ lw_all := lw_g (lw_at lw_m5 185 rfl) rfl
theorem q1220 : (Jvm.Cond.selects "HeavierServes" ({ cls := "HeavierServes", name := "wipe", desc := "()I" } : Jvm.MethodName) ({ cls := "HeavierServes", name := "wipe", desc := "()I" } : Jvm.MethodName)) ∈ lw_all := lw_g (lw_at lw_m5 186 rfl) rfl
theorem q1221 : (Jvm.Cond.code ({ cls := "HeavierServes", name := "wipe", desc := "()I" } : Jvm.MethodName) prog_1_method_68_code (2 : Nat) (Option.some Jvm.ClassFile.FieldType.int)) ∈ lw_all := lw_g (lw_at lw_m5 187 rfl) rfl
theorem q1223 : (Jvm.Cond.instanceMethod ({ cls := "HeavierServes", name := "explains", desc := "(I)I" } : Jvm.MethodName)) ∈ lw_all := lw_g (lw_at lw_m5 189 rfl) rfl
theorem q1224 : (Jvm.Cond.selects "HeavierServes" ({ cls := "HeavierServes", name := "explains", desc := "(I)I" } : Jvm.MethodName) ({ cls := "HeavierServes", name := "explains", desc := "(I)I" } : Jvm.MethodName)) ∈ lw_all := lw_g (lw_at lw_m5 190 rfl) rfl
theorem q1225 : (Jvm.Cond.code ({ cls := "HeavierServes", name := "explains", desc := "(I)I" } : Jvm.MethodName) prog_1_method_70_code (6 : Nat) (Option.some Jvm.ClassFile.FieldType.int)) ∈ lw_all := lw_g (lw_at lw_m5 191 rfl) rfl
theorem q1226 : (Jvm.Cond.methodLink "HeavierServes" (491 : Nat) ({ cls := "HeavierServes", name := "isSo", desc := "(LHeavierServes$Chooser;)Z" } : Jvm.MethodName)) ∈ lw_all := lw_g (lw_at lw_m5 192 rfl) rfl
theorem q1227 : (Jvm.Cond.privateMethod ({ cls := "HeavierServes", name := "isSo", desc := "(LHeavierServes$Chooser;)Z" } : Jvm.MethodName)) ∈ lw_tbl := lw_at lw_m5 193 rfl
theorem q1228 : (Jvm.Cond.instanceMethod ({ cls := "HeavierServes", name := "isSo", desc := "(LHeavierServes$Chooser;)Z" } : Jvm.MethodName)) ∈ lw_all := lw_g (lw_at lw_m5 194 rfl) rfl
theorem q1229 : (Jvm.Cond.code ({ cls := "HeavierServes", name := "isSo", desc := "(LHeavierServes$Chooser;)Z" } : Jvm.MethodName) prog_1_method_69_code (5 : Nat) (Option.some Jvm.ClassFile.FieldType.boolean)) ∈ lw_all := lw_g (lw_at lw_m5 195 rfl) rfl
theorem q1231 : (Jvm.Cond.instanceMethod ({ cls := "HeavierServes", name := "absent", desc := "()I" } : Jvm.MethodName)) ∈ lw_all := lw_g (lw_at lw_m5 197 rfl) rfl
theorem q1232 : (Jvm.Cond.selects "HeavierServes" ({ cls := "HeavierServes", name := "absent", desc := "()I" } : Jvm.MethodName) ({ cls := "HeavierServes", name := "absent", desc := "()I" } : Jvm.MethodName)) ∈ lw_all := lw_g (lw_at lw_m5 198 rfl) rfl
theorem q1233 : (Jvm.Cond.code ({ cls := "HeavierServes", name := "absent", desc := "()I" } : Jvm.MethodName) prog_1_method_71_code (3 : Nat) (Option.some Jvm.ClassFile.FieldType.int)) ∈ lw_all := lw_g (lw_at lw_m5 199 rfl) rfl
theorem q1235 : (Jvm.Cond.instanceMethod ({ cls := "HeavierServes", name := "twin", desc := "(I)I" } : Jvm.MethodName)) ∈ lw_all := lw_g (lw_at lw_m5 201 rfl) rfl
theorem q1236 : (Jvm.Cond.selects "HeavierServes" ({ cls := "HeavierServes", name := "twin", desc := "(I)I" } : Jvm.MethodName) ({ cls := "HeavierServes", name := "twin", desc := "(I)I" } : Jvm.MethodName)) ∈ lw_all := lw_g (lw_at lw_m5 202 rfl) rfl
theorem q1237 : (Jvm.Cond.code ({ cls := "HeavierServes", name := "twin", desc := "(I)I" } : Jvm.MethodName) prog_1_method_72_code (2 : Nat) (Option.some Jvm.ClassFile.FieldType.int)) ∈ lw_all := lw_g (lw_at lw_m5 203 rfl) rfl
theorem q1239 : (Jvm.Cond.instanceMethod ({ cls := "HeavierServes", name := "odds", desc := "(II)I" } : Jvm.MethodName)) ∈ lw_all := lw_g (lw_at lw_m5 205 rfl) rfl
theorem q1240 : (Jvm.Cond.selects "HeavierServes" ({ cls := "HeavierServes", name := "odds", desc := "(II)I" } : Jvm.MethodName) ({ cls := "HeavierServes", name := "odds", desc := "(II)I" } : Jvm.MethodName)) ∈ lw_all := lw_g (lw_at lw_m5 206 rfl) rfl
theorem q1241 : (Jvm.Cond.code ({ cls := "HeavierServes", name := "odds", desc := "(II)I" } : Jvm.MethodName) prog_1_method_77_code (5 : Nat) (Option.some Jvm.ClassFile.FieldType.int)) ∈ lw_all := lw_g (lw_at lw_m5 207 rfl) rfl
theorem q1242 : (Jvm.Cond.constantLong "HeavierServes" (511 : Nat) (2 : Int64)) ∈ lw_all := lw_g (lw_at lw_m5 208 rfl) rfl
theorem q1243 : (Jvm.Cond.methodLink "HeavierServes" (503 : Nat) ({ cls := "HeavierServes", name := "oddsOf", desc := "(III)J" } : Jvm.MethodName)) ∈ lw_all := lw_g (lw_at lw_m5 209 rfl) rfl
theorem q1244 : (Jvm.Cond.privateMethod ({ cls := "HeavierServes", name := "oddsOf", desc := "(III)J" } : Jvm.MethodName)) ∈ lw_tbl := lw_at lw_m5 210 rfl
theorem q1245 : (Jvm.Cond.instanceMethod ({ cls := "HeavierServes", name := "oddsOf", desc := "(III)J" } : Jvm.MethodName)) ∈ lw_all := lw_g (lw_at lw_m5 211 rfl) rfl
theorem q1246 : (Jvm.Cond.code ({ cls := "HeavierServes", name := "oddsOf", desc := "(III)J" } : Jvm.MethodName) prog_1_method_74_code (9 : Nat) (Option.some Jvm.ClassFile.FieldType.long)) ∈ lw_all := lw_g (lw_at lw_m5 212 rfl) rfl
theorem q1247 : (Jvm.Cond.methodLink "HeavierServes" (499 : Nat) ({ cls := "HeavierServes", name := "findLikely", desc := "(LHeavierServes$Time;[J)V" } : Jvm.MethodName)) ∈ lw_all := lw_g (lw_at lw_m5 213 rfl) rfl
theorem q1248 : (Jvm.Cond.privateMethod ({ cls := "HeavierServes", name := "findLikely", desc := "(LHeavierServes$Time;[J)V" } : Jvm.MethodName)) ∈ lw_tbl := lw_at lw_m5 214 rfl
theorem q1249 : (Jvm.Cond.instanceMethod ({ cls := "HeavierServes", name := "findLikely", desc := "(LHeavierServes$Time;[J)V" } : Jvm.MethodName)) ∈ lw_all := lw_g (lw_at lw_m5 215 rfl) rfl
theorem q1250 : (Jvm.Cond.code ({ cls := "HeavierServes", name := "findLikely", desc := "(LHeavierServes$Time;[J)V" } : Jvm.MethodName) prog_1_method_73_code (10 : Nat) (Option.none : Option Jvm.ClassFile.FieldType)) ∈ lw_all := lw_g (lw_at lw_m5 216 rfl) rfl
theorem q1251 : (Jvm.Cond.methodLink "HeavierServes" (494 : Nat) ({ cls := "java/util/Arrays", name := "fill", desc := "([JJ)V" } : Jvm.MethodName)) ∈ lw_all := lw_g (lw_at lw_m5 217 rfl) rfl
theorem q1254 : (Jvm.Cond.methodLink "HeavierServes" (288 : Nat) ({ cls := "HeavierServes", name := "willOf", desc := "(LHeavierServes$Time;I)I" } : Jvm.MethodName)) ∈ lw_all := lw_g (lw_at lw_m5 220 rfl) rfl
theorem q1255 : (Jvm.Cond.constantLong "HeavierServes" (497 : Nat) (100000000 : Int64)) ∈ lw_all := lw_g (lw_at lw_m5 221 rfl) rfl
theorem q1256 : (Jvm.Cond.constantLong "HeavierServes" (513 : Nat) (10000000000000000 : Int64)) ∈ lw_all := lw_g (lw_at lw_m5 222 rfl) rfl
theorem q1257 : (Jvm.Cond.methodLink "HeavierServes" (515 : Nat) ({ cls := "HeavierServes", name := "tellPart", desc := "(JJ)V" } : Jvm.MethodName)) ∈ lw_all := lw_g (lw_at lw_m5 223 rfl) rfl
theorem q1258 : (Jvm.Cond.privateMethod ({ cls := "HeavierServes", name := "tellPart", desc := "(JJ)V" } : Jvm.MethodName)) ∈ lw_tbl := lw_at lw_m5 224 rfl
theorem q1259 : (Jvm.Cond.instanceMethod ({ cls := "HeavierServes", name := "tellPart", desc := "(JJ)V" } : Jvm.MethodName)) ∈ lw_all := lw_g (lw_at lw_m5 225 rfl) rfl
theorem q1260 : (Jvm.Cond.code ({ cls := "HeavierServes", name := "tellPart", desc := "(JJ)V" } : Jvm.MethodName) prog_1_method_76_code (7 : Nat) (Option.none : Option Jvm.ClassFile.FieldType)) ∈ lw_all := lw_g (lw_at lw_m5 226 rfl) rfl
theorem q1261 : (Jvm.Cond.methodLink "HeavierServes" (507 : Nat) ({ cls := "HeavierServes", name := "common", desc := "(JJ)J" } : Jvm.MethodName)) ∈ lw_all := lw_g (lw_at lw_m5 227 rfl) rfl
theorem q1262 : (Jvm.Cond.static ({ cls := "HeavierServes", name := "common", desc := "(JJ)J" } : Jvm.MethodName)) ∈ lw_all := lw_g (lw_at lw_m5 228 rfl) rfl
theorem q1263 : (Jvm.Cond.code ({ cls := "HeavierServes", name := "common", desc := "(JJ)J" } : Jvm.MethodName) prog_1_method_75_code (4 : Nat) (Option.some Jvm.ClassFile.FieldType.long)) ∈ lw_all := lw_g (lw_at lw_m5 229 rfl) rfl
theorem q1265 : (Jvm.Cond.instanceMethod ({ cls := "HeavierServes", name := "likely", desc := "()I" } : Jvm.MethodName)) ∈ lw_all := lw_g (lw_at lw_m5 231 rfl) rfl
theorem q1266 : (Jvm.Cond.selects "HeavierServes" ({ cls := "HeavierServes", name := "likely", desc := "()I" } : Jvm.MethodName) ({ cls := "HeavierServes", name := "likely", desc := "()I" } : Jvm.MethodName)) ∈ lw_all := lw_g (lw_at lw_m5 232 rfl) rfl
theorem q1267 : (Jvm.Cond.code ({ cls := "HeavierServes", name := "likely", desc := "()I" } : Jvm.MethodName) prog_1_method_78_code (7 : Nat) (Option.some Jvm.ClassFile.FieldType.int)) ∈ lw_all := lw_g (lw_at lw_m5 233 rfl) rfl
theorem q1269 : (Jvm.Cond.instanceMethod ({ cls := "HeavierServes", name := "keep", desc := "(I)Z" } : Jvm.MethodName)) ∈ lw_all := lw_g (lw_at lw_m5 235 rfl) rfl
theorem q1270 : (Jvm.Cond.selects "HeavierServes" ({ cls := "HeavierServes", name := "keep", desc := "(I)Z" } : Jvm.MethodName) ({ cls := "HeavierServes", name := "keep", desc := "(I)Z" } : Jvm.MethodName)) ∈ lw_all := lw_g (lw_at lw_m5 236 rfl) rfl
theorem q1271 : (Jvm.Cond.code ({ cls := "HeavierServes", name := "keep", desc := "(I)Z" } : Jvm.MethodName) prog_1_method_79_code (2 : Nat) (Option.some Jvm.ClassFile.FieldType.boolean)) ∈ lw_all := lw_g (lw_at lw_m5 237 rfl) rfl
theorem q1273 : (Jvm.Cond.methodLink "HeavierServes" (519 : Nat) ({ cls := "HeavierServes$Kept", name := "<init>", desc := "(LHeavierServes;)V" } : Jvm.MethodName)) ∈ lw_all := lw_g (lw_at lw_m5 239 rfl) rfl
theorem q1281 : (Jvm.Cond.fieldLinkNest "HeavierServes" (523 : Nat) "HeavierServes$Kept" "was" "LHeavierServes$Time;" "HeavierServes") ∈ lw_tbl := lw_at lw_m6 7 rfl
theorem q1283 : (Jvm.Cond.fieldLinkNest "HeavierServes" (520 : Nat) "HeavierServes$Kept" "there" "I" "HeavierServes") ∈ lw_tbl := lw_at lw_m6 9 rfl
theorem q1293 : (Jvm.Cond.instanceMethod ({ cls := "HeavierServes", name := "again", desc := "(I)Z" } : Jvm.MethodName)) ∈ lw_all := lw_g (lw_at lw_m6 19 rfl) rfl
theorem q1294 : (Jvm.Cond.selects "HeavierServes" ({ cls := "HeavierServes", name := "again", desc := "(I)Z" } : Jvm.MethodName) ({ cls := "HeavierServes", name := "again", desc := "(I)Z" } : Jvm.MethodName)) ∈ lw_all := lw_g (lw_at lw_m6 20 rfl) rfl
theorem q1295 : (Jvm.Cond.code ({ cls := "HeavierServes", name := "again", desc := "(I)Z" } : Jvm.MethodName) prog_1_method_80_code (2 : Nat) (Option.some Jvm.ClassFile.FieldType.boolean)) ∈ lw_all := lw_g (lw_at lw_m6 21 rfl) rfl
theorem q1297 : (Jvm.Cond.instanceMethod ({ cls := "HeavierServes", name := "count", desc := "(I)I" } : Jvm.MethodName)) ∈ lw_all := lw_g (lw_at lw_m6 23 rfl) rfl
theorem q1298 : (Jvm.Cond.selects "HeavierServes" ({ cls := "HeavierServes", name := "count", desc := "(I)I" } : Jvm.MethodName) ({ cls := "HeavierServes", name := "count", desc := "(I)I" } : Jvm.MethodName)) ∈ lw_all := lw_g (lw_at lw_m6 24 rfl) rfl
theorem q1299 : (Jvm.Cond.code ({ cls := "HeavierServes", name := "count", desc := "(I)I" } : Jvm.MethodName) prog_1_method_81_code (2 : Nat) (Option.some Jvm.ClassFile.FieldType.int)) ∈ lw_all := lw_g (lw_at lw_m6 25 rfl) rfl
theorem q1300 : (Jvm.Cond.methodLink "HeavierServes" (526 : Nat) ({ cls := "HeavierServes$Time", name := "holding", desc := "()I" } : Jvm.MethodName)) ∈ lw_all := lw_g (lw_at lw_m6 26 rfl) rfl
theorem q1306 : (Jvm.Cond.instanceMethod ({ cls := "HeavierServes", name := "of", desc := "(II)I" } : Jvm.MethodName)) ∈ lw_all := lw_g (lw_at lw_m6 32 rfl) rfl
theorem q1307 : (Jvm.Cond.selects "HeavierServes" ({ cls := "HeavierServes", name := "of", desc := "(II)I" } : Jvm.MethodName) ({ cls := "HeavierServes", name := "of", desc := "(II)I" } : Jvm.MethodName)) ∈ lw_all := lw_g (lw_at lw_m6 33 rfl) rfl
theorem q1308 : (Jvm.Cond.code ({ cls := "HeavierServes", name := "of", desc := "(II)I" } : Jvm.MethodName) prog_1_method_16_code (3 : Nat) (Option.some Jvm.ClassFile.FieldType.int)) ∈ lw_all := lw_g (lw_at lw_m6 34 rfl) rfl
theorem q1309 : (Jvm.Cond.classLink "HeavierServes" (281 : Nat) "java/util/NoSuchElementException") ∈ lw_all := lw_g (lw_at lw_m6 35 rfl) rfl
theorem q1318 : (Jvm.Cond.methodLink "HeavierServes" (283 : Nat) ({ cls := "java/util/NoSuchElementException", name := "<init>", desc := "()V" } : Jvm.MethodName)) ∈ lw_all := lw_g (lw_at lw_m6 44 rfl) rfl
theorem q1331 : (Jvm.Cond.instanceMethod ({ cls := "HeavierServes", name := "change", desc := "(II)I" } : Jvm.MethodName)) ∈ lw_all := lw_g (lw_at lw_m6 57 rfl) rfl
theorem q1332 : (Jvm.Cond.selects "HeavierServes" ({ cls := "HeavierServes", name := "change", desc := "(II)I" } : Jvm.MethodName) ({ cls := "HeavierServes", name := "change", desc := "(II)I" } : Jvm.MethodName)) ∈ lw_all := lw_g (lw_at lw_m6 58 rfl) rfl
theorem q1333 : (Jvm.Cond.code ({ cls := "HeavierServes", name := "change", desc := "(II)I" } : Jvm.MethodName) prog_1_method_17_code (3 : Nat) (Option.some Jvm.ClassFile.FieldType.int)) ∈ lw_all := lw_g (lw_at lw_m6 59 rfl) rfl
theorem q1338 : (Jvm.Cond.instanceMethod ({ cls := "HeavierServes", name := "laws", desc := "(II)I" } : Jvm.MethodName)) ∈ lw_all := lw_g (lw_at lw_m6 64 rfl) rfl
theorem q1339 : (Jvm.Cond.selects "HeavierServes" ({ cls := "HeavierServes", name := "laws", desc := "(II)I" } : Jvm.MethodName) ({ cls := "HeavierServes", name := "laws", desc := "(II)I" } : Jvm.MethodName)) ∈ lw_all := lw_g (lw_at lw_m6 65 rfl) rfl
theorem q1340 : (Jvm.Cond.code ({ cls := "HeavierServes", name := "laws", desc := "(II)I" } : Jvm.MethodName) prog_1_method_33_code (3 : Nat) (Option.some Jvm.ClassFile.FieldType.int)) ∈ lw_all := lw_g (lw_at lw_m6 66 rfl) rfl
theorem q1341 : (Jvm.Cond.methodLink "HeavierServes" (400 : Nat) ({ cls := "HeavierServes$Time", name := "holds", desc := "(I)Z" } : Jvm.MethodName)) ∈ lw_all := lw_g (lw_at lw_m6 67 rfl) rfl
theorem q1346 : (Jvm.Cond.instanceMethod ({ cls := "HeavierServes", name := "fool", desc := "(II)I" } : Jvm.MethodName)) ∈ lw_all := lw_g (lw_at lw_m6 72 rfl) rfl
theorem q1347 : (Jvm.Cond.selects "HeavierServes" ({ cls := "HeavierServes", name := "fool", desc := "(II)I" } : Jvm.MethodName) ({ cls := "HeavierServes", name := "fool", desc := "(II)I" } : Jvm.MethodName)) ∈ lw_all := lw_g (lw_at lw_m6 73 rfl) rfl
theorem q1348 : (Jvm.Cond.code ({ cls := "HeavierServes", name := "fool", desc := "(II)I" } : Jvm.MethodName) prog_1_method_51_code (5 : Nat) (Option.some Jvm.ClassFile.FieldType.int)) ∈ lw_all := lw_g (lw_at lw_m6 74 rfl) rfl
theorem q1353 : (Jvm.Cond.instanceMethod ({ cls := "HeavierServes", name := "row", desc := "(I)J" } : Jvm.MethodName)) ∈ lw_all := lw_g (lw_at lw_m6 79 rfl) rfl
theorem q1354 : (Jvm.Cond.selects "HeavierServes" ({ cls := "HeavierServes", name := "row", desc := "(I)J" } : Jvm.MethodName) ({ cls := "HeavierServes", name := "row", desc := "(I)J" } : Jvm.MethodName)) ∈ lw_all := lw_g (lw_at lw_m6 80 rfl) rfl
theorem q1355 : (Jvm.Cond.code ({ cls := "HeavierServes", name := "row", desc := "(I)J" } : Jvm.MethodName) prog_1_method_82_code (2 : Nat) (Option.some Jvm.ClassFile.FieldType.long)) ∈ lw_all := lw_g (lw_at lw_m6 81 rfl) rfl
theorem q1948 : (Jvm.Cond.castable "HeavierServes" "java/lang/Object") ∈ lw_tbl := lw_at lw_m8 194 rfl
theorem in_X1 : ∀ w ∈ wsX10, w ∈ lw_all := lw_in wsX10 [425, 427, 429, 431, 433, 435, 437, 439, 441, 443, 445, 447, 449, 451, 453, 455, 457, 459, 461, 463, 465, 467, 469, 471, 473, 475, 477, 479, 481, 483, 485, 487, 489, 491, 493, 495, 497, 499, 501, 503] (by decide +kernel) (by decide +kernel)
def RX2 : String := "HeavierServes$Time"
def TX2 : u_T := fun k => match k with
  | 0 => ("HeavierServes$Time", "weights", "[I", true)
  | 1 => ("HeavierServes$Time", "served", "[I", true)
  | 2 => ("HeavierServes$Time", "maker", "[I", true)
  | 3 => ("HeavierServes$Time", "made", "[I", true)
  | 4 => ("HeavierServes$Time", "fell", "[I", true)
  | 5 => ("HeavierServes$Time", "known", "[I", true)
  | 6 => ("HeavierServes$Time", "alive", "I", false)
  | 7 => ("HeavierServes$Time", "server", "I", false)
  | 8 => ("HeavierServes$Time", "term", "I", false)
  | 9 => ("HeavierServes$Time", "week", "I", false)
  | _ => ("HeavierServes$Time", "laws", "I", false)
def tyX2 : Nat → FieldType := fun k => match k with
  | 0 => .array .int
  | 1 => .array .int
  | 2 => .array .int
  | 3 => .array .int
  | 4 => .array .int
  | 5 => .array .int
  | 6 => .int
  | 7 => .int
  | 8 => .int
  | 9 => .int
  | _ => .int
abbrev wsX20 : List Cond := u_ws RX2 TX2 11
theorem nmX2 : ∀ a, a < 11 → ∀ b, b < 11 → a ≠ b → (TX2 a).2.1 ≠ (TX2 b).2.1 := by decide +kernel
theorem tyX2_ok : ∀ k, k < 11 → parseFieldDescriptor (TX2 k).2.2.1 = some (tyX2 k) := by decide +kernel
abbrev cX2_init : ByteArray := prog_14_method_1_code
def yX2_init : MethodName := ⟨RX2, "<init>", "()V"⟩
abbrev cX2_holding : ByteArray := prog_14_method_4_code
def yX2_holding : MethodName := ⟨RX2, "holding", "()I"⟩
abbrev cX2_holds : ByteArray := prog_14_method_3_code
def yX2_holds : MethodName := ⟨RX2, "holds", "(I)Z"⟩
abbrev cX2_be : ByteArray := prog_14_method_2_code
def yX2_be : MethodName := ⟨RX2, "be", "(LHeavierServes$Time;)V"⟩
abbrev cX2_fall : ByteArray := prog_14_method_5_code
def yX2_fall : MethodName := ⟨RX2, "fall", "(I)I"⟩
theorem q76 : (Jvm.Cond.initialized "HeavierServes$Time") ∈ lw_all := lw_g (lw_at lw_m1 2 rfl) rfl
theorem q118 : (Jvm.Cond.instantiable "HeavierServes$Time" (11 : Nat)) ∈ lw_all := lw_g (lw_at lw_m1 44 rfl) rfl
theorem q120 : (Jvm.Cond.instanceMethod ({ cls := "HeavierServes$Time", name := "<init>", desc := "()V" } : Jvm.MethodName)) ∈ lw_all := lw_g (lw_at lw_m1 46 rfl) rfl
theorem q121 : (Jvm.Cond.code ({ cls := "HeavierServes$Time", name := "<init>", desc := "()V" } : Jvm.MethodName) prog_14_method_1_code (1 : Nat) (Option.none : Option Jvm.ClassFile.FieldType)) ∈ lw_all := lw_g (lw_at lw_m1 47 rfl) rfl
theorem q122 : (Jvm.Cond.methodLink "HeavierServes$Time" (3 : Nat) ({ cls := "java/lang/Object", name := "<init>", desc := "()V" } : Jvm.MethodName)) ∈ lw_all := lw_g (lw_at lw_m1 48 rfl) rfl
theorem q123 : (Jvm.Cond.fieldLink "HeavierServes$Time" (9 : Nat) "HeavierServes$Time" "weights" "[I") ∈ lw_all := lw_g (lw_at lw_m1 49 rfl) rfl
theorem q126 : (Jvm.Cond.fieldLink "HeavierServes$Time" (15 : Nat) "HeavierServes$Time" "served" "[I") ∈ lw_all := lw_g (lw_at lw_m1 52 rfl) rfl
theorem q129 : (Jvm.Cond.fieldLink "HeavierServes$Time" (18 : Nat) "HeavierServes$Time" "maker" "[I") ∈ lw_all := lw_g (lw_at lw_m1 55 rfl) rfl
theorem q131 : (Jvm.Cond.fieldLink "HeavierServes$Time" (21 : Nat) "HeavierServes$Time" "made" "[I") ∈ lw_all := lw_g (lw_at lw_m1 57 rfl) rfl
theorem q133 : (Jvm.Cond.fieldLink "HeavierServes$Time" (24 : Nat) "HeavierServes$Time" "fell" "[I") ∈ lw_all := lw_g (lw_at lw_m1 59 rfl) rfl
theorem q135 : (Jvm.Cond.fieldLink "HeavierServes$Time" (27 : Nat) "HeavierServes$Time" "known" "[I") ∈ lw_all := lw_g (lw_at lw_m1 61 rfl) rfl
theorem q137 : (Jvm.Cond.fieldLink "HeavierServes$Time" (40 : Nat) "HeavierServes$Time" "alive" "I") ∈ lw_all := lw_g (lw_at lw_m1 63 rfl) rfl
theorem q140 : (Jvm.Cond.fieldLink "HeavierServes$Time" (30 : Nat) "HeavierServes$Time" "server" "I") ∈ lw_all := lw_g (lw_at lw_m1 66 rfl) rfl
theorem q147 : (Jvm.Cond.fieldLink "HeavierServes$Time" (43 : Nat) "HeavierServes$Time" "term" "I") ∈ lw_all := lw_g (lw_at lw_m1 73 rfl) rfl
theorem q152 : (Jvm.Cond.fieldLink "HeavierServes$Time" (46 : Nat) "HeavierServes$Time" "week" "I") ∈ lw_all := lw_g (lw_at lw_m1 78 rfl) rfl
theorem q156 : (Jvm.Cond.fieldLink "HeavierServes$Time" (49 : Nat) "HeavierServes$Time" "laws" "I") ∈ lw_all := lw_g (lw_at lw_m1 82 rfl) rfl
theorem q158 : (Jvm.Cond.laysFinal "HeavierServes$Time" "HeavierServes$Time" "weights" "[I") ∈ lw_all := lw_g (lw_at lw_m1 84 rfl) rfl
theorem q159 : (Jvm.Cond.soleField "HeavierServes$Time" "weights") ∈ lw_all := lw_g (lw_at lw_m1 85 rfl) rfl
theorem q160 : (Jvm.Cond.laysFinal "HeavierServes$Time" "HeavierServes$Time" "served" "[I") ∈ lw_all := lw_g (lw_at lw_m1 86 rfl) rfl
theorem q161 : (Jvm.Cond.soleField "HeavierServes$Time" "served") ∈ lw_all := lw_g (lw_at lw_m1 87 rfl) rfl
theorem q162 : (Jvm.Cond.laysFinal "HeavierServes$Time" "HeavierServes$Time" "maker" "[I") ∈ lw_all := lw_g (lw_at lw_m1 88 rfl) rfl
theorem q163 : (Jvm.Cond.soleField "HeavierServes$Time" "maker") ∈ lw_all := lw_g (lw_at lw_m1 89 rfl) rfl
theorem q164 : (Jvm.Cond.laysFinal "HeavierServes$Time" "HeavierServes$Time" "made" "[I") ∈ lw_all := lw_g (lw_at lw_m1 90 rfl) rfl
theorem q165 : (Jvm.Cond.soleField "HeavierServes$Time" "made") ∈ lw_all := lw_g (lw_at lw_m1 91 rfl) rfl
theorem q166 : (Jvm.Cond.laysFinal "HeavierServes$Time" "HeavierServes$Time" "fell" "[I") ∈ lw_all := lw_g (lw_at lw_m1 92 rfl) rfl
theorem q167 : (Jvm.Cond.soleField "HeavierServes$Time" "fell") ∈ lw_all := lw_g (lw_at lw_m1 93 rfl) rfl
theorem q168 : (Jvm.Cond.laysFinal "HeavierServes$Time" "HeavierServes$Time" "known" "[I") ∈ lw_all := lw_g (lw_at lw_m1 94 rfl) rfl
theorem q169 : (Jvm.Cond.soleField "HeavierServes$Time" "known") ∈ lw_all := lw_g (lw_at lw_m1 95 rfl) rfl
theorem q170 : (Jvm.Cond.lays "HeavierServes$Time" "HeavierServes$Time" "alive" "I") ∈ lw_all := lw_g (lw_at lw_m1 96 rfl) rfl
theorem q171 : (Jvm.Cond.soleField "HeavierServes$Time" "alive") ∈ lw_all := lw_g (lw_at lw_m1 97 rfl) rfl
theorem q172 : (Jvm.Cond.lays "HeavierServes$Time" "HeavierServes$Time" "server" "I") ∈ lw_all := lw_g (lw_at lw_m1 98 rfl) rfl
theorem q173 : (Jvm.Cond.soleField "HeavierServes$Time" "server") ∈ lw_all := lw_g (lw_at lw_m1 99 rfl) rfl
theorem q174 : (Jvm.Cond.lays "HeavierServes$Time" "HeavierServes$Time" "term" "I") ∈ lw_all := lw_g (lw_at lw_m1 100 rfl) rfl
theorem q175 : (Jvm.Cond.soleField "HeavierServes$Time" "term") ∈ lw_all := lw_g (lw_at lw_m1 101 rfl) rfl
theorem q176 : (Jvm.Cond.lays "HeavierServes$Time" "HeavierServes$Time" "week" "I") ∈ lw_all := lw_g (lw_at lw_m1 102 rfl) rfl
theorem q177 : (Jvm.Cond.soleField "HeavierServes$Time" "week") ∈ lw_all := lw_g (lw_at lw_m1 103 rfl) rfl
theorem q178 : (Jvm.Cond.lays "HeavierServes$Time" "HeavierServes$Time" "laws" "I") ∈ lw_all := lw_g (lw_at lw_m1 104 rfl) rfl
theorem q179 : (Jvm.Cond.soleField "HeavierServes$Time" "laws") ∈ lw_all := lw_g (lw_at lw_m1 105 rfl) rfl
theorem q180 : (Jvm.Cond.superclass "HeavierServes$Time" "java/lang/Object") ∈ lw_all := lw_g (lw_at lw_m1 106 rfl) rfl
theorem q827 : (Jvm.Cond.instanceMethod ({ cls := "HeavierServes$Time", name := "holding", desc := "()I" } : Jvm.MethodName)) ∈ lw_all := lw_g (lw_at lw_m4 33 rfl) rfl
theorem q828 : (Jvm.Cond.selects "HeavierServes$Time" ({ cls := "HeavierServes$Time", name := "holding", desc := "()I" } : Jvm.MethodName) ({ cls := "HeavierServes$Time", name := "holding", desc := "()I" } : Jvm.MethodName)) ∈ lw_all := lw_g (lw_at lw_m4 34 rfl) rfl
theorem q829 : (Jvm.Cond.code ({ cls := "HeavierServes$Time", name := "holding", desc := "()I" } : Jvm.MethodName) prog_14_method_4_code (3 : Nat) (Option.some Jvm.ClassFile.FieldType.int)) ∈ lw_all := lw_g (lw_at lw_m4 35 rfl) rfl
theorem q830 : (Jvm.Cond.methodLink "HeavierServes$Time" (52 : Nat) ({ cls := "HeavierServes$Time", name := "holds", desc := "(I)Z" } : Jvm.MethodName)) ∈ lw_all := lw_g (lw_at lw_m4 36 rfl) rfl
theorem q831 : (Jvm.Cond.instanceMethod ({ cls := "HeavierServes$Time", name := "holds", desc := "(I)Z" } : Jvm.MethodName)) ∈ lw_all := lw_g (lw_at lw_m4 37 rfl) rfl
theorem q832 : (Jvm.Cond.selects "HeavierServes$Time" ({ cls := "HeavierServes$Time", name := "holds", desc := "(I)Z" } : Jvm.MethodName) ({ cls := "HeavierServes$Time", name := "holds", desc := "(I)Z" } : Jvm.MethodName)) ∈ lw_all := lw_g (lw_at lw_m4 38 rfl) rfl
theorem q833 : (Jvm.Cond.code ({ cls := "HeavierServes$Time", name := "holds", desc := "(I)Z" } : Jvm.MethodName) prog_14_method_3_code (2 : Nat) (Option.some Jvm.ClassFile.FieldType.boolean)) ∈ lw_all := lw_g (lw_at lw_m4 39 rfl) rfl
theorem q918 : (Jvm.Cond.instanceMethod ({ cls := "HeavierServes$Time", name := "be", desc := "(LHeavierServes$Time;)V" } : Jvm.MethodName)) ∈ lw_all := lw_g (lw_at lw_m4 124 rfl) rfl
theorem q919 : (Jvm.Cond.selects "HeavierServes$Time" ({ cls := "HeavierServes$Time", name := "be", desc := "(LHeavierServes$Time;)V" } : Jvm.MethodName) ({ cls := "HeavierServes$Time", name := "be", desc := "(LHeavierServes$Time;)V" } : Jvm.MethodName)) ∈ lw_all := lw_g (lw_at lw_m4 125 rfl) rfl
theorem q920 : (Jvm.Cond.code ({ cls := "HeavierServes$Time", name := "be", desc := "(LHeavierServes$Time;)V" } : Jvm.MethodName) prog_14_method_2_code (2 : Nat) (Option.none : Option Jvm.ClassFile.FieldType)) ∈ lw_all := lw_g (lw_at lw_m4 126 rfl) rfl
theorem q921 : (Jvm.Cond.methodLink "HeavierServes$Time" (34 : Nat) ({ cls := "java/lang/System", name := "arraycopy", desc := "(Ljava/lang/Object;ILjava/lang/Object;II)V" } : Jvm.MethodName)) ∈ lw_all := lw_g (lw_at lw_m4 127 rfl) rfl
theorem q1006 : (Jvm.Cond.instanceMethod ({ cls := "HeavierServes$Time", name := "fall", desc := "(I)I" } : Jvm.MethodName)) ∈ lw_all := lw_g (lw_at lw_m4 212 rfl) rfl
theorem q1007 : (Jvm.Cond.selects "HeavierServes$Time" ({ cls := "HeavierServes$Time", name := "fall", desc := "(I)I" } : Jvm.MethodName) ({ cls := "HeavierServes$Time", name := "fall", desc := "(I)I" } : Jvm.MethodName)) ∈ lw_all := lw_g (lw_at lw_m4 213 rfl) rfl
theorem q1008 : (Jvm.Cond.code ({ cls := "HeavierServes$Time", name := "fall", desc := "(I)I" } : Jvm.MethodName) prog_14_method_5_code (4 : Nat) (Option.some Jvm.ClassFile.FieldType.int)) ∈ lw_all := lw_g (lw_at lw_m4 214 rfl) rfl
theorem q1949 : (Jvm.Cond.castable "HeavierServes$Time" "java/lang/Object") ∈ lw_tbl := lw_at lw_m8 195 rfl
theorem in_X2 : ∀ w ∈ wsX20, w ∈ lw_all := lw_in wsX20 [158, 160, 162, 164, 166, 168, 170, 172, 174, 176, 178] (by decide +kernel) (by decide +kernel)
def RX3 : String := "HeavierServes$One"
def TX3 : u_T := fun k => match k with
  | 0 => ("HeavierServes$One", "party", "I", false)
  | 1 => ("HeavierServes$One", "ill", "I", false)
  | 2 => ("HeavierServes$One", "changes", "I", false)
  | _ => ("HeavierServes$One", "habit", "[I", true)
def tyX3 : Nat → FieldType := fun k => match k with
  | 0 => .int
  | 1 => .int
  | 2 => .int
  | _ => .array .int
abbrev wsX30 : List Cond := u_ws RX3 TX3 4
theorem nmX3 : ∀ a, a < 4 → ∀ b, b < 4 → a ≠ b → (TX3 a).2.1 ≠ (TX3 b).2.1 := by decide +kernel
theorem tyX3_ok : ∀ k, k < 4 → parseFieldDescriptor (TX3 k).2.2.1 = some (tyX3 k) := by decide +kernel
abbrev cX3_init : ByteArray := prog_9_method_1_code
def yX3_init : MethodName := ⟨RX3, "<init>", "()V"⟩
abbrev cX3_be : ByteArray := prog_9_method_2_code
def yX3_be : MethodName := ⟨RX3, "be", "(LHeavierServes$One;)V"⟩
theorem q77 : (Jvm.Cond.initialized "HeavierServes$One") ∈ lw_all := lw_g (lw_at lw_m1 3 rfl) rfl
theorem q183 : (Jvm.Cond.instantiable "HeavierServes$One" (4 : Nat)) ∈ lw_all := lw_g (lw_at lw_m1 109 rfl) rfl
theorem q185 : (Jvm.Cond.instanceMethod ({ cls := "HeavierServes$One", name := "<init>", desc := "()V" } : Jvm.MethodName)) ∈ lw_all := lw_g (lw_at lw_m1 111 rfl) rfl
theorem q186 : (Jvm.Cond.code ({ cls := "HeavierServes$One", name := "<init>", desc := "()V" } : Jvm.MethodName) prog_9_method_1_code (1 : Nat) (Option.none : Option Jvm.ClassFile.FieldType)) ∈ lw_all := lw_g (lw_at lw_m1 112 rfl) rfl
theorem q187 : (Jvm.Cond.methodLink "HeavierServes$One" (3 : Nat) ({ cls := "java/lang/Object", name := "<init>", desc := "()V" } : Jvm.MethodName)) ∈ lw_all := lw_g (lw_at lw_m1 113 rfl) rfl
theorem q188 : (Jvm.Cond.fieldLink "HeavierServes$One" (15 : Nat) "HeavierServes$One" "party" "I") ∈ lw_all := lw_g (lw_at lw_m1 114 rfl) rfl
theorem q192 : (Jvm.Cond.fieldLink "HeavierServes$One" (19 : Nat) "HeavierServes$One" "ill" "I") ∈ lw_all := lw_g (lw_at lw_m1 118 rfl) rfl
theorem q194 : (Jvm.Cond.fieldLink "HeavierServes$One" (22 : Nat) "HeavierServes$One" "changes" "I") ∈ lw_all := lw_g (lw_at lw_m1 120 rfl) rfl
theorem q197 : (Jvm.Cond.fieldLink "HeavierServes$One" (9 : Nat) "HeavierServes$One" "habit" "[I") ∈ lw_all := lw_g (lw_at lw_m1 123 rfl) rfl
theorem q200 : (Jvm.Cond.lays "HeavierServes$One" "HeavierServes$One" "party" "I") ∈ lw_all := lw_g (lw_at lw_m1 126 rfl) rfl
theorem q201 : (Jvm.Cond.soleField "HeavierServes$One" "party") ∈ lw_all := lw_g (lw_at lw_m1 127 rfl) rfl
theorem q202 : (Jvm.Cond.lays "HeavierServes$One" "HeavierServes$One" "ill" "I") ∈ lw_all := lw_g (lw_at lw_m1 128 rfl) rfl
theorem q203 : (Jvm.Cond.soleField "HeavierServes$One" "ill") ∈ lw_all := lw_g (lw_at lw_m1 129 rfl) rfl
theorem q204 : (Jvm.Cond.lays "HeavierServes$One" "HeavierServes$One" "changes" "I") ∈ lw_all := lw_g (lw_at lw_m1 130 rfl) rfl
theorem q205 : (Jvm.Cond.soleField "HeavierServes$One" "changes") ∈ lw_all := lw_g (lw_at lw_m1 131 rfl) rfl
theorem q206 : (Jvm.Cond.laysFinal "HeavierServes$One" "HeavierServes$One" "habit" "[I") ∈ lw_all := lw_g (lw_at lw_m1 132 rfl) rfl
theorem q207 : (Jvm.Cond.soleField "HeavierServes$One" "habit") ∈ lw_all := lw_g (lw_at lw_m1 133 rfl) rfl
theorem q208 : (Jvm.Cond.superclass "HeavierServes$One" "java/lang/Object") ∈ lw_all := lw_g (lw_at lw_m1 134 rfl) rfl
theorem q661 : (Jvm.Cond.instanceMethod ({ cls := "HeavierServes$One", name := "be", desc := "(LHeavierServes$One;)V" } : Jvm.MethodName)) ∈ lw_all := lw_g (lw_at lw_m3 107 rfl) rfl
theorem q662 : (Jvm.Cond.selects "HeavierServes$One" ({ cls := "HeavierServes$One", name := "be", desc := "(LHeavierServes$One;)V" } : Jvm.MethodName) ({ cls := "HeavierServes$One", name := "be", desc := "(LHeavierServes$One;)V" } : Jvm.MethodName)) ∈ lw_all := lw_g (lw_at lw_m3 108 rfl) rfl
theorem q663 : (Jvm.Cond.code ({ cls := "HeavierServes$One", name := "be", desc := "(LHeavierServes$One;)V" } : Jvm.MethodName) prog_9_method_2_code (2 : Nat) (Option.none : Option Jvm.ClassFile.FieldType)) ∈ lw_all := lw_g (lw_at lw_m3 109 rfl) rfl
theorem q664 : (Jvm.Cond.methodLink "HeavierServes$One" (25 : Nat) ({ cls := "java/lang/System", name := "arraycopy", desc := "(Ljava/lang/Object;ILjava/lang/Object;II)V" } : Jvm.MethodName)) ∈ lw_all := lw_g (lw_at lw_m3 110 rfl) rfl
theorem q1950 : (Jvm.Cond.castable "HeavierServes$One" "java/lang/Object") ∈ lw_tbl := lw_at lw_m8 196 rfl
theorem in_X3 : ∀ w ∈ wsX30, w ∈ lw_all := lw_in wsX30 [200, 202, 204, 206] (by decide +kernel) (by decide +kernel)
def RX4 : String := "HeavierServes$ByWill"
def TX4 : u_T := fun k => match k with
  | _ => ("HeavierServes$ByWill", "this$0", "LHeavierServes;", true)
def tyX4 : Nat → FieldType := fun k => match k with
  | _ => .object "HeavierServes"
abbrev wsX40 : List Cond := u_ws RX4 TX4 1
theorem nmX4 : ∀ a, a < 1 → ∀ b, b < 1 → a ≠ b → (TX4 a).2.1 ≠ (TX4 b).2.1 := by decide +kernel
theorem tyX4_ok : ∀ k, k < 1 → parseFieldDescriptor (TX4 k).2.2.1 = some (tyX4 k) := by decide +kernel
abbrev cX4_init : ByteArray := prog_3_method_1_code
def yX4_init : MethodName := ⟨RX4, "<init>", "(LHeavierServes;)V"⟩
abbrev cX4_stands : ByteArray := prog_3_method_2_code
def yX4_stands : MethodName := ⟨RX4, "stands", "(LHeavierServes$Time;I)Z"⟩
theorem q78 : (Jvm.Cond.initialized "HeavierServes$ByWill") ∈ lw_all := lw_g (lw_at lw_m1 4 rfl) rfl
theorem q212 : (Jvm.Cond.instantiable "HeavierServes$ByWill" (1 : Nat)) ∈ lw_all := lw_g (lw_at lw_m1 138 rfl) rfl
theorem q214 : (Jvm.Cond.instanceMethod ({ cls := "HeavierServes$ByWill", name := "<init>", desc := "(LHeavierServes;)V" } : Jvm.MethodName)) ∈ lw_all := lw_g (lw_at lw_m1 140 rfl) rfl
theorem q215 : (Jvm.Cond.code ({ cls := "HeavierServes$ByWill", name := "<init>", desc := "(LHeavierServes;)V" } : Jvm.MethodName) prog_3_method_1_code (2 : Nat) (Option.none : Option Jvm.ClassFile.FieldType)) ∈ lw_all := lw_g (lw_at lw_m1 141 rfl) rfl
theorem q216 : (Jvm.Cond.methodLink "HeavierServes$ByWill" (7 : Nat) ({ cls := "java/lang/Object", name := "<init>", desc := "()V" } : Jvm.MethodName)) ∈ lw_all := lw_g (lw_at lw_m1 142 rfl) rfl
theorem q217 : (Jvm.Cond.fieldLink "HeavierServes$ByWill" (1 : Nat) "HeavierServes$ByWill" "this$0" "LHeavierServes;") ∈ lw_all := lw_g (lw_at lw_m1 143 rfl) rfl
theorem q218 : (Jvm.Cond.laysFinal "HeavierServes$ByWill" "HeavierServes$ByWill" "this$0" "LHeavierServes;") ∈ lw_all := lw_g (lw_at lw_m1 144 rfl) rfl
theorem q219 : (Jvm.Cond.soleField "HeavierServes$ByWill" "this$0") ∈ lw_all := lw_g (lw_at lw_m1 145 rfl) rfl
theorem q220 : (Jvm.Cond.superclass "HeavierServes$ByWill" "java/lang/Object") ∈ lw_all := lw_g (lw_at lw_m1 146 rfl) rfl
theorem q944 : (Jvm.Cond.castable "HeavierServes$ByWill" "HeavierServes$Chooser") ∈ lw_tbl := lw_at lw_m4 150 rfl
theorem q945 : (Jvm.Cond.selects "HeavierServes$ByWill" ({ cls := "HeavierServes$Chooser", name := "stands", desc := "(LHeavierServes$Time;I)Z" } : Jvm.MethodName) ({ cls := "HeavierServes$ByWill", name := "stands", desc := "(LHeavierServes$Time;I)Z" } : Jvm.MethodName)) ∈ lw_all := lw_g (lw_at lw_m4 151 rfl) rfl
theorem q946 : (Jvm.Cond.unhidden "HeavierServes$ByWill" "stands" "(LHeavierServes$Time;I)Z") ∈ lw_tbl := lw_at lw_m4 152 rfl
theorem q947 : (Jvm.Cond.instanceMethod ({ cls := "HeavierServes$ByWill", name := "stands", desc := "(LHeavierServes$Time;I)Z" } : Jvm.MethodName)) ∈ lw_all := lw_g (lw_at lw_m4 153 rfl) rfl
theorem q948 : (Jvm.Cond.publicMethod ({ cls := "HeavierServes$ByWill", name := "stands", desc := "(LHeavierServes$Time;I)Z" } : Jvm.MethodName)) ∈ lw_tbl := lw_at lw_m4 154 rfl
theorem q949 : (Jvm.Cond.code ({ cls := "HeavierServes$ByWill", name := "stands", desc := "(LHeavierServes$Time;I)Z" } : Jvm.MethodName) prog_3_method_2_code (3 : Nat) (Option.some Jvm.ClassFile.FieldType.boolean)) ∈ lw_all := lw_g (lw_at lw_m4 155 rfl) rfl
theorem q950 : (Jvm.Cond.methodLinkNest "HeavierServes$ByWill" (13 : Nat) ({ cls := "HeavierServes", name := "willOf", desc := "(LHeavierServes$Time;I)I" } : Jvm.MethodName) "HeavierServes") ∈ lw_tbl := lw_at lw_m4 156 rfl
theorem q1945 : (Jvm.Cond.selects "HeavierServes$ByWill" ({ cls := "HeavierServes$ByWill", name := "stands", desc := "(LHeavierServes$Time;I)Z" } : Jvm.MethodName) ({ cls := "HeavierServes$ByWill", name := "stands", desc := "(LHeavierServes$Time;I)Z" } : Jvm.MethodName)) ∈ lw_all := lw_g (lw_at lw_m8 191 rfl) rfl
theorem q1951 : (Jvm.Cond.castable "HeavierServes$ByWill" "java/lang/Object") ∈ lw_tbl := lw_at lw_m8 197 rfl
theorem in_X4 : ∀ w ∈ wsX40, w ∈ lw_all := lw_in wsX40 [218] (by decide +kernel) (by decide +kernel)
def RX5 : String := "HeavierServes$Told"
def TX5 : u_T := fun k => match k with
  | _ => ("HeavierServes$Told", "those", "I", false)
def tyX5 : Nat → FieldType := fun k => match k with
  | _ => .int
abbrev wsX50 : List Cond := u_ws RX5 TX5 1
theorem nmX5 : ∀ a, a < 1 → ∀ b, b < 1 → a ≠ b → (TX5 a).2.1 ≠ (TX5 b).2.1 := by decide +kernel
theorem tyX5_ok : ∀ k, k < 1 → parseFieldDescriptor (TX5 k).2.2.1 = some (tyX5 k) := by decide +kernel
abbrev cX5_init : ByteArray := prog_15_method_1_code
def yX5_init : MethodName := ⟨RX5, "<init>", "()V"⟩
abbrev cX5_stands : ByteArray := prog_15_method_2_code
def yX5_stands : MethodName := ⟨RX5, "stands", "(LHeavierServes$Time;I)Z"⟩
theorem q79 : (Jvm.Cond.initialized "HeavierServes$Told") ∈ lw_all := lw_g (lw_at lw_m1 5 rfl) rfl
theorem q222 : (Jvm.Cond.instantiable "HeavierServes$Told" (1 : Nat)) ∈ lw_all := lw_g (lw_at lw_m1 148 rfl) rfl
theorem q224 : (Jvm.Cond.instanceMethod ({ cls := "HeavierServes$Told", name := "<init>", desc := "()V" } : Jvm.MethodName)) ∈ lw_all := lw_g (lw_at lw_m1 150 rfl) rfl
theorem q225 : (Jvm.Cond.code ({ cls := "HeavierServes$Told", name := "<init>", desc := "()V" } : Jvm.MethodName) prog_15_method_1_code (1 : Nat) (Option.none : Option Jvm.ClassFile.FieldType)) ∈ lw_all := lw_g (lw_at lw_m1 151 rfl) rfl
theorem q226 : (Jvm.Cond.methodLink "HeavierServes$Told" (1 : Nat) ({ cls := "java/lang/Object", name := "<init>", desc := "()V" } : Jvm.MethodName)) ∈ lw_all := lw_g (lw_at lw_m1 152 rfl) rfl
theorem q227 : (Jvm.Cond.fieldLink "HeavierServes$Told" (7 : Nat) "HeavierServes$Told" "those" "I") ∈ lw_all := lw_g (lw_at lw_m1 153 rfl) rfl
theorem q230 : (Jvm.Cond.lays "HeavierServes$Told" "HeavierServes$Told" "those" "I") ∈ lw_all := lw_g (lw_at lw_m1 156 rfl) rfl
theorem q231 : (Jvm.Cond.soleField "HeavierServes$Told" "those") ∈ lw_all := lw_g (lw_at lw_m1 157 rfl) rfl
theorem q232 : (Jvm.Cond.superclass "HeavierServes$Told" "java/lang/Object") ∈ lw_all := lw_g (lw_at lw_m1 158 rfl) rfl
theorem q983 : (Jvm.Cond.castable "HeavierServes$Told" "HeavierServes$Chooser") ∈ lw_tbl := lw_at lw_m4 189 rfl
theorem q984 : (Jvm.Cond.selects "HeavierServes$Told" ({ cls := "HeavierServes$Chooser", name := "stands", desc := "(LHeavierServes$Time;I)Z" } : Jvm.MethodName) ({ cls := "HeavierServes$Told", name := "stands", desc := "(LHeavierServes$Time;I)Z" } : Jvm.MethodName)) ∈ lw_all := lw_g (lw_at lw_m4 190 rfl) rfl
theorem q985 : (Jvm.Cond.unhidden "HeavierServes$Told" "stands" "(LHeavierServes$Time;I)Z") ∈ lw_tbl := lw_at lw_m4 191 rfl
theorem q986 : (Jvm.Cond.instanceMethod ({ cls := "HeavierServes$Told", name := "stands", desc := "(LHeavierServes$Time;I)Z" } : Jvm.MethodName)) ∈ lw_all := lw_g (lw_at lw_m4 192 rfl) rfl
theorem q987 : (Jvm.Cond.publicMethod ({ cls := "HeavierServes$Told", name := "stands", desc := "(LHeavierServes$Time;I)Z" } : Jvm.MethodName)) ∈ lw_tbl := lw_at lw_m4 193 rfl
theorem q988 : (Jvm.Cond.code ({ cls := "HeavierServes$Told", name := "stands", desc := "(LHeavierServes$Time;I)Z" } : Jvm.MethodName) prog_15_method_2_code (3 : Nat) (Option.some Jvm.ClassFile.FieldType.boolean)) ∈ lw_all := lw_g (lw_at lw_m4 194 rfl) rfl
theorem q989 : (Jvm.Cond.methodLinkNest "HeavierServes$Told" (13 : Nat) ({ cls := "HeavierServes", name := "has", desc := "(II)Z" } : Jvm.MethodName) "HeavierServes") ∈ lw_tbl := lw_at lw_m4 195 rfl
theorem q1952 : (Jvm.Cond.castable "HeavierServes$Told" "java/lang/Object") ∈ lw_tbl := lw_at lw_m8 198 rfl
theorem in_X5 : ∀ w ∈ wsX50, w ∈ lw_all := lw_in wsX50 [230] (by decide +kernel) (by decide +kernel)
def RX6 : String := "HeavierServes$Planned"
def TX6 : u_T := fun k => match k with
  | 0 => ("HeavierServes$Planned", "who", "I", false)
  | 1 => ("HeavierServes$Planned", "plan", "I", false)
  | 2 => ("HeavierServes$Planned", "from", "I", false)
  | _ => ("HeavierServes$Planned", "this$0", "LHeavierServes;", true)
def tyX6 : Nat → FieldType := fun k => match k with
  | 0 => .int
  | 1 => .int
  | 2 => .int
  | _ => .object "HeavierServes"
abbrev wsX60 : List Cond := u_ws RX6 TX6 4
theorem nmX6 : ∀ a, a < 4 → ∀ b, b < 4 → a ≠ b → (TX6 a).2.1 ≠ (TX6 b).2.1 := by decide +kernel
theorem tyX6_ok : ∀ k, k < 4 → parseFieldDescriptor (TX6 k).2.2.1 = some (tyX6 k) := by decide +kernel
abbrev cX6_init : ByteArray := prog_10_method_1_code
def yX6_init : MethodName := ⟨RX6, "<init>", "(LHeavierServes;)V"⟩
abbrev cX6_stands : ByteArray := prog_10_method_2_code
def yX6_stands : MethodName := ⟨RX6, "stands", "(LHeavierServes$Time;I)Z"⟩
theorem q80 : (Jvm.Cond.initialized "HeavierServes$Planned") ∈ lw_all := lw_g (lw_at lw_m1 6 rfl) rfl
theorem q151 : (Jvm.Cond.fieldLink "HeavierServes$Planned" (20 : Nat) "HeavierServes$Time" "week" "I") ∈ lw_all := lw_g (lw_at lw_m1 77 rfl) rfl
theorem q234 : (Jvm.Cond.instantiable "HeavierServes$Planned" (4 : Nat)) ∈ lw_all := lw_g (lw_at lw_m1 160 rfl) rfl
theorem q236 : (Jvm.Cond.instanceMethod ({ cls := "HeavierServes$Planned", name := "<init>", desc := "(LHeavierServes;)V" } : Jvm.MethodName)) ∈ lw_all := lw_g (lw_at lw_m1 162 rfl) rfl
theorem q237 : (Jvm.Cond.code ({ cls := "HeavierServes$Planned", name := "<init>", desc := "(LHeavierServes;)V" } : Jvm.MethodName) prog_10_method_1_code (2 : Nat) (Option.none : Option Jvm.ClassFile.FieldType)) ∈ lw_all := lw_g (lw_at lw_m1 163 rfl) rfl
theorem q238 : (Jvm.Cond.methodLink "HeavierServes$Planned" (7 : Nat) ({ cls := "java/lang/Object", name := "<init>", desc := "()V" } : Jvm.MethodName)) ∈ lw_all := lw_g (lw_at lw_m1 164 rfl) rfl
theorem q239 : (Jvm.Cond.fieldLink "HeavierServes$Planned" (13 : Nat) "HeavierServes$Planned" "who" "I") ∈ lw_all := lw_g (lw_at lw_m1 165 rfl) rfl
theorem q241 : (Jvm.Cond.fieldLink "HeavierServes$Planned" (17 : Nat) "HeavierServes$Planned" "plan" "I") ∈ lw_all := lw_g (lw_at lw_m1 167 rfl) rfl
theorem q243 : (Jvm.Cond.fieldLink "HeavierServes$Planned" (25 : Nat) "HeavierServes$Planned" "from" "I") ∈ lw_all := lw_g (lw_at lw_m1 169 rfl) rfl
theorem q245 : (Jvm.Cond.fieldLink "HeavierServes$Planned" (1 : Nat) "HeavierServes$Planned" "this$0" "LHeavierServes;") ∈ lw_all := lw_g (lw_at lw_m1 171 rfl) rfl
theorem q246 : (Jvm.Cond.lays "HeavierServes$Planned" "HeavierServes$Planned" "who" "I") ∈ lw_all := lw_g (lw_at lw_m1 172 rfl) rfl
theorem q247 : (Jvm.Cond.soleField "HeavierServes$Planned" "who") ∈ lw_all := lw_g (lw_at lw_m1 173 rfl) rfl
theorem q248 : (Jvm.Cond.lays "HeavierServes$Planned" "HeavierServes$Planned" "plan" "I") ∈ lw_all := lw_g (lw_at lw_m1 174 rfl) rfl
theorem q249 : (Jvm.Cond.soleField "HeavierServes$Planned" "plan") ∈ lw_all := lw_g (lw_at lw_m1 175 rfl) rfl
theorem q250 : (Jvm.Cond.lays "HeavierServes$Planned" "HeavierServes$Planned" "from" "I") ∈ lw_all := lw_g (lw_at lw_m1 176 rfl) rfl
theorem q251 : (Jvm.Cond.soleField "HeavierServes$Planned" "from") ∈ lw_all := lw_g (lw_at lw_m1 177 rfl) rfl
theorem q252 : (Jvm.Cond.laysFinal "HeavierServes$Planned" "HeavierServes$Planned" "this$0" "LHeavierServes;") ∈ lw_all := lw_g (lw_at lw_m1 178 rfl) rfl
theorem q253 : (Jvm.Cond.soleField "HeavierServes$Planned" "this$0") ∈ lw_all := lw_g (lw_at lw_m1 179 rfl) rfl
theorem q254 : (Jvm.Cond.superclass "HeavierServes$Planned" "java/lang/Object") ∈ lw_all := lw_g (lw_at lw_m1 180 rfl) rfl
theorem q975 : (Jvm.Cond.castable "HeavierServes$Planned" "HeavierServes$Chooser") ∈ lw_tbl := lw_at lw_m4 181 rfl
theorem q976 : (Jvm.Cond.selects "HeavierServes$Planned" ({ cls := "HeavierServes$Chooser", name := "stands", desc := "(LHeavierServes$Time;I)Z" } : Jvm.MethodName) ({ cls := "HeavierServes$Planned", name := "stands", desc := "(LHeavierServes$Time;I)Z" } : Jvm.MethodName)) ∈ lw_all := lw_g (lw_at lw_m4 182 rfl) rfl
theorem q977 : (Jvm.Cond.unhidden "HeavierServes$Planned" "stands" "(LHeavierServes$Time;I)Z") ∈ lw_tbl := lw_at lw_m4 183 rfl
theorem q978 : (Jvm.Cond.instanceMethod ({ cls := "HeavierServes$Planned", name := "stands", desc := "(LHeavierServes$Time;I)Z" } : Jvm.MethodName)) ∈ lw_all := lw_g (lw_at lw_m4 184 rfl) rfl
theorem q979 : (Jvm.Cond.publicMethod ({ cls := "HeavierServes$Planned", name := "stands", desc := "(LHeavierServes$Time;I)Z" } : Jvm.MethodName)) ∈ lw_tbl := lw_at lw_m4 185 rfl
theorem q980 : (Jvm.Cond.code ({ cls := "HeavierServes$Planned", name := "stands", desc := "(LHeavierServes$Time;I)Z" } : Jvm.MethodName) prog_10_method_2_code (3 : Nat) (Option.some Jvm.ClassFile.FieldType.boolean)) ∈ lw_all := lw_g (lw_at lw_m4 186 rfl) rfl
theorem q981 : (Jvm.Cond.methodLinkNest "HeavierServes$Planned" (28 : Nat) ({ cls := "HeavierServes", name := "has", desc := "(II)Z" } : Jvm.MethodName) "HeavierServes") ∈ lw_tbl := lw_at lw_m4 187 rfl
theorem q982 : (Jvm.Cond.methodLinkNest "HeavierServes$Planned" (34 : Nat) ({ cls := "HeavierServes", name := "willOf", desc := "(LHeavierServes$Time;I)I" } : Jvm.MethodName) "HeavierServes") ∈ lw_tbl := lw_at lw_m4 188 rfl
theorem q1953 : (Jvm.Cond.castable "HeavierServes$Planned" "java/lang/Object") ∈ lw_tbl := lw_at lw_m8 199 rfl
theorem in_X6 : ∀ w ∈ wsX60, w ∈ lw_all := lw_in wsX60 [246, 248, 250, 252] (by decide +kernel) (by decide +kernel)
def RX7 : String := "HeavierServes$AllPlanned"
def TX7 : u_T := fun k => match k with
  | 0 => ("HeavierServes$AllPlanned", "plans", "[I", true)
  | _ => ("HeavierServes$AllPlanned", "from", "I", false)
def tyX7 : Nat → FieldType := fun k => match k with
  | 0 => .array .int
  | _ => .int
abbrev wsX70 : List Cond := u_ws RX7 TX7 2
theorem nmX7 : ∀ a, a < 2 → ∀ b, b < 2 → a ≠ b → (TX7 a).2.1 ≠ (TX7 b).2.1 := by decide +kernel
theorem tyX7_ok : ∀ k, k < 2 → parseFieldDescriptor (TX7 k).2.2.1 = some (tyX7 k) := by decide +kernel
abbrev cX7_init : ByteArray := prog_2_method_1_code
def yX7_init : MethodName := ⟨RX7, "<init>", "()V"⟩
abbrev cX7_stands : ByteArray := prog_2_method_2_code
def yX7_stands : MethodName := ⟨RX7, "stands", "(LHeavierServes$Time;I)Z"⟩
theorem q81 : (Jvm.Cond.initialized "HeavierServes$AllPlanned") ∈ lw_all := lw_g (lw_at lw_m1 7 rfl) rfl
theorem q150 : (Jvm.Cond.fieldLink "HeavierServes$AllPlanned" (15 : Nat) "HeavierServes$Time" "week" "I") ∈ lw_all := lw_g (lw_at lw_m1 76 rfl) rfl
theorem q256 : (Jvm.Cond.instantiable "HeavierServes$AllPlanned" (2 : Nat)) ∈ lw_all := lw_g (lw_at lw_m1 182 rfl) rfl
theorem q258 : (Jvm.Cond.instanceMethod ({ cls := "HeavierServes$AllPlanned", name := "<init>", desc := "()V" } : Jvm.MethodName)) ∈ lw_all := lw_g (lw_at lw_m1 184 rfl) rfl
theorem q259 : (Jvm.Cond.code ({ cls := "HeavierServes$AllPlanned", name := "<init>", desc := "()V" } : Jvm.MethodName) prog_2_method_1_code (1 : Nat) (Option.none : Option Jvm.ClassFile.FieldType)) ∈ lw_all := lw_g (lw_at lw_m1 185 rfl) rfl
theorem q260 : (Jvm.Cond.methodLink "HeavierServes$AllPlanned" (3 : Nat) ({ cls := "java/lang/Object", name := "<init>", desc := "()V" } : Jvm.MethodName)) ∈ lw_all := lw_g (lw_at lw_m1 186 rfl) rfl
theorem q261 : (Jvm.Cond.fieldLink "HeavierServes$AllPlanned" (9 : Nat) "HeavierServes$AllPlanned" "plans" "[I") ∈ lw_all := lw_g (lw_at lw_m1 187 rfl) rfl
theorem q263 : (Jvm.Cond.fieldLink "HeavierServes$AllPlanned" (21 : Nat) "HeavierServes$AllPlanned" "from" "I") ∈ lw_all := lw_g (lw_at lw_m1 189 rfl) rfl
theorem q265 : (Jvm.Cond.laysFinal "HeavierServes$AllPlanned" "HeavierServes$AllPlanned" "plans" "[I") ∈ lw_all := lw_g (lw_at lw_m1 191 rfl) rfl
theorem q266 : (Jvm.Cond.soleField "HeavierServes$AllPlanned" "plans") ∈ lw_all := lw_g (lw_at lw_m1 192 rfl) rfl
theorem q267 : (Jvm.Cond.lays "HeavierServes$AllPlanned" "HeavierServes$AllPlanned" "from" "I") ∈ lw_all := lw_g (lw_at lw_m1 193 rfl) rfl
theorem q268 : (Jvm.Cond.soleField "HeavierServes$AllPlanned" "from") ∈ lw_all := lw_g (lw_at lw_m1 194 rfl) rfl
theorem q269 : (Jvm.Cond.superclass "HeavierServes$AllPlanned" "java/lang/Object") ∈ lw_all := lw_g (lw_at lw_m1 195 rfl) rfl
theorem q937 : (Jvm.Cond.castable "HeavierServes$AllPlanned" "HeavierServes$Chooser") ∈ lw_tbl := lw_at lw_m4 143 rfl
theorem q938 : (Jvm.Cond.selects "HeavierServes$AllPlanned" ({ cls := "HeavierServes$Chooser", name := "stands", desc := "(LHeavierServes$Time;I)Z" } : Jvm.MethodName) ({ cls := "HeavierServes$AllPlanned", name := "stands", desc := "(LHeavierServes$Time;I)Z" } : Jvm.MethodName)) ∈ lw_all := lw_g (lw_at lw_m4 144 rfl) rfl
theorem q939 : (Jvm.Cond.unhidden "HeavierServes$AllPlanned" "stands" "(LHeavierServes$Time;I)Z") ∈ lw_tbl := lw_at lw_m4 145 rfl
theorem q940 : (Jvm.Cond.instanceMethod ({ cls := "HeavierServes$AllPlanned", name := "stands", desc := "(LHeavierServes$Time;I)Z" } : Jvm.MethodName)) ∈ lw_all := lw_g (lw_at lw_m4 146 rfl) rfl
theorem q941 : (Jvm.Cond.publicMethod ({ cls := "HeavierServes$AllPlanned", name := "stands", desc := "(LHeavierServes$Time;I)Z" } : Jvm.MethodName)) ∈ lw_tbl := lw_at lw_m4 147 rfl
theorem q942 : (Jvm.Cond.code ({ cls := "HeavierServes$AllPlanned", name := "stands", desc := "(LHeavierServes$Time;I)Z" } : Jvm.MethodName) prog_2_method_2_code (3 : Nat) (Option.some Jvm.ClassFile.FieldType.boolean)) ∈ lw_all := lw_g (lw_at lw_m4 148 rfl) rfl
theorem q943 : (Jvm.Cond.methodLinkNest "HeavierServes$AllPlanned" (24 : Nat) ({ cls := "HeavierServes", name := "has", desc := "(II)Z" } : Jvm.MethodName) "HeavierServes") ∈ lw_tbl := lw_at lw_m4 149 rfl
theorem q1954 : (Jvm.Cond.castable "HeavierServes$AllPlanned" "java/lang/Object") ∈ lw_tbl := lw_at lw_m8 200 rfl
theorem in_X7 : ∀ w ∈ wsX70, w ∈ lw_all := lw_in wsX70 [265, 267] (by decide +kernel) (by decide +kernel)
def RX8 : String := "HeavierServes$InTurn"
def TX8 : u_T := fun k => match k with
  | 0 => ("HeavierServes$InTurn", "party", "I", false)
  | 1 => ("HeavierServes$InTurn", "from", "I", false)
  | _ => ("HeavierServes$InTurn", "this$0", "LHeavierServes;", true)
def tyX8 : Nat → FieldType := fun k => match k with
  | 0 => .int
  | 1 => .int
  | _ => .object "HeavierServes"
abbrev wsX80 : List Cond := u_ws RX8 TX8 3
theorem nmX8 : ∀ a, a < 3 → ∀ b, b < 3 → a ≠ b → (TX8 a).2.1 ≠ (TX8 b).2.1 := by decide +kernel
theorem tyX8_ok : ∀ k, k < 3 → parseFieldDescriptor (TX8 k).2.2.1 = some (tyX8 k) := by decide +kernel
abbrev cX8_init : ByteArray := prog_7_method_1_code
def yX8_init : MethodName := ⟨RX8, "<init>", "(LHeavierServes;)V"⟩
abbrev cX8_stands : ByteArray := prog_7_method_2_code
def yX8_stands : MethodName := ⟨RX8, "stands", "(LHeavierServes$Time;I)Z"⟩
abbrev cX8_turn : ByteArray := prog_7_method_3_code
def yX8_turn : MethodName := ⟨RX8, "turn", "(LHeavierServes$Time;)I"⟩
abbrev cX8_isOf : ByteArray := prog_7_method_4_code
def yX8_isOf : MethodName := ⟨RX8, "isOf", "(LHeavierServes$Time;I)Z"⟩
theorem q82 : (Jvm.Cond.initialized "HeavierServes$InTurn") ∈ lw_all := lw_g (lw_at lw_m1 8 rfl) rfl
theorem q138 : (Jvm.Cond.fieldLink "HeavierServes$InTurn" (49 : Nat) "HeavierServes$Time" "alive" "I") ∈ lw_all := lw_g (lw_at lw_m1 64 rfl) rfl
theorem q153 : (Jvm.Cond.fieldLink "HeavierServes$InTurn" (41 : Nat) "HeavierServes$Time" "week" "I") ∈ lw_all := lw_g (lw_at lw_m1 79 rfl) rfl
theorem q189 : (Jvm.Cond.fieldLink "HeavierServes$InTurn" (19 : Nat) "HeavierServes$One" "party" "I") ∈ lw_all := lw_g (lw_at lw_m1 115 rfl) rfl
theorem q271 : (Jvm.Cond.instantiable "HeavierServes$InTurn" (3 : Nat)) ∈ lw_all := lw_g (lw_at lw_m1 197 rfl) rfl
theorem q273 : (Jvm.Cond.instanceMethod ({ cls := "HeavierServes$InTurn", name := "<init>", desc := "(LHeavierServes;)V" } : Jvm.MethodName)) ∈ lw_all := lw_g (lw_at lw_m1 199 rfl) rfl
theorem q274 : (Jvm.Cond.code ({ cls := "HeavierServes$InTurn", name := "<init>", desc := "(LHeavierServes;)V" } : Jvm.MethodName) prog_7_method_1_code (2 : Nat) (Option.none : Option Jvm.ClassFile.FieldType)) ∈ lw_all := lw_g (lw_at lw_m1 200 rfl) rfl
theorem q275 : (Jvm.Cond.methodLink "HeavierServes$InTurn" (9 : Nat) ({ cls := "java/lang/Object", name := "<init>", desc := "()V" } : Jvm.MethodName)) ∈ lw_all := lw_g (lw_at lw_m1 201 rfl) rfl
theorem q276 : (Jvm.Cond.fieldLink "HeavierServes$InTurn" (25 : Nat) "HeavierServes$InTurn" "party" "I") ∈ lw_all := lw_g (lw_at lw_m1 202 rfl) rfl
theorem q278 : (Jvm.Cond.fieldLink "HeavierServes$InTurn" (46 : Nat) "HeavierServes$InTurn" "from" "I") ∈ lw_all := lw_g (lw_at lw_m1 204 rfl) rfl
theorem q280 : (Jvm.Cond.fieldLink "HeavierServes$InTurn" (3 : Nat) "HeavierServes$InTurn" "this$0" "LHeavierServes;") ∈ lw_all := lw_g (lw_at lw_m1 206 rfl) rfl
theorem q281 : (Jvm.Cond.lays "HeavierServes$InTurn" "HeavierServes$InTurn" "party" "I") ∈ lw_all := lw_g (lw_at lw_m1 207 rfl) rfl
theorem q282 : (Jvm.Cond.soleField "HeavierServes$InTurn" "party") ∈ lw_all := lw_g (lw_at lw_m1 208 rfl) rfl
theorem q283 : (Jvm.Cond.lays "HeavierServes$InTurn" "HeavierServes$InTurn" "from" "I") ∈ lw_all := lw_g (lw_at lw_m1 209 rfl) rfl
theorem q284 : (Jvm.Cond.soleField "HeavierServes$InTurn" "from") ∈ lw_all := lw_g (lw_at lw_m1 210 rfl) rfl
theorem q285 : (Jvm.Cond.laysFinal "HeavierServes$InTurn" "HeavierServes$InTurn" "this$0" "LHeavierServes;") ∈ lw_all := lw_g (lw_at lw_m1 211 rfl) rfl
theorem q286 : (Jvm.Cond.soleField "HeavierServes$InTurn" "this$0") ∈ lw_all := lw_g (lw_at lw_m1 212 rfl) rfl
theorem q287 : (Jvm.Cond.superclass "HeavierServes$InTurn" "java/lang/Object") ∈ lw_all := lw_g (lw_at lw_m1 213 rfl) rfl
theorem q368 : (Jvm.Cond.fieldLinkNest "HeavierServes$InTurn" (15 : Nat) "HeavierServes" "people" "[LHeavierServes$One;" "HeavierServes") ∈ lw_tbl := lw_at lw_m2 54 rfl
theorem q381 : (Jvm.Cond.fieldLinkNest "HeavierServes$InTurn" (34 : Nat) "HeavierServes" "many" "I" "HeavierServes") ∈ lw_tbl := lw_at lw_m2 67 rfl
theorem q959 : (Jvm.Cond.castable "HeavierServes$InTurn" "HeavierServes$Chooser") ∈ lw_tbl := lw_at lw_m4 165 rfl
theorem q960 : (Jvm.Cond.selects "HeavierServes$InTurn" ({ cls := "HeavierServes$Chooser", name := "stands", desc := "(LHeavierServes$Time;I)Z" } : Jvm.MethodName) ({ cls := "HeavierServes$InTurn", name := "stands", desc := "(LHeavierServes$Time;I)Z" } : Jvm.MethodName)) ∈ lw_all := lw_g (lw_at lw_m4 166 rfl) rfl
theorem q961 : (Jvm.Cond.unhidden "HeavierServes$InTurn" "stands" "(LHeavierServes$Time;I)Z") ∈ lw_tbl := lw_at lw_m4 167 rfl
theorem q962 : (Jvm.Cond.instanceMethod ({ cls := "HeavierServes$InTurn", name := "stands", desc := "(LHeavierServes$Time;I)Z" } : Jvm.MethodName)) ∈ lw_all := lw_g (lw_at lw_m4 168 rfl) rfl
theorem q963 : (Jvm.Cond.publicMethod ({ cls := "HeavierServes$InTurn", name := "stands", desc := "(LHeavierServes$Time;I)Z" } : Jvm.MethodName)) ∈ lw_tbl := lw_at lw_m4 169 rfl
theorem q964 : (Jvm.Cond.code ({ cls := "HeavierServes$InTurn", name := "stands", desc := "(LHeavierServes$Time;I)Z" } : Jvm.MethodName) prog_7_method_2_code (3 : Nat) (Option.some Jvm.ClassFile.FieldType.boolean)) ∈ lw_all := lw_g (lw_at lw_m4 170 rfl) rfl
theorem q965 : (Jvm.Cond.methodLink "HeavierServes$InTurn" (26 : Nat) ({ cls := "HeavierServes$InTurn", name := "turn", desc := "(LHeavierServes$Time;)I" } : Jvm.MethodName)) ∈ lw_all := lw_g (lw_at lw_m4 171 rfl) rfl
theorem q966 : (Jvm.Cond.privateMethod ({ cls := "HeavierServes$InTurn", name := "turn", desc := "(LHeavierServes$Time;)I" } : Jvm.MethodName)) ∈ lw_tbl := lw_at lw_m4 172 rfl
theorem q967 : (Jvm.Cond.instanceMethod ({ cls := "HeavierServes$InTurn", name := "turn", desc := "(LHeavierServes$Time;)I" } : Jvm.MethodName)) ∈ lw_all := lw_g (lw_at lw_m4 173 rfl) rfl
theorem q968 : (Jvm.Cond.code ({ cls := "HeavierServes$InTurn", name := "turn", desc := "(LHeavierServes$Time;)I" } : Jvm.MethodName) prog_7_method_3_code (5 : Nat) (Option.some Jvm.ClassFile.FieldType.int)) ∈ lw_all := lw_g (lw_at lw_m4 174 rfl) rfl
theorem q969 : (Jvm.Cond.methodLink "HeavierServes$InTurn" (37 : Nat) ({ cls := "HeavierServes$InTurn", name := "isOf", desc := "(LHeavierServes$Time;I)Z" } : Jvm.MethodName)) ∈ lw_all := lw_g (lw_at lw_m4 175 rfl) rfl
theorem q970 : (Jvm.Cond.privateMethod ({ cls := "HeavierServes$InTurn", name := "isOf", desc := "(LHeavierServes$Time;I)Z" } : Jvm.MethodName)) ∈ lw_tbl := lw_at lw_m4 176 rfl
theorem q971 : (Jvm.Cond.instanceMethod ({ cls := "HeavierServes$InTurn", name := "isOf", desc := "(LHeavierServes$Time;I)Z" } : Jvm.MethodName)) ∈ lw_all := lw_g (lw_at lw_m4 177 rfl) rfl
theorem q972 : (Jvm.Cond.code ({ cls := "HeavierServes$InTurn", name := "isOf", desc := "(LHeavierServes$Time;I)Z" } : Jvm.MethodName) prog_7_method_4_code (3 : Nat) (Option.some Jvm.ClassFile.FieldType.boolean)) ∈ lw_all := lw_g (lw_at lw_m4 178 rfl) rfl
theorem q973 : (Jvm.Cond.methodLinkNest "HeavierServes$InTurn" (52 : Nat) ({ cls := "HeavierServes", name := "has", desc := "(II)Z" } : Jvm.MethodName) "HeavierServes") ∈ lw_tbl := lw_at lw_m4 179 rfl
theorem q974 : (Jvm.Cond.methodLinkNest "HeavierServes$InTurn" (30 : Nat) ({ cls := "HeavierServes", name := "willOf", desc := "(LHeavierServes$Time;I)I" } : Jvm.MethodName) "HeavierServes") ∈ lw_tbl := lw_at lw_m4 180 rfl
theorem q1955 : (Jvm.Cond.castable "HeavierServes$InTurn" "java/lang/Object") ∈ lw_tbl := lw_at lw_m8 201 rfl
theorem in_X8 : ∀ w ∈ wsX80, w ∈ lw_all := lw_in wsX80 [281, 283, 285] (by decide +kernel) (by decide +kernel)
def RX9 : String := "HeavierServes$Without"
def TX9 : u_T := fun k => match k with
  | 0 => ("HeavierServes$Without", "who", "I", false)
  | _ => ("HeavierServes$Without", "this$0", "LHeavierServes;", true)
def tyX9 : Nat → FieldType := fun k => match k with
  | 0 => .int
  | _ => .object "HeavierServes"
abbrev wsX90 : List Cond := u_ws RX9 TX9 2
theorem nmX9 : ∀ a, a < 2 → ∀ b, b < 2 → a ≠ b → (TX9 a).2.1 ≠ (TX9 b).2.1 := by decide +kernel
theorem tyX9_ok : ∀ k, k < 2 → parseFieldDescriptor (TX9 k).2.2.1 = some (tyX9 k) := by decide +kernel
abbrev cX9_init : ByteArray := prog_18_method_1_code
def yX9_init : MethodName := ⟨RX9, "<init>", "(LHeavierServes;)V"⟩
abbrev cX9_stands : ByteArray := prog_18_method_2_code
def yX9_stands : MethodName := ⟨RX9, "stands", "(LHeavierServes$Time;I)Z"⟩
theorem q83 : (Jvm.Cond.initialized "HeavierServes$Without") ∈ lw_all := lw_g (lw_at lw_m1 9 rfl) rfl
theorem q289 : (Jvm.Cond.instantiable "HeavierServes$Without" (2 : Nat)) ∈ lw_all := lw_g (lw_at lw_m1 215 rfl) rfl
theorem q291 : (Jvm.Cond.instanceMethod ({ cls := "HeavierServes$Without", name := "<init>", desc := "(LHeavierServes;)V" } : Jvm.MethodName)) ∈ lw_all := lw_g (lw_at lw_m1 217 rfl) rfl
theorem q292 : (Jvm.Cond.code ({ cls := "HeavierServes$Without", name := "<init>", desc := "(LHeavierServes;)V" } : Jvm.MethodName) prog_18_method_1_code (2 : Nat) (Option.none : Option Jvm.ClassFile.FieldType)) ∈ lw_all := lw_g (lw_at lw_m1 218 rfl) rfl
theorem q293 : (Jvm.Cond.methodLink "HeavierServes$Without" (7 : Nat) ({ cls := "java/lang/Object", name := "<init>", desc := "()V" } : Jvm.MethodName)) ∈ lw_all := lw_g (lw_at lw_m1 219 rfl) rfl
theorem q294 : (Jvm.Cond.fieldLink "HeavierServes$Without" (13 : Nat) "HeavierServes$Without" "who" "I") ∈ lw_all := lw_g (lw_at lw_m1 220 rfl) rfl
theorem q296 : (Jvm.Cond.fieldLink "HeavierServes$Without" (1 : Nat) "HeavierServes$Without" "this$0" "LHeavierServes;") ∈ lw_all := lw_g (lw_at lw_m1 222 rfl) rfl
theorem q297 : (Jvm.Cond.lays "HeavierServes$Without" "HeavierServes$Without" "who" "I") ∈ lw_all := lw_g (lw_at lw_m1 223 rfl) rfl
theorem q298 : (Jvm.Cond.soleField "HeavierServes$Without" "who") ∈ lw_all := lw_g (lw_at lw_m1 224 rfl) rfl
theorem q299 : (Jvm.Cond.laysFinal "HeavierServes$Without" "HeavierServes$Without" "this$0" "LHeavierServes;") ∈ lw_all := lw_g (lw_at lw_m1 225 rfl) rfl
theorem q300 : (Jvm.Cond.soleField "HeavierServes$Without" "this$0") ∈ lw_all := lw_g (lw_at lw_m1 226 rfl) rfl
theorem q301 : (Jvm.Cond.superclass "HeavierServes$Without" "java/lang/Object") ∈ lw_all := lw_g (lw_at lw_m1 227 rfl) rfl
theorem q395 : (Jvm.Cond.fieldLinkNest "HeavierServes$Without" (17 : Nat) "HeavierServes" "byWill" "LHeavierServes$ByWill;" "HeavierServes") ∈ lw_tbl := lw_at lw_m2 81 rfl
theorem q990 : (Jvm.Cond.castable "HeavierServes$Without" "HeavierServes$Chooser") ∈ lw_tbl := lw_at lw_m4 196 rfl
theorem q991 : (Jvm.Cond.selects "HeavierServes$Without" ({ cls := "HeavierServes$Chooser", name := "stands", desc := "(LHeavierServes$Time;I)Z" } : Jvm.MethodName) ({ cls := "HeavierServes$Without", name := "stands", desc := "(LHeavierServes$Time;I)Z" } : Jvm.MethodName)) ∈ lw_all := lw_g (lw_at lw_m4 197 rfl) rfl
theorem q992 : (Jvm.Cond.unhidden "HeavierServes$Without" "stands" "(LHeavierServes$Time;I)Z") ∈ lw_tbl := lw_at lw_m4 198 rfl
theorem q993 : (Jvm.Cond.instanceMethod ({ cls := "HeavierServes$Without", name := "stands", desc := "(LHeavierServes$Time;I)Z" } : Jvm.MethodName)) ∈ lw_all := lw_g (lw_at lw_m4 199 rfl) rfl
theorem q994 : (Jvm.Cond.publicMethod ({ cls := "HeavierServes$Without", name := "stands", desc := "(LHeavierServes$Time;I)Z" } : Jvm.MethodName)) ∈ lw_tbl := lw_at lw_m4 200 rfl
theorem q995 : (Jvm.Cond.code ({ cls := "HeavierServes$Without", name := "stands", desc := "(LHeavierServes$Time;I)Z" } : Jvm.MethodName) prog_18_method_2_code (3 : Nat) (Option.some Jvm.ClassFile.FieldType.boolean)) ∈ lw_all := lw_g (lw_at lw_m4 201 rfl) rfl
theorem q996 : (Jvm.Cond.methodLink "HeavierServes$Without" (23 : Nat) ({ cls := "HeavierServes$ByWill", name := "stands", desc := "(LHeavierServes$Time;I)Z" } : Jvm.MethodName)) ∈ lw_all := lw_g (lw_at lw_m4 202 rfl) rfl
theorem q1956 : (Jvm.Cond.castable "HeavierServes$Without" "java/lang/Object") ∈ lw_tbl := lw_at lw_m8 202 rfl
theorem in_X9 : ∀ w ∈ wsX90, w ∈ lw_all := lw_in wsX90 [297, 299] (by decide +kernel) (by decide +kernel)
def RX10 : String := "HeavierServes$Holds"
def TX10 : u_T := fun k => match k with
  | 0 => ("HeavierServes$Holds", "n", "I", false)
  | _ => ("HeavierServes$Holds", "this$0", "LHeavierServes;", true)
def tyX10 : Nat → FieldType := fun k => match k with
  | 0 => .int
  | _ => .object "HeavierServes"
abbrev wsX100 : List Cond := u_ws RX10 TX10 2
theorem nmX10 : ∀ a, a < 2 → ∀ b, b < 2 → a ≠ b → (TX10 a).2.1 ≠ (TX10 b).2.1 := by decide +kernel
theorem tyX10_ok : ∀ k, k < 2 → parseFieldDescriptor (TX10 k).2.2.1 = some (tyX10 k) := by decide +kernel
abbrev cX10_init : ByteArray := prog_6_method_1_code
def yX10_init : MethodName := ⟨RX10, "<init>", "(LHeavierServes;)V"⟩
abbrev cX10_isSo : ByteArray := prog_6_method_2_code
def yX10_isSo : MethodName := ⟨RX10, "isSo", "(I)Z"⟩
theorem q84 : (Jvm.Cond.initialized "HeavierServes$Holds") ∈ lw_all := lw_g (lw_at lw_m1 10 rfl) rfl
theorem q141 : (Jvm.Cond.fieldLink "HeavierServes$Holds" (19 : Nat) "HeavierServes$Time" "server" "I") ∈ lw_all := lw_g (lw_at lw_m1 67 rfl) rfl
theorem q303 : (Jvm.Cond.instantiable "HeavierServes$Holds" (2 : Nat)) ∈ lw_all := lw_g (lw_at lw_m1 229 rfl) rfl
theorem q305 : (Jvm.Cond.instanceMethod ({ cls := "HeavierServes$Holds", name := "<init>", desc := "(LHeavierServes;)V" } : Jvm.MethodName)) ∈ lw_all := lw_g (lw_at lw_m1 231 rfl) rfl
theorem q306 : (Jvm.Cond.code ({ cls := "HeavierServes$Holds", name := "<init>", desc := "(LHeavierServes;)V" } : Jvm.MethodName) prog_6_method_1_code (2 : Nat) (Option.none : Option Jvm.ClassFile.FieldType)) ∈ lw_all := lw_g (lw_at lw_m1 232 rfl) rfl
theorem q307 : (Jvm.Cond.methodLink "HeavierServes$Holds" (7 : Nat) ({ cls := "java/lang/Object", name := "<init>", desc := "()V" } : Jvm.MethodName)) ∈ lw_all := lw_g (lw_at lw_m1 233 rfl) rfl
theorem q308 : (Jvm.Cond.fieldLink "HeavierServes$Holds" (29 : Nat) "HeavierServes$Holds" "n" "I") ∈ lw_all := lw_g (lw_at lw_m1 234 rfl) rfl
theorem q310 : (Jvm.Cond.fieldLink "HeavierServes$Holds" (1 : Nat) "HeavierServes$Holds" "this$0" "LHeavierServes;") ∈ lw_all := lw_g (lw_at lw_m1 236 rfl) rfl
theorem q311 : (Jvm.Cond.lays "HeavierServes$Holds" "HeavierServes$Holds" "n" "I") ∈ lw_all := lw_g (lw_at lw_m1 237 rfl) rfl
theorem q312 : (Jvm.Cond.soleField "HeavierServes$Holds" "n") ∈ lw_all := lw_g (lw_at lw_m1 238 rfl) rfl
theorem q313 : (Jvm.Cond.laysFinal "HeavierServes$Holds" "HeavierServes$Holds" "this$0" "LHeavierServes;") ∈ lw_all := lw_g (lw_at lw_m1 239 rfl) rfl
theorem q314 : (Jvm.Cond.soleField "HeavierServes$Holds" "this$0") ∈ lw_all := lw_g (lw_at lw_m2 0 rfl) rfl
theorem q315 : (Jvm.Cond.superclass "HeavierServes$Holds" "java/lang/Object") ∈ lw_all := lw_g (lw_at lw_m2 1 rfl) rfl
theorem q372 : (Jvm.Cond.fieldLinkNest "HeavierServes$Holds" (13 : Nat) "HeavierServes" "now" "LHeavierServes$Time;" "HeavierServes") ∈ lw_tbl := lw_at lw_m2 58 rfl
theorem q376 : (Jvm.Cond.fieldLinkNest "HeavierServes$Holds" (32 : Nat) "HeavierServes" "tried" "LHeavierServes$Time;" "HeavierServes") ∈ lw_tbl := lw_at lw_m2 62 rfl
theorem q398 : (Jvm.Cond.fieldLinkNest "HeavierServes$Holds" (35 : Nat) "HeavierServes" "byWill" "LHeavierServes$ByWill;" "HeavierServes") ∈ lw_tbl := lw_at lw_m2 84 rfl
theorem q405 : (Jvm.Cond.fieldLinkNest "HeavierServes$Holds" (43 : Nat) "HeavierServes" "isOther" "Z" "HeavierServes") ∈ lw_tbl := lw_at lw_m2 91 rfl
theorem q1128 : (Jvm.Cond.castable "HeavierServes$Holds" "HeavierServes$Wanted") ∈ lw_tbl := lw_at lw_m5 94 rfl
theorem q1129 : (Jvm.Cond.selects "HeavierServes$Holds" ({ cls := "HeavierServes$Wanted", name := "isSo", desc := "(I)Z" } : Jvm.MethodName) ({ cls := "HeavierServes$Holds", name := "isSo", desc := "(I)Z" } : Jvm.MethodName)) ∈ lw_all := lw_g (lw_at lw_m5 95 rfl) rfl
theorem q1130 : (Jvm.Cond.unhidden "HeavierServes$Holds" "isSo" "(I)Z") ∈ lw_tbl := lw_at lw_m5 96 rfl
theorem q1131 : (Jvm.Cond.instanceMethod ({ cls := "HeavierServes$Holds", name := "isSo", desc := "(I)Z" } : Jvm.MethodName)) ∈ lw_all := lw_g (lw_at lw_m5 97 rfl) rfl
theorem q1132 : (Jvm.Cond.publicMethod ({ cls := "HeavierServes$Holds", name := "isSo", desc := "(I)Z" } : Jvm.MethodName)) ∈ lw_tbl := lw_at lw_m5 98 rfl
theorem q1133 : (Jvm.Cond.code ({ cls := "HeavierServes$Holds", name := "isSo", desc := "(I)Z" } : Jvm.MethodName) prog_6_method_2_code (3 : Nat) (Option.some Jvm.ClassFile.FieldType.boolean)) ∈ lw_all := lw_g (lw_at lw_m5 99 rfl) rfl
theorem q1134 : (Jvm.Cond.methodLinkNest "HeavierServes$Holds" (25 : Nat) ({ cls := "HeavierServes", name := "begin", desc := "(II)V" } : Jvm.MethodName) "HeavierServes") ∈ lw_tbl := lw_at lw_m5 100 rfl
theorem q1138 : (Jvm.Cond.methodLinkNest "HeavierServes$Holds" (39 : Nat) ({ cls := "HeavierServes", name := "goes", desc := "(LHeavierServes$Time;LHeavierServes$Chooser;)V" } : Jvm.MethodName) "HeavierServes") ∈ lw_tbl := lw_at lw_m5 104 rfl
theorem q1957 : (Jvm.Cond.castable "HeavierServes$Holds" "java/lang/Object") ∈ lw_tbl := lw_at lw_m8 203 rfl
theorem in_X10 : ∀ w ∈ wsX100, w ∈ lw_all := lw_in wsX100 [311, 313] (by decide +kernel) (by decide +kernel)
def RX11 : String := "HeavierServes$Serves"
def TX11 : u_T := fun k => match k with
  | 0 => ("HeavierServes$Serves", "who", "I", false)
  | 1 => ("HeavierServes$Serves", "n", "I", false)
  | _ => ("HeavierServes$Serves", "this$0", "LHeavierServes;", true)
def tyX11 : Nat → FieldType := fun k => match k with
  | 0 => .int
  | 1 => .int
  | _ => .object "HeavierServes"
abbrev wsX110 : List Cond := u_ws RX11 TX11 3
theorem nmX11 : ∀ a, a < 3 → ∀ b, b < 3 → a ≠ b → (TX11 a).2.1 ≠ (TX11 b).2.1 := by decide +kernel
theorem tyX11_ok : ∀ k, k < 3 → parseFieldDescriptor (TX11 k).2.2.1 = some (tyX11 k) := by decide +kernel
abbrev cX11_init : ByteArray := prog_11_method_1_code
def yX11_init : MethodName := ⟨RX11, "<init>", "(LHeavierServes;)V"⟩
abbrev cX11_isSo : ByteArray := prog_11_method_2_code
def yX11_isSo : MethodName := ⟨RX11, "isSo", "(I)Z"⟩
theorem q85 : (Jvm.Cond.initialized "HeavierServes$Serves") ∈ lw_all := lw_g (lw_at lw_m1 11 rfl) rfl
theorem q143 : (Jvm.Cond.fieldLink "HeavierServes$Serves" (38 : Nat) "HeavierServes$Time" "server" "I") ∈ lw_all := lw_g (lw_at lw_m1 69 rfl) rfl
theorem q317 : (Jvm.Cond.instantiable "HeavierServes$Serves" (3 : Nat)) ∈ lw_all := lw_g (lw_at lw_m2 3 rfl) rfl
theorem q319 : (Jvm.Cond.instanceMethod ({ cls := "HeavierServes$Serves", name := "<init>", desc := "(LHeavierServes;)V" } : Jvm.MethodName)) ∈ lw_all := lw_g (lw_at lw_m2 5 rfl) rfl
theorem q320 : (Jvm.Cond.code ({ cls := "HeavierServes$Serves", name := "<init>", desc := "(LHeavierServes;)V" } : Jvm.MethodName) prog_11_method_1_code (2 : Nat) (Option.none : Option Jvm.ClassFile.FieldType)) ∈ lw_all := lw_g (lw_at lw_m2 6 rfl) rfl
theorem q321 : (Jvm.Cond.methodLink "HeavierServes$Serves" (7 : Nat) ({ cls := "java/lang/Object", name := "<init>", desc := "()V" } : Jvm.MethodName)) ∈ lw_all := lw_g (lw_at lw_m2 7 rfl) rfl
theorem q322 : (Jvm.Cond.fieldLink "HeavierServes$Serves" (13 : Nat) "HeavierServes$Serves" "who" "I") ∈ lw_all := lw_g (lw_at lw_m2 8 rfl) rfl
theorem q324 : (Jvm.Cond.fieldLink "HeavierServes$Serves" (23 : Nat) "HeavierServes$Serves" "n" "I") ∈ lw_all := lw_g (lw_at lw_m2 10 rfl) rfl
theorem q326 : (Jvm.Cond.fieldLink "HeavierServes$Serves" (1 : Nat) "HeavierServes$Serves" "this$0" "LHeavierServes;") ∈ lw_all := lw_g (lw_at lw_m2 12 rfl) rfl
theorem q327 : (Jvm.Cond.lays "HeavierServes$Serves" "HeavierServes$Serves" "who" "I") ∈ lw_all := lw_g (lw_at lw_m2 13 rfl) rfl
theorem q328 : (Jvm.Cond.soleField "HeavierServes$Serves" "who") ∈ lw_all := lw_g (lw_at lw_m2 14 rfl) rfl
theorem q329 : (Jvm.Cond.lays "HeavierServes$Serves" "HeavierServes$Serves" "n" "I") ∈ lw_all := lw_g (lw_at lw_m2 15 rfl) rfl
theorem q330 : (Jvm.Cond.soleField "HeavierServes$Serves" "n") ∈ lw_all := lw_g (lw_at lw_m2 16 rfl) rfl
theorem q331 : (Jvm.Cond.laysFinal "HeavierServes$Serves" "HeavierServes$Serves" "this$0" "LHeavierServes;") ∈ lw_all := lw_g (lw_at lw_m2 17 rfl) rfl
theorem q332 : (Jvm.Cond.soleField "HeavierServes$Serves" "this$0") ∈ lw_all := lw_g (lw_at lw_m2 18 rfl) rfl
theorem q333 : (Jvm.Cond.superclass "HeavierServes$Serves" "java/lang/Object") ∈ lw_all := lw_g (lw_at lw_m2 19 rfl) rfl
theorem q374 : (Jvm.Cond.fieldLinkNest "HeavierServes$Serves" (26 : Nat) "HeavierServes" "tried" "LHeavierServes$Time;" "HeavierServes") ∈ lw_tbl := lw_at lw_m2 60 rfl
theorem q396 : (Jvm.Cond.fieldLinkNest "HeavierServes$Serves" (30 : Nat) "HeavierServes" "byWill" "LHeavierServes$ByWill;" "HeavierServes") ∈ lw_tbl := lw_at lw_m2 82 rfl
theorem q1139 : (Jvm.Cond.castable "HeavierServes$Serves" "HeavierServes$Wanted") ∈ lw_tbl := lw_at lw_m5 105 rfl
theorem q1140 : (Jvm.Cond.selects "HeavierServes$Serves" ({ cls := "HeavierServes$Wanted", name := "isSo", desc := "(I)Z" } : Jvm.MethodName) ({ cls := "HeavierServes$Serves", name := "isSo", desc := "(I)Z" } : Jvm.MethodName)) ∈ lw_all := lw_g (lw_at lw_m5 106 rfl) rfl
theorem q1141 : (Jvm.Cond.unhidden "HeavierServes$Serves" "isSo" "(I)Z") ∈ lw_tbl := lw_at lw_m5 107 rfl
theorem q1142 : (Jvm.Cond.instanceMethod ({ cls := "HeavierServes$Serves", name := "isSo", desc := "(I)Z" } : Jvm.MethodName)) ∈ lw_all := lw_g (lw_at lw_m5 108 rfl) rfl
theorem q1143 : (Jvm.Cond.publicMethod ({ cls := "HeavierServes$Serves", name := "isSo", desc := "(I)Z" } : Jvm.MethodName)) ∈ lw_tbl := lw_at lw_m5 109 rfl
theorem q1144 : (Jvm.Cond.code ({ cls := "HeavierServes$Serves", name := "isSo", desc := "(I)Z" } : Jvm.MethodName) prog_11_method_2_code (3 : Nat) (Option.some Jvm.ClassFile.FieldType.boolean)) ∈ lw_all := lw_g (lw_at lw_m5 110 rfl) rfl
theorem q1145 : (Jvm.Cond.methodLinkNest "HeavierServes$Serves" (17 : Nat) ({ cls := "HeavierServes", name := "begin", desc := "(II)V" } : Jvm.MethodName) "HeavierServes") ∈ lw_tbl := lw_at lw_m5 111 rfl
theorem q1146 : (Jvm.Cond.methodLinkNest "HeavierServes$Serves" (34 : Nat) ({ cls := "HeavierServes", name := "goes", desc := "(LHeavierServes$Time;LHeavierServes$Chooser;)V" } : Jvm.MethodName) "HeavierServes") ∈ lw_tbl := lw_at lw_m5 112 rfl
theorem q1946 : (Jvm.Cond.selects "HeavierServes$Serves" ({ cls := "HeavierServes$Serves", name := "isSo", desc := "(I)Z" } : Jvm.MethodName) ({ cls := "HeavierServes$Serves", name := "isSo", desc := "(I)Z" } : Jvm.MethodName)) ∈ lw_all := lw_g (lw_at lw_m8 192 rfl) rfl
theorem q1958 : (Jvm.Cond.castable "HeavierServes$Serves" "java/lang/Object") ∈ lw_tbl := lw_at lw_m8 204 rfl
theorem in_X11 : ∀ w ∈ wsX110, w ∈ lw_all := lw_in wsX110 [327, 329, 331] (by decide +kernel) (by decide +kernel)
def RX12 : String := "HeavierServes$ServesNever"
def TX12 : u_T := fun k => match k with
  | 0 => ("HeavierServes$ServesNever", "who", "I", false)
  | 1 => ("HeavierServes$ServesNever", "n", "I", false)
  | _ => ("HeavierServes$ServesNever", "this$0", "LHeavierServes;", true)
def tyX12 : Nat → FieldType := fun k => match k with
  | 0 => .int
  | 1 => .int
  | _ => .object "HeavierServes"
abbrev wsX120 : List Cond := u_ws RX12 TX12 3
theorem nmX12 : ∀ a, a < 3 → ∀ b, b < 3 → a ≠ b → (TX12 a).2.1 ≠ (TX12 b).2.1 := by decide +kernel
theorem tyX12_ok : ∀ k, k < 3 → parseFieldDescriptor (TX12 k).2.2.1 = some (tyX12 k) := by decide +kernel
abbrev cX12_init : ByteArray := prog_12_method_1_code
def yX12_init : MethodName := ⟨RX12, "<init>", "(LHeavierServes;)V"⟩
abbrev cX12_isSo : ByteArray := prog_12_method_2_code
def yX12_isSo : MethodName := ⟨RX12, "isSo", "(I)Z"⟩
theorem q86 : (Jvm.Cond.initialized "HeavierServes$ServesNever") ∈ lw_all := lw_g (lw_at lw_m1 12 rfl) rfl
theorem q142 : (Jvm.Cond.fieldLink "HeavierServes$ServesNever" (38 : Nat) "HeavierServes$Time" "server" "I") ∈ lw_all := lw_g (lw_at lw_m1 68 rfl) rfl
theorem q335 : (Jvm.Cond.instantiable "HeavierServes$ServesNever" (3 : Nat)) ∈ lw_all := lw_g (lw_at lw_m2 21 rfl) rfl
theorem q337 : (Jvm.Cond.instanceMethod ({ cls := "HeavierServes$ServesNever", name := "<init>", desc := "(LHeavierServes;)V" } : Jvm.MethodName)) ∈ lw_all := lw_g (lw_at lw_m2 23 rfl) rfl
theorem q338 : (Jvm.Cond.code ({ cls := "HeavierServes$ServesNever", name := "<init>", desc := "(LHeavierServes;)V" } : Jvm.MethodName) prog_12_method_1_code (2 : Nat) (Option.none : Option Jvm.ClassFile.FieldType)) ∈ lw_all := lw_g (lw_at lw_m2 24 rfl) rfl
theorem q339 : (Jvm.Cond.methodLink "HeavierServes$ServesNever" (7 : Nat) ({ cls := "java/lang/Object", name := "<init>", desc := "()V" } : Jvm.MethodName)) ∈ lw_all := lw_g (lw_at lw_m2 25 rfl) rfl
theorem q340 : (Jvm.Cond.fieldLink "HeavierServes$ServesNever" (13 : Nat) "HeavierServes$ServesNever" "who" "I") ∈ lw_all := lw_g (lw_at lw_m2 26 rfl) rfl
theorem q342 : (Jvm.Cond.fieldLink "HeavierServes$ServesNever" (23 : Nat) "HeavierServes$ServesNever" "n" "I") ∈ lw_all := lw_g (lw_at lw_m2 28 rfl) rfl
theorem q344 : (Jvm.Cond.fieldLink "HeavierServes$ServesNever" (1 : Nat) "HeavierServes$ServesNever" "this$0" "LHeavierServes;") ∈ lw_all := lw_g (lw_at lw_m2 30 rfl) rfl
theorem q345 : (Jvm.Cond.lays "HeavierServes$ServesNever" "HeavierServes$ServesNever" "who" "I") ∈ lw_all := lw_g (lw_at lw_m2 31 rfl) rfl
theorem q346 : (Jvm.Cond.soleField "HeavierServes$ServesNever" "who") ∈ lw_all := lw_g (lw_at lw_m2 32 rfl) rfl
theorem q347 : (Jvm.Cond.lays "HeavierServes$ServesNever" "HeavierServes$ServesNever" "n" "I") ∈ lw_all := lw_g (lw_at lw_m2 33 rfl) rfl
theorem q348 : (Jvm.Cond.soleField "HeavierServes$ServesNever" "n") ∈ lw_all := lw_g (lw_at lw_m2 34 rfl) rfl
theorem q349 : (Jvm.Cond.laysFinal "HeavierServes$ServesNever" "HeavierServes$ServesNever" "this$0" "LHeavierServes;") ∈ lw_all := lw_g (lw_at lw_m2 35 rfl) rfl
theorem q350 : (Jvm.Cond.soleField "HeavierServes$ServesNever" "this$0") ∈ lw_all := lw_g (lw_at lw_m2 36 rfl) rfl
theorem q351 : (Jvm.Cond.superclass "HeavierServes$ServesNever" "java/lang/Object") ∈ lw_all := lw_g (lw_at lw_m2 37 rfl) rfl
theorem q375 : (Jvm.Cond.fieldLinkNest "HeavierServes$ServesNever" (26 : Nat) "HeavierServes" "tried" "LHeavierServes$Time;" "HeavierServes") ∈ lw_tbl := lw_at lw_m2 61 rfl
theorem q397 : (Jvm.Cond.fieldLinkNest "HeavierServes$ServesNever" (30 : Nat) "HeavierServes" "byWill" "LHeavierServes$ByWill;" "HeavierServes") ∈ lw_tbl := lw_at lw_m2 83 rfl
theorem q1147 : (Jvm.Cond.castable "HeavierServes$ServesNever" "HeavierServes$Wanted") ∈ lw_tbl := lw_at lw_m5 113 rfl
theorem q1148 : (Jvm.Cond.selects "HeavierServes$ServesNever" ({ cls := "HeavierServes$Wanted", name := "isSo", desc := "(I)Z" } : Jvm.MethodName) ({ cls := "HeavierServes$ServesNever", name := "isSo", desc := "(I)Z" } : Jvm.MethodName)) ∈ lw_all := lw_g (lw_at lw_m5 114 rfl) rfl
theorem q1149 : (Jvm.Cond.unhidden "HeavierServes$ServesNever" "isSo" "(I)Z") ∈ lw_tbl := lw_at lw_m5 115 rfl
theorem q1150 : (Jvm.Cond.instanceMethod ({ cls := "HeavierServes$ServesNever", name := "isSo", desc := "(I)Z" } : Jvm.MethodName)) ∈ lw_all := lw_g (lw_at lw_m5 116 rfl) rfl
theorem q1151 : (Jvm.Cond.publicMethod ({ cls := "HeavierServes$ServesNever", name := "isSo", desc := "(I)Z" } : Jvm.MethodName)) ∈ lw_tbl := lw_at lw_m5 117 rfl
theorem q1152 : (Jvm.Cond.code ({ cls := "HeavierServes$ServesNever", name := "isSo", desc := "(I)Z" } : Jvm.MethodName) prog_12_method_2_code (3 : Nat) (Option.some Jvm.ClassFile.FieldType.boolean)) ∈ lw_all := lw_g (lw_at lw_m5 118 rfl) rfl
theorem q1153 : (Jvm.Cond.methodLinkNest "HeavierServes$ServesNever" (17 : Nat) ({ cls := "HeavierServes", name := "begin", desc := "(II)V" } : Jvm.MethodName) "HeavierServes") ∈ lw_tbl := lw_at lw_m5 119 rfl
theorem q1154 : (Jvm.Cond.methodLinkNest "HeavierServes$ServesNever" (34 : Nat) ({ cls := "HeavierServes", name := "goes", desc := "(LHeavierServes$Time;LHeavierServes$Chooser;)V" } : Jvm.MethodName) "HeavierServes") ∈ lw_tbl := lw_at lw_m5 120 rfl
theorem q1959 : (Jvm.Cond.castable "HeavierServes$ServesNever" "java/lang/Object") ∈ lw_tbl := lw_at lw_m8 205 rfl
theorem in_X12 : ∀ w ∈ wsX120, w ∈ lw_all := lw_in wsX120 [345, 347, 349] (by decide +kernel) (by decide +kernel)
def RX13 : String := "HeavierServes$ServesNext"
def TX13 : u_T := fun k => match k with
  | 0 => ("HeavierServes$ServesNext", "who", "I", false)
  | _ => ("HeavierServes$ServesNext", "this$0", "LHeavierServes;", true)
def tyX13 : Nat → FieldType := fun k => match k with
  | 0 => .int
  | _ => .object "HeavierServes"
abbrev wsX130 : List Cond := u_ws RX13 TX13 2
theorem nmX13 : ∀ a, a < 2 → ∀ b, b < 2 → a ≠ b → (TX13 a).2.1 ≠ (TX13 b).2.1 := by decide +kernel
theorem tyX13_ok : ∀ k, k < 2 → parseFieldDescriptor (TX13 k).2.2.1 = some (tyX13 k) := by decide +kernel
abbrev cX13_init : ByteArray := prog_13_method_1_code
def yX13_init : MethodName := ⟨RX13, "<init>", "(LHeavierServes;)V"⟩
abbrev cX13_isSo : ByteArray := prog_13_method_2_code
def yX13_isSo : MethodName := ⟨RX13, "isSo", "(I)Z"⟩
theorem q87 : (Jvm.Cond.initialized "HeavierServes$ServesNext") ∈ lw_all := lw_g (lw_at lw_m1 13 rfl) rfl
theorem q144 : (Jvm.Cond.fieldLink "HeavierServes$ServesNext" (47 : Nat) "HeavierServes$Time" "server" "I") ∈ lw_all := lw_g (lw_at lw_m1 70 rfl) rfl
theorem q228 : (Jvm.Cond.fieldLink "HeavierServes$ServesNext" (27 : Nat) "HeavierServes$Told" "those" "I") ∈ lw_all := lw_g (lw_at lw_m1 154 rfl) rfl
theorem q353 : (Jvm.Cond.instantiable "HeavierServes$ServesNext" (2 : Nat)) ∈ lw_all := lw_g (lw_at lw_m2 39 rfl) rfl
theorem q355 : (Jvm.Cond.instanceMethod ({ cls := "HeavierServes$ServesNext", name := "<init>", desc := "(LHeavierServes;)V" } : Jvm.MethodName)) ∈ lw_all := lw_g (lw_at lw_m2 41 rfl) rfl
theorem q356 : (Jvm.Cond.code ({ cls := "HeavierServes$ServesNext", name := "<init>", desc := "(LHeavierServes;)V" } : Jvm.MethodName) prog_13_method_1_code (2 : Nat) (Option.none : Option Jvm.ClassFile.FieldType)) ∈ lw_all := lw_g (lw_at lw_m2 42 rfl) rfl
theorem q357 : (Jvm.Cond.methodLink "HeavierServes$ServesNext" (7 : Nat) ({ cls := "java/lang/Object", name := "<init>", desc := "()V" } : Jvm.MethodName)) ∈ lw_all := lw_g (lw_at lw_m2 43 rfl) rfl
theorem q358 : (Jvm.Cond.fieldLink "HeavierServes$ServesNext" (13 : Nat) "HeavierServes$ServesNext" "who" "I") ∈ lw_all := lw_g (lw_at lw_m2 44 rfl) rfl
theorem q360 : (Jvm.Cond.fieldLink "HeavierServes$ServesNext" (1 : Nat) "HeavierServes$ServesNext" "this$0" "LHeavierServes;") ∈ lw_all := lw_g (lw_at lw_m2 46 rfl) rfl
theorem q361 : (Jvm.Cond.lays "HeavierServes$ServesNext" "HeavierServes$ServesNext" "who" "I") ∈ lw_all := lw_g (lw_at lw_m2 47 rfl) rfl
theorem q362 : (Jvm.Cond.soleField "HeavierServes$ServesNext" "who") ∈ lw_all := lw_g (lw_at lw_m2 48 rfl) rfl
theorem q363 : (Jvm.Cond.laysFinal "HeavierServes$ServesNext" "HeavierServes$ServesNext" "this$0" "LHeavierServes;") ∈ lw_all := lw_g (lw_at lw_m2 49 rfl) rfl
theorem q364 : (Jvm.Cond.soleField "HeavierServes$ServesNext" "this$0") ∈ lw_all := lw_g (lw_at lw_m2 50 rfl) rfl
theorem q365 : (Jvm.Cond.superclass "HeavierServes$ServesNext" "java/lang/Object") ∈ lw_all := lw_g (lw_at lw_m2 51 rfl) rfl
theorem q377 : (Jvm.Cond.fieldLinkNest "HeavierServes$ServesNext" (35 : Nat) "HeavierServes" "tried" "LHeavierServes$Time;" "HeavierServes") ∈ lw_tbl := lw_at lw_m2 63 rfl
theorem q380 : (Jvm.Cond.fieldLinkNest "HeavierServes$ServesNext" (32 : Nat) "HeavierServes" "many" "I" "HeavierServes") ∈ lw_tbl := lw_at lw_m2 66 rfl
theorem q400 : (Jvm.Cond.fieldLinkNest "HeavierServes$ServesNext" (23 : Nat) "HeavierServes" "asTold" "LHeavierServes$Told;" "HeavierServes") ∈ lw_tbl := lw_at lw_m2 86 rfl
theorem q1155 : (Jvm.Cond.castable "HeavierServes$ServesNext" "HeavierServes$Wanted") ∈ lw_tbl := lw_at lw_m5 121 rfl
theorem q1156 : (Jvm.Cond.selects "HeavierServes$ServesNext" ({ cls := "HeavierServes$Wanted", name := "isSo", desc := "(I)Z" } : Jvm.MethodName) ({ cls := "HeavierServes$ServesNext", name := "isSo", desc := "(I)Z" } : Jvm.MethodName)) ∈ lw_all := lw_g (lw_at lw_m5 122 rfl) rfl
theorem q1157 : (Jvm.Cond.unhidden "HeavierServes$ServesNext" "isSo" "(I)Z") ∈ lw_tbl := lw_at lw_m5 123 rfl
theorem q1158 : (Jvm.Cond.instanceMethod ({ cls := "HeavierServes$ServesNext", name := "isSo", desc := "(I)Z" } : Jvm.MethodName)) ∈ lw_all := lw_g (lw_at lw_m5 124 rfl) rfl
theorem q1159 : (Jvm.Cond.publicMethod ({ cls := "HeavierServes$ServesNext", name := "isSo", desc := "(I)Z" } : Jvm.MethodName)) ∈ lw_tbl := lw_at lw_m5 125 rfl
theorem q1160 : (Jvm.Cond.code ({ cls := "HeavierServes$ServesNext", name := "isSo", desc := "(I)Z" } : Jvm.MethodName) prog_13_method_2_code (3 : Nat) (Option.some Jvm.ClassFile.FieldType.boolean)) ∈ lw_all := lw_g (lw_at lw_m5 126 rfl) rfl
theorem q1161 : (Jvm.Cond.methodLinkNest "HeavierServes$ServesNext" (17 : Nat) ({ cls := "HeavierServes", name := "begin", desc := "(II)V" } : Jvm.MethodName) "HeavierServes") ∈ lw_tbl := lw_at lw_m5 127 rfl
theorem q1162 : (Jvm.Cond.methodLinkNest "HeavierServes$ServesNext" (39 : Nat) ({ cls := "HeavierServes", name := "willOf", desc := "(LHeavierServes$Time;I)I" } : Jvm.MethodName) "HeavierServes") ∈ lw_tbl := lw_at lw_m5 128 rfl
theorem q1163 : (Jvm.Cond.methodLinkNest "HeavierServes$ServesNext" (43 : Nat) ({ cls := "HeavierServes", name := "goes", desc := "(LHeavierServes$Time;LHeavierServes$Chooser;)V" } : Jvm.MethodName) "HeavierServes") ∈ lw_tbl := lw_at lw_m5 129 rfl
theorem q1960 : (Jvm.Cond.castable "HeavierServes$ServesNext" "java/lang/Object") ∈ lw_tbl := lw_at lw_m8 206 rfl
theorem in_X13 : ∀ w ∈ wsX130, w ∈ lw_all := lw_in wsX130 [361, 363] (by decide +kernel) (by decide +kernel)
def RX14 : String := "HeavierServesModel"
def TX14 : u_T := fun k => match k with
  | 0 => ("HeavierServesModel", "thrown", "I", false)
  | 1 => ("HeavierServesModel", "rows", "I", false)
  | 2 => ("HeavierServesModel", "row", "[J", true)
  | 3 => ("HeavierServesModel", "people", "I", false)
  | 4 => ("HeavierServesModel", "party", "[I", true)
  | 5 => ("HeavierServesModel", "ill", "[I", true)
  | 6 => ("HeavierServesModel", "habit", "[I", true)
  | 7 => ("HeavierServesModel", "habitMany", "[I", true)
  | 8 => ("HeavierServesModel", "grain", "I", false)
  | 9 => ("HeavierServesModel", "off", "I", false)
  | 10 => ("HeavierServesModel", "now", "[I", true)
  | 11 => ("HeavierServesModel", "next", "[I", true)
  | 12 => ("HeavierServesModel", "tape", "[I", true)
  | 13 => ("HeavierServesModel", "taped", "I", false)
  | 14 => ("HeavierServesModel", "at", "I", false)
  | 15 => ("HeavierServesModel", "to", "I", false)
  | 16 => ("HeavierServesModel", "nest", "I", false)
  | 17 => ("HeavierServesModel", "readWeight", "[I", true)
  | 18 => ("HeavierServesModel", "readParty", "[I", true)
  | 19 => ("HeavierServesModel", "readHabit", "[I", true)
  | 20 => ("HeavierServesModel", "readHabitMany", "[I", true)
  | 21 => ("HeavierServesModel", "readMany", "I", false)
  | 22 => ("HeavierServesModel", "code", "[I", true)
  | 23 => ("HeavierServesModel", "readCode", "[I", true)
  | 24 => ("HeavierServesModel", "codeLong", "I", false)
  | 25 => ("HeavierServesModel", "readLong", "I", false)
  | 26 => ("HeavierServesModel", "stack", "[I", true)
  | 27 => ("HeavierServesModel", "fell", "I", false)
  | 28 => ("HeavierServesModel", "undos", "I", false)
  | 29 => ("HeavierServesModel", "undone", "[I", true)
  | 30 => ("HeavierServesModel", "readStand", "[I", true)
  | 31 => ("HeavierServesModel", "readWeeks", "I", false)
  | 32 => ("HeavierServesModel", "servedFor", "[I", true)
  | 33 => ("HeavierServesModel", "plan", "[I", true)
  | 34 => ("HeavierServesModel", "weighings", "I", false)
  | 35 => ("HeavierServesModel", "weighedWho", "[I", true)
  | 36 => ("HeavierServesModel", "weighedShown", "[I", true)
  | 37 => ("HeavierServesModel", "dates", "I", false)
  | 38 => ("HeavierServesModel", "dateWho", "[I", true)
  | 39 => ("HeavierServesModel", "dateWeek", "[I", true)
  | 40 => ("HeavierServesModel", "chance", "[J", true)
  | 41 => ("HeavierServesModel", "chanceThen", "[J", true)
  | 42 => ("HeavierServesModel", "behind", "[I", true)
  | 43 => ("HeavierServesModel", "isKept", "[Z", true)
  | 44 => ("HeavierServesModel", "keptPeople", "[I", true)
  | _ => ("HeavierServesModel", "kept", "[I", true)
def tyX14 : Nat → FieldType := fun k => match k with
  | 0 => .int
  | 1 => .int
  | 2 => .array .long
  | 3 => .int
  | 4 => .array .int
  | 5 => .array .int
  | 6 => .array .int
  | 7 => .array .int
  | 8 => .int
  | 9 => .int
  | 10 => .array .int
  | 11 => .array .int
  | 12 => .array .int
  | 13 => .int
  | 14 => .int
  | 15 => .int
  | 16 => .int
  | 17 => .array .int
  | 18 => .array .int
  | 19 => .array .int
  | 20 => .array .int
  | 21 => .int
  | 22 => .array .int
  | 23 => .array .int
  | 24 => .int
  | 25 => .int
  | 26 => .array .int
  | 27 => .int
  | 28 => .int
  | 29 => .array .int
  | 30 => .array .int
  | 31 => .int
  | 32 => .array .int
  | 33 => .array .int
  | 34 => .int
  | 35 => .array .int
  | 36 => .array .int
  | 37 => .int
  | 38 => .array .int
  | 39 => .array .int
  | 40 => .array .long
  | 41 => .array .long
  | 42 => .array .int
  | 43 => .array .boolean
  | 44 => .array .int
  | _ => .array .int
abbrev wsX140 : List Cond := u_ws RX14 TX14 46
theorem nmX14 : ∀ a, a < 46 → ∀ b, b < 46 → a ≠ b → (TX14 a).2.1 ≠ (TX14 b).2.1 := by decide +kernel
theorem tyX14_ok : ∀ k, k < 46 → parseFieldDescriptor (TX14 k).2.2.1 = some (tyX14 k) := by decide +kernel
abbrev cX14_thrown : ByteArray := prog_21_method_1_code
def yX14_thrown : MethodName := ⟨RX14, "thrown", "()I"⟩
abbrev cX14_init : ByteArray := prog_21_method_9_code
def yX14_init : MethodName := ⟨RX14, "<init>", "()V"⟩
abbrev cX14_sign : ByteArray := prog_21_method_12_code
def yX14_sign : MethodName := ⟨RX14, "sign", "(I)I"⟩
abbrev cX14_end : ByteArray := prog_21_method_13_code
def yX14_end : MethodName := ⟨RX14, "end", "(I)Z"⟩
abbrev cX14_in : ByteArray := prog_21_method_3_code
def yX14_in : MethodName := ⟨RX14, "in", "(JJJ)Z"⟩
abbrev cX14_town : ByteArray := prog_21_method_22_code
def yX14_town : MethodName := ⟨RX14, "town", "()I"⟩
abbrev cX14_begins : ByteArray := prog_21_method_14_code
def yX14_begins : MethodName := ⟨RX14, "begins", "(I)I"⟩
abbrev cX14_readsPerson : ByteArray := prog_21_method_21_code
def yX14_readsPerson : MethodName := ⟨RX14, "readsPerson", "()Z"⟩
abbrev cX14_isDigit : ByteArray := prog_21_method_16_code
def yX14_isDigit : MethodName := ⟨RX14, "isDigit", "()Z"⟩
abbrev cX14_number : ByteArray := prog_21_method_17_code
def yX14_number : MethodName := ⟨RX14, "number", "(I)I"⟩
abbrev cX14_takes : ByteArray := prog_21_method_15_code
def yX14_takes : MethodName := ⟨RX14, "takes", "(I)Z"⟩
abbrev cX14_flag : ByteArray := prog_21_method_5_code
def yX14_flag : MethodName := ⟨RX14, "flag", "(Z)I"⟩
abbrev cX14_among : ByteArray := prog_21_method_18_code
def yX14_among : MethodName := ⟨RX14, "among", "(Ljava/lang/String;)I"⟩
abbrev cX14_readsHabit : ByteArray := prog_21_method_20_code
def yX14_readsHabit : MethodName := ⟨RX14, "readsHabit", "(I)Z"⟩
abbrev cX14_faultOf : ByteArray := prog_21_method_19_code
def yX14_faultOf : MethodName := ⟨RX14, "faultOf", "(IIZ)I"⟩
abbrev cX14_comes : ByteArray := prog_21_method_23_code
def yX14_comes : MethodName := ⟨RX14, "comes", "(II)V"⟩
abbrev cX14_putsHabit : ByteArray := prog_21_method_24_code
def yX14_putsHabit : MethodName := ⟨RX14, "putsHabit", "(II)V"⟩
abbrev cX14_habit : ByteArray := prog_21_method_25_code
def yX14_habit : MethodName := ⟨RX14, "habit", "(I)I"⟩
abbrev cX14_isPerson : ByteArray := prog_21_method_10_code
def yX14_isPerson : MethodName := ⟨RX14, "isPerson", "(I)Z"⟩
abbrev cX14_will : ByteArray := prog_21_method_29_code
def yX14_will : MethodName := ⟨RX14, "will", "()I"⟩
abbrev cX14_readsRank : ByteArray := prog_21_method_28_code
def yX14_readsRank : MethodName := ⟨RX14, "readsRank", "(I)Z"⟩
abbrev cX14_readsThing : ByteArray := prog_21_method_27_code
def yX14_readsThing : MethodName := ⟨RX14, "readsThing", "()Z"⟩
abbrev cX14_codes : ByteArray := prog_21_method_26_code
def yX14_codes : MethodName := ⟨RX14, "codes", "(I)V"⟩
abbrev cX14_of : ByteArray := prog_21_method_36_code
def yX14_of : MethodName := ⟨RX14, "of", "(II)I"⟩
abbrev cX14_refuse : ByteArray := prog_21_method_2_code
def yX14_refuse : MethodName := ⟨RX14, "refuse", "()I"⟩
abbrev cX14_has : ByteArray := prog_21_method_4_code
def yX14_has : MethodName := ⟨RX14, "has", "(II)Z"⟩
abbrev cX14_shows : ByteArray := prog_21_method_35_code
def yX14_shows : MethodName := ⟨RX14, "shows", "(I)I"⟩
abbrev cX14_willOf : ByteArray := prog_21_method_33_code
def yX14_willOf : MethodName := ⟨RX14, "willOf", "([II)I"⟩
abbrev cX14_worked : ByteArray := prog_21_method_32_code
def yX14_worked : MethodName := ⟨RX14, "worked", "(III)I"⟩
abbrev cX14_thingOf : ByteArray := prog_21_method_31_code
def yX14_thingOf : MethodName := ⟨RX14, "thingOf", "([III)I"⟩
abbrev cX14_holding : ByteArray := prog_21_method_30_code
def yX14_holding : MethodName := ⟨RX14, "holding", "([I)I"⟩
abbrev cX14_change : ByteArray := prog_21_method_37_code
def yX14_change : MethodName := ⟨RX14, "change", "(II)I"⟩
abbrev cX14_set : ByteArray := prog_21_method_38_code
def yX14_set : MethodName := ⟨RX14, "set", "(III)I"⟩
abbrev cX14_scale : ByteArray := prog_21_method_39_code
def yX14_scale : MethodName := ⟨RX14, "scale", "(II)Z"⟩
abbrev cX14_sheet : ByteArray := prog_21_method_40_code
def yX14_sheet : MethodName := ⟨RX14, "sheet", "(IIII)I"⟩
abbrev cX14_undo : ByteArray := prog_21_method_45_code
def yX14_undo : MethodName := ⟨RX14, "undo", "()I"⟩
abbrev cX14_stand : ByteArray := prog_21_method_46_code
def yX14_stand : MethodName := ⟨RX14, "stand", "(I)I"⟩
abbrev cX14_putsBy : ByteArray := prog_21_method_44_code
def yX14_putsBy : MethodName := ⟨RX14, "putsBy", "()V"⟩
abbrev cX14_goes : ByteArray := prog_21_method_41_code
def yX14_goes : MethodName := ⟨RX14, "goes", "([II)V"⟩
abbrev cX14_falls : ByteArray := prog_21_method_42_code
def yX14_falls : MethodName := ⟨RX14, "falls", "([I)I"⟩
abbrev cX14_enters : ByteArray := prog_21_method_7_code
def yX14_enters : MethodName := ⟨RX14, "enters", "(J)V"⟩
abbrev cX14_weeks : ByteArray := prog_21_method_47_code
def yX14_weeks : MethodName := ⟨RX14, "weeks", "(I)I"⟩
abbrev cX14_willing : ByteArray := prog_21_method_34_code
def yX14_willing : MethodName := ⟨RX14, "willing", "([I)I"⟩
abbrev cX14_year : ByteArray := prog_21_method_49_code
def yX14_year : MethodName := ⟨RX14, "year", "()I"⟩
abbrev cX14_readsWeek : ByteArray := prog_21_method_48_code
def yX14_readsWeek : MethodName := ⟨RX14, "readsWeek", "()V"⟩
abbrev cX14_law : ByteArray := prog_21_method_50_code
def yX14_law : MethodName := ⟨RX14, "law", "()I"⟩
abbrev cX14_laws : ByteArray := prog_21_method_51_code
def yX14_laws : MethodName := ⟨RX14, "laws", "(II)I"⟩
abbrev cX14_feed : ByteArray := prog_21_method_53_code
def yX14_feed : MethodName := ⟨RX14, "feed", "(II)I"⟩
abbrev cX14_isAlive : ByteArray := prog_21_method_11_code
def yX14_isAlive : MethodName := ⟨RX14, "isAlive", "(I)Z"⟩
abbrev cX14_eats : ByteArray := prog_21_method_52_code
def yX14_eats : MethodName := ⟨RX14, "eats", "(II)I"⟩
abbrev cX14_fast : ByteArray := prog_21_method_54_code
def yX14_fast : MethodName := ⟨RX14, "fast", "(II)I"⟩
abbrev cX14_dies : ByteArray := prog_21_method_55_code
def yX14_dies : MethodName := ⟨RX14, "dies", "(I)I"⟩
abbrev cX14_served : ByteArray := prog_21_method_56_code
def yX14_served : MethodName := ⟨RX14, "served", "(I)I"⟩
abbrev cX14_later : ByteArray := prog_21_method_61_code
def yX14_later : MethodName := ⟨RX14, "later", "(II)I"⟩
abbrev cX14_areWeeks : ByteArray := prog_21_method_60_code
def yX14_areWeeks : MethodName := ⟨RX14, "areWeeks", "(I)Z"⟩
abbrev cX14_starts : ByteArray := prog_21_method_57_code
def yX14_starts : MethodName := ⟨RX14, "starts", "()V"⟩
abbrev cX14_puts : ByteArray := prog_21_method_43_code
def yX14_puts : MethodName := ⟨RX14, "puts", "([I[I)V"⟩
abbrev cX14_goesBy : ByteArray := prog_21_method_59_code
def yX14_goesBy : MethodName := ⟨RX14, "goesBy", "(II)V"⟩
abbrev cX14_goesNext : ByteArray := prog_21_method_58_code
def yX14_goesNext : MethodName := ⟨RX14, "goesNext", "(I)V"⟩
abbrev cX14_then : ByteArray := prog_21_method_62_code
def yX14_then : MethodName := ⟨RX14, "then", "(I)I"⟩
abbrev cX14_soonest : ByteArray := prog_21_method_63_code
def yX14_soonest : MethodName := ⟨RX14, "soonest", "(I)I"⟩
abbrev cX14_ever : ByteArray := prog_21_method_64_code
def yX14_ever : MethodName := ⟨RX14, "ever", "(I)I"⟩
abbrev cX14_most : ByteArray := prog_21_method_65_code
def yX14_most : MethodName := ⟨RX14, "most", "(II)I"⟩
abbrev cX14_rests : ByteArray := prog_21_method_68_code
def yX14_rests : MethodName := ⟨RX14, "rests", "(II)I"⟩
abbrev cX14_plans : ByteArray := prog_21_method_67_code
def yX14_plans : MethodName := ⟨RX14, "plans", "(II)Z"⟩
abbrev cX14_byPlans : ByteArray := prog_21_method_66_code
def yX14_byPlans : MethodName := ⟨RX14, "byPlans", "(II)I"⟩
abbrev cX14_party : ByteArray := prog_21_method_70_code
def yX14_party : MethodName := ⟨RX14, "party", "(I)I"⟩
abbrev cX14_servedBy : ByteArray := prog_21_method_69_code
def yX14_servedBy : MethodName := ⟨RX14, "servedBy", "(I)I"⟩
abbrev cX14_byTurns : ByteArray := prog_21_method_71_code
def yX14_byTurns : MethodName := ⟨RX14, "byTurns", "(II)I"⟩
abbrev cX14_fool : ByteArray := prog_21_method_72_code
def yX14_fool : MethodName := ⟨RX14, "fool", "(II)I"⟩
abbrev cX14_hold : ByteArray := prog_21_method_75_code
def yX14_hold : MethodName := ⟨RX14, "hold", "(I)I"⟩
abbrev cX14_areSixty : ByteArray := prog_21_method_73_code
def yX14_areSixty : MethodName := ⟨RX14, "areSixty", "(I)Z"⟩
abbrev cX14_startsWith : ByteArray := prog_21_method_74_code
def yX14_startsWith : MethodName := ⟨RX14, "startsWith", "(II)V"⟩
abbrev cX14_bribe : ByteArray := prog_21_method_76_code
def yX14_bribe : MethodName := ⟨RX14, "bribe", "(II)I"⟩
abbrev cX14_starve : ByteArray := prog_21_method_77_code
def yX14_starve : MethodName := ⟨RX14, "starve", "(II)I"⟩
abbrev cX14_cheapest : ByteArray := prog_21_method_78_code
def yX14_cheapest : MethodName := ⟨RX14, "cheapest", "()I"⟩
abbrev cX14_weighed : ByteArray := prog_21_method_79_code
def yX14_weighed : MethodName := ⟨RX14, "weighed", "(II)I"⟩
abbrev cX14_forget : ByteArray := prog_21_method_80_code
def yX14_forget : MethodName := ⟨RX14, "forget", "()I"⟩
abbrev cX14_grains : ByteArray := prog_21_method_84_code
def yX14_grains : MethodName := ⟨RX14, "grains", "()I"⟩
abbrev cX14_weightsOf : ByteArray := prog_21_method_82_code
def yX14_weightsOf : MethodName := ⟨RX14, "weightsOf", "(IZ)I"⟩
abbrev cX14_canBe : ByteArray := prog_21_method_81_code
def yX14_canBe : MethodName := ⟨RX14, "canBe", "(II)Z"⟩
abbrev cX14_tellsSpan : ByteArray := prog_21_method_83_code
def yX14_tellsSpan : MethodName := ⟨RX14, "tellsSpan", "(III)V"⟩
abbrev cX14_span : ByteArray := prog_21_method_85_code
def yX14_span : MethodName := ⟨RX14, "span", "(I)I"⟩
abbrev cX14_offs : ByteArray := prog_21_method_87_code
def yX14_offs : MethodName := ⟨RX14, "offs", "()I"⟩
abbrev cX14_wrong : ByteArray := prog_21_method_86_code
def yX14_wrong : MethodName := ⟨RX14, "wrong", "()I"⟩
abbrev cX14_cheats : ByteArray := prog_21_method_88_code
def yX14_cheats : MethodName := ⟨RX14, "cheats", "()I"⟩
abbrev cX14_told : ByteArray := prog_21_method_89_code
def yX14_told : MethodName := ⟨RX14, "told", "(II)I"⟩
abbrev cX14_wipe : ByteArray := prog_21_method_90_code
def yX14_wipe : MethodName := ⟨RX14, "wipe", "()I"⟩
abbrev cX14_explains : ByteArray := prog_21_method_92_code
def yX14_explains : MethodName := ⟨RX14, "explains", "(I)I"⟩
abbrev cX14_isSo : ByteArray := prog_21_method_91_code
def yX14_isSo : MethodName := ⟨RX14, "isSo", "(I)Z"⟩
abbrev cX14_absent : ByteArray := prog_21_method_93_code
def yX14_absent : MethodName := ⟨RX14, "absent", "()I"⟩
abbrev cX14_twin : ByteArray := prog_21_method_94_code
def yX14_twin : MethodName := ⟨RX14, "twin", "(I)I"⟩
abbrev cX14_odds : ByteArray := prog_21_method_96_code
def yX14_odds : MethodName := ⟨RX14, "odds", "(II)I"⟩
abbrev cX14_entersFraction : ByteArray := prog_21_method_8_code
def yX14_entersFraction : MethodName := ⟨RX14, "entersFraction", "(JJ)V"⟩
abbrev cX14_common : ByteArray := prog_21_method_6_code
def yX14_common : MethodName := ⟨RX14, "common", "(JJ)J"⟩
abbrev cX14_oddsOf : ByteArray := prog_21_method_95_code
def yX14_oddsOf : MethodName := ⟨RX14, "oddsOf", "([I[J)V"⟩
abbrev cX14_likely : ByteArray := prog_21_method_97_code
def yX14_likely : MethodName := ⟨RX14, "likely", "()I"⟩
abbrev cX14_keep : ByteArray := prog_21_method_98_code
def yX14_keep : MethodName := ⟨RX14, "keep", "(I)Z"⟩
abbrev cX14_again : ByteArray := prog_21_method_99_code
def yX14_again : MethodName := ⟨RX14, "again", "(I)Z"⟩
abbrev cX14_count : ByteArray := prog_21_method_101_code
def yX14_count : MethodName := ⟨RX14, "count", "(I)I"⟩
abbrev cX14_lawsThatHold : ByteArray := prog_21_method_100_code
def yX14_lawsThatHold : MethodName := ⟨RX14, "lawsThatHold", "()I"⟩
abbrev cX14_row : ByteArray := prog_21_method_102_code
def yX14_row : MethodName := ⟨RX14, "row", "(I)J"⟩
theorem q88 : (Jvm.Cond.initialized "HeavierServesModel") ∈ lw_all := lw_g (lw_at lw_m1 14 rfl) rfl
theorem q1357 : (Jvm.Cond.instanceMethod ({ cls := "HeavierServesModel", name := "thrown", desc := "()I" } : Jvm.MethodName)) ∈ lw_all := lw_g (lw_at lw_m6 83 rfl) rfl
theorem q1358 : (Jvm.Cond.selects "HeavierServesModel" ({ cls := "HeavierServesModel", name := "thrown", desc := "()I" } : Jvm.MethodName) ({ cls := "HeavierServesModel", name := "thrown", desc := "()I" } : Jvm.MethodName)) ∈ lw_all := lw_g (lw_at lw_m6 84 rfl) rfl
theorem q1359 : (Jvm.Cond.code ({ cls := "HeavierServesModel", name := "thrown", desc := "()I" } : Jvm.MethodName) prog_21_method_1_code (1 : Nat) (Option.some Jvm.ClassFile.FieldType.int)) ∈ lw_all := lw_g (lw_at lw_m6 85 rfl) rfl
theorem q1361 : (Jvm.Cond.instantiable "HeavierServesModel" (46 : Nat)) ∈ lw_all := lw_g (lw_at lw_m6 87 rfl) rfl
theorem q1363 : (Jvm.Cond.instanceMethod ({ cls := "HeavierServesModel", name := "<init>", desc := "()V" } : Jvm.MethodName)) ∈ lw_all := lw_g (lw_at lw_m6 89 rfl) rfl
theorem q1364 : (Jvm.Cond.code ({ cls := "HeavierServesModel", name := "<init>", desc := "()V" } : Jvm.MethodName) prog_21_method_9_code (1 : Nat) (Option.none : Option Jvm.ClassFile.FieldType)) ∈ lw_all := lw_g (lw_at lw_m6 90 rfl) rfl
theorem q1365 : (Jvm.Cond.methodLink "HeavierServesModel" (22 : Nat) ({ cls := "java/lang/Object", name := "<init>", desc := "()V" } : Jvm.MethodName)) ∈ lw_all := lw_g (lw_at lw_m6 91 rfl) rfl
theorem q1366 : (Jvm.Cond.fieldLink "HeavierServesModel" (3 : Nat) "HeavierServesModel" "thrown" "I") ∈ lw_all := lw_g (lw_at lw_m6 92 rfl) rfl
theorem q1367 : (Jvm.Cond.fieldLink "HeavierServesModel" (15 : Nat) "HeavierServesModel" "rows" "I") ∈ lw_all := lw_g (lw_at lw_m6 93 rfl) rfl
theorem q1368 : (Jvm.Cond.fieldLink "HeavierServesModel" (11 : Nat) "HeavierServesModel" "row" "[J") ∈ lw_all := lw_g (lw_at lw_m6 94 rfl) rfl
theorem q1369 : (Jvm.Cond.fieldLink "HeavierServesModel" (117 : Nat) "HeavierServesModel" "people" "I") ∈ lw_all := lw_g (lw_at lw_m6 95 rfl) rfl
theorem q1370 : (Jvm.Cond.fieldLink "HeavierServesModel" (28 : Nat) "HeavierServesModel" "party" "[I") ∈ lw_all := lw_g (lw_at lw_m6 96 rfl) rfl
theorem q1371 : (Jvm.Cond.fieldLink "HeavierServesModel" (32 : Nat) "HeavierServesModel" "ill" "[I") ∈ lw_all := lw_g (lw_at lw_m6 97 rfl) rfl
theorem q1372 : (Jvm.Cond.fieldLink "HeavierServesModel" (35 : Nat) "HeavierServesModel" "habit" "[I") ∈ lw_all := lw_g (lw_at lw_m6 98 rfl) rfl
theorem q1373 : (Jvm.Cond.fieldLink "HeavierServesModel" (38 : Nat) "HeavierServesModel" "habitMany" "[I") ∈ lw_all := lw_g (lw_at lw_m6 99 rfl) rfl
theorem q1374 : (Jvm.Cond.fieldLink "HeavierServesModel" (41 : Nat) "HeavierServesModel" "grain" "I") ∈ lw_all := lw_g (lw_at lw_m6 100 rfl) rfl
theorem q1375 : (Jvm.Cond.fieldLink "HeavierServesModel" (251 : Nat) "HeavierServesModel" "off" "I") ∈ lw_all := lw_g (lw_at lw_m6 101 rfl) rfl
theorem q1376 : (Jvm.Cond.fieldLink "HeavierServesModel" (44 : Nat) "HeavierServesModel" "now" "[I") ∈ lw_all := lw_g (lw_at lw_m6 102 rfl) rfl
theorem q1377 : (Jvm.Cond.fieldLink "HeavierServesModel" (47 : Nat) "HeavierServesModel" "next" "[I") ∈ lw_all := lw_g (lw_at lw_m6 103 rfl) rfl
theorem q1378 : (Jvm.Cond.fieldLink "HeavierServesModel" (50 : Nat) "HeavierServesModel" "tape" "[I") ∈ lw_all := lw_g (lw_at lw_m6 104 rfl) rfl
theorem q1379 : (Jvm.Cond.fieldLink "HeavierServesModel" (132 : Nat) "HeavierServesModel" "taped" "I") ∈ lw_all := lw_g (lw_at lw_m6 105 rfl) rfl
theorem q1380 : (Jvm.Cond.fieldLink "HeavierServesModel" (135 : Nat) "HeavierServesModel" "at" "I") ∈ lw_all := lw_g (lw_at lw_m6 106 rfl) rfl
theorem q1381 : (Jvm.Cond.fieldLink "HeavierServesModel" (147 : Nat) "HeavierServesModel" "to" "I") ∈ lw_all := lw_g (lw_at lw_m6 107 rfl) rfl
theorem q1382 : (Jvm.Cond.fieldLink "HeavierServesModel" (138 : Nat) "HeavierServesModel" "nest" "I") ∈ lw_all := lw_g (lw_at lw_m6 108 rfl) rfl
theorem q1383 : (Jvm.Cond.fieldLink "HeavierServesModel" (53 : Nat) "HeavierServesModel" "readWeight" "[I") ∈ lw_all := lw_g (lw_at lw_m6 109 rfl) rfl
theorem q1384 : (Jvm.Cond.fieldLink "HeavierServesModel" (56 : Nat) "HeavierServesModel" "readParty" "[I") ∈ lw_all := lw_g (lw_at lw_m6 110 rfl) rfl
theorem q1385 : (Jvm.Cond.fieldLink "HeavierServesModel" (59 : Nat) "HeavierServesModel" "readHabit" "[I") ∈ lw_all := lw_g (lw_at lw_m6 111 rfl) rfl
theorem q1386 : (Jvm.Cond.fieldLink "HeavierServesModel" (62 : Nat) "HeavierServesModel" "readHabitMany" "[I") ∈ lw_all := lw_g (lw_at lw_m6 112 rfl) rfl
theorem q1387 : (Jvm.Cond.fieldLink "HeavierServesModel" (185 : Nat) "HeavierServesModel" "readMany" "I") ∈ lw_all := lw_g (lw_at lw_m6 113 rfl) rfl
theorem q1388 : (Jvm.Cond.fieldLink "HeavierServesModel" (65 : Nat) "HeavierServesModel" "code" "[I") ∈ lw_all := lw_g (lw_at lw_m6 114 rfl) rfl
theorem q1389 : (Jvm.Cond.fieldLink "HeavierServesModel" (68 : Nat) "HeavierServesModel" "readCode" "[I") ∈ lw_all := lw_g (lw_at lw_m6 115 rfl) rfl
theorem q1390 : (Jvm.Cond.fieldLink "HeavierServesModel" (232 : Nat) "HeavierServesModel" "codeLong" "I") ∈ lw_all := lw_g (lw_at lw_m6 116 rfl) rfl
theorem q1391 : (Jvm.Cond.fieldLink "HeavierServesModel" (213 : Nat) "HeavierServesModel" "readLong" "I") ∈ lw_all := lw_g (lw_at lw_m6 117 rfl) rfl
theorem q1392 : (Jvm.Cond.fieldLink "HeavierServesModel" (71 : Nat) "HeavierServesModel" "stack" "[I") ∈ lw_all := lw_g (lw_at lw_m6 118 rfl) rfl
theorem q1393 : (Jvm.Cond.fieldLink "HeavierServesModel" (273 : Nat) "HeavierServesModel" "fell" "I") ∈ lw_all := lw_g (lw_at lw_m6 119 rfl) rfl
theorem q1394 : (Jvm.Cond.fieldLink "HeavierServesModel" (207 : Nat) "HeavierServesModel" "undos" "I") ∈ lw_all := lw_g (lw_at lw_m6 120 rfl) rfl
theorem q1395 : (Jvm.Cond.fieldLink "HeavierServesModel" (74 : Nat) "HeavierServesModel" "undone" "[I") ∈ lw_all := lw_g (lw_at lw_m6 121 rfl) rfl
theorem q1396 : (Jvm.Cond.fieldLink "HeavierServesModel" (77 : Nat) "HeavierServesModel" "readStand" "[I") ∈ lw_all := lw_g (lw_at lw_m6 122 rfl) rfl
theorem q1397 : (Jvm.Cond.fieldLink "HeavierServesModel" (291 : Nat) "HeavierServesModel" "readWeeks" "I") ∈ lw_all := lw_g (lw_at lw_m6 123 rfl) rfl
theorem q1398 : (Jvm.Cond.fieldLink "HeavierServesModel" (80 : Nat) "HeavierServesModel" "servedFor" "[I") ∈ lw_all := lw_g (lw_at lw_m6 124 rfl) rfl
theorem q1399 : (Jvm.Cond.fieldLink "HeavierServesModel" (83 : Nat) "HeavierServesModel" "plan" "[I") ∈ lw_all := lw_g (lw_at lw_m6 125 rfl) rfl
theorem q1400 : (Jvm.Cond.fieldLink "HeavierServesModel" (351 : Nat) "HeavierServesModel" "weighings" "I") ∈ lw_all := lw_g (lw_at lw_m6 126 rfl) rfl
theorem q1401 : (Jvm.Cond.fieldLink "HeavierServesModel" (86 : Nat) "HeavierServesModel" "weighedWho" "[I") ∈ lw_all := lw_g (lw_at lw_m6 127 rfl) rfl
theorem q1402 : (Jvm.Cond.fieldLink "HeavierServesModel" (89 : Nat) "HeavierServesModel" "weighedShown" "[I") ∈ lw_all := lw_g (lw_at lw_m6 128 rfl) rfl
theorem q1403 : (Jvm.Cond.fieldLink "HeavierServesModel" (368 : Nat) "HeavierServesModel" "dates" "I") ∈ lw_all := lw_g (lw_at lw_m6 129 rfl) rfl
theorem q1404 : (Jvm.Cond.fieldLink "HeavierServesModel" (92 : Nat) "HeavierServesModel" "dateWho" "[I") ∈ lw_all := lw_g (lw_at lw_m6 130 rfl) rfl
theorem q1405 : (Jvm.Cond.fieldLink "HeavierServesModel" (95 : Nat) "HeavierServesModel" "dateWeek" "[I") ∈ lw_all := lw_g (lw_at lw_m6 131 rfl) rfl
theorem q1406 : (Jvm.Cond.fieldLink "HeavierServesModel" (98 : Nat) "HeavierServesModel" "chance" "[J") ∈ lw_all := lw_g (lw_at lw_m6 132 rfl) rfl
theorem q1407 : (Jvm.Cond.fieldLink "HeavierServesModel" (101 : Nat) "HeavierServesModel" "chanceThen" "[J") ∈ lw_all := lw_g (lw_at lw_m6 133 rfl) rfl
theorem q1408 : (Jvm.Cond.fieldLink "HeavierServesModel" (104 : Nat) "HeavierServesModel" "behind" "[I") ∈ lw_all := lw_g (lw_at lw_m6 134 rfl) rfl
theorem q1409 : (Jvm.Cond.fieldLink "HeavierServesModel" (107 : Nat) "HeavierServesModel" "isKept" "[Z") ∈ lw_all := lw_g (lw_at lw_m6 135 rfl) rfl
theorem q1410 : (Jvm.Cond.fieldLink "HeavierServesModel" (111 : Nat) "HeavierServesModel" "keptPeople" "[I") ∈ lw_all := lw_g (lw_at lw_m6 136 rfl) rfl
theorem q1411 : (Jvm.Cond.fieldLink "HeavierServesModel" (114 : Nat) "HeavierServesModel" "kept" "[I") ∈ lw_all := lw_g (lw_at lw_m6 137 rfl) rfl
theorem q1412 : (Jvm.Cond.lays "HeavierServesModel" "HeavierServesModel" "thrown" "I") ∈ lw_all := lw_g (lw_at lw_m6 138 rfl) rfl
theorem q1413 : (Jvm.Cond.soleField "HeavierServesModel" "thrown") ∈ lw_all := lw_g (lw_at lw_m6 139 rfl) rfl
theorem q1414 : (Jvm.Cond.lays "HeavierServesModel" "HeavierServesModel" "rows" "I") ∈ lw_all := lw_g (lw_at lw_m6 140 rfl) rfl
theorem q1415 : (Jvm.Cond.soleField "HeavierServesModel" "rows") ∈ lw_all := lw_g (lw_at lw_m6 141 rfl) rfl
theorem q1416 : (Jvm.Cond.laysFinal "HeavierServesModel" "HeavierServesModel" "row" "[J") ∈ lw_all := lw_g (lw_at lw_m6 142 rfl) rfl
theorem q1417 : (Jvm.Cond.soleField "HeavierServesModel" "row") ∈ lw_all := lw_g (lw_at lw_m6 143 rfl) rfl
theorem q1418 : (Jvm.Cond.lays "HeavierServesModel" "HeavierServesModel" "people" "I") ∈ lw_all := lw_g (lw_at lw_m6 144 rfl) rfl
theorem q1419 : (Jvm.Cond.soleField "HeavierServesModel" "people") ∈ lw_all := lw_g (lw_at lw_m6 145 rfl) rfl
theorem q1420 : (Jvm.Cond.laysFinal "HeavierServesModel" "HeavierServesModel" "party" "[I") ∈ lw_all := lw_g (lw_at lw_m6 146 rfl) rfl
theorem q1421 : (Jvm.Cond.soleField "HeavierServesModel" "party") ∈ lw_all := lw_g (lw_at lw_m6 147 rfl) rfl
theorem q1422 : (Jvm.Cond.laysFinal "HeavierServesModel" "HeavierServesModel" "ill" "[I") ∈ lw_all := lw_g (lw_at lw_m6 148 rfl) rfl
theorem q1423 : (Jvm.Cond.soleField "HeavierServesModel" "ill") ∈ lw_all := lw_g (lw_at lw_m6 149 rfl) rfl
theorem q1424 : (Jvm.Cond.laysFinal "HeavierServesModel" "HeavierServesModel" "habit" "[I") ∈ lw_all := lw_g (lw_at lw_m6 150 rfl) rfl
theorem q1425 : (Jvm.Cond.soleField "HeavierServesModel" "habit") ∈ lw_all := lw_g (lw_at lw_m6 151 rfl) rfl
theorem q1426 : (Jvm.Cond.laysFinal "HeavierServesModel" "HeavierServesModel" "habitMany" "[I") ∈ lw_all := lw_g (lw_at lw_m6 152 rfl) rfl
theorem q1427 : (Jvm.Cond.soleField "HeavierServesModel" "habitMany") ∈ lw_all := lw_g (lw_at lw_m6 153 rfl) rfl
theorem q1428 : (Jvm.Cond.lays "HeavierServesModel" "HeavierServesModel" "grain" "I") ∈ lw_all := lw_g (lw_at lw_m6 154 rfl) rfl
theorem q1429 : (Jvm.Cond.soleField "HeavierServesModel" "grain") ∈ lw_all := lw_g (lw_at lw_m6 155 rfl) rfl
theorem q1430 : (Jvm.Cond.lays "HeavierServesModel" "HeavierServesModel" "off" "I") ∈ lw_all := lw_g (lw_at lw_m6 156 rfl) rfl
theorem q1431 : (Jvm.Cond.soleField "HeavierServesModel" "off") ∈ lw_all := lw_g (lw_at lw_m6 157 rfl) rfl
theorem q1432 : (Jvm.Cond.laysFinal "HeavierServesModel" "HeavierServesModel" "now" "[I") ∈ lw_all := lw_g (lw_at lw_m6 158 rfl) rfl
theorem q1433 : (Jvm.Cond.soleField "HeavierServesModel" "now") ∈ lw_all := lw_g (lw_at lw_m6 159 rfl) rfl
theorem q1434 : (Jvm.Cond.laysFinal "HeavierServesModel" "HeavierServesModel" "next" "[I") ∈ lw_all := lw_g (lw_at lw_m6 160 rfl) rfl
theorem q1435 : (Jvm.Cond.soleField "HeavierServesModel" "next") ∈ lw_all := lw_g (lw_at lw_m6 161 rfl) rfl
theorem q1436 : (Jvm.Cond.laysFinal "HeavierServesModel" "HeavierServesModel" "tape" "[I") ∈ lw_all := lw_g (lw_at lw_m6 162 rfl) rfl
theorem q1437 : (Jvm.Cond.soleField "HeavierServesModel" "tape") ∈ lw_all := lw_g (lw_at lw_m6 163 rfl) rfl
theorem q1438 : (Jvm.Cond.lays "HeavierServesModel" "HeavierServesModel" "taped" "I") ∈ lw_all := lw_g (lw_at lw_m6 164 rfl) rfl
theorem q1439 : (Jvm.Cond.soleField "HeavierServesModel" "taped") ∈ lw_all := lw_g (lw_at lw_m6 165 rfl) rfl
theorem q1440 : (Jvm.Cond.lays "HeavierServesModel" "HeavierServesModel" "at" "I") ∈ lw_all := lw_g (lw_at lw_m6 166 rfl) rfl
theorem q1441 : (Jvm.Cond.soleField "HeavierServesModel" "at") ∈ lw_all := lw_g (lw_at lw_m6 167 rfl) rfl
theorem q1442 : (Jvm.Cond.lays "HeavierServesModel" "HeavierServesModel" "to" "I") ∈ lw_all := lw_g (lw_at lw_m6 168 rfl) rfl
theorem q1443 : (Jvm.Cond.soleField "HeavierServesModel" "to") ∈ lw_all := lw_g (lw_at lw_m6 169 rfl) rfl
theorem q1444 : (Jvm.Cond.lays "HeavierServesModel" "HeavierServesModel" "nest" "I") ∈ lw_all := lw_g (lw_at lw_m6 170 rfl) rfl
theorem q1445 : (Jvm.Cond.soleField "HeavierServesModel" "nest") ∈ lw_all := lw_g (lw_at lw_m6 171 rfl) rfl
theorem q1446 : (Jvm.Cond.laysFinal "HeavierServesModel" "HeavierServesModel" "readWeight" "[I") ∈ lw_all := lw_g (lw_at lw_m6 172 rfl) rfl
theorem q1447 : (Jvm.Cond.soleField "HeavierServesModel" "readWeight") ∈ lw_all := lw_g (lw_at lw_m6 173 rfl) rfl
theorem q1448 : (Jvm.Cond.laysFinal "HeavierServesModel" "HeavierServesModel" "readParty" "[I") ∈ lw_all := lw_g (lw_at lw_m6 174 rfl) rfl
theorem q1449 : (Jvm.Cond.soleField "HeavierServesModel" "readParty") ∈ lw_all := lw_g (lw_at lw_m6 175 rfl) rfl
theorem q1450 : (Jvm.Cond.laysFinal "HeavierServesModel" "HeavierServesModel" "readHabit" "[I") ∈ lw_all := lw_g (lw_at lw_m6 176 rfl) rfl
theorem q1451 : (Jvm.Cond.soleField "HeavierServesModel" "readHabit") ∈ lw_all := lw_g (lw_at lw_m6 177 rfl) rfl
theorem q1452 : (Jvm.Cond.laysFinal "HeavierServesModel" "HeavierServesModel" "readHabitMany" "[I") ∈ lw_all := lw_g (lw_at lw_m6 178 rfl) rfl
theorem q1453 : (Jvm.Cond.soleField "HeavierServesModel" "readHabitMany") ∈ lw_all := lw_g (lw_at lw_m6 179 rfl) rfl
theorem q1454 : (Jvm.Cond.lays "HeavierServesModel" "HeavierServesModel" "readMany" "I") ∈ lw_all := lw_g (lw_at lw_m6 180 rfl) rfl
theorem q1455 : (Jvm.Cond.soleField "HeavierServesModel" "readMany") ∈ lw_all := lw_g (lw_at lw_m6 181 rfl) rfl
theorem q1456 : (Jvm.Cond.laysFinal "HeavierServesModel" "HeavierServesModel" "code" "[I") ∈ lw_all := lw_g (lw_at lw_m6 182 rfl) rfl
theorem q1457 : (Jvm.Cond.soleField "HeavierServesModel" "code") ∈ lw_all := lw_g (lw_at lw_m6 183 rfl) rfl
theorem q1458 : (Jvm.Cond.laysFinal "HeavierServesModel" "HeavierServesModel" "readCode" "[I") ∈ lw_all := lw_g (lw_at lw_m6 184 rfl) rfl
theorem q1459 : (Jvm.Cond.soleField "HeavierServesModel" "readCode") ∈ lw_all := lw_g (lw_at lw_m6 185 rfl) rfl
theorem q1460 : (Jvm.Cond.lays "HeavierServesModel" "HeavierServesModel" "codeLong" "I") ∈ lw_all := lw_g (lw_at lw_m6 186 rfl) rfl
theorem q1461 : (Jvm.Cond.soleField "HeavierServesModel" "codeLong") ∈ lw_all := lw_g (lw_at lw_m6 187 rfl) rfl
theorem q1462 : (Jvm.Cond.lays "HeavierServesModel" "HeavierServesModel" "readLong" "I") ∈ lw_all := lw_g (lw_at lw_m6 188 rfl) rfl
theorem q1463 : (Jvm.Cond.soleField "HeavierServesModel" "readLong") ∈ lw_all := lw_g (lw_at lw_m6 189 rfl) rfl
theorem q1464 : (Jvm.Cond.laysFinal "HeavierServesModel" "HeavierServesModel" "stack" "[I") ∈ lw_all := lw_g (lw_at lw_m6 190 rfl) rfl
theorem q1465 : (Jvm.Cond.soleField "HeavierServesModel" "stack") ∈ lw_all := lw_g (lw_at lw_m6 191 rfl) rfl
theorem q1466 : (Jvm.Cond.lays "HeavierServesModel" "HeavierServesModel" "fell" "I") ∈ lw_all := lw_g (lw_at lw_m6 192 rfl) rfl
theorem q1467 : (Jvm.Cond.soleField "HeavierServesModel" "fell") ∈ lw_all := lw_g (lw_at lw_m6 193 rfl) rfl
theorem q1468 : (Jvm.Cond.lays "HeavierServesModel" "HeavierServesModel" "undos" "I") ∈ lw_all := lw_g (lw_at lw_m6 194 rfl) rfl
theorem q1469 : (Jvm.Cond.soleField "HeavierServesModel" "undos") ∈ lw_all := lw_g (lw_at lw_m6 195 rfl) rfl
theorem q1470 : (Jvm.Cond.laysFinal "HeavierServesModel" "HeavierServesModel" "undone" "[I") ∈ lw_all := lw_g (lw_at lw_m6 196 rfl) rfl
theorem q1471 : (Jvm.Cond.soleField "HeavierServesModel" "undone") ∈ lw_all := lw_g (lw_at lw_m6 197 rfl) rfl
theorem q1472 : (Jvm.Cond.laysFinal "HeavierServesModel" "HeavierServesModel" "readStand" "[I") ∈ lw_all := lw_g (lw_at lw_m6 198 rfl) rfl
theorem q1473 : (Jvm.Cond.soleField "HeavierServesModel" "readStand") ∈ lw_all := lw_g (lw_at lw_m6 199 rfl) rfl
theorem q1474 : (Jvm.Cond.lays "HeavierServesModel" "HeavierServesModel" "readWeeks" "I") ∈ lw_all := lw_g (lw_at lw_m6 200 rfl) rfl
theorem q1475 : (Jvm.Cond.soleField "HeavierServesModel" "readWeeks") ∈ lw_all := lw_g (lw_at lw_m6 201 rfl) rfl
theorem q1476 : (Jvm.Cond.laysFinal "HeavierServesModel" "HeavierServesModel" "servedFor" "[I") ∈ lw_all := lw_g (lw_at lw_m6 202 rfl) rfl
theorem q1477 : (Jvm.Cond.soleField "HeavierServesModel" "servedFor") ∈ lw_all := lw_g (lw_at lw_m6 203 rfl) rfl
theorem q1478 : (Jvm.Cond.laysFinal "HeavierServesModel" "HeavierServesModel" "plan" "[I") ∈ lw_all := lw_g (lw_at lw_m6 204 rfl) rfl
theorem q1479 : (Jvm.Cond.soleField "HeavierServesModel" "plan") ∈ lw_all := lw_g (lw_at lw_m6 205 rfl) rfl
theorem q1480 : (Jvm.Cond.lays "HeavierServesModel" "HeavierServesModel" "weighings" "I") ∈ lw_all := lw_g (lw_at lw_m6 206 rfl) rfl
theorem q1481 : (Jvm.Cond.soleField "HeavierServesModel" "weighings") ∈ lw_all := lw_g (lw_at lw_m6 207 rfl) rfl
theorem q1482 : (Jvm.Cond.laysFinal "HeavierServesModel" "HeavierServesModel" "weighedWho" "[I") ∈ lw_all := lw_g (lw_at lw_m6 208 rfl) rfl
theorem q1483 : (Jvm.Cond.soleField "HeavierServesModel" "weighedWho") ∈ lw_all := lw_g (lw_at lw_m6 209 rfl) rfl
theorem q1484 : (Jvm.Cond.laysFinal "HeavierServesModel" "HeavierServesModel" "weighedShown" "[I") ∈ lw_all := lw_g (lw_at lw_m6 210 rfl) rfl
theorem q1485 : (Jvm.Cond.soleField "HeavierServesModel" "weighedShown") ∈ lw_all := lw_g (lw_at lw_m6 211 rfl) rfl
theorem q1486 : (Jvm.Cond.lays "HeavierServesModel" "HeavierServesModel" "dates" "I") ∈ lw_all := lw_g (lw_at lw_m6 212 rfl) rfl
theorem q1487 : (Jvm.Cond.soleField "HeavierServesModel" "dates") ∈ lw_all := lw_g (lw_at lw_m6 213 rfl) rfl
theorem q1488 : (Jvm.Cond.laysFinal "HeavierServesModel" "HeavierServesModel" "dateWho" "[I") ∈ lw_all := lw_g (lw_at lw_m6 214 rfl) rfl
theorem q1489 : (Jvm.Cond.soleField "HeavierServesModel" "dateWho") ∈ lw_all := lw_g (lw_at lw_m6 215 rfl) rfl
theorem q1490 : (Jvm.Cond.laysFinal "HeavierServesModel" "HeavierServesModel" "dateWeek" "[I") ∈ lw_all := lw_g (lw_at lw_m6 216 rfl) rfl
theorem q1491 : (Jvm.Cond.soleField "HeavierServesModel" "dateWeek") ∈ lw_all := lw_g (lw_at lw_m6 217 rfl) rfl
theorem q1492 : (Jvm.Cond.laysFinal "HeavierServesModel" "HeavierServesModel" "chance" "[J") ∈ lw_all := lw_g (lw_at lw_m6 218 rfl) rfl
theorem q1493 : (Jvm.Cond.soleField "HeavierServesModel" "chance") ∈ lw_all := lw_g (lw_at lw_m6 219 rfl) rfl
theorem q1494 : (Jvm.Cond.laysFinal "HeavierServesModel" "HeavierServesModel" "chanceThen" "[J") ∈ lw_all := lw_g (lw_at lw_m6 220 rfl) rfl
theorem q1495 : (Jvm.Cond.soleField "HeavierServesModel" "chanceThen") ∈ lw_all := lw_g (lw_at lw_m6 221 rfl) rfl
theorem q1496 : (Jvm.Cond.laysFinal "HeavierServesModel" "HeavierServesModel" "behind" "[I") ∈ lw_all := lw_g (lw_at lw_m6 222 rfl) rfl
theorem q1497 : (Jvm.Cond.soleField "HeavierServesModel" "behind") ∈ lw_all := lw_g (lw_at lw_m6 223 rfl) rfl
theorem q1498 : (Jvm.Cond.laysFinal "HeavierServesModel" "HeavierServesModel" "isKept" "[Z") ∈ lw_all := lw_g (lw_at lw_m6 224 rfl) rfl
theorem q1499 : (Jvm.Cond.soleField "HeavierServesModel" "isKept") ∈ lw_all := lw_g (lw_at lw_m6 225 rfl) rfl
theorem q1500 : (Jvm.Cond.laysFinal "HeavierServesModel" "HeavierServesModel" "keptPeople" "[I") ∈ lw_all := lw_g (lw_at lw_m6 226 rfl) rfl
theorem q1501 : (Jvm.Cond.soleField "HeavierServesModel" "keptPeople") ∈ lw_all := lw_g (lw_at lw_m6 227 rfl) rfl
theorem q1502 : (Jvm.Cond.laysFinal "HeavierServesModel" "HeavierServesModel" "kept" "[I") ∈ lw_all := lw_g (lw_at lw_m6 228 rfl) rfl
theorem q1503 : (Jvm.Cond.soleField "HeavierServesModel" "kept") ∈ lw_all := lw_g (lw_at lw_m6 229 rfl) rfl
theorem q1504 : (Jvm.Cond.superclass "HeavierServesModel" "java/lang/Object") ∈ lw_all := lw_g (lw_at lw_m6 230 rfl) rfl
theorem q1507 : (Jvm.Cond.instanceMethod ({ cls := "HeavierServesModel", name := "sign", desc := "(I)I" } : Jvm.MethodName)) ∈ lw_all := lw_g (lw_at lw_m6 233 rfl) rfl
theorem q1508 : (Jvm.Cond.selects "HeavierServesModel" ({ cls := "HeavierServesModel", name := "sign", desc := "(I)I" } : Jvm.MethodName) ({ cls := "HeavierServesModel", name := "sign", desc := "(I)I" } : Jvm.MethodName)) ∈ lw_all := lw_g (lw_at lw_m6 234 rfl) rfl
theorem q1509 : (Jvm.Cond.code ({ cls := "HeavierServesModel", name := "sign", desc := "(I)I" } : Jvm.MethodName) prog_21_method_12_code (3 : Nat) (Option.some Jvm.ClassFile.FieldType.int)) ∈ lw_all := lw_g (lw_at lw_m6 235 rfl) rfl
theorem q1511 : (Jvm.Cond.instanceMethod ({ cls := "HeavierServesModel", name := "end", desc := "(I)Z" } : Jvm.MethodName)) ∈ lw_all := lw_g (lw_at lw_m6 237 rfl) rfl
theorem q1512 : (Jvm.Cond.selects "HeavierServesModel" ({ cls := "HeavierServesModel", name := "end", desc := "(I)Z" } : Jvm.MethodName) ({ cls := "HeavierServesModel", name := "end", desc := "(I)Z" } : Jvm.MethodName)) ∈ lw_all := lw_g (lw_at lw_m6 238 rfl) rfl
theorem q1513 : (Jvm.Cond.code ({ cls := "HeavierServesModel", name := "end", desc := "(I)Z" } : Jvm.MethodName) prog_21_method_13_code (2 : Nat) (Option.some Jvm.ClassFile.FieldType.boolean)) ∈ lw_all := lw_g (lw_at lw_m6 239 rfl) rfl
theorem q1514 : (Jvm.Cond.methodLink "HeavierServesModel" (120 : Nat) ({ cls := "HeavierServesModel", name := "in", desc := "(JJJ)Z" } : Jvm.MethodName)) ∈ lw_all := lw_g (lw_at lw_m7 0 rfl) rfl
theorem q1515 : (Jvm.Cond.static ({ cls := "HeavierServesModel", name := "in", desc := "(JJJ)Z" } : Jvm.MethodName)) ∈ lw_all := lw_g (lw_at lw_m7 1 rfl) rfl
theorem q1516 : (Jvm.Cond.code ({ cls := "HeavierServesModel", name := "in", desc := "(JJJ)Z" } : Jvm.MethodName) prog_21_method_3_code (6 : Nat) (Option.some Jvm.ClassFile.FieldType.boolean)) ∈ lw_all := lw_g (lw_at lw_m7 2 rfl) rfl
theorem q1518 : (Jvm.Cond.instanceMethod ({ cls := "HeavierServesModel", name := "town", desc := "()I" } : Jvm.MethodName)) ∈ lw_all := lw_g (lw_at lw_m7 4 rfl) rfl
theorem q1519 : (Jvm.Cond.selects "HeavierServesModel" ({ cls := "HeavierServesModel", name := "town", desc := "()I" } : Jvm.MethodName) ({ cls := "HeavierServesModel", name := "town", desc := "()I" } : Jvm.MethodName)) ∈ lw_all := lw_g (lw_at lw_m7 5 rfl) rfl
theorem q1520 : (Jvm.Cond.code ({ cls := "HeavierServesModel", name := "town", desc := "()I" } : Jvm.MethodName) prog_21_method_22_code (7 : Nat) (Option.some Jvm.ClassFile.FieldType.int)) ∈ lw_all := lw_g (lw_at lw_m7 6 rfl) rfl
theorem q1521 : (Jvm.Cond.methodLink "HeavierServesModel" (193 : Nat) ({ cls := "HeavierServesModel", name := "begins", desc := "(I)I" } : Jvm.MethodName)) ∈ lw_all := lw_g (lw_at lw_m7 7 rfl) rfl
theorem q1522 : (Jvm.Cond.privateMethod ({ cls := "HeavierServesModel", name := "begins", desc := "(I)I" } : Jvm.MethodName)) ∈ lw_tbl := lw_at lw_m7 8 rfl
theorem q1523 : (Jvm.Cond.instanceMethod ({ cls := "HeavierServesModel", name := "begins", desc := "(I)I" } : Jvm.MethodName)) ∈ lw_all := lw_g (lw_at lw_m7 9 rfl) rfl
theorem q1524 : (Jvm.Cond.code ({ cls := "HeavierServesModel", name := "begins", desc := "(I)I" } : Jvm.MethodName) prog_21_method_14_code (3 : Nat) (Option.some Jvm.ClassFile.FieldType.int)) ∈ lw_all := lw_g (lw_at lw_m7 10 rfl) rfl
theorem q1525 : (Jvm.Cond.methodLink "HeavierServesModel" (141 : Nat) ({ cls := "java/lang/Math", name := "min", desc := "(II)I" } : Jvm.MethodName)) ∈ lw_all := lw_g (lw_at lw_m7 11 rfl) rfl
theorem q1526 : (Jvm.Cond.methodLink "HeavierServesModel" (196 : Nat) ({ cls := "HeavierServesModel", name := "readsPerson", desc := "()Z" } : Jvm.MethodName)) ∈ lw_all := lw_g (lw_at lw_m7 12 rfl) rfl
theorem q1527 : (Jvm.Cond.privateMethod ({ cls := "HeavierServesModel", name := "readsPerson", desc := "()Z" } : Jvm.MethodName)) ∈ lw_tbl := lw_at lw_m7 13 rfl
theorem q1528 : (Jvm.Cond.instanceMethod ({ cls := "HeavierServesModel", name := "readsPerson", desc := "()Z" } : Jvm.MethodName)) ∈ lw_all := lw_g (lw_at lw_m7 14 rfl) rfl
theorem q1529 : (Jvm.Cond.code ({ cls := "HeavierServesModel", name := "readsPerson", desc := "()Z" } : Jvm.MethodName) prog_21_method_21_code (2 : Nat) (Option.some Jvm.ClassFile.FieldType.boolean)) ∈ lw_all := lw_g (lw_at lw_m7 15 rfl) rfl
theorem q1530 : (Jvm.Cond.methodLink "HeavierServesModel" (158 : Nat) ({ cls := "HeavierServesModel", name := "isDigit", desc := "()Z" } : Jvm.MethodName)) ∈ lw_all := lw_g (lw_at lw_m7 16 rfl) rfl
theorem q1531 : (Jvm.Cond.privateMethod ({ cls := "HeavierServesModel", name := "isDigit", desc := "()Z" } : Jvm.MethodName)) ∈ lw_tbl := lw_at lw_m7 17 rfl
theorem q1532 : (Jvm.Cond.instanceMethod ({ cls := "HeavierServesModel", name := "isDigit", desc := "()Z" } : Jvm.MethodName)) ∈ lw_all := lw_g (lw_at lw_m7 18 rfl) rfl
theorem q1533 : (Jvm.Cond.code ({ cls := "HeavierServesModel", name := "isDigit", desc := "()Z" } : Jvm.MethodName) prog_21_method_16_code (1 : Nat) (Option.some Jvm.ClassFile.FieldType.boolean)) ∈ lw_all := lw_g (lw_at lw_m7 19 rfl) rfl
theorem q1534 : (Jvm.Cond.constantLong "HeavierServesModel" (154 : Nat) (48 : Int64)) ∈ lw_all := lw_g (lw_at lw_m7 20 rfl) rfl
theorem q1535 : (Jvm.Cond.constantLong "HeavierServesModel" (156 : Nat) (57 : Int64)) ∈ lw_all := lw_g (lw_at lw_m7 21 rfl) rfl
theorem q1536 : (Jvm.Cond.methodLink "HeavierServesModel" (181 : Nat) ({ cls := "HeavierServesModel", name := "number", desc := "(I)I" } : Jvm.MethodName)) ∈ lw_all := lw_g (lw_at lw_m7 22 rfl) rfl
theorem q1537 : (Jvm.Cond.privateMethod ({ cls := "HeavierServesModel", name := "number", desc := "(I)I" } : Jvm.MethodName)) ∈ lw_tbl := lw_at lw_m7 23 rfl
theorem q1538 : (Jvm.Cond.instanceMethod ({ cls := "HeavierServesModel", name := "number", desc := "(I)I" } : Jvm.MethodName)) ∈ lw_all := lw_g (lw_at lw_m7 24 rfl) rfl
theorem q1539 : (Jvm.Cond.code ({ cls := "HeavierServesModel", name := "number", desc := "(I)I" } : Jvm.MethodName) prog_21_method_17_code (4 : Nat) (Option.some Jvm.ClassFile.FieldType.int)) ∈ lw_all := lw_g (lw_at lw_m7 25 rfl) rfl
theorem q1540 : (Jvm.Cond.methodLink "HeavierServesModel" (178 : Nat) ({ cls := "HeavierServesModel", name := "takes", desc := "(I)Z" } : Jvm.MethodName)) ∈ lw_all := lw_g (lw_at lw_m7 26 rfl) rfl
theorem q1541 : (Jvm.Cond.privateMethod ({ cls := "HeavierServesModel", name := "takes", desc := "(I)Z" } : Jvm.MethodName)) ∈ lw_tbl := lw_at lw_m7 27 rfl
theorem q1542 : (Jvm.Cond.instanceMethod ({ cls := "HeavierServesModel", name := "takes", desc := "(I)Z" } : Jvm.MethodName)) ∈ lw_all := lw_g (lw_at lw_m7 28 rfl) rfl
theorem q1543 : (Jvm.Cond.code ({ cls := "HeavierServesModel", name := "takes", desc := "(I)Z" } : Jvm.MethodName) prog_21_method_15_code (3 : Nat) (Option.some Jvm.ClassFile.FieldType.boolean)) ∈ lw_all := lw_g (lw_at lw_m7 29 rfl) rfl
theorem q1544 : (Jvm.Cond.methodLink "HeavierServesModel" (150 : Nat) ({ cls := "HeavierServesModel", name := "flag", desc := "(Z)I" } : Jvm.MethodName)) ∈ lw_all := lw_g (lw_at lw_m7 30 rfl) rfl
theorem q1545 : (Jvm.Cond.static ({ cls := "HeavierServesModel", name := "flag", desc := "(Z)I" } : Jvm.MethodName)) ∈ lw_all := lw_g (lw_at lw_m7 31 rfl) rfl
theorem q1546 : (Jvm.Cond.code ({ cls := "HeavierServesModel", name := "flag", desc := "(Z)I" } : Jvm.MethodName) prog_21_method_5_code (1 : Nat) (Option.some Jvm.ClassFile.FieldType.int)) ∈ lw_all := lw_g (lw_at lw_m7 32 rfl) rfl
theorem q1547 : (Jvm.Cond.stringRef "HeavierServesModel" (188 : Nat) "0123") ∈ lw_tbl := lw_at lw_m7 33 rfl
theorem q1548 : (Jvm.Cond.methodLink "HeavierServesModel" (174 : Nat) ({ cls := "HeavierServesModel", name := "among", desc := "(Ljava/lang/String;)I" } : Jvm.MethodName)) ∈ lw_all := lw_g (lw_at lw_m7 34 rfl) rfl
theorem q1549 : (Jvm.Cond.privateMethod ({ cls := "HeavierServesModel", name := "among", desc := "(Ljava/lang/String;)I" } : Jvm.MethodName)) ∈ lw_tbl := lw_at lw_m7 35 rfl
theorem q1550 : (Jvm.Cond.instanceMethod ({ cls := "HeavierServesModel", name := "among", desc := "(Ljava/lang/String;)I" } : Jvm.MethodName)) ∈ lw_all := lw_g (lw_at lw_m7 36 rfl) rfl
theorem q1551 : (Jvm.Cond.code ({ cls := "HeavierServesModel", name := "among", desc := "(Ljava/lang/String;)I" } : Jvm.MethodName) prog_21_method_18_code (3 : Nat) (Option.some Jvm.ClassFile.FieldType.int)) ∈ lw_all := lw_g (lw_at lw_m7 37 rfl) rfl
theorem q1552 : (Jvm.Cond.methodLink "HeavierServesModel" (162 : Nat) ({ cls := "java/lang/String", name := "length", desc := "()I" } : Jvm.MethodName)) ∈ lw_all := lw_g (lw_at lw_m7 38 rfl) rfl
theorem q1553 : (Jvm.Cond.methodLink "HeavierServesModel" (168 : Nat) ({ cls := "java/lang/String", name := "charAt", desc := "(I)C" } : Jvm.MethodName)) ∈ lw_all := lw_g (lw_at lw_m7 39 rfl) rfl
theorem q1573 : (Jvm.Cond.methodLink "HeavierServesModel" (190 : Nat) ({ cls := "HeavierServesModel", name := "readsHabit", desc := "(I)Z" } : Jvm.MethodName)) ∈ lw_all := lw_g (lw_at lw_m7 59 rfl) rfl
theorem q1574 : (Jvm.Cond.privateMethod ({ cls := "HeavierServesModel", name := "readsHabit", desc := "(I)Z" } : Jvm.MethodName)) ∈ lw_tbl := lw_at lw_m7 60 rfl
theorem q1575 : (Jvm.Cond.instanceMethod ({ cls := "HeavierServesModel", name := "readsHabit", desc := "(I)Z" } : Jvm.MethodName)) ∈ lw_all := lw_g (lw_at lw_m7 61 rfl) rfl
theorem q1576 : (Jvm.Cond.code ({ cls := "HeavierServesModel", name := "readsHabit", desc := "(I)Z" } : Jvm.MethodName) prog_21_method_20_code (4 : Nat) (Option.some Jvm.ClassFile.FieldType.boolean)) ∈ lw_all := lw_g (lw_at lw_m7 62 rfl) rfl
theorem q1577 : (Jvm.Cond.stringRef "HeavierServesModel" (172 : Nat) "+-") ∈ lw_tbl := lw_at lw_m7 63 rfl
theorem q1578 : (Jvm.Cond.methodLink "HeavierServesModel" (199 : Nat) ({ cls := "HeavierServesModel", name := "faultOf", desc := "(IIZ)I" } : Jvm.MethodName)) ∈ lw_all := lw_g (lw_at lw_m7 64 rfl) rfl
theorem q1579 : (Jvm.Cond.privateMethod ({ cls := "HeavierServesModel", name := "faultOf", desc := "(IIZ)I" } : Jvm.MethodName)) ∈ lw_tbl := lw_at lw_m7 65 rfl
theorem q1580 : (Jvm.Cond.instanceMethod ({ cls := "HeavierServesModel", name := "faultOf", desc := "(IIZ)I" } : Jvm.MethodName)) ∈ lw_all := lw_g (lw_at lw_m7 66 rfl) rfl
theorem q1581 : (Jvm.Cond.code ({ cls := "HeavierServesModel", name := "faultOf", desc := "(IIZ)I" } : Jvm.MethodName) prog_21_method_19_code (5 : Nat) (Option.some Jvm.ClassFile.FieldType.int)) ∈ lw_all := lw_g (lw_at lw_m7 67 rfl) rfl
theorem q1582 : (Jvm.Cond.methodLink "HeavierServesModel" (203 : Nat) ({ cls := "HeavierServesModel", name := "comes", desc := "(II)V" } : Jvm.MethodName)) ∈ lw_all := lw_g (lw_at lw_m7 68 rfl) rfl
theorem q1583 : (Jvm.Cond.privateMethod ({ cls := "HeavierServesModel", name := "comes", desc := "(II)V" } : Jvm.MethodName)) ∈ lw_tbl := lw_at lw_m7 69 rfl
theorem q1584 : (Jvm.Cond.instanceMethod ({ cls := "HeavierServesModel", name := "comes", desc := "(II)V" } : Jvm.MethodName)) ∈ lw_all := lw_g (lw_at lw_m7 70 rfl) rfl
theorem q1585 : (Jvm.Cond.code ({ cls := "HeavierServesModel", name := "comes", desc := "(II)V" } : Jvm.MethodName) prog_21_method_23_code (3 : Nat) (Option.none : Option Jvm.ClassFile.FieldType)) ∈ lw_all := lw_g (lw_at lw_m7 71 rfl) rfl
theorem q1586 : (Jvm.Cond.methodLink "HeavierServesModel" (210 : Nat) ({ cls := "HeavierServesModel", name := "putsHabit", desc := "(II)V" } : Jvm.MethodName)) ∈ lw_all := lw_g (lw_at lw_m7 72 rfl) rfl
theorem q1587 : (Jvm.Cond.privateMethod ({ cls := "HeavierServesModel", name := "putsHabit", desc := "(II)V" } : Jvm.MethodName)) ∈ lw_tbl := lw_at lw_m7 73 rfl
theorem q1588 : (Jvm.Cond.instanceMethod ({ cls := "HeavierServesModel", name := "putsHabit", desc := "(II)V" } : Jvm.MethodName)) ∈ lw_all := lw_g (lw_at lw_m7 74 rfl) rfl
theorem q1589 : (Jvm.Cond.code ({ cls := "HeavierServesModel", name := "putsHabit", desc := "(II)V" } : Jvm.MethodName) prog_21_method_24_code (4 : Nat) (Option.none : Option Jvm.ClassFile.FieldType)) ∈ lw_all := lw_g (lw_at lw_m7 75 rfl) rfl
theorem q1591 : (Jvm.Cond.instanceMethod ({ cls := "HeavierServesModel", name := "habit", desc := "(I)I" } : Jvm.MethodName)) ∈ lw_all := lw_g (lw_at lw_m7 77 rfl) rfl
theorem q1592 : (Jvm.Cond.selects "HeavierServesModel" ({ cls := "HeavierServesModel", name := "habit", desc := "(I)I" } : Jvm.MethodName) ({ cls := "HeavierServesModel", name := "habit", desc := "(I)I" } : Jvm.MethodName)) ∈ lw_all := lw_g (lw_at lw_m7 78 rfl) rfl
theorem q1593 : (Jvm.Cond.code ({ cls := "HeavierServesModel", name := "habit", desc := "(I)I" } : Jvm.MethodName) prog_21_method_25_code (5 : Nat) (Option.some Jvm.ClassFile.FieldType.int)) ∈ lw_all := lw_g (lw_at lw_m7 79 rfl) rfl
theorem q1594 : (Jvm.Cond.methodLink "HeavierServesModel" (124 : Nat) ({ cls := "HeavierServesModel", name := "isPerson", desc := "(I)Z" } : Jvm.MethodName)) ∈ lw_all := lw_g (lw_at lw_m7 80 rfl) rfl
theorem q1595 : (Jvm.Cond.privateMethod ({ cls := "HeavierServesModel", name := "isPerson", desc := "(I)Z" } : Jvm.MethodName)) ∈ lw_tbl := lw_at lw_m7 81 rfl
theorem q1596 : (Jvm.Cond.instanceMethod ({ cls := "HeavierServesModel", name := "isPerson", desc := "(I)Z" } : Jvm.MethodName)) ∈ lw_all := lw_g (lw_at lw_m7 82 rfl) rfl
theorem q1597 : (Jvm.Cond.code ({ cls := "HeavierServesModel", name := "isPerson", desc := "(I)Z" } : Jvm.MethodName) prog_21_method_10_code (2 : Nat) (Option.some Jvm.ClassFile.FieldType.boolean)) ∈ lw_all := lw_g (lw_at lw_m7 83 rfl) rfl
theorem q1599 : (Jvm.Cond.instanceMethod ({ cls := "HeavierServesModel", name := "will", desc := "()I" } : Jvm.MethodName)) ∈ lw_all := lw_g (lw_at lw_m7 85 rfl) rfl
theorem q1600 : (Jvm.Cond.selects "HeavierServesModel" ({ cls := "HeavierServesModel", name := "will", desc := "()I" } : Jvm.MethodName) ({ cls := "HeavierServesModel", name := "will", desc := "()I" } : Jvm.MethodName)) ∈ lw_all := lw_g (lw_at lw_m7 86 rfl) rfl
theorem q1601 : (Jvm.Cond.code ({ cls := "HeavierServesModel", name := "will", desc := "()I" } : Jvm.MethodName) prog_21_method_29_code (5 : Nat) (Option.some Jvm.ClassFile.FieldType.int)) ∈ lw_all := lw_g (lw_at lw_m7 87 rfl) rfl
theorem q1602 : (Jvm.Cond.methodLink "HeavierServesModel" (225 : Nat) ({ cls := "HeavierServesModel", name := "readsRank", desc := "(I)Z" } : Jvm.MethodName)) ∈ lw_all := lw_g (lw_at lw_m7 88 rfl) rfl
theorem q1603 : (Jvm.Cond.privateMethod ({ cls := "HeavierServesModel", name := "readsRank", desc := "(I)Z" } : Jvm.MethodName)) ∈ lw_tbl := lw_at lw_m7 89 rfl
theorem q1604 : (Jvm.Cond.instanceMethod ({ cls := "HeavierServesModel", name := "readsRank", desc := "(I)Z" } : Jvm.MethodName)) ∈ lw_all := lw_g (lw_at lw_m7 90 rfl) rfl
theorem q1605 : (Jvm.Cond.code ({ cls := "HeavierServesModel", name := "readsRank", desc := "(I)Z" } : Jvm.MethodName) prog_21_method_28_code (4 : Nat) (Option.some Jvm.ClassFile.FieldType.boolean)) ∈ lw_all := lw_g (lw_at lw_m7 91 rfl) rfl
theorem q1606 : (Jvm.Cond.methodLink "HeavierServesModel" (216 : Nat) ({ cls := "HeavierServesModel", name := "readsThing", desc := "()Z" } : Jvm.MethodName)) ∈ lw_all := lw_g (lw_at lw_m7 92 rfl) rfl
theorem q1607 : (Jvm.Cond.privateMethod ({ cls := "HeavierServesModel", name := "readsThing", desc := "()Z" } : Jvm.MethodName)) ∈ lw_tbl := lw_at lw_m7 93 rfl
theorem q1608 : (Jvm.Cond.instanceMethod ({ cls := "HeavierServesModel", name := "readsThing", desc := "()Z" } : Jvm.MethodName)) ∈ lw_all := lw_g (lw_at lw_m7 94 rfl) rfl
theorem q1609 : (Jvm.Cond.code ({ cls := "HeavierServesModel", name := "readsThing", desc := "()Z" } : Jvm.MethodName) prog_21_method_27_code (2 : Nat) (Option.some Jvm.ClassFile.FieldType.boolean)) ∈ lw_all := lw_g (lw_at lw_m7 95 rfl) rfl
theorem q1610 : (Jvm.Cond.methodLink "HeavierServesModel" (219 : Nat) ({ cls := "HeavierServesModel", name := "codes", desc := "(I)V" } : Jvm.MethodName)) ∈ lw_all := lw_g (lw_at lw_m7 96 rfl) rfl
theorem q1611 : (Jvm.Cond.privateMethod ({ cls := "HeavierServesModel", name := "codes", desc := "(I)V" } : Jvm.MethodName)) ∈ lw_tbl := lw_at lw_m7 97 rfl
theorem q1612 : (Jvm.Cond.instanceMethod ({ cls := "HeavierServesModel", name := "codes", desc := "(I)V" } : Jvm.MethodName)) ∈ lw_all := lw_g (lw_at lw_m7 98 rfl) rfl
theorem q1613 : (Jvm.Cond.code ({ cls := "HeavierServesModel", name := "codes", desc := "(I)V" } : Jvm.MethodName) prog_21_method_26_code (2 : Nat) (Option.none : Option Jvm.ClassFile.FieldType)) ∈ lw_all := lw_g (lw_at lw_m7 99 rfl) rfl
theorem q1614 : (Jvm.Cond.stringRef "HeavierServesModel" (223 : Nat) "iwpvqston") ∈ lw_tbl := lw_at lw_m7 100 rfl
theorem q1615 : (Jvm.Cond.stringRef "HeavierServesModel" (228 : Nat) "<>=") ∈ lw_tbl := lw_at lw_m7 101 rfl
theorem q1616 : (Jvm.Cond.stringRef "HeavierServesModel" (230 : Nat) "*/") ∈ lw_tbl := lw_at lw_m7 102 rfl
theorem q1618 : (Jvm.Cond.instanceMethod ({ cls := "HeavierServesModel", name := "of", desc := "(II)I" } : Jvm.MethodName)) ∈ lw_all := lw_g (lw_at lw_m7 104 rfl) rfl
theorem q1619 : (Jvm.Cond.selects "HeavierServesModel" ({ cls := "HeavierServesModel", name := "of", desc := "(II)I" } : Jvm.MethodName) ({ cls := "HeavierServesModel", name := "of", desc := "(II)I" } : Jvm.MethodName)) ∈ lw_all := lw_g (lw_at lw_m7 105 rfl) rfl
theorem q1620 : (Jvm.Cond.code ({ cls := "HeavierServesModel", name := "of", desc := "(II)I" } : Jvm.MethodName) prog_21_method_36_code (3 : Nat) (Option.some Jvm.ClassFile.FieldType.int)) ∈ lw_all := lw_g (lw_at lw_m7 106 rfl) rfl
theorem q1621 : (Jvm.Cond.constantLong "HeavierServesModel" (257 : Nat) (7 : Int64)) ∈ lw_all := lw_g (lw_at lw_m7 107 rfl) rfl
theorem q1622 : (Jvm.Cond.methodLink "HeavierServesModel" (259 : Nat) ({ cls := "HeavierServesModel", name := "refuse", desc := "()I" } : Jvm.MethodName)) ∈ lw_all := lw_g (lw_at lw_m7 108 rfl) rfl
theorem q1623 : (Jvm.Cond.privateMethod ({ cls := "HeavierServesModel", name := "refuse", desc := "()I" } : Jvm.MethodName)) ∈ lw_tbl := lw_at lw_m7 109 rfl
theorem q1624 : (Jvm.Cond.instanceMethod ({ cls := "HeavierServesModel", name := "refuse", desc := "()I" } : Jvm.MethodName)) ∈ lw_all := lw_g (lw_at lw_m7 110 rfl) rfl
theorem q1625 : (Jvm.Cond.code ({ cls := "HeavierServesModel", name := "refuse", desc := "()I" } : Jvm.MethodName) prog_21_method_2_code (1 : Nat) (Option.some Jvm.ClassFile.FieldType.int)) ∈ lw_all := lw_g (lw_at lw_m7 111 rfl) rfl
theorem q1626 : (Jvm.Cond.methodLink "HeavierServesModel" (128 : Nat) ({ cls := "HeavierServesModel", name := "has", desc := "(II)Z" } : Jvm.MethodName)) ∈ lw_all := lw_g (lw_at lw_m7 112 rfl) rfl
theorem q1627 : (Jvm.Cond.static ({ cls := "HeavierServesModel", name := "has", desc := "(II)Z" } : Jvm.MethodName)) ∈ lw_all := lw_g (lw_at lw_m7 113 rfl) rfl
theorem q1628 : (Jvm.Cond.code ({ cls := "HeavierServesModel", name := "has", desc := "(II)Z" } : Jvm.MethodName) prog_21_method_4_code (2 : Nat) (Option.some Jvm.ClassFile.FieldType.boolean)) ∈ lw_all := lw_g (lw_at lw_m7 114 rfl) rfl
theorem q1629 : (Jvm.Cond.methodLink "HeavierServesModel" (262 : Nat) ({ cls := "HeavierServesModel", name := "shows", desc := "(I)I" } : Jvm.MethodName)) ∈ lw_all := lw_g (lw_at lw_m7 115 rfl) rfl
theorem q1630 : (Jvm.Cond.privateMethod ({ cls := "HeavierServesModel", name := "shows", desc := "(I)I" } : Jvm.MethodName)) ∈ lw_tbl := lw_at lw_m7 116 rfl
theorem q1631 : (Jvm.Cond.instanceMethod ({ cls := "HeavierServesModel", name := "shows", desc := "(I)I" } : Jvm.MethodName)) ∈ lw_all := lw_g (lw_at lw_m7 117 rfl) rfl
theorem q1632 : (Jvm.Cond.code ({ cls := "HeavierServesModel", name := "shows", desc := "(I)I" } : Jvm.MethodName) prog_21_method_35_code (3 : Nat) (Option.some Jvm.ClassFile.FieldType.int)) ∈ lw_all := lw_g (lw_at lw_m7 118 rfl) rfl
theorem q1633 : (Jvm.Cond.methodLink "HeavierServesModel" (254 : Nat) ({ cls := "java/lang/Math", name := "max", desc := "(II)I" } : Jvm.MethodName)) ∈ lw_all := lw_g (lw_at lw_m7 119 rfl) rfl
theorem q1634 : (Jvm.Cond.methodLink "HeavierServesModel" (247 : Nat) ({ cls := "HeavierServesModel", name := "willOf", desc := "([II)I" } : Jvm.MethodName)) ∈ lw_all := lw_g (lw_at lw_m7 120 rfl) rfl
theorem q1635 : (Jvm.Cond.privateMethod ({ cls := "HeavierServesModel", name := "willOf", desc := "([II)I" } : Jvm.MethodName)) ∈ lw_tbl := lw_at lw_m7 121 rfl
theorem q1636 : (Jvm.Cond.instanceMethod ({ cls := "HeavierServesModel", name := "willOf", desc := "([II)I" } : Jvm.MethodName)) ∈ lw_all := lw_g (lw_at lw_m7 122 rfl) rfl
theorem q1637 : (Jvm.Cond.code ({ cls := "HeavierServesModel", name := "willOf", desc := "([II)I" } : Jvm.MethodName) prog_21_method_33_code (6 : Nat) (Option.some Jvm.ClassFile.FieldType.int)) ∈ lw_all := lw_g (lw_at lw_m7 123 rfl) rfl
theorem q1638 : (Jvm.Cond.methodLink "HeavierServesModel" (239 : Nat) ({ cls := "HeavierServesModel", name := "worked", desc := "(III)I" } : Jvm.MethodName)) ∈ lw_all := lw_g (lw_at lw_m7 124 rfl) rfl
theorem q1639 : (Jvm.Cond.static ({ cls := "HeavierServesModel", name := "worked", desc := "(III)I" } : Jvm.MethodName)) ∈ lw_all := lw_g (lw_at lw_m7 125 rfl) rfl
theorem q1640 : (Jvm.Cond.code ({ cls := "HeavierServesModel", name := "worked", desc := "(III)I" } : Jvm.MethodName) prog_21_method_32_code (3 : Nat) (Option.some Jvm.ClassFile.FieldType.int)) ∈ lw_all := lw_g (lw_at lw_m7 126 rfl) rfl
theorem q1641 : (Jvm.Cond.methodLink "HeavierServesModel" (243 : Nat) ({ cls := "HeavierServesModel", name := "thingOf", desc := "([III)I" } : Jvm.MethodName)) ∈ lw_all := lw_g (lw_at lw_m7 127 rfl) rfl
theorem q1642 : (Jvm.Cond.privateMethod ({ cls := "HeavierServesModel", name := "thingOf", desc := "([III)I" } : Jvm.MethodName)) ∈ lw_tbl := lw_at lw_m7 128 rfl
theorem q1643 : (Jvm.Cond.instanceMethod ({ cls := "HeavierServesModel", name := "thingOf", desc := "([III)I" } : Jvm.MethodName)) ∈ lw_all := lw_g (lw_at lw_m7 129 rfl) rfl
theorem q1644 : (Jvm.Cond.code ({ cls := "HeavierServesModel", name := "thingOf", desc := "([III)I" } : Jvm.MethodName) prog_21_method_31_code (5 : Nat) (Option.some Jvm.ClassFile.FieldType.int)) ∈ lw_all := lw_g (lw_at lw_m7 130 rfl) rfl
theorem q1645 : (Jvm.Cond.methodLink "HeavierServesModel" (235 : Nat) ({ cls := "HeavierServesModel", name := "holding", desc := "([I)I" } : Jvm.MethodName)) ∈ lw_all := lw_g (lw_at lw_m7 131 rfl) rfl
theorem q1646 : (Jvm.Cond.privateMethod ({ cls := "HeavierServesModel", name := "holding", desc := "([I)I" } : Jvm.MethodName)) ∈ lw_tbl := lw_at lw_m7 132 rfl
theorem q1647 : (Jvm.Cond.instanceMethod ({ cls := "HeavierServesModel", name := "holding", desc := "([I)I" } : Jvm.MethodName)) ∈ lw_all := lw_g (lw_at lw_m7 133 rfl) rfl
theorem q1648 : (Jvm.Cond.code ({ cls := "HeavierServesModel", name := "holding", desc := "([I)I" } : Jvm.MethodName) prog_21_method_30_code (4 : Nat) (Option.some Jvm.ClassFile.FieldType.int)) ∈ lw_all := lw_g (lw_at lw_m7 134 rfl) rfl
theorem q1650 : (Jvm.Cond.instanceMethod ({ cls := "HeavierServesModel", name := "change", desc := "(II)I" } : Jvm.MethodName)) ∈ lw_all := lw_g (lw_at lw_m7 136 rfl) rfl
theorem q1651 : (Jvm.Cond.selects "HeavierServesModel" ({ cls := "HeavierServesModel", name := "change", desc := "(II)I" } : Jvm.MethodName) ({ cls := "HeavierServesModel", name := "change", desc := "(II)I" } : Jvm.MethodName)) ∈ lw_all := lw_g (lw_at lw_m7 137 rfl) rfl
theorem q1652 : (Jvm.Cond.code ({ cls := "HeavierServesModel", name := "change", desc := "(II)I" } : Jvm.MethodName) prog_21_method_37_code (3 : Nat) (Option.some Jvm.ClassFile.FieldType.int)) ∈ lw_all := lw_g (lw_at lw_m7 138 rfl) rfl
theorem q1654 : (Jvm.Cond.instanceMethod ({ cls := "HeavierServesModel", name := "set", desc := "(III)I" } : Jvm.MethodName)) ∈ lw_all := lw_g (lw_at lw_m7 140 rfl) rfl
theorem q1655 : (Jvm.Cond.selects "HeavierServesModel" ({ cls := "HeavierServesModel", name := "set", desc := "(III)I" } : Jvm.MethodName) ({ cls := "HeavierServesModel", name := "set", desc := "(III)I" } : Jvm.MethodName)) ∈ lw_all := lw_g (lw_at lw_m7 141 rfl) rfl
theorem q1656 : (Jvm.Cond.code ({ cls := "HeavierServesModel", name := "set", desc := "(III)I" } : Jvm.MethodName) prog_21_method_38_code (7 : Nat) (Option.some Jvm.ClassFile.FieldType.int)) ∈ lw_all := lw_g (lw_at lw_m7 142 rfl) rfl
theorem q1657 : (Jvm.Cond.constantLong "HeavierServesModel" (265 : Nat) (999 : Int64)) ∈ lw_all := lw_g (lw_at lw_m7 143 rfl) rfl
theorem q1658 : (Jvm.Cond.constantLong "HeavierServesModel" (267 : Nat) (3 : Int64)) ∈ lw_all := lw_g (lw_at lw_m7 144 rfl) rfl
theorem q1659 : (Jvm.Cond.constantLong "HeavierServesModel" (269 : Nat) (9 : Int64)) ∈ lw_all := lw_g (lw_at lw_m7 145 rfl) rfl
theorem q1661 : (Jvm.Cond.instanceMethod ({ cls := "HeavierServesModel", name := "scale", desc := "(II)Z" } : Jvm.MethodName)) ∈ lw_all := lw_g (lw_at lw_m7 147 rfl) rfl
theorem q1662 : (Jvm.Cond.selects "HeavierServesModel" ({ cls := "HeavierServesModel", name := "scale", desc := "(II)Z" } : Jvm.MethodName) ({ cls := "HeavierServesModel", name := "scale", desc := "(II)Z" } : Jvm.MethodName)) ∈ lw_all := lw_g (lw_at lw_m7 148 rfl) rfl
theorem q1663 : (Jvm.Cond.code ({ cls := "HeavierServesModel", name := "scale", desc := "(II)Z" } : Jvm.MethodName) prog_21_method_39_code (3 : Nat) (Option.some Jvm.ClassFile.FieldType.boolean)) ∈ lw_all := lw_g (lw_at lw_m7 149 rfl) rfl
theorem q1664 : (Jvm.Cond.constantLong "HeavierServesModel" (271 : Nat) (-9 : Int64)) ∈ lw_all := lw_g (lw_at lw_m7 150 rfl) rfl
theorem q1666 : (Jvm.Cond.instanceMethod ({ cls := "HeavierServesModel", name := "sheet", desc := "(IIII)I" } : Jvm.MethodName)) ∈ lw_all := lw_g (lw_at lw_m7 152 rfl) rfl
theorem q1667 : (Jvm.Cond.selects "HeavierServesModel" ({ cls := "HeavierServesModel", name := "sheet", desc := "(IIII)I" } : Jvm.MethodName) ({ cls := "HeavierServesModel", name := "sheet", desc := "(IIII)I" } : Jvm.MethodName)) ∈ lw_all := lw_g (lw_at lw_m7 153 rfl) rfl
theorem q1668 : (Jvm.Cond.code ({ cls := "HeavierServesModel", name := "sheet", desc := "(IIII)I" } : Jvm.MethodName) prog_21_method_40_code (9 : Nat) (Option.some Jvm.ClassFile.FieldType.int)) ∈ lw_all := lw_g (lw_at lw_m7 154 rfl) rfl
theorem q1670 : (Jvm.Cond.instanceMethod ({ cls := "HeavierServesModel", name := "undo", desc := "()I" } : Jvm.MethodName)) ∈ lw_all := lw_g (lw_at lw_m7 156 rfl) rfl
theorem q1671 : (Jvm.Cond.selects "HeavierServesModel" ({ cls := "HeavierServesModel", name := "undo", desc := "()I" } : Jvm.MethodName) ({ cls := "HeavierServesModel", name := "undo", desc := "()I" } : Jvm.MethodName)) ∈ lw_all := lw_g (lw_at lw_m7 157 rfl) rfl
theorem q1672 : (Jvm.Cond.code ({ cls := "HeavierServesModel", name := "undo", desc := "()I" } : Jvm.MethodName) prog_21_method_45_code (2 : Nat) (Option.some Jvm.ClassFile.FieldType.int)) ∈ lw_all := lw_g (lw_at lw_m7 158 rfl) rfl
theorem q1674 : (Jvm.Cond.instanceMethod ({ cls := "HeavierServesModel", name := "stand", desc := "(I)I" } : Jvm.MethodName)) ∈ lw_all := lw_g (lw_at lw_m7 160 rfl) rfl
theorem q1675 : (Jvm.Cond.selects "HeavierServesModel" ({ cls := "HeavierServesModel", name := "stand", desc := "(I)I" } : Jvm.MethodName) ({ cls := "HeavierServesModel", name := "stand", desc := "(I)I" } : Jvm.MethodName)) ∈ lw_all := lw_g (lw_at lw_m7 161 rfl) rfl
theorem q1676 : (Jvm.Cond.code ({ cls := "HeavierServesModel", name := "stand", desc := "(I)I" } : Jvm.MethodName) prog_21_method_46_code (3 : Nat) (Option.some Jvm.ClassFile.FieldType.int)) ∈ lw_all := lw_g (lw_at lw_m7 162 rfl) rfl
theorem q1677 : (Jvm.Cond.methodLink "HeavierServesModel" (279 : Nat) ({ cls := "HeavierServesModel", name := "putsBy", desc := "()V" } : Jvm.MethodName)) ∈ lw_all := lw_g (lw_at lw_m7 163 rfl) rfl
theorem q1678 : (Jvm.Cond.privateMethod ({ cls := "HeavierServesModel", name := "putsBy", desc := "()V" } : Jvm.MethodName)) ∈ lw_tbl := lw_at lw_m7 164 rfl
theorem q1679 : (Jvm.Cond.instanceMethod ({ cls := "HeavierServesModel", name := "putsBy", desc := "()V" } : Jvm.MethodName)) ∈ lw_all := lw_g (lw_at lw_m7 165 rfl) rfl
theorem q1680 : (Jvm.Cond.code ({ cls := "HeavierServesModel", name := "putsBy", desc := "()V" } : Jvm.MethodName) prog_21_method_44_code (2 : Nat) (Option.none : Option Jvm.ClassFile.FieldType)) ∈ lw_all := lw_g (lw_at lw_m7 166 rfl) rfl
theorem q1681 : (Jvm.Cond.methodLink "HeavierServesModel" (282 : Nat) ({ cls := "HeavierServesModel", name := "goes", desc := "([II)V" } : Jvm.MethodName)) ∈ lw_all := lw_g (lw_at lw_m7 167 rfl) rfl
theorem q1682 : (Jvm.Cond.privateMethod ({ cls := "HeavierServesModel", name := "goes", desc := "([II)V" } : Jvm.MethodName)) ∈ lw_tbl := lw_at lw_m7 168 rfl
theorem q1683 : (Jvm.Cond.instanceMethod ({ cls := "HeavierServesModel", name := "goes", desc := "([II)V" } : Jvm.MethodName)) ∈ lw_all := lw_g (lw_at lw_m7 169 rfl) rfl
theorem q1684 : (Jvm.Cond.code ({ cls := "HeavierServesModel", name := "goes", desc := "([II)V" } : Jvm.MethodName) prog_21_method_41_code (6 : Nat) (Option.none : Option Jvm.ClassFile.FieldType)) ∈ lw_all := lw_g (lw_at lw_m7 170 rfl) rfl
theorem q1685 : (Jvm.Cond.methodLink "HeavierServesModel" (276 : Nat) ({ cls := "HeavierServesModel", name := "falls", desc := "([I)I" } : Jvm.MethodName)) ∈ lw_all := lw_g (lw_at lw_m7 171 rfl) rfl
theorem q1686 : (Jvm.Cond.privateMethod ({ cls := "HeavierServesModel", name := "falls", desc := "([I)I" } : Jvm.MethodName)) ∈ lw_tbl := lw_at lw_m7 172 rfl
theorem q1687 : (Jvm.Cond.instanceMethod ({ cls := "HeavierServesModel", name := "falls", desc := "([I)I" } : Jvm.MethodName)) ∈ lw_all := lw_g (lw_at lw_m7 173 rfl) rfl
theorem q1688 : (Jvm.Cond.code ({ cls := "HeavierServesModel", name := "falls", desc := "([I)I" } : Jvm.MethodName) prog_21_method_42_code (4 : Nat) (Option.some Jvm.ClassFile.FieldType.int)) ∈ lw_all := lw_g (lw_at lw_m7 174 rfl) rfl
theorem q1689 : (Jvm.Cond.methodLink "HeavierServesModel" (18 : Nat) ({ cls := "HeavierServesModel", name := "enters", desc := "(J)V" } : Jvm.MethodName)) ∈ lw_all := lw_g (lw_at lw_m7 175 rfl) rfl
theorem q1690 : (Jvm.Cond.privateMethod ({ cls := "HeavierServesModel", name := "enters", desc := "(J)V" } : Jvm.MethodName)) ∈ lw_tbl := lw_at lw_m7 176 rfl
theorem q1691 : (Jvm.Cond.instanceMethod ({ cls := "HeavierServesModel", name := "enters", desc := "(J)V" } : Jvm.MethodName)) ∈ lw_all := lw_g (lw_at lw_m7 177 rfl) rfl
theorem q1692 : (Jvm.Cond.code ({ cls := "HeavierServesModel", name := "enters", desc := "(J)V" } : Jvm.MethodName) prog_21_method_7_code (3 : Nat) (Option.none : Option Jvm.ClassFile.FieldType)) ∈ lw_all := lw_g (lw_at lw_m7 178 rfl) rfl
theorem q1694 : (Jvm.Cond.instanceMethod ({ cls := "HeavierServesModel", name := "weeks", desc := "(I)I" } : Jvm.MethodName)) ∈ lw_all := lw_g (lw_at lw_m7 180 rfl) rfl
theorem q1695 : (Jvm.Cond.selects "HeavierServesModel" ({ cls := "HeavierServesModel", name := "weeks", desc := "(I)I" } : Jvm.MethodName) ({ cls := "HeavierServesModel", name := "weeks", desc := "(I)I" } : Jvm.MethodName)) ∈ lw_all := lw_g (lw_at lw_m7 181 rfl) rfl
theorem q1696 : (Jvm.Cond.code ({ cls := "HeavierServesModel", name := "weeks", desc := "(I)I" } : Jvm.MethodName) prog_21_method_47_code (5 : Nat) (Option.some Jvm.ClassFile.FieldType.int)) ∈ lw_all := lw_g (lw_at lw_m7 182 rfl) rfl
theorem q1697 : (Jvm.Cond.constantLong "HeavierServesModel" (286 : Nat) (99 : Int64)) ∈ lw_all := lw_g (lw_at lw_m7 183 rfl) rfl
theorem q1698 : (Jvm.Cond.methodLink "HeavierServesModel" (288 : Nat) ({ cls := "HeavierServesModel", name := "willing", desc := "([I)I" } : Jvm.MethodName)) ∈ lw_all := lw_g (lw_at lw_m7 184 rfl) rfl
theorem q1699 : (Jvm.Cond.privateMethod ({ cls := "HeavierServesModel", name := "willing", desc := "([I)I" } : Jvm.MethodName)) ∈ lw_tbl := lw_at lw_m7 185 rfl
theorem q1700 : (Jvm.Cond.instanceMethod ({ cls := "HeavierServesModel", name := "willing", desc := "([I)I" } : Jvm.MethodName)) ∈ lw_all := lw_g (lw_at lw_m7 186 rfl) rfl
theorem q1701 : (Jvm.Cond.code ({ cls := "HeavierServesModel", name := "willing", desc := "([I)I" } : Jvm.MethodName) prog_21_method_34_code (4 : Nat) (Option.some Jvm.ClassFile.FieldType.int)) ∈ lw_all := lw_g (lw_at lw_m7 187 rfl) rfl
theorem q1703 : (Jvm.Cond.instanceMethod ({ cls := "HeavierServesModel", name := "year", desc := "()I" } : Jvm.MethodName)) ∈ lw_all := lw_g (lw_at lw_m7 189 rfl) rfl
theorem q1704 : (Jvm.Cond.selects "HeavierServesModel" ({ cls := "HeavierServesModel", name := "year", desc := "()I" } : Jvm.MethodName) ({ cls := "HeavierServesModel", name := "year", desc := "()I" } : Jvm.MethodName)) ∈ lw_all := lw_g (lw_at lw_m7 190 rfl) rfl
theorem q1705 : (Jvm.Cond.code ({ cls := "HeavierServesModel", name := "year", desc := "()I" } : Jvm.MethodName) prog_21_method_49_code (5 : Nat) (Option.some Jvm.ClassFile.FieldType.int)) ∈ lw_all := lw_g (lw_at lw_m7 191 rfl) rfl
theorem q1706 : (Jvm.Cond.methodLink "HeavierServesModel" (294 : Nat) ({ cls := "HeavierServesModel", name := "readsWeek", desc := "()V" } : Jvm.MethodName)) ∈ lw_all := lw_g (lw_at lw_m7 192 rfl) rfl
theorem q1707 : (Jvm.Cond.privateMethod ({ cls := "HeavierServesModel", name := "readsWeek", desc := "()V" } : Jvm.MethodName)) ∈ lw_tbl := lw_at lw_m7 193 rfl
theorem q1708 : (Jvm.Cond.instanceMethod ({ cls := "HeavierServesModel", name := "readsWeek", desc := "()V" } : Jvm.MethodName)) ∈ lw_all := lw_g (lw_at lw_m7 194 rfl) rfl
theorem q1709 : (Jvm.Cond.code ({ cls := "HeavierServesModel", name := "readsWeek", desc := "()V" } : Jvm.MethodName) prog_21_method_48_code (3 : Nat) (Option.none : Option Jvm.ClassFile.FieldType)) ∈ lw_all := lw_g (lw_at lw_m7 195 rfl) rfl
theorem q1711 : (Jvm.Cond.instanceMethod ({ cls := "HeavierServesModel", name := "law", desc := "()I" } : Jvm.MethodName)) ∈ lw_all := lw_g (lw_at lw_m7 197 rfl) rfl
theorem q1712 : (Jvm.Cond.selects "HeavierServesModel" ({ cls := "HeavierServesModel", name := "law", desc := "()I" } : Jvm.MethodName) ({ cls := "HeavierServesModel", name := "law", desc := "()I" } : Jvm.MethodName)) ∈ lw_all := lw_g (lw_at lw_m7 198 rfl) rfl
theorem q1713 : (Jvm.Cond.code ({ cls := "HeavierServesModel", name := "law", desc := "()I" } : Jvm.MethodName) prog_21_method_50_code (2 : Nat) (Option.some Jvm.ClassFile.FieldType.int)) ∈ lw_all := lw_g (lw_at lw_m7 199 rfl) rfl
theorem q1715 : (Jvm.Cond.instanceMethod ({ cls := "HeavierServesModel", name := "laws", desc := "(II)I" } : Jvm.MethodName)) ∈ lw_all := lw_g (lw_at lw_m7 201 rfl) rfl
theorem q1716 : (Jvm.Cond.selects "HeavierServesModel" ({ cls := "HeavierServesModel", name := "laws", desc := "(II)I" } : Jvm.MethodName) ({ cls := "HeavierServesModel", name := "laws", desc := "(II)I" } : Jvm.MethodName)) ∈ lw_all := lw_g (lw_at lw_m7 202 rfl) rfl
theorem q1717 : (Jvm.Cond.code ({ cls := "HeavierServesModel", name := "laws", desc := "(II)I" } : Jvm.MethodName) prog_21_method_51_code (3 : Nat) (Option.some Jvm.ClassFile.FieldType.int)) ∈ lw_all := lw_g (lw_at lw_m7 203 rfl) rfl
theorem q1719 : (Jvm.Cond.instanceMethod ({ cls := "HeavierServesModel", name := "feed", desc := "(II)I" } : Jvm.MethodName)) ∈ lw_all := lw_g (lw_at lw_m7 205 rfl) rfl
theorem q1720 : (Jvm.Cond.selects "HeavierServesModel" ({ cls := "HeavierServesModel", name := "feed", desc := "(II)I" } : Jvm.MethodName) ({ cls := "HeavierServesModel", name := "feed", desc := "(II)I" } : Jvm.MethodName)) ∈ lw_all := lw_g (lw_at lw_m7 206 rfl) rfl
theorem q1721 : (Jvm.Cond.code ({ cls := "HeavierServesModel", name := "feed", desc := "(II)I" } : Jvm.MethodName) prog_21_method_53_code (3 : Nat) (Option.some Jvm.ClassFile.FieldType.int)) ∈ lw_all := lw_g (lw_at lw_m7 207 rfl) rfl
theorem q1722 : (Jvm.Cond.methodLink "HeavierServesModel" (297 : Nat) ({ cls := "HeavierServesModel", name := "isAlive", desc := "(I)Z" } : Jvm.MethodName)) ∈ lw_all := lw_g (lw_at lw_m7 208 rfl) rfl
theorem q1723 : (Jvm.Cond.privateMethod ({ cls := "HeavierServesModel", name := "isAlive", desc := "(I)Z" } : Jvm.MethodName)) ∈ lw_tbl := lw_at lw_m7 209 rfl
theorem q1724 : (Jvm.Cond.instanceMethod ({ cls := "HeavierServesModel", name := "isAlive", desc := "(I)Z" } : Jvm.MethodName)) ∈ lw_all := lw_g (lw_at lw_m7 210 rfl) rfl
theorem q1725 : (Jvm.Cond.code ({ cls := "HeavierServesModel", name := "isAlive", desc := "(I)Z" } : Jvm.MethodName) prog_21_method_11_code (2 : Nat) (Option.some Jvm.ClassFile.FieldType.boolean)) ∈ lw_all := lw_g (lw_at lw_m7 211 rfl) rfl
theorem q1726 : (Jvm.Cond.methodLink "HeavierServesModel" (300 : Nat) ({ cls := "HeavierServesModel", name := "eats", desc := "(II)I" } : Jvm.MethodName)) ∈ lw_all := lw_g (lw_at lw_m7 212 rfl) rfl
theorem q1727 : (Jvm.Cond.privateMethod ({ cls := "HeavierServesModel", name := "eats", desc := "(II)I" } : Jvm.MethodName)) ∈ lw_tbl := lw_at lw_m7 213 rfl
theorem q1728 : (Jvm.Cond.instanceMethod ({ cls := "HeavierServesModel", name := "eats", desc := "(II)I" } : Jvm.MethodName)) ∈ lw_all := lw_g (lw_at lw_m7 214 rfl) rfl
theorem q1729 : (Jvm.Cond.code ({ cls := "HeavierServesModel", name := "eats", desc := "(II)I" } : Jvm.MethodName) prog_21_method_52_code (3 : Nat) (Option.some Jvm.ClassFile.FieldType.int)) ∈ lw_all := lw_g (lw_at lw_m7 215 rfl) rfl
theorem q1731 : (Jvm.Cond.instanceMethod ({ cls := "HeavierServesModel", name := "fast", desc := "(II)I" } : Jvm.MethodName)) ∈ lw_all := lw_g (lw_at lw_m7 217 rfl) rfl
theorem q1732 : (Jvm.Cond.selects "HeavierServesModel" ({ cls := "HeavierServesModel", name := "fast", desc := "(II)I" } : Jvm.MethodName) ({ cls := "HeavierServesModel", name := "fast", desc := "(II)I" } : Jvm.MethodName)) ∈ lw_all := lw_g (lw_at lw_m7 218 rfl) rfl
theorem q1733 : (Jvm.Cond.code ({ cls := "HeavierServesModel", name := "fast", desc := "(II)I" } : Jvm.MethodName) prog_21_method_54_code (3 : Nat) (Option.some Jvm.ClassFile.FieldType.int)) ∈ lw_all := lw_g (lw_at lw_m7 219 rfl) rfl
theorem q1735 : (Jvm.Cond.instanceMethod ({ cls := "HeavierServesModel", name := "dies", desc := "(I)I" } : Jvm.MethodName)) ∈ lw_all := lw_g (lw_at lw_m7 221 rfl) rfl
theorem q1736 : (Jvm.Cond.selects "HeavierServesModel" ({ cls := "HeavierServesModel", name := "dies", desc := "(I)I" } : Jvm.MethodName) ({ cls := "HeavierServesModel", name := "dies", desc := "(I)I" } : Jvm.MethodName)) ∈ lw_all := lw_g (lw_at lw_m7 222 rfl) rfl
theorem q1737 : (Jvm.Cond.code ({ cls := "HeavierServesModel", name := "dies", desc := "(I)I" } : Jvm.MethodName) prog_21_method_55_code (3 : Nat) (Option.some Jvm.ClassFile.FieldType.int)) ∈ lw_all := lw_g (lw_at lw_m7 223 rfl) rfl
theorem q1739 : (Jvm.Cond.instanceMethod ({ cls := "HeavierServesModel", name := "served", desc := "(I)I" } : Jvm.MethodName)) ∈ lw_all := lw_g (lw_at lw_m7 225 rfl) rfl
theorem q1740 : (Jvm.Cond.selects "HeavierServesModel" ({ cls := "HeavierServesModel", name := "served", desc := "(I)I" } : Jvm.MethodName) ({ cls := "HeavierServesModel", name := "served", desc := "(I)I" } : Jvm.MethodName)) ∈ lw_all := lw_g (lw_at lw_m7 226 rfl) rfl
theorem q1741 : (Jvm.Cond.code ({ cls := "HeavierServesModel", name := "served", desc := "(I)I" } : Jvm.MethodName) prog_21_method_56_code (2 : Nat) (Option.some Jvm.ClassFile.FieldType.int)) ∈ lw_all := lw_g (lw_at lw_m7 227 rfl) rfl
theorem q1743 : (Jvm.Cond.instanceMethod ({ cls := "HeavierServesModel", name := "later", desc := "(II)I" } : Jvm.MethodName)) ∈ lw_all := lw_g (lw_at lw_m7 229 rfl) rfl
theorem q1744 : (Jvm.Cond.selects "HeavierServesModel" ({ cls := "HeavierServesModel", name := "later", desc := "(II)I" } : Jvm.MethodName) ({ cls := "HeavierServesModel", name := "later", desc := "(II)I" } : Jvm.MethodName)) ∈ lw_all := lw_g (lw_at lw_m7 230 rfl) rfl
theorem q1745 : (Jvm.Cond.code ({ cls := "HeavierServesModel", name := "later", desc := "(II)I" } : Jvm.MethodName) prog_21_method_61_code (3 : Nat) (Option.some Jvm.ClassFile.FieldType.int)) ∈ lw_all := lw_g (lw_at lw_m7 231 rfl) rfl
theorem q1746 : (Jvm.Cond.methodLink "HeavierServesModel" (310 : Nat) ({ cls := "HeavierServesModel", name := "areWeeks", desc := "(I)Z" } : Jvm.MethodName)) ∈ lw_all := lw_g (lw_at lw_m7 232 rfl) rfl
theorem q1747 : (Jvm.Cond.static ({ cls := "HeavierServesModel", name := "areWeeks", desc := "(I)Z" } : Jvm.MethodName)) ∈ lw_all := lw_g (lw_at lw_m7 233 rfl) rfl
theorem q1748 : (Jvm.Cond.code ({ cls := "HeavierServesModel", name := "areWeeks", desc := "(I)Z" } : Jvm.MethodName) prog_21_method_60_code (1 : Nat) (Option.some Jvm.ClassFile.FieldType.boolean)) ∈ lw_all := lw_g (lw_at lw_m7 234 rfl) rfl
theorem q1749 : (Jvm.Cond.methodLink "HeavierServesModel" (313 : Nat) ({ cls := "HeavierServesModel", name := "starts", desc := "()V" } : Jvm.MethodName)) ∈ lw_all := lw_g (lw_at lw_m7 235 rfl) rfl
theorem q1750 : (Jvm.Cond.privateMethod ({ cls := "HeavierServesModel", name := "starts", desc := "()V" } : Jvm.MethodName)) ∈ lw_tbl := lw_at lw_m7 236 rfl
theorem q1751 : (Jvm.Cond.instanceMethod ({ cls := "HeavierServesModel", name := "starts", desc := "()V" } : Jvm.MethodName)) ∈ lw_all := lw_g (lw_at lw_m7 237 rfl) rfl
theorem q1752 : (Jvm.Cond.code ({ cls := "HeavierServesModel", name := "starts", desc := "()V" } : Jvm.MethodName) prog_21_method_57_code (2 : Nat) (Option.none : Option Jvm.ClassFile.FieldType)) ∈ lw_all := lw_g (lw_at lw_m7 238 rfl) rfl
theorem q1753 : (Jvm.Cond.methodLink "HeavierServesModel" (303 : Nat) ({ cls := "HeavierServesModel", name := "puts", desc := "([I[I)V" } : Jvm.MethodName)) ∈ lw_all := lw_g (lw_at lw_m7 239 rfl) rfl
theorem q1754 : (Jvm.Cond.static ({ cls := "HeavierServesModel", name := "puts", desc := "([I[I)V" } : Jvm.MethodName)) ∈ lw_all := lw_g (lw_at lw_m8 0 rfl) rfl
theorem q1755 : (Jvm.Cond.code ({ cls := "HeavierServesModel", name := "puts", desc := "([I[I)V" } : Jvm.MethodName) prog_21_method_43_code (3 : Nat) (Option.none : Option Jvm.ClassFile.FieldType)) ∈ lw_all := lw_g (lw_at lw_m8 1 rfl) rfl
theorem q1756 : (Jvm.Cond.methodLink "HeavierServesModel" (316 : Nat) ({ cls := "HeavierServesModel", name := "goesBy", desc := "(II)V" } : Jvm.MethodName)) ∈ lw_all := lw_g (lw_at lw_m8 2 rfl) rfl
theorem q1757 : (Jvm.Cond.privateMethod ({ cls := "HeavierServesModel", name := "goesBy", desc := "(II)V" } : Jvm.MethodName)) ∈ lw_tbl := lw_at lw_m8 3 rfl
theorem q1758 : (Jvm.Cond.instanceMethod ({ cls := "HeavierServesModel", name := "goesBy", desc := "(II)V" } : Jvm.MethodName)) ∈ lw_all := lw_g (lw_at lw_m8 4 rfl) rfl
theorem q1759 : (Jvm.Cond.code ({ cls := "HeavierServesModel", name := "goesBy", desc := "(II)V" } : Jvm.MethodName) prog_21_method_59_code (4 : Nat) (Option.none : Option Jvm.ClassFile.FieldType)) ∈ lw_all := lw_g (lw_at lw_m8 5 rfl) rfl
theorem q1760 : (Jvm.Cond.methodLink "HeavierServesModel" (307 : Nat) ({ cls := "HeavierServesModel", name := "goesNext", desc := "(I)V" } : Jvm.MethodName)) ∈ lw_all := lw_g (lw_at lw_m8 6 rfl) rfl
theorem q1761 : (Jvm.Cond.privateMethod ({ cls := "HeavierServesModel", name := "goesNext", desc := "(I)V" } : Jvm.MethodName)) ∈ lw_tbl := lw_at lw_m8 7 rfl
theorem q1762 : (Jvm.Cond.instanceMethod ({ cls := "HeavierServesModel", name := "goesNext", desc := "(I)V" } : Jvm.MethodName)) ∈ lw_all := lw_g (lw_at lw_m8 8 rfl) rfl
theorem q1763 : (Jvm.Cond.code ({ cls := "HeavierServesModel", name := "goesNext", desc := "(I)V" } : Jvm.MethodName) prog_21_method_58_code (2 : Nat) (Option.none : Option Jvm.ClassFile.FieldType)) ∈ lw_all := lw_g (lw_at lw_m8 9 rfl) rfl
theorem q1765 : (Jvm.Cond.instanceMethod ({ cls := "HeavierServesModel", name := "then", desc := "(I)I" } : Jvm.MethodName)) ∈ lw_all := lw_g (lw_at lw_m8 11 rfl) rfl
theorem q1766 : (Jvm.Cond.selects "HeavierServesModel" ({ cls := "HeavierServesModel", name := "then", desc := "(I)I" } : Jvm.MethodName) ({ cls := "HeavierServesModel", name := "then", desc := "(I)I" } : Jvm.MethodName)) ∈ lw_all := lw_g (lw_at lw_m8 12 rfl) rfl
theorem q1767 : (Jvm.Cond.code ({ cls := "HeavierServesModel", name := "then", desc := "(I)I" } : Jvm.MethodName) prog_21_method_62_code (3 : Nat) (Option.some Jvm.ClassFile.FieldType.int)) ∈ lw_all := lw_g (lw_at lw_m8 13 rfl) rfl
theorem q1769 : (Jvm.Cond.instanceMethod ({ cls := "HeavierServesModel", name := "soonest", desc := "(I)I" } : Jvm.MethodName)) ∈ lw_all := lw_g (lw_at lw_m8 15 rfl) rfl
theorem q1770 : (Jvm.Cond.selects "HeavierServesModel" ({ cls := "HeavierServesModel", name := "soonest", desc := "(I)I" } : Jvm.MethodName) ({ cls := "HeavierServesModel", name := "soonest", desc := "(I)I" } : Jvm.MethodName)) ∈ lw_all := lw_g (lw_at lw_m8 16 rfl) rfl
theorem q1771 : (Jvm.Cond.code ({ cls := "HeavierServesModel", name := "soonest", desc := "(I)I" } : Jvm.MethodName) prog_21_method_63_code (3 : Nat) (Option.some Jvm.ClassFile.FieldType.int)) ∈ lw_all := lw_g (lw_at lw_m8 17 rfl) rfl
theorem q1773 : (Jvm.Cond.instanceMethod ({ cls := "HeavierServesModel", name := "ever", desc := "(I)I" } : Jvm.MethodName)) ∈ lw_all := lw_g (lw_at lw_m8 19 rfl) rfl
theorem q1774 : (Jvm.Cond.selects "HeavierServesModel" ({ cls := "HeavierServesModel", name := "ever", desc := "(I)I" } : Jvm.MethodName) ({ cls := "HeavierServesModel", name := "ever", desc := "(I)I" } : Jvm.MethodName)) ∈ lw_all := lw_g (lw_at lw_m8 20 rfl) rfl
theorem q1775 : (Jvm.Cond.code ({ cls := "HeavierServesModel", name := "ever", desc := "(I)I" } : Jvm.MethodName) prog_21_method_64_code (10 : Nat) (Option.some Jvm.ClassFile.FieldType.int)) ∈ lw_all := lw_g (lw_at lw_m8 21 rfl) rfl
theorem q1776 : (Jvm.Cond.constantLong "HeavierServesModel" (319 : Nat) (12 : Int64)) ∈ lw_all := lw_g (lw_at lw_m8 22 rfl) rfl
theorem q1778 : (Jvm.Cond.instanceMethod ({ cls := "HeavierServesModel", name := "most", desc := "(II)I" } : Jvm.MethodName)) ∈ lw_all := lw_g (lw_at lw_m8 24 rfl) rfl
theorem q1779 : (Jvm.Cond.selects "HeavierServesModel" ({ cls := "HeavierServesModel", name := "most", desc := "(II)I" } : Jvm.MethodName) ({ cls := "HeavierServesModel", name := "most", desc := "(II)I" } : Jvm.MethodName)) ∈ lw_all := lw_g (lw_at lw_m8 25 rfl) rfl
theorem q1780 : (Jvm.Cond.code ({ cls := "HeavierServesModel", name := "most", desc := "(II)I" } : Jvm.MethodName) prog_21_method_65_code (7 : Nat) (Option.some Jvm.ClassFile.FieldType.int)) ∈ lw_all := lw_g (lw_at lw_m8 26 rfl) rfl
theorem q1781 : (Jvm.Cond.constantLong "HeavierServesModel" (321 : Nat) (10 : Int64)) ∈ lw_all := lw_g (lw_at lw_m8 27 rfl) rfl
theorem q1782 : (Jvm.Cond.methodLink "HeavierServesModel" (323 : Nat) ({ cls := "java/lang/Integer", name := "bitCount", desc := "(I)I" } : Jvm.MethodName)) ∈ lw_all := lw_g (lw_at lw_m8 28 rfl) rfl
theorem q1784 : (Jvm.Cond.instanceMethod ({ cls := "HeavierServesModel", name := "rests", desc := "(II)I" } : Jvm.MethodName)) ∈ lw_all := lw_g (lw_at lw_m8 30 rfl) rfl
theorem q1785 : (Jvm.Cond.selects "HeavierServesModel" ({ cls := "HeavierServesModel", name := "rests", desc := "(II)I" } : Jvm.MethodName) ({ cls := "HeavierServesModel", name := "rests", desc := "(II)I" } : Jvm.MethodName)) ∈ lw_all := lw_g (lw_at lw_m8 31 rfl) rfl
theorem q1786 : (Jvm.Cond.code ({ cls := "HeavierServesModel", name := "rests", desc := "(II)I" } : Jvm.MethodName) prog_21_method_68_code (6 : Nat) (Option.some Jvm.ClassFile.FieldType.int)) ∈ lw_all := lw_g (lw_at lw_m8 32 rfl) rfl
theorem q1787 : (Jvm.Cond.constantLong "HeavierServesModel" (331 : Nat) (4 : Int64)) ∈ lw_all := lw_g (lw_at lw_m8 33 rfl) rfl
theorem q1788 : (Jvm.Cond.constantLong "HeavierServesModel" (333 : Nat) (20 : Int64)) ∈ lw_all := lw_g (lw_at lw_m8 34 rfl) rfl
theorem q1789 : (Jvm.Cond.methodLink "HeavierServesModel" (335 : Nat) ({ cls := "HeavierServesModel", name := "plans", desc := "(II)Z" } : Jvm.MethodName)) ∈ lw_all := lw_g (lw_at lw_m8 35 rfl) rfl
theorem q1790 : (Jvm.Cond.privateMethod ({ cls := "HeavierServesModel", name := "plans", desc := "(II)Z" } : Jvm.MethodName)) ∈ lw_tbl := lw_at lw_m8 36 rfl
theorem q1791 : (Jvm.Cond.instanceMethod ({ cls := "HeavierServesModel", name := "plans", desc := "(II)Z" } : Jvm.MethodName)) ∈ lw_all := lw_g (lw_at lw_m8 37 rfl) rfl
theorem q1792 : (Jvm.Cond.code ({ cls := "HeavierServesModel", name := "plans", desc := "(II)Z" } : Jvm.MethodName) prog_21_method_67_code (8 : Nat) (Option.some Jvm.ClassFile.FieldType.boolean)) ∈ lw_all := lw_g (lw_at lw_m8 38 rfl) rfl
theorem q1793 : (Jvm.Cond.methodLink "HeavierServesModel" (328 : Nat) ({ cls := "HeavierServesModel", name := "byPlans", desc := "(II)I" } : Jvm.MethodName)) ∈ lw_all := lw_g (lw_at lw_m8 39 rfl) rfl
theorem q1794 : (Jvm.Cond.privateMethod ({ cls := "HeavierServesModel", name := "byPlans", desc := "(II)I" } : Jvm.MethodName)) ∈ lw_tbl := lw_at lw_m8 40 rfl
theorem q1795 : (Jvm.Cond.instanceMethod ({ cls := "HeavierServesModel", name := "byPlans", desc := "(II)I" } : Jvm.MethodName)) ∈ lw_all := lw_g (lw_at lw_m8 41 rfl) rfl
theorem q1796 : (Jvm.Cond.code ({ cls := "HeavierServesModel", name := "byPlans", desc := "(II)I" } : Jvm.MethodName) prog_21_method_66_code (6 : Nat) (Option.some Jvm.ClassFile.FieldType.int)) ∈ lw_all := lw_g (lw_at lw_m8 42 rfl) rfl
theorem q1798 : (Jvm.Cond.instanceMethod ({ cls := "HeavierServesModel", name := "party", desc := "(I)I" } : Jvm.MethodName)) ∈ lw_all := lw_g (lw_at lw_m8 44 rfl) rfl
theorem q1799 : (Jvm.Cond.selects "HeavierServesModel" ({ cls := "HeavierServesModel", name := "party", desc := "(I)I" } : Jvm.MethodName) ({ cls := "HeavierServesModel", name := "party", desc := "(I)I" } : Jvm.MethodName)) ∈ lw_all := lw_g (lw_at lw_m8 45 rfl) rfl
theorem q1800 : (Jvm.Cond.code ({ cls := "HeavierServesModel", name := "party", desc := "(I)I" } : Jvm.MethodName) prog_21_method_70_code (7 : Nat) (Option.some Jvm.ClassFile.FieldType.int)) ∈ lw_all := lw_g (lw_at lw_m8 46 rfl) rfl
theorem q1801 : (Jvm.Cond.methodLink "HeavierServesModel" (338 : Nat) ({ cls := "HeavierServesModel", name := "servedBy", desc := "(I)I" } : Jvm.MethodName)) ∈ lw_all := lw_g (lw_at lw_m8 47 rfl) rfl
theorem q1802 : (Jvm.Cond.privateMethod ({ cls := "HeavierServesModel", name := "servedBy", desc := "(I)I" } : Jvm.MethodName)) ∈ lw_tbl := lw_at lw_m8 48 rfl
theorem q1803 : (Jvm.Cond.instanceMethod ({ cls := "HeavierServesModel", name := "servedBy", desc := "(I)I" } : Jvm.MethodName)) ∈ lw_all := lw_g (lw_at lw_m8 49 rfl) rfl
theorem q1804 : (Jvm.Cond.code ({ cls := "HeavierServesModel", name := "servedBy", desc := "(I)I" } : Jvm.MethodName) prog_21_method_69_code (4 : Nat) (Option.some Jvm.ClassFile.FieldType.int)) ∈ lw_all := lw_g (lw_at lw_m8 50 rfl) rfl
theorem q1806 : (Jvm.Cond.instanceMethod ({ cls := "HeavierServesModel", name := "byTurns", desc := "(II)I" } : Jvm.MethodName)) ∈ lw_all := lw_g (lw_at lw_m8 52 rfl) rfl
theorem q1807 : (Jvm.Cond.selects "HeavierServesModel" ({ cls := "HeavierServesModel", name := "byTurns", desc := "(II)I" } : Jvm.MethodName) ({ cls := "HeavierServesModel", name := "byTurns", desc := "(II)I" } : Jvm.MethodName)) ∈ lw_all := lw_g (lw_at lw_m8 53 rfl) rfl
theorem q1808 : (Jvm.Cond.code ({ cls := "HeavierServesModel", name := "byTurns", desc := "(II)I" } : Jvm.MethodName) prog_21_method_71_code (8 : Nat) (Option.some Jvm.ClassFile.FieldType.int)) ∈ lw_all := lw_g (lw_at lw_m8 54 rfl) rfl
theorem q1810 : (Jvm.Cond.instanceMethod ({ cls := "HeavierServesModel", name := "fool", desc := "(II)I" } : Jvm.MethodName)) ∈ lw_all := lw_g (lw_at lw_m8 56 rfl) rfl
theorem q1811 : (Jvm.Cond.selects "HeavierServesModel" ({ cls := "HeavierServesModel", name := "fool", desc := "(II)I" } : Jvm.MethodName) ({ cls := "HeavierServesModel", name := "fool", desc := "(II)I" } : Jvm.MethodName)) ∈ lw_all := lw_g (lw_at lw_m8 57 rfl) rfl
theorem q1812 : (Jvm.Cond.code ({ cls := "HeavierServesModel", name := "fool", desc := "(II)I" } : Jvm.MethodName) prog_21_method_72_code (5 : Nat) (Option.some Jvm.ClassFile.FieldType.int)) ∈ lw_all := lw_g (lw_at lw_m8 58 rfl) rfl
theorem q1814 : (Jvm.Cond.instanceMethod ({ cls := "HeavierServesModel", name := "hold", desc := "(I)I" } : Jvm.MethodName)) ∈ lw_all := lw_g (lw_at lw_m8 60 rfl) rfl
theorem q1815 : (Jvm.Cond.selects "HeavierServesModel" ({ cls := "HeavierServesModel", name := "hold", desc := "(I)I" } : Jvm.MethodName) ({ cls := "HeavierServesModel", name := "hold", desc := "(I)I" } : Jvm.MethodName)) ∈ lw_all := lw_g (lw_at lw_m8 61 rfl) rfl
theorem q1816 : (Jvm.Cond.code ({ cls := "HeavierServesModel", name := "hold", desc := "(I)I" } : Jvm.MethodName) prog_21_method_75_code (4 : Nat) (Option.some Jvm.ClassFile.FieldType.int)) ∈ lw_all := lw_g (lw_at lw_m8 62 rfl) rfl
theorem q1817 : (Jvm.Cond.methodLink "HeavierServesModel" (343 : Nat) ({ cls := "HeavierServesModel", name := "areSixty", desc := "(I)Z" } : Jvm.MethodName)) ∈ lw_all := lw_g (lw_at lw_m8 63 rfl) rfl
theorem q1818 : (Jvm.Cond.static ({ cls := "HeavierServesModel", name := "areSixty", desc := "(I)Z" } : Jvm.MethodName)) ∈ lw_all := lw_g (lw_at lw_m8 64 rfl) rfl
theorem q1819 : (Jvm.Cond.code ({ cls := "HeavierServesModel", name := "areSixty", desc := "(I)Z" } : Jvm.MethodName) prog_21_method_73_code (1 : Nat) (Option.some Jvm.ClassFile.FieldType.boolean)) ∈ lw_all := lw_g (lw_at lw_m8 65 rfl) rfl
theorem q1820 : (Jvm.Cond.constantLong "HeavierServesModel" (341 : Nat) (60 : Int64)) ∈ lw_all := lw_g (lw_at lw_m8 66 rfl) rfl
theorem q1821 : (Jvm.Cond.methodLink "HeavierServesModel" (346 : Nat) ({ cls := "HeavierServesModel", name := "startsWith", desc := "(II)V" } : Jvm.MethodName)) ∈ lw_all := lw_g (lw_at lw_m8 67 rfl) rfl
theorem q1822 : (Jvm.Cond.privateMethod ({ cls := "HeavierServesModel", name := "startsWith", desc := "(II)V" } : Jvm.MethodName)) ∈ lw_tbl := lw_at lw_m8 68 rfl
theorem q1823 : (Jvm.Cond.instanceMethod ({ cls := "HeavierServesModel", name := "startsWith", desc := "(II)V" } : Jvm.MethodName)) ∈ lw_all := lw_g (lw_at lw_m8 69 rfl) rfl
theorem q1824 : (Jvm.Cond.code ({ cls := "HeavierServesModel", name := "startsWith", desc := "(II)V" } : Jvm.MethodName) prog_21_method_74_code (3 : Nat) (Option.none : Option Jvm.ClassFile.FieldType)) ∈ lw_all := lw_g (lw_at lw_m8 70 rfl) rfl
theorem q1826 : (Jvm.Cond.instanceMethod ({ cls := "HeavierServesModel", name := "bribe", desc := "(II)I" } : Jvm.MethodName)) ∈ lw_all := lw_g (lw_at lw_m8 72 rfl) rfl
theorem q1827 : (Jvm.Cond.selects "HeavierServesModel" ({ cls := "HeavierServesModel", name := "bribe", desc := "(II)I" } : Jvm.MethodName) ({ cls := "HeavierServesModel", name := "bribe", desc := "(II)I" } : Jvm.MethodName)) ∈ lw_all := lw_g (lw_at lw_m8 73 rfl) rfl
theorem q1828 : (Jvm.Cond.code ({ cls := "HeavierServesModel", name := "bribe", desc := "(II)I" } : Jvm.MethodName) prog_21_method_76_code (4 : Nat) (Option.some Jvm.ClassFile.FieldType.int)) ∈ lw_all := lw_g (lw_at lw_m8 74 rfl) rfl
theorem q1830 : (Jvm.Cond.instanceMethod ({ cls := "HeavierServesModel", name := "starve", desc := "(II)I" } : Jvm.MethodName)) ∈ lw_all := lw_g (lw_at lw_m8 76 rfl) rfl
theorem q1831 : (Jvm.Cond.selects "HeavierServesModel" ({ cls := "HeavierServesModel", name := "starve", desc := "(II)I" } : Jvm.MethodName) ({ cls := "HeavierServesModel", name := "starve", desc := "(II)I" } : Jvm.MethodName)) ∈ lw_all := lw_g (lw_at lw_m8 77 rfl) rfl
theorem q1832 : (Jvm.Cond.code ({ cls := "HeavierServesModel", name := "starve", desc := "(II)I" } : Jvm.MethodName) prog_21_method_77_code (4 : Nat) (Option.some Jvm.ClassFile.FieldType.int)) ∈ lw_all := lw_g (lw_at lw_m8 78 rfl) rfl
theorem q1834 : (Jvm.Cond.instanceMethod ({ cls := "HeavierServesModel", name := "cheapest", desc := "()I" } : Jvm.MethodName)) ∈ lw_all := lw_g (lw_at lw_m8 80 rfl) rfl
theorem q1835 : (Jvm.Cond.selects "HeavierServesModel" ({ cls := "HeavierServesModel", name := "cheapest", desc := "()I" } : Jvm.MethodName) ({ cls := "HeavierServesModel", name := "cheapest", desc := "()I" } : Jvm.MethodName)) ∈ lw_all := lw_g (lw_at lw_m8 81 rfl) rfl
theorem q1836 : (Jvm.Cond.code ({ cls := "HeavierServesModel", name := "cheapest", desc := "()I" } : Jvm.MethodName) prog_21_method_78_code (5 : Nat) (Option.some Jvm.ClassFile.FieldType.int)) ∈ lw_all := lw_g (lw_at lw_m8 82 rfl) rfl
theorem q1838 : (Jvm.Cond.instanceMethod ({ cls := "HeavierServesModel", name := "weighed", desc := "(II)I" } : Jvm.MethodName)) ∈ lw_all := lw_g (lw_at lw_m8 84 rfl) rfl
theorem q1839 : (Jvm.Cond.selects "HeavierServesModel" ({ cls := "HeavierServesModel", name := "weighed", desc := "(II)I" } : Jvm.MethodName) ({ cls := "HeavierServesModel", name := "weighed", desc := "(II)I" } : Jvm.MethodName)) ∈ lw_all := lw_g (lw_at lw_m8 85 rfl) rfl
theorem q1840 : (Jvm.Cond.code ({ cls := "HeavierServesModel", name := "weighed", desc := "(II)I" } : Jvm.MethodName) prog_21_method_79_code (3 : Nat) (Option.some Jvm.ClassFile.FieldType.int)) ∈ lw_all := lw_g (lw_at lw_m8 86 rfl) rfl
theorem q1841 : (Jvm.Cond.constantLong "HeavierServesModel" (349 : Nat) (1010 : Int64)) ∈ lw_all := lw_g (lw_at lw_m8 87 rfl) rfl
theorem q1843 : (Jvm.Cond.instanceMethod ({ cls := "HeavierServesModel", name := "forget", desc := "()I" } : Jvm.MethodName)) ∈ lw_all := lw_g (lw_at lw_m8 89 rfl) rfl
theorem q1844 : (Jvm.Cond.selects "HeavierServesModel" ({ cls := "HeavierServesModel", name := "forget", desc := "()I" } : Jvm.MethodName) ({ cls := "HeavierServesModel", name := "forget", desc := "()I" } : Jvm.MethodName)) ∈ lw_all := lw_g (lw_at lw_m8 90 rfl) rfl
theorem q1845 : (Jvm.Cond.code ({ cls := "HeavierServesModel", name := "forget", desc := "()I" } : Jvm.MethodName) prog_21_method_80_code (1 : Nat) (Option.some Jvm.ClassFile.FieldType.int)) ∈ lw_all := lw_g (lw_at lw_m8 91 rfl) rfl
theorem q1847 : (Jvm.Cond.instanceMethod ({ cls := "HeavierServesModel", name := "grains", desc := "()I" } : Jvm.MethodName)) ∈ lw_all := lw_g (lw_at lw_m8 93 rfl) rfl
theorem q1848 : (Jvm.Cond.selects "HeavierServesModel" ({ cls := "HeavierServesModel", name := "grains", desc := "()I" } : Jvm.MethodName) ({ cls := "HeavierServesModel", name := "grains", desc := "()I" } : Jvm.MethodName)) ∈ lw_all := lw_g (lw_at lw_m8 94 rfl) rfl
theorem q1849 : (Jvm.Cond.code ({ cls := "HeavierServesModel", name := "grains", desc := "()I" } : Jvm.MethodName) prog_21_method_84_code (6 : Nat) (Option.some Jvm.ClassFile.FieldType.int)) ∈ lw_all := lw_g (lw_at lw_m8 95 rfl) rfl
theorem q1850 : (Jvm.Cond.methodLink "HeavierServesModel" (361 : Nat) ({ cls := "HeavierServesModel", name := "weightsOf", desc := "(IZ)I" } : Jvm.MethodName)) ∈ lw_all := lw_g (lw_at lw_m8 96 rfl) rfl
theorem q1851 : (Jvm.Cond.privateMethod ({ cls := "HeavierServesModel", name := "weightsOf", desc := "(IZ)I" } : Jvm.MethodName)) ∈ lw_tbl := lw_at lw_m8 97 rfl
theorem q1852 : (Jvm.Cond.instanceMethod ({ cls := "HeavierServesModel", name := "weightsOf", desc := "(IZ)I" } : Jvm.MethodName)) ∈ lw_all := lw_g (lw_at lw_m8 98 rfl) rfl
theorem q1853 : (Jvm.Cond.code ({ cls := "HeavierServesModel", name := "weightsOf", desc := "(IZ)I" } : Jvm.MethodName) prog_21_method_82_code (7 : Nat) (Option.some Jvm.ClassFile.FieldType.int)) ∈ lw_all := lw_g (lw_at lw_m8 99 rfl) rfl
theorem q1854 : (Jvm.Cond.methodLink "HeavierServesModel" (354 : Nat) ({ cls := "HeavierServesModel", name := "canBe", desc := "(II)Z" } : Jvm.MethodName)) ∈ lw_all := lw_g (lw_at lw_m8 100 rfl) rfl
theorem q1855 : (Jvm.Cond.privateMethod ({ cls := "HeavierServesModel", name := "canBe", desc := "(II)Z" } : Jvm.MethodName)) ∈ lw_tbl := lw_at lw_m8 101 rfl
theorem q1856 : (Jvm.Cond.instanceMethod ({ cls := "HeavierServesModel", name := "canBe", desc := "(II)Z" } : Jvm.MethodName)) ∈ lw_all := lw_g (lw_at lw_m8 102 rfl) rfl
theorem q1857 : (Jvm.Cond.code ({ cls := "HeavierServesModel", name := "canBe", desc := "(II)Z" } : Jvm.MethodName) prog_21_method_81_code (5 : Nat) (Option.some Jvm.ClassFile.FieldType.boolean)) ∈ lw_all := lw_g (lw_at lw_m8 103 rfl) rfl
theorem q1858 : (Jvm.Cond.methodLink "HeavierServesModel" (357 : Nat) ({ cls := "HeavierServesModel", name := "tellsSpan", desc := "(III)V" } : Jvm.MethodName)) ∈ lw_all := lw_g (lw_at lw_m8 104 rfl) rfl
theorem q1859 : (Jvm.Cond.privateMethod ({ cls := "HeavierServesModel", name := "tellsSpan", desc := "(III)V" } : Jvm.MethodName)) ∈ lw_tbl := lw_at lw_m8 105 rfl
theorem q1860 : (Jvm.Cond.instanceMethod ({ cls := "HeavierServesModel", name := "tellsSpan", desc := "(III)V" } : Jvm.MethodName)) ∈ lw_all := lw_g (lw_at lw_m8 106 rfl) rfl
theorem q1861 : (Jvm.Cond.code ({ cls := "HeavierServesModel", name := "tellsSpan", desc := "(III)V" } : Jvm.MethodName) prog_21_method_83_code (4 : Nat) (Option.none : Option Jvm.ClassFile.FieldType)) ∈ lw_all := lw_g (lw_at lw_m8 107 rfl) rfl
theorem q1863 : (Jvm.Cond.instanceMethod ({ cls := "HeavierServesModel", name := "span", desc := "(I)I" } : Jvm.MethodName)) ∈ lw_all := lw_g (lw_at lw_m8 109 rfl) rfl
theorem q1864 : (Jvm.Cond.selects "HeavierServesModel" ({ cls := "HeavierServesModel", name := "span", desc := "(I)I" } : Jvm.MethodName) ({ cls := "HeavierServesModel", name := "span", desc := "(I)I" } : Jvm.MethodName)) ∈ lw_all := lw_g (lw_at lw_m8 110 rfl) rfl
theorem q1865 : (Jvm.Cond.code ({ cls := "HeavierServesModel", name := "span", desc := "(I)I" } : Jvm.MethodName) prog_21_method_85_code (2 : Nat) (Option.some Jvm.ClassFile.FieldType.int)) ∈ lw_all := lw_g (lw_at lw_m8 111 rfl) rfl
theorem q1867 : (Jvm.Cond.instanceMethod ({ cls := "HeavierServesModel", name := "offs", desc := "()I" } : Jvm.MethodName)) ∈ lw_all := lw_g (lw_at lw_m8 113 rfl) rfl
theorem q1868 : (Jvm.Cond.selects "HeavierServesModel" ({ cls := "HeavierServesModel", name := "offs", desc := "()I" } : Jvm.MethodName) ({ cls := "HeavierServesModel", name := "offs", desc := "()I" } : Jvm.MethodName)) ∈ lw_all := lw_g (lw_at lw_m8 114 rfl) rfl
theorem q1869 : (Jvm.Cond.code ({ cls := "HeavierServesModel", name := "offs", desc := "()I" } : Jvm.MethodName) prog_21_method_87_code (5 : Nat) (Option.some Jvm.ClassFile.FieldType.int)) ∈ lw_all := lw_g (lw_at lw_m8 115 rfl) rfl
theorem q1870 : (Jvm.Cond.methodLink "HeavierServesModel" (365 : Nat) ({ cls := "HeavierServesModel", name := "wrong", desc := "()I" } : Jvm.MethodName)) ∈ lw_all := lw_g (lw_at lw_m8 116 rfl) rfl
theorem q1871 : (Jvm.Cond.privateMethod ({ cls := "HeavierServesModel", name := "wrong", desc := "()I" } : Jvm.MethodName)) ∈ lw_tbl := lw_at lw_m8 117 rfl
theorem q1872 : (Jvm.Cond.instanceMethod ({ cls := "HeavierServesModel", name := "wrong", desc := "()I" } : Jvm.MethodName)) ∈ lw_all := lw_g (lw_at lw_m8 118 rfl) rfl
theorem q1873 : (Jvm.Cond.code ({ cls := "HeavierServesModel", name := "wrong", desc := "()I" } : Jvm.MethodName) prog_21_method_86_code (3 : Nat) (Option.some Jvm.ClassFile.FieldType.int)) ∈ lw_all := lw_g (lw_at lw_m8 119 rfl) rfl
theorem q1875 : (Jvm.Cond.instanceMethod ({ cls := "HeavierServesModel", name := "cheats", desc := "()I" } : Jvm.MethodName)) ∈ lw_all := lw_g (lw_at lw_m8 121 rfl) rfl
theorem q1876 : (Jvm.Cond.selects "HeavierServesModel" ({ cls := "HeavierServesModel", name := "cheats", desc := "()I" } : Jvm.MethodName) ({ cls := "HeavierServesModel", name := "cheats", desc := "()I" } : Jvm.MethodName)) ∈ lw_all := lw_g (lw_at lw_m8 122 rfl) rfl
theorem q1877 : (Jvm.Cond.code ({ cls := "HeavierServesModel", name := "cheats", desc := "()I" } : Jvm.MethodName) prog_21_method_88_code (6 : Nat) (Option.some Jvm.ClassFile.FieldType.int)) ∈ lw_all := lw_g (lw_at lw_m8 123 rfl) rfl
theorem q1879 : (Jvm.Cond.instanceMethod ({ cls := "HeavierServesModel", name := "told", desc := "(II)I" } : Jvm.MethodName)) ∈ lw_all := lw_g (lw_at lw_m8 125 rfl) rfl
theorem q1880 : (Jvm.Cond.selects "HeavierServesModel" ({ cls := "HeavierServesModel", name := "told", desc := "(II)I" } : Jvm.MethodName) ({ cls := "HeavierServesModel", name := "told", desc := "(II)I" } : Jvm.MethodName)) ∈ lw_all := lw_g (lw_at lw_m8 126 rfl) rfl
theorem q1881 : (Jvm.Cond.code ({ cls := "HeavierServesModel", name := "told", desc := "(II)I" } : Jvm.MethodName) prog_21_method_89_code (3 : Nat) (Option.some Jvm.ClassFile.FieldType.int)) ∈ lw_all := lw_g (lw_at lw_m8 127 rfl) rfl
theorem q1883 : (Jvm.Cond.instanceMethod ({ cls := "HeavierServesModel", name := "wipe", desc := "()I" } : Jvm.MethodName)) ∈ lw_all := lw_g (lw_at lw_m8 129 rfl) rfl
theorem q1884 : (Jvm.Cond.selects "HeavierServesModel" ({ cls := "HeavierServesModel", name := "wipe", desc := "()I" } : Jvm.MethodName) ({ cls := "HeavierServesModel", name := "wipe", desc := "()I" } : Jvm.MethodName)) ∈ lw_all := lw_g (lw_at lw_m8 130 rfl) rfl
theorem q1885 : (Jvm.Cond.code ({ cls := "HeavierServesModel", name := "wipe", desc := "()I" } : Jvm.MethodName) prog_21_method_90_code (2 : Nat) (Option.some Jvm.ClassFile.FieldType.int)) ∈ lw_all := lw_g (lw_at lw_m8 131 rfl) rfl
theorem q1887 : (Jvm.Cond.instanceMethod ({ cls := "HeavierServesModel", name := "explains", desc := "(I)I" } : Jvm.MethodName)) ∈ lw_all := lw_g (lw_at lw_m8 133 rfl) rfl
theorem q1888 : (Jvm.Cond.selects "HeavierServesModel" ({ cls := "HeavierServesModel", name := "explains", desc := "(I)I" } : Jvm.MethodName) ({ cls := "HeavierServesModel", name := "explains", desc := "(I)I" } : Jvm.MethodName)) ∈ lw_all := lw_g (lw_at lw_m8 134 rfl) rfl
theorem q1889 : (Jvm.Cond.code ({ cls := "HeavierServesModel", name := "explains", desc := "(I)I" } : Jvm.MethodName) prog_21_method_92_code (6 : Nat) (Option.some Jvm.ClassFile.FieldType.int)) ∈ lw_all := lw_g (lw_at lw_m8 135 rfl) rfl
theorem q1890 : (Jvm.Cond.methodLink "HeavierServesModel" (371 : Nat) ({ cls := "HeavierServesModel", name := "isSo", desc := "(I)Z" } : Jvm.MethodName)) ∈ lw_all := lw_g (lw_at lw_m8 136 rfl) rfl
theorem q1891 : (Jvm.Cond.privateMethod ({ cls := "HeavierServesModel", name := "isSo", desc := "(I)Z" } : Jvm.MethodName)) ∈ lw_tbl := lw_at lw_m8 137 rfl
theorem q1892 : (Jvm.Cond.instanceMethod ({ cls := "HeavierServesModel", name := "isSo", desc := "(I)Z" } : Jvm.MethodName)) ∈ lw_all := lw_g (lw_at lw_m8 138 rfl) rfl
theorem q1893 : (Jvm.Cond.code ({ cls := "HeavierServesModel", name := "isSo", desc := "(I)Z" } : Jvm.MethodName) prog_21_method_91_code (5 : Nat) (Option.some Jvm.ClassFile.FieldType.boolean)) ∈ lw_all := lw_g (lw_at lw_m8 139 rfl) rfl
theorem q1895 : (Jvm.Cond.instanceMethod ({ cls := "HeavierServesModel", name := "absent", desc := "()I" } : Jvm.MethodName)) ∈ lw_all := lw_g (lw_at lw_m8 141 rfl) rfl
theorem q1896 : (Jvm.Cond.selects "HeavierServesModel" ({ cls := "HeavierServesModel", name := "absent", desc := "()I" } : Jvm.MethodName) ({ cls := "HeavierServesModel", name := "absent", desc := "()I" } : Jvm.MethodName)) ∈ lw_all := lw_g (lw_at lw_m8 142 rfl) rfl
theorem q1897 : (Jvm.Cond.code ({ cls := "HeavierServesModel", name := "absent", desc := "()I" } : Jvm.MethodName) prog_21_method_93_code (3 : Nat) (Option.some Jvm.ClassFile.FieldType.int)) ∈ lw_all := lw_g (lw_at lw_m8 143 rfl) rfl
theorem q1899 : (Jvm.Cond.instanceMethod ({ cls := "HeavierServesModel", name := "twin", desc := "(I)I" } : Jvm.MethodName)) ∈ lw_all := lw_g (lw_at lw_m8 145 rfl) rfl
theorem q1900 : (Jvm.Cond.selects "HeavierServesModel" ({ cls := "HeavierServesModel", name := "twin", desc := "(I)I" } : Jvm.MethodName) ({ cls := "HeavierServesModel", name := "twin", desc := "(I)I" } : Jvm.MethodName)) ∈ lw_all := lw_g (lw_at lw_m8 146 rfl) rfl
theorem q1901 : (Jvm.Cond.code ({ cls := "HeavierServesModel", name := "twin", desc := "(I)I" } : Jvm.MethodName) prog_21_method_94_code (4 : Nat) (Option.some Jvm.ClassFile.FieldType.int)) ∈ lw_all := lw_g (lw_at lw_m8 147 rfl) rfl
theorem q1903 : (Jvm.Cond.instanceMethod ({ cls := "HeavierServesModel", name := "odds", desc := "(II)I" } : Jvm.MethodName)) ∈ lw_all := lw_g (lw_at lw_m8 149 rfl) rfl
theorem q1904 : (Jvm.Cond.selects "HeavierServesModel" ({ cls := "HeavierServesModel", name := "odds", desc := "(II)I" } : Jvm.MethodName) ({ cls := "HeavierServesModel", name := "odds", desc := "(II)I" } : Jvm.MethodName)) ∈ lw_all := lw_g (lw_at lw_m8 150 rfl) rfl
theorem q1905 : (Jvm.Cond.code ({ cls := "HeavierServesModel", name := "odds", desc := "(II)I" } : Jvm.MethodName) prog_21_method_96_code (6 : Nat) (Option.some Jvm.ClassFile.FieldType.int)) ∈ lw_all := lw_g (lw_at lw_m8 151 rfl) rfl
theorem q1906 : (Jvm.Cond.constantLong "HeavierServesModel" (376 : Nat) (2 : Int64)) ∈ lw_all := lw_g (lw_at lw_m8 152 rfl) rfl
theorem q1907 : (Jvm.Cond.methodLink "HeavierServesModel" (378 : Nat) ({ cls := "HeavierServesModel", name := "entersFraction", desc := "(JJ)V" } : Jvm.MethodName)) ∈ lw_all := lw_g (lw_at lw_m8 153 rfl) rfl
theorem q1908 : (Jvm.Cond.privateMethod ({ cls := "HeavierServesModel", name := "entersFraction", desc := "(JJ)V" } : Jvm.MethodName)) ∈ lw_tbl := lw_at lw_m8 154 rfl
theorem q1909 : (Jvm.Cond.instanceMethod ({ cls := "HeavierServesModel", name := "entersFraction", desc := "(JJ)V" } : Jvm.MethodName)) ∈ lw_all := lw_g (lw_at lw_m8 155 rfl) rfl
theorem q1910 : (Jvm.Cond.code ({ cls := "HeavierServesModel", name := "entersFraction", desc := "(JJ)V" } : Jvm.MethodName) prog_21_method_8_code (7 : Nat) (Option.none : Option Jvm.ClassFile.FieldType)) ∈ lw_all := lw_g (lw_at lw_m8 156 rfl) rfl
theorem q1911 : (Jvm.Cond.methodLink "HeavierServesModel" (7 : Nat) ({ cls := "HeavierServesModel", name := "common", desc := "(JJ)J" } : Jvm.MethodName)) ∈ lw_all := lw_g (lw_at lw_m8 157 rfl) rfl
theorem q1912 : (Jvm.Cond.static ({ cls := "HeavierServesModel", name := "common", desc := "(JJ)J" } : Jvm.MethodName)) ∈ lw_all := lw_g (lw_at lw_m8 158 rfl) rfl
theorem q1913 : (Jvm.Cond.code ({ cls := "HeavierServesModel", name := "common", desc := "(JJ)J" } : Jvm.MethodName) prog_21_method_6_code (4 : Nat) (Option.some Jvm.ClassFile.FieldType.long)) ∈ lw_all := lw_g (lw_at lw_m8 159 rfl) rfl
theorem q1914 : (Jvm.Cond.methodLink "HeavierServesModel" (382 : Nat) ({ cls := "HeavierServesModel", name := "oddsOf", desc := "([I[J)V" } : Jvm.MethodName)) ∈ lw_all := lw_g (lw_at lw_m8 160 rfl) rfl
theorem q1915 : (Jvm.Cond.privateMethod ({ cls := "HeavierServesModel", name := "oddsOf", desc := "([I[J)V" } : Jvm.MethodName)) ∈ lw_tbl := lw_at lw_m8 161 rfl
theorem q1916 : (Jvm.Cond.instanceMethod ({ cls := "HeavierServesModel", name := "oddsOf", desc := "([I[J)V" } : Jvm.MethodName)) ∈ lw_all := lw_g (lw_at lw_m8 162 rfl) rfl
theorem q1917 : (Jvm.Cond.code ({ cls := "HeavierServesModel", name := "oddsOf", desc := "([I[J)V" } : Jvm.MethodName) prog_21_method_95_code (10 : Nat) (Option.none : Option Jvm.ClassFile.FieldType)) ∈ lw_all := lw_g (lw_at lw_m8 163 rfl) rfl
theorem q1918 : (Jvm.Cond.constantLong "HeavierServesModel" (374 : Nat) (100000000 : Int64)) ∈ lw_all := lw_g (lw_at lw_m8 164 rfl) rfl
theorem q1919 : (Jvm.Cond.constantLong "HeavierServesModel" (386 : Nat) (10000000000000000 : Int64)) ∈ lw_all := lw_g (lw_at lw_m8 165 rfl) rfl
theorem q1921 : (Jvm.Cond.instanceMethod ({ cls := "HeavierServesModel", name := "likely", desc := "()I" } : Jvm.MethodName)) ∈ lw_all := lw_g (lw_at lw_m8 167 rfl) rfl
theorem q1922 : (Jvm.Cond.selects "HeavierServesModel" ({ cls := "HeavierServesModel", name := "likely", desc := "()I" } : Jvm.MethodName) ({ cls := "HeavierServesModel", name := "likely", desc := "()I" } : Jvm.MethodName)) ∈ lw_all := lw_g (lw_at lw_m8 168 rfl) rfl
theorem q1923 : (Jvm.Cond.code ({ cls := "HeavierServesModel", name := "likely", desc := "()I" } : Jvm.MethodName) prog_21_method_97_code (3 : Nat) (Option.some Jvm.ClassFile.FieldType.int)) ∈ lw_all := lw_g (lw_at lw_m8 169 rfl) rfl
theorem q1925 : (Jvm.Cond.instanceMethod ({ cls := "HeavierServesModel", name := "keep", desc := "(I)Z" } : Jvm.MethodName)) ∈ lw_all := lw_g (lw_at lw_m8 171 rfl) rfl
theorem q1926 : (Jvm.Cond.selects "HeavierServesModel" ({ cls := "HeavierServesModel", name := "keep", desc := "(I)Z" } : Jvm.MethodName) ({ cls := "HeavierServesModel", name := "keep", desc := "(I)Z" } : Jvm.MethodName)) ∈ lw_all := lw_g (lw_at lw_m8 172 rfl) rfl
theorem q1927 : (Jvm.Cond.code ({ cls := "HeavierServesModel", name := "keep", desc := "(I)Z" } : Jvm.MethodName) prog_21_method_98_code (3 : Nat) (Option.some Jvm.ClassFile.FieldType.boolean)) ∈ lw_all := lw_g (lw_at lw_m8 173 rfl) rfl
theorem q1929 : (Jvm.Cond.instanceMethod ({ cls := "HeavierServesModel", name := "again", desc := "(I)Z" } : Jvm.MethodName)) ∈ lw_all := lw_g (lw_at lw_m8 175 rfl) rfl
theorem q1930 : (Jvm.Cond.selects "HeavierServesModel" ({ cls := "HeavierServesModel", name := "again", desc := "(I)Z" } : Jvm.MethodName) ({ cls := "HeavierServesModel", name := "again", desc := "(I)Z" } : Jvm.MethodName)) ∈ lw_all := lw_g (lw_at lw_m8 176 rfl) rfl
theorem q1931 : (Jvm.Cond.code ({ cls := "HeavierServesModel", name := "again", desc := "(I)Z" } : Jvm.MethodName) prog_21_method_99_code (3 : Nat) (Option.some Jvm.ClassFile.FieldType.boolean)) ∈ lw_all := lw_g (lw_at lw_m8 177 rfl) rfl
theorem q1933 : (Jvm.Cond.instanceMethod ({ cls := "HeavierServesModel", name := "count", desc := "(I)I" } : Jvm.MethodName)) ∈ lw_all := lw_g (lw_at lw_m8 179 rfl) rfl
theorem q1934 : (Jvm.Cond.selects "HeavierServesModel" ({ cls := "HeavierServesModel", name := "count", desc := "(I)I" } : Jvm.MethodName) ({ cls := "HeavierServesModel", name := "count", desc := "(I)I" } : Jvm.MethodName)) ∈ lw_all := lw_g (lw_at lw_m8 180 rfl) rfl
theorem q1935 : (Jvm.Cond.code ({ cls := "HeavierServesModel", name := "count", desc := "(I)I" } : Jvm.MethodName) prog_21_method_101_code (2 : Nat) (Option.some Jvm.ClassFile.FieldType.int)) ∈ lw_all := lw_g (lw_at lw_m8 181 rfl) rfl
theorem q1936 : (Jvm.Cond.methodLink "HeavierServesModel" (388 : Nat) ({ cls := "HeavierServesModel", name := "lawsThatHold", desc := "()I" } : Jvm.MethodName)) ∈ lw_all := lw_g (lw_at lw_m8 182 rfl) rfl
theorem q1937 : (Jvm.Cond.privateMethod ({ cls := "HeavierServesModel", name := "lawsThatHold", desc := "()I" } : Jvm.MethodName)) ∈ lw_tbl := lw_at lw_m8 183 rfl
theorem q1938 : (Jvm.Cond.instanceMethod ({ cls := "HeavierServesModel", name := "lawsThatHold", desc := "()I" } : Jvm.MethodName)) ∈ lw_all := lw_g (lw_at lw_m8 184 rfl) rfl
theorem q1939 : (Jvm.Cond.code ({ cls := "HeavierServesModel", name := "lawsThatHold", desc := "()I" } : Jvm.MethodName) prog_21_method_100_code (3 : Nat) (Option.some Jvm.ClassFile.FieldType.int)) ∈ lw_all := lw_g (lw_at lw_m8 185 rfl) rfl
theorem q1941 : (Jvm.Cond.instanceMethod ({ cls := "HeavierServesModel", name := "row", desc := "(I)J" } : Jvm.MethodName)) ∈ lw_all := lw_g (lw_at lw_m8 187 rfl) rfl
theorem q1942 : (Jvm.Cond.selects "HeavierServesModel" ({ cls := "HeavierServesModel", name := "row", desc := "(I)J" } : Jvm.MethodName) ({ cls := "HeavierServesModel", name := "row", desc := "(I)J" } : Jvm.MethodName)) ∈ lw_all := lw_g (lw_at lw_m8 188 rfl) rfl
theorem q1943 : (Jvm.Cond.code ({ cls := "HeavierServesModel", name := "row", desc := "(I)J" } : Jvm.MethodName) prog_21_method_102_code (2 : Nat) (Option.some Jvm.ClassFile.FieldType.long)) ∈ lw_all := lw_g (lw_at lw_m8 189 rfl) rfl
theorem q1961 : (Jvm.Cond.castable "HeavierServesModel" "java/lang/Object") ∈ lw_tbl := lw_at lw_m8 207 rfl
theorem in_X14 : ∀ w ∈ wsX140, w ∈ lw_all := lw_in wsX140 [1412, 1414, 1416, 1418, 1420, 1422, 1424, 1426, 1428, 1430, 1432, 1434, 1436, 1438, 1440, 1442, 1444, 1446, 1448, 1450, 1452, 1454, 1456, 1458, 1460, 1462, 1464, 1466, 1468, 1470, 1472, 1474, 1476, 1478, 1480, 1482, 1484, 1486, 1488, 1490, 1492, 1494, 1496, 1498, 1500, 1502] (by decide +kernel) (by decide +kernel)
def RX15 : String := "HeavierServes$Words"
def TX15 : u_T := fun k => match k with
  | 0 => ("HeavierServes$Words", "of", "[B", true)
  | 1 => ("HeavierServes$Words", "size", "I", true)
  | 2 => ("HeavierServes$Words", "end", "I", true)
  | _ => ("HeavierServes$Words", "at", "I", false)
def tyX15 : Nat → FieldType := fun k => match k with
  | 0 => .array .byte
  | 1 => .int
  | 2 => .int
  | _ => .int
abbrev wsX150 : List Cond := u_ws RX15 TX15 4
theorem nmX15 : ∀ a, a < 4 → ∀ b, b < 4 → a ≠ b → (TX15 a).2.1 ≠ (TX15 b).2.1 := by decide +kernel
theorem tyX15_ok : ∀ k, k < 4 → parseFieldDescriptor (TX15 k).2.2.1 = some (tyX15 k) := by decide +kernel
abbrev cX15_init : ByteArray := prog_19_method_1_code
def yX15_init : MethodName := ⟨RX15, "<init>", "([BII)V"⟩
abbrev cX15_need : ByteArray := prog_19_method_3_code
def yX15_need : MethodName := ⟨RX15, "need", "(Z)V"⟩
abbrev cX15_number : ByteArray := prog_19_method_6_code
def yX15_number : MethodName := ⟨RX15, "number", "(III)I"⟩
abbrev cX15_here : ByteArray := prog_19_method_2_code
def yX15_here : MethodName := ⟨RX15, "here", "()I"⟩
abbrev cX15_passes : ByteArray := prog_19_method_5_code
def yX15_passes : MethodName := ⟨RX15, "passes", "(C)Z"⟩
abbrev cX15_habit : ByteArray := prog_19_method_7_code
def yX15_habit : MethodName := ⟨RX15, "habit", "(LHeavierServes$One;)V"⟩
abbrev cX15_needEnd : ByteArray := prog_19_method_4_code
def yX15_needEnd : MethodName := ⟨RX15, "needEnd", "()V"⟩
theorem q89 : (Jvm.Cond.initialized "HeavierServes$Words") ∈ lw_all := lw_g (lw_at lw_m1 15 rfl) rfl
theorem q195 : (Jvm.Cond.fieldLink "HeavierServes$Words" (52 : Nat) "HeavierServes$One" "changes" "I") ∈ lw_all := lw_g (lw_at lw_m1 121 rfl) rfl
theorem q198 : (Jvm.Cond.fieldLink "HeavierServes$Words" (57 : Nat) "HeavierServes$One" "habit" "[I") ∈ lw_all := lw_g (lw_at lw_m1 124 rfl) rfl
theorem q527 : (Jvm.Cond.instantiable "HeavierServes$Words" (4 : Nat)) ∈ lw_all := lw_g (lw_at lw_m2 213 rfl) rfl
theorem q529 : (Jvm.Cond.instanceMethod ({ cls := "HeavierServes$Words", name := "<init>", desc := "([BII)V" } : Jvm.MethodName)) ∈ lw_all := lw_g (lw_at lw_m2 215 rfl) rfl
theorem q530 : (Jvm.Cond.code ({ cls := "HeavierServes$Words", name := "<init>", desc := "([BII)V" } : Jvm.MethodName) prog_19_method_1_code (4 : Nat) (Option.none : Option Jvm.ClassFile.FieldType)) ∈ lw_all := lw_g (lw_at lw_m2 216 rfl) rfl
theorem q531 : (Jvm.Cond.methodLink "HeavierServes$Words" (3 : Nat) ({ cls := "java/lang/Object", name := "<init>", desc := "()V" } : Jvm.MethodName)) ∈ lw_all := lw_g (lw_at lw_m2 217 rfl) rfl
theorem q532 : (Jvm.Cond.methodLink "HeavierServes$Words" (19 : Nat) ({ cls := "java/lang/Math", name := "min", desc := "(II)I" } : Jvm.MethodName)) ∈ lw_all := lw_g (lw_at lw_m2 218 rfl) rfl
theorem q535 : (Jvm.Cond.fieldLink "HeavierServes$Words" (9 : Nat) "HeavierServes$Words" "of" "[B") ∈ lw_all := lw_g (lw_at lw_m2 221 rfl) rfl
theorem q536 : (Jvm.Cond.fieldLink "HeavierServes$Words" (15 : Nat) "HeavierServes$Words" "size" "I") ∈ lw_all := lw_g (lw_at lw_m2 222 rfl) rfl
theorem q538 : (Jvm.Cond.fieldLink "HeavierServes$Words" (25 : Nat) "HeavierServes$Words" "end" "I") ∈ lw_all := lw_g (lw_at lw_m2 224 rfl) rfl
theorem q539 : (Jvm.Cond.fieldLink "HeavierServes$Words" (28 : Nat) "HeavierServes$Words" "at" "I") ∈ lw_all := lw_g (lw_at lw_m2 225 rfl) rfl
theorem q543 : (Jvm.Cond.laysFinal "HeavierServes$Words" "HeavierServes$Words" "of" "[B") ∈ lw_all := lw_g (lw_at lw_m2 229 rfl) rfl
theorem q544 : (Jvm.Cond.soleField "HeavierServes$Words" "of") ∈ lw_all := lw_g (lw_at lw_m2 230 rfl) rfl
theorem q545 : (Jvm.Cond.laysFinal "HeavierServes$Words" "HeavierServes$Words" "size" "I") ∈ lw_all := lw_g (lw_at lw_m2 231 rfl) rfl
theorem q546 : (Jvm.Cond.soleField "HeavierServes$Words" "size") ∈ lw_all := lw_g (lw_at lw_m2 232 rfl) rfl
theorem q547 : (Jvm.Cond.laysFinal "HeavierServes$Words" "HeavierServes$Words" "end" "I") ∈ lw_all := lw_g (lw_at lw_m2 233 rfl) rfl
theorem q548 : (Jvm.Cond.soleField "HeavierServes$Words" "end") ∈ lw_all := lw_g (lw_at lw_m2 234 rfl) rfl
theorem q549 : (Jvm.Cond.lays "HeavierServes$Words" "HeavierServes$Words" "at" "I") ∈ lw_all := lw_g (lw_at lw_m2 235 rfl) rfl
theorem q550 : (Jvm.Cond.soleField "HeavierServes$Words" "at") ∈ lw_all := lw_g (lw_at lw_m2 236 rfl) rfl
theorem q551 : (Jvm.Cond.superclass "HeavierServes$Words" "java/lang/Object") ∈ lw_all := lw_g (lw_at lw_m2 237 rfl) rfl
theorem q553 : (Jvm.Cond.instanceMethod ({ cls := "HeavierServes$Words", name := "need", desc := "(Z)V" } : Jvm.MethodName)) ∈ lw_all := lw_g (lw_at lw_m2 239 rfl) rfl
theorem q554 : (Jvm.Cond.selects "HeavierServes$Words" ({ cls := "HeavierServes$Words", name := "need", desc := "(Z)V" } : Jvm.MethodName) ({ cls := "HeavierServes$Words", name := "need", desc := "(Z)V" } : Jvm.MethodName)) ∈ lw_all := lw_g (lw_at lw_m3 0 rfl) rfl
theorem q555 : (Jvm.Cond.sameMethod "HeavierServes$Words" "HeavierServes$Words" "need" "(Z)V") ∈ lw_all := lw_g (lw_at lw_m3 1 rfl) rfl
theorem q557 : (Jvm.Cond.code ({ cls := "HeavierServes$Words", name := "need", desc := "(Z)V" } : Jvm.MethodName) prog_19_method_3_code (2 : Nat) (Option.none : Option Jvm.ClassFile.FieldType)) ∈ lw_all := lw_g (lw_at lw_m3 3 rfl) rfl
theorem q558 : (Jvm.Cond.classLink "HeavierServes$Words" (31 : Nat) "HeavierServes$Fault") ∈ lw_all := lw_g (lw_at lw_m3 4 rfl) rfl
theorem q597 : (Jvm.Cond.methodLink "HeavierServes$Words" (33 : Nat) ({ cls := "HeavierServes$Fault", name := "<init>", desc := "(I)V" } : Jvm.MethodName)) ∈ lw_all := lw_g (lw_at lw_m3 43 rfl) rfl
theorem q622 : (Jvm.Cond.instanceMethod ({ cls := "HeavierServes$Words", name := "number", desc := "(III)I" } : Jvm.MethodName)) ∈ lw_all := lw_g (lw_at lw_m3 68 rfl) rfl
theorem q623 : (Jvm.Cond.selects "HeavierServes$Words" ({ cls := "HeavierServes$Words", name := "number", desc := "(III)I" } : Jvm.MethodName) ({ cls := "HeavierServes$Words", name := "number", desc := "(III)I" } : Jvm.MethodName)) ∈ lw_all := lw_g (lw_at lw_m3 69 rfl) rfl
theorem q624 : (Jvm.Cond.sameMethod "HeavierServes$Words" "HeavierServes$Words" "number" "(III)I") ∈ lw_all := lw_g (lw_at lw_m3 70 rfl) rfl
theorem q626 : (Jvm.Cond.code ({ cls := "HeavierServes$Words", name := "number", desc := "(III)I" } : Jvm.MethodName) prog_19_method_6_code (6 : Nat) (Option.some Jvm.ClassFile.FieldType.int)) ∈ lw_all := lw_g (lw_at lw_m3 72 rfl) rfl
theorem q627 : (Jvm.Cond.methodLink "HeavierServes$Words" (40 : Nat) ({ cls := "HeavierServes$Words", name := "here", desc := "()I" } : Jvm.MethodName)) ∈ lw_all := lw_g (lw_at lw_m3 73 rfl) rfl
theorem q628 : (Jvm.Cond.instanceMethod ({ cls := "HeavierServes$Words", name := "here", desc := "()I" } : Jvm.MethodName)) ∈ lw_all := lw_g (lw_at lw_m3 74 rfl) rfl
theorem q629 : (Jvm.Cond.selects "HeavierServes$Words" ({ cls := "HeavierServes$Words", name := "here", desc := "()I" } : Jvm.MethodName) ({ cls := "HeavierServes$Words", name := "here", desc := "()I" } : Jvm.MethodName)) ∈ lw_all := lw_g (lw_at lw_m3 75 rfl) rfl
theorem q630 : (Jvm.Cond.sameMethod "HeavierServes$Words" "HeavierServes$Words" "here" "()I") ∈ lw_all := lw_g (lw_at lw_m3 76 rfl) rfl
theorem q632 : (Jvm.Cond.code ({ cls := "HeavierServes$Words", name := "here", desc := "()I" } : Jvm.MethodName) prog_19_method_2_code (1 : Nat) (Option.some Jvm.ClassFile.FieldType.int)) ∈ lw_all := lw_g (lw_at lw_m3 78 rfl) rfl
theorem q633 : (Jvm.Cond.constantLong "HeavierServes$Words" (44 : Nat) (48 : Int64)) ∈ lw_all := lw_g (lw_at lw_m3 79 rfl) rfl
theorem q634 : (Jvm.Cond.constantLong "HeavierServes$Words" (46 : Nat) (57 : Int64)) ∈ lw_all := lw_g (lw_at lw_m3 80 rfl) rfl
theorem q635 : (Jvm.Cond.methodLinkNest "HeavierServes$Words" (48 : Nat) ({ cls := "HeavierServes", name := "in", desc := "(JJJ)Z" } : Jvm.MethodName) "HeavierServes") ∈ lw_tbl := lw_at lw_m3 81 rfl
theorem q636 : (Jvm.Cond.methodLink "HeavierServes$Words" (36 : Nat) ({ cls := "HeavierServes$Words", name := "need", desc := "(Z)V" } : Jvm.MethodName)) ∈ lw_all := lw_g (lw_at lw_m3 82 rfl) rfl
theorem q638 : (Jvm.Cond.instanceMethod ({ cls := "HeavierServes$Words", name := "passes", desc := "(C)Z" } : Jvm.MethodName)) ∈ lw_all := lw_g (lw_at lw_m3 84 rfl) rfl
theorem q639 : (Jvm.Cond.selects "HeavierServes$Words" ({ cls := "HeavierServes$Words", name := "passes", desc := "(C)Z" } : Jvm.MethodName) ({ cls := "HeavierServes$Words", name := "passes", desc := "(C)Z" } : Jvm.MethodName)) ∈ lw_all := lw_g (lw_at lw_m3 85 rfl) rfl
theorem q640 : (Jvm.Cond.sameMethod "HeavierServes$Words" "HeavierServes$Words" "passes" "(C)Z") ∈ lw_all := lw_g (lw_at lw_m3 86 rfl) rfl
theorem q642 : (Jvm.Cond.code ({ cls := "HeavierServes$Words", name := "passes", desc := "(C)Z" } : Jvm.MethodName) prog_19_method_5_code (2 : Nat) (Option.some Jvm.ClassFile.FieldType.boolean)) ∈ lw_all := lw_g (lw_at lw_m3 88 rfl) rfl
theorem q644 : (Jvm.Cond.instanceMethod ({ cls := "HeavierServes$Words", name := "habit", desc := "(LHeavierServes$One;)V" } : Jvm.MethodName)) ∈ lw_all := lw_g (lw_at lw_m3 90 rfl) rfl
theorem q645 : (Jvm.Cond.selects "HeavierServes$Words" ({ cls := "HeavierServes$Words", name := "habit", desc := "(LHeavierServes$One;)V" } : Jvm.MethodName) ({ cls := "HeavierServes$Words", name := "habit", desc := "(LHeavierServes$One;)V" } : Jvm.MethodName)) ∈ lw_all := lw_g (lw_at lw_m3 91 rfl) rfl
theorem q646 : (Jvm.Cond.sameMethod "HeavierServes$Words" "HeavierServes$Words" "habit" "(LHeavierServes$One;)V") ∈ lw_all := lw_g (lw_at lw_m3 92 rfl) rfl
theorem q648 : (Jvm.Cond.code ({ cls := "HeavierServes$Words", name := "habit", desc := "(LHeavierServes$One;)V" } : Jvm.MethodName) prog_19_method_7_code (3 : Nat) (Option.none : Option Jvm.ClassFile.FieldType)) ∈ lw_all := lw_g (lw_at lw_m3 94 rfl) rfl
theorem q649 : (Jvm.Cond.methodLink "HeavierServes$Words" (61 : Nat) ({ cls := "HeavierServes$Words", name := "number", desc := "(III)I" } : Jvm.MethodName)) ∈ lw_all := lw_g (lw_at lw_m3 95 rfl) rfl
theorem q651 : (Jvm.Cond.instanceMethod ({ cls := "HeavierServes$Words", name := "needEnd", desc := "()V" } : Jvm.MethodName)) ∈ lw_all := lw_g (lw_at lw_m3 97 rfl) rfl
theorem q652 : (Jvm.Cond.selects "HeavierServes$Words" ({ cls := "HeavierServes$Words", name := "needEnd", desc := "()V" } : Jvm.MethodName) ({ cls := "HeavierServes$Words", name := "needEnd", desc := "()V" } : Jvm.MethodName)) ∈ lw_all := lw_g (lw_at lw_m3 98 rfl) rfl
theorem q653 : (Jvm.Cond.sameMethod "HeavierServes$Words" "HeavierServes$Words" "needEnd" "()V") ∈ lw_all := lw_g (lw_at lw_m3 99 rfl) rfl
theorem q655 : (Jvm.Cond.code ({ cls := "HeavierServes$Words", name := "needEnd", desc := "()V" } : Jvm.MethodName) prog_19_method_4_code (1 : Nat) (Option.none : Option Jvm.ClassFile.FieldType)) ∈ lw_all := lw_g (lw_at lw_m3 101 rfl) rfl
theorem q720 : (Jvm.Cond.declares ({ cls := "HeavierServes$Words", name := "passes", desc := "(C)Z" } : Jvm.MethodName)) ∈ lw_tbl := lw_at lw_m3 166 rfl
theorem q724 : (Jvm.Cond.declares ({ cls := "HeavierServes$Words", name := "here", desc := "()I" } : Jvm.MethodName)) ∈ lw_tbl := lw_at lw_m3 170 rfl
theorem q728 : (Jvm.Cond.declares ({ cls := "HeavierServes$Words", name := "need", desc := "(Z)V" } : Jvm.MethodName)) ∈ lw_tbl := lw_at lw_m3 174 rfl
theorem q735 : (Jvm.Cond.declares ({ cls := "HeavierServes$Words", name := "number", desc := "(III)I" } : Jvm.MethodName)) ∈ lw_tbl := lw_at lw_m3 181 rfl
theorem q842 : (Jvm.Cond.declares ({ cls := "HeavierServes$Words", name := "needEnd", desc := "()V" } : Jvm.MethodName)) ∈ lw_tbl := lw_at lw_m4 48 rfl
theorem q1962 : (Jvm.Cond.castable "HeavierServes$Words" "java/lang/Object") ∈ lw_tbl := lw_at lw_m8 208 rfl
theorem in_X15 : ∀ w ∈ wsX150, w ∈ lw_all := lw_in wsX150 [543, 545, 547, 549] (by decide +kernel) (by decide +kernel)
def RX16 : String := "HeavierServes$Fault"
def TX16 : u_T := fun k => match k with
  | 0 => ("java/lang/Throwable", "cause", "Ljava/lang/Throwable;", false)
  | 1 => ("java/lang/Throwable", "stackTrace", "[Ljava/lang/StackTraceElement;", false)
  | 2 => ("java/lang/Throwable", "suppressedExceptions", "Ljava/util/List;", false)
  | 3 => ("java/lang/Throwable", "detailMessage", "Ljava/lang/String;", false)
  | 4 => ("java/lang/Throwable", "backtrace", "Ljava/lang/Object;", false)
  | 5 => ("java/lang/Throwable", "depth", "I", false)
  | _ => ("HeavierServes$Fault", "place", "I", true)
def tyX16 : Nat → FieldType := fun k => match k with
  | 0 => .object "java/lang/Throwable"
  | 1 => .array (.object "java/lang/StackTraceElement")
  | 2 => .object "java/util/List"
  | 3 => .object "java/lang/String"
  | 4 => .object "java/lang/Object"
  | 5 => .int
  | _ => .int
abbrev wsX160 : List Cond := u_ws RX16 TX16 7
theorem nmX16 : ∀ a, a < 7 → ∀ b, b < 7 → a ≠ b → (TX16 a).2.1 ≠ (TX16 b).2.1 := by decide +kernel
theorem tyX16_ok : ∀ k, k < 7 → parseFieldDescriptor (TX16 k).2.2.1 = some (tyX16 k) := by decide +kernel
abbrev cX16_init : ByteArray := prog_5_method_1_code
def yX16_init : MethodName := ⟨RX16, "<init>", "(I)V"⟩
theorem q93 : (Jvm.Cond.initialized "HeavierServes$Fault") ∈ lw_all := lw_g (lw_at lw_m1 19 rfl) rfl
theorem q559 : (Jvm.Cond.instantiable "HeavierServes$Fault" (7 : Nat)) ∈ lw_all := lw_g (lw_at lw_m3 5 rfl) rfl
theorem q560 : (Jvm.Cond.castable "HeavierServes$Fault" "HeavierServes$Fault") ∈ lw_tbl := lw_at lw_m3 6 rfl
theorem q565 : (Jvm.Cond.selects "HeavierServes$Fault" ({ cls := "java/lang/Throwable", name := "fillInStackTrace", desc := "(I)Ljava/lang/Throwable;" } : Jvm.MethodName) ({ cls := "java/lang/Throwable", name := "fillInStackTrace", desc := "(I)Ljava/lang/Throwable;" } : Jvm.MethodName)) ∈ lw_all := lw_g (lw_at lw_m3 11 rfl) rfl
theorem q566 : (Jvm.Cond.selects "HeavierServes$Fault" ({ cls := "java/lang/Throwable", name := "fillInStackTrace", desc := "()Ljava/lang/Throwable;" } : Jvm.MethodName) ({ cls := "java/lang/Throwable", name := "fillInStackTrace", desc := "()Ljava/lang/Throwable;" } : Jvm.MethodName)) ∈ lw_all := lw_g (lw_at lw_m3 12 rfl) rfl
theorem q567 : (Jvm.Cond.lays "HeavierServes$Fault" "java/lang/Throwable" "cause" "Ljava/lang/Throwable;") ∈ lw_all := lw_g (lw_at lw_m3 13 rfl) rfl
theorem q569 : (Jvm.Cond.lays "HeavierServes$Fault" "java/lang/Throwable" "stackTrace" "[Ljava/lang/StackTraceElement;") ∈ lw_all := lw_g (lw_at lw_m3 15 rfl) rfl
theorem q571 : (Jvm.Cond.lays "HeavierServes$Fault" "java/lang/Throwable" "suppressedExceptions" "Ljava/util/List;") ∈ lw_all := lw_g (lw_at lw_m3 17 rfl) rfl
theorem q573 : (Jvm.Cond.lays "HeavierServes$Fault" "java/lang/Throwable" "detailMessage" "Ljava/lang/String;") ∈ lw_all := lw_g (lw_at lw_m3 19 rfl) rfl
theorem q575 : (Jvm.Cond.lays "HeavierServes$Fault" "java/lang/Throwable" "backtrace" "Ljava/lang/Object;") ∈ lw_all := lw_g (lw_at lw_m3 21 rfl) rfl
theorem q598 : (Jvm.Cond.instanceMethod ({ cls := "HeavierServes$Fault", name := "<init>", desc := "(I)V" } : Jvm.MethodName)) ∈ lw_all := lw_g (lw_at lw_m3 44 rfl) rfl
theorem q599 : (Jvm.Cond.code ({ cls := "HeavierServes$Fault", name := "<init>", desc := "(I)V" } : Jvm.MethodName) prog_5_method_1_code (2 : Nat) (Option.none : Option Jvm.ClassFile.FieldType)) ∈ lw_all := lw_g (lw_at lw_m3 45 rfl) rfl
theorem q600 : (Jvm.Cond.methodLink "HeavierServes$Fault" (1 : Nat) ({ cls := "java/lang/Exception", name := "<init>", desc := "()V" } : Jvm.MethodName)) ∈ lw_all := lw_g (lw_at lw_m3 46 rfl) rfl
theorem q604 : (Jvm.Cond.fieldLink "HeavierServes$Fault" (7 : Nat) "HeavierServes$Fault" "place" "I") ∈ lw_all := lw_g (lw_at lw_m3 50 rfl) rfl
theorem q611 : (Jvm.Cond.laysFinal "HeavierServes$Fault" "HeavierServes$Fault" "place" "I") ∈ lw_all := lw_g (lw_at lw_m3 57 rfl) rfl
theorem q612 : (Jvm.Cond.soleField "HeavierServes$Fault" "place") ∈ lw_all := lw_g (lw_at lw_m3 58 rfl) rfl
theorem q617 : (Jvm.Cond.lays "HeavierServes$Fault" "java/lang/Throwable" "depth" "I") ∈ lw_all := lw_g (lw_at lw_m3 63 rfl) rfl
theorem q620 : (Jvm.Cond.superclass "HeavierServes$Fault" "java/lang/Exception") ∈ lw_all := lw_g (lw_at lw_m3 66 rfl) rfl
theorem q1963 : (Jvm.Cond.castable "HeavierServes$Fault" "java/lang/Object") ∈ lw_tbl := lw_at lw_m8 209 rfl
theorem in_X16 : ∀ w ∈ wsX160, w ∈ lw_all := lw_in wsX160 [567, 569, 571, 573, 575, 617, 611] (by decide +kernel) (by decide +kernel)
def RX17 : String := "HeavierServes$Will"
def TX17 : u_T := fun k => match k with
  | 0 => ("HeavierServes$Words", "of", "[B", true)
  | 1 => ("HeavierServes$Words", "size", "I", true)
  | 2 => ("HeavierServes$Words", "end", "I", true)
  | 3 => ("HeavierServes$Words", "at", "I", false)
  | 4 => ("HeavierServes$Will", "time", "LHeavierServes$Time;", false)
  | 5 => ("HeavierServes$Will", "who", "I", false)
  | _ => ("HeavierServes$Will", "this$0", "LHeavierServes;", true)
def tyX17 : Nat → FieldType := fun k => match k with
  | 0 => .array .byte
  | 1 => .int
  | 2 => .int
  | 3 => .int
  | 4 => .object "HeavierServes$Time"
  | 5 => .int
  | _ => .object "HeavierServes"
abbrev wsX170 : List Cond := u_ws RX17 TX17 7
theorem nmX17 : ∀ a, a < 7 → ∀ b, b < 7 → a ≠ b → (TX17 a).2.1 ≠ (TX17 b).2.1 := by decide +kernel
theorem tyX17_ok : ∀ k, k < 7 → parseFieldDescriptor (TX17 k).2.2.1 = some (tyX17 k) := by decide +kernel
abbrev cX17_init : ByteArray := prog_17_method_1_code
def yX17_init : MethodName := ⟨RX17, "<init>", "(LHeavierServes;[BI)V"⟩
abbrev cX17_read : ByteArray := prog_17_method_2_code
def yX17_read : MethodName := ⟨RX17, "read", "()LHeavierServes$Will;"⟩
abbrev cX17_held : ByteArray := prog_17_method_4_code
def yX17_held : MethodName := ⟨RX17, "held", "(I)I"⟩
abbrev cX17_sum : ByteArray := prog_17_method_5_code
def yX17_sum : MethodName := ⟨RX17, "sum", "(I)I"⟩
abbrev cX17_product : ByteArray := prog_17_method_6_code
def yX17_product : MethodName := ⟨RX17, "product", "(I)I"⟩
abbrev cX17_thing : ByteArray := prog_17_method_7_code
def yX17_thing : MethodName := ⟨RX17, "thing", "(I)I"⟩
abbrev cX17_letter : ByteArray := prog_17_method_8_code
def yX17_letter : MethodName := ⟨RX17, "letter", "(I)I"⟩
abbrev cX17_of : ByteArray := prog_17_method_3_code
def yX17_of : MethodName := ⟨RX17, "of", "(LHeavierServes$Time;I)I"⟩
theorem q99 : (Jvm.Cond.initialized "HeavierServes$Will") ∈ lw_all := lw_g (lw_at lw_m1 25 rfl) rfl
theorem q124 : (Jvm.Cond.fieldLink "HeavierServes$Will" (84 : Nat) "HeavierServes$Time" "weights" "[I") ∈ lw_all := lw_g (lw_at lw_m1 50 rfl) rfl
theorem q127 : (Jvm.Cond.fieldLink "HeavierServes$Will" (111 : Nat) "HeavierServes$Time" "served" "[I") ∈ lw_all := lw_g (lw_at lw_m1 53 rfl) rfl
theorem q145 : (Jvm.Cond.fieldLink "HeavierServes$Will" (79 : Nat) "HeavierServes$Time" "server" "I") ∈ lw_all := lw_g (lw_at lw_m1 71 rfl) rfl
theorem q148 : (Jvm.Cond.fieldLink "HeavierServes$Will" (97 : Nat) "HeavierServes$Time" "term" "I") ∈ lw_all := lw_g (lw_at lw_m1 74 rfl) rfl
theorem q154 : (Jvm.Cond.fieldLink "HeavierServes$Will" (108 : Nat) "HeavierServes$Time" "week" "I") ∈ lw_all := lw_g (lw_at lw_m1 80 rfl) rfl
theorem q190 : (Jvm.Cond.fieldLink "HeavierServes$Will" (92 : Nat) "HeavierServes$One" "party" "I") ∈ lw_all := lw_g (lw_at lw_m1 116 rfl) rfl
theorem q370 : (Jvm.Cond.fieldLinkNest "HeavierServes$Will" (88 : Nat) "HeavierServes" "people" "[LHeavierServes$One;" "HeavierServes") ∈ lw_tbl := lw_at lw_m2 56 rfl
theorem q540 : (Jvm.Cond.fieldLink "HeavierServes$Will" (31 : Nat) "HeavierServes$Will" "at" "I") ∈ lw_all := lw_g (lw_at lw_m2 226 rfl) rfl
theorem q541 : (Jvm.Cond.sameField "HeavierServes$Will" "HeavierServes$Words" "at" "I") ∈ lw_all := lw_g (lw_at lw_m2 227 rfl) rfl
theorem q556 : (Jvm.Cond.selects "HeavierServes$Will" ({ cls := "HeavierServes$Words", name := "need", desc := "(Z)V" } : Jvm.MethodName) ({ cls := "HeavierServes$Words", name := "need", desc := "(Z)V" } : Jvm.MethodName)) ∈ lw_all := lw_g (lw_at lw_m3 2 rfl) rfl
theorem q625 : (Jvm.Cond.selects "HeavierServes$Will" ({ cls := "HeavierServes$Words", name := "number", desc := "(III)I" } : Jvm.MethodName) ({ cls := "HeavierServes$Words", name := "number", desc := "(III)I" } : Jvm.MethodName)) ∈ lw_all := lw_g (lw_at lw_m3 71 rfl) rfl
theorem q631 : (Jvm.Cond.selects "HeavierServes$Will" ({ cls := "HeavierServes$Words", name := "here", desc := "()I" } : Jvm.MethodName) ({ cls := "HeavierServes$Words", name := "here", desc := "()I" } : Jvm.MethodName)) ∈ lw_all := lw_g (lw_at lw_m3 77 rfl) rfl
theorem q641 : (Jvm.Cond.selects "HeavierServes$Will" ({ cls := "HeavierServes$Words", name := "passes", desc := "(C)Z" } : Jvm.MethodName) ({ cls := "HeavierServes$Words", name := "passes", desc := "(C)Z" } : Jvm.MethodName)) ∈ lw_all := lw_g (lw_at lw_m3 87 rfl) rfl
theorem q647 : (Jvm.Cond.selects "HeavierServes$Will" ({ cls := "HeavierServes$Words", name := "habit", desc := "(LHeavierServes$One;)V" } : Jvm.MethodName) ({ cls := "HeavierServes$Words", name := "habit", desc := "(LHeavierServes$One;)V" } : Jvm.MethodName)) ∈ lw_all := lw_g (lw_at lw_m3 93 rfl) rfl
theorem q654 : (Jvm.Cond.selects "HeavierServes$Will" ({ cls := "HeavierServes$Words", name := "needEnd", desc := "()V" } : Jvm.MethodName) ({ cls := "HeavierServes$Words", name := "needEnd", desc := "()V" } : Jvm.MethodName)) ∈ lw_all := lw_g (lw_at lw_m3 100 rfl) rfl
theorem q679 : (Jvm.Cond.instantiable "HeavierServes$Will" (7 : Nat)) ∈ lw_all := lw_g (lw_at lw_m3 125 rfl) rfl
theorem q681 : (Jvm.Cond.instanceMethod ({ cls := "HeavierServes$Will", name := "<init>", desc := "(LHeavierServes;[BI)V" } : Jvm.MethodName)) ∈ lw_all := lw_g (lw_at lw_m3 127 rfl) rfl
theorem q682 : (Jvm.Cond.code ({ cls := "HeavierServes$Will", name := "<init>", desc := "(LHeavierServes;[BI)V" } : Jvm.MethodName) prog_17_method_1_code (4 : Nat) (Option.none : Option Jvm.ClassFile.FieldType)) ∈ lw_all := lw_g (lw_at lw_m3 128 rfl) rfl
theorem q683 : (Jvm.Cond.methodLink "HeavierServes$Will" (9 : Nat) ({ cls := "HeavierServes$Words", name := "<init>", desc := "([BII)V" } : Jvm.MethodName)) ∈ lw_all := lw_g (lw_at lw_m3 129 rfl) rfl
theorem q684 : (Jvm.Cond.fieldLink "HeavierServes$Will" (23 : Nat) "HeavierServes$Will" "time" "LHeavierServes$Time;") ∈ lw_all := lw_g (lw_at lw_m3 130 rfl) rfl
theorem q685 : (Jvm.Cond.fieldLink "HeavierServes$Will" (27 : Nat) "HeavierServes$Will" "who" "I") ∈ lw_all := lw_g (lw_at lw_m3 131 rfl) rfl
theorem q686 : (Jvm.Cond.fieldLink "HeavierServes$Will" (3 : Nat) "HeavierServes$Will" "this$0" "LHeavierServes;") ∈ lw_all := lw_g (lw_at lw_m3 132 rfl) rfl
theorem q687 : (Jvm.Cond.lays "HeavierServes$Will" "HeavierServes$Will" "time" "LHeavierServes$Time;") ∈ lw_all := lw_g (lw_at lw_m3 133 rfl) rfl
theorem q688 : (Jvm.Cond.soleField "HeavierServes$Will" "time") ∈ lw_all := lw_g (lw_at lw_m3 134 rfl) rfl
theorem q689 : (Jvm.Cond.lays "HeavierServes$Will" "HeavierServes$Will" "who" "I") ∈ lw_all := lw_g (lw_at lw_m3 135 rfl) rfl
theorem q690 : (Jvm.Cond.soleField "HeavierServes$Will" "who") ∈ lw_all := lw_g (lw_at lw_m3 136 rfl) rfl
theorem q691 : (Jvm.Cond.laysFinal "HeavierServes$Will" "HeavierServes$Will" "this$0" "LHeavierServes;") ∈ lw_all := lw_g (lw_at lw_m3 137 rfl) rfl
theorem q692 : (Jvm.Cond.soleField "HeavierServes$Will" "this$0") ∈ lw_all := lw_g (lw_at lw_m3 138 rfl) rfl
theorem q693 : (Jvm.Cond.laysFinal "HeavierServes$Will" "HeavierServes$Words" "of" "[B") ∈ lw_all := lw_g (lw_at lw_m3 139 rfl) rfl
theorem q694 : (Jvm.Cond.laysFinal "HeavierServes$Will" "HeavierServes$Words" "size" "I") ∈ lw_all := lw_g (lw_at lw_m3 140 rfl) rfl
theorem q695 : (Jvm.Cond.laysFinal "HeavierServes$Will" "HeavierServes$Words" "end" "I") ∈ lw_all := lw_g (lw_at lw_m3 141 rfl) rfl
theorem q696 : (Jvm.Cond.lays "HeavierServes$Will" "HeavierServes$Words" "at" "I") ∈ lw_all := lw_g (lw_at lw_m3 142 rfl) rfl
theorem q697 : (Jvm.Cond.superclass "HeavierServes$Will" "HeavierServes$Words") ∈ lw_all := lw_g (lw_at lw_m3 143 rfl) rfl
theorem q699 : (Jvm.Cond.instanceMethod ({ cls := "HeavierServes$Will", name := "read", desc := "()LHeavierServes$Will;" } : Jvm.MethodName)) ∈ lw_all := lw_g (lw_at lw_m3 145 rfl) rfl
theorem q700 : (Jvm.Cond.selects "HeavierServes$Will" ({ cls := "HeavierServes$Will", name := "read", desc := "()LHeavierServes$Will;" } : Jvm.MethodName) ({ cls := "HeavierServes$Will", name := "read", desc := "()LHeavierServes$Will;" } : Jvm.MethodName)) ∈ lw_all := lw_g (lw_at lw_m3 146 rfl) rfl
theorem q701 : (Jvm.Cond.code ({ cls := "HeavierServes$Will", name := "read", desc := "()LHeavierServes$Will;" } : Jvm.MethodName) prog_17_method_2_code (1 : Nat) (Option.some (Jvm.ClassFile.FieldType.object "HeavierServes$Will"))) ∈ lw_all := lw_g (lw_at lw_m3 147 rfl) rfl
theorem q702 : (Jvm.Cond.methodLink "HeavierServes$Will" (15 : Nat) ({ cls := "HeavierServes$Will", name := "held", desc := "(I)I" } : Jvm.MethodName)) ∈ lw_all := lw_g (lw_at lw_m3 148 rfl) rfl
theorem q703 : (Jvm.Cond.privateMethod ({ cls := "HeavierServes$Will", name := "held", desc := "(I)I" } : Jvm.MethodName)) ∈ lw_tbl := lw_at lw_m3 149 rfl
theorem q704 : (Jvm.Cond.instanceMethod ({ cls := "HeavierServes$Will", name := "held", desc := "(I)I" } : Jvm.MethodName)) ∈ lw_all := lw_g (lw_at lw_m3 150 rfl) rfl
theorem q705 : (Jvm.Cond.code ({ cls := "HeavierServes$Will", name := "held", desc := "(I)I" } : Jvm.MethodName) prog_17_method_4_code (3 : Nat) (Option.some Jvm.ClassFile.FieldType.int)) ∈ lw_all := lw_g (lw_at lw_m3 151 rfl) rfl
theorem q706 : (Jvm.Cond.methodLink "HeavierServes$Will" (36 : Nat) ({ cls := "HeavierServes$Will", name := "sum", desc := "(I)I" } : Jvm.MethodName)) ∈ lw_all := lw_g (lw_at lw_m3 152 rfl) rfl
theorem q707 : (Jvm.Cond.privateMethod ({ cls := "HeavierServes$Will", name := "sum", desc := "(I)I" } : Jvm.MethodName)) ∈ lw_tbl := lw_at lw_m3 153 rfl
theorem q708 : (Jvm.Cond.instanceMethod ({ cls := "HeavierServes$Will", name := "sum", desc := "(I)I" } : Jvm.MethodName)) ∈ lw_all := lw_g (lw_at lw_m3 154 rfl) rfl
theorem q709 : (Jvm.Cond.code ({ cls := "HeavierServes$Will", name := "sum", desc := "(I)I" } : Jvm.MethodName) prog_17_method_5_code (5 : Nat) (Option.some Jvm.ClassFile.FieldType.int)) ∈ lw_all := lw_g (lw_at lw_m3 155 rfl) rfl
theorem q710 : (Jvm.Cond.methodLink "HeavierServes$Will" (43 : Nat) ({ cls := "HeavierServes$Will", name := "product", desc := "(I)I" } : Jvm.MethodName)) ∈ lw_all := lw_g (lw_at lw_m3 156 rfl) rfl
theorem q711 : (Jvm.Cond.privateMethod ({ cls := "HeavierServes$Will", name := "product", desc := "(I)I" } : Jvm.MethodName)) ∈ lw_tbl := lw_at lw_m3 157 rfl
theorem q712 : (Jvm.Cond.instanceMethod ({ cls := "HeavierServes$Will", name := "product", desc := "(I)I" } : Jvm.MethodName)) ∈ lw_all := lw_g (lw_at lw_m3 158 rfl) rfl
theorem q713 : (Jvm.Cond.code ({ cls := "HeavierServes$Will", name := "product", desc := "(I)I" } : Jvm.MethodName) prog_17_method_6_code (5 : Nat) (Option.some Jvm.ClassFile.FieldType.int)) ∈ lw_all := lw_g (lw_at lw_m3 159 rfl) rfl
theorem q714 : (Jvm.Cond.methodLink "HeavierServes$Will" (50 : Nat) ({ cls := "HeavierServes$Will", name := "thing", desc := "(I)I" } : Jvm.MethodName)) ∈ lw_all := lw_g (lw_at lw_m3 160 rfl) rfl
theorem q715 : (Jvm.Cond.privateMethod ({ cls := "HeavierServes$Will", name := "thing", desc := "(I)I" } : Jvm.MethodName)) ∈ lw_tbl := lw_at lw_m3 161 rfl
theorem q716 : (Jvm.Cond.instanceMethod ({ cls := "HeavierServes$Will", name := "thing", desc := "(I)I" } : Jvm.MethodName)) ∈ lw_all := lw_g (lw_at lw_m3 162 rfl) rfl
theorem q717 : (Jvm.Cond.code ({ cls := "HeavierServes$Will", name := "thing", desc := "(I)I" } : Jvm.MethodName) prog_17_method_7_code (3 : Nat) (Option.some Jvm.ClassFile.FieldType.int)) ∈ lw_all := lw_g (lw_at lw_m3 163 rfl) rfl
theorem q718 : (Jvm.Cond.methodLink "HeavierServes$Will" (39 : Nat) ({ cls := "HeavierServes$Will", name := "passes", desc := "(C)Z" } : Jvm.MethodName)) ∈ lw_all := lw_g (lw_at lw_m3 164 rfl) rfl
theorem q719 : (Jvm.Cond.sameMethod "HeavierServes$Will" "HeavierServes$Words" "passes" "(C)Z") ∈ lw_all := lw_g (lw_at lw_m3 165 rfl) rfl
theorem q721 : (Jvm.Cond.selects "HeavierServes$Will" ({ cls := "HeavierServes$Will", name := "passes", desc := "(C)Z" } : Jvm.MethodName) ({ cls := "HeavierServes$Words", name := "passes", desc := "(C)Z" } : Jvm.MethodName)) ∈ lw_all := lw_g (lw_at lw_m3 167 rfl) rfl
theorem q722 : (Jvm.Cond.methodLink "HeavierServes$Will" (46 : Nat) ({ cls := "HeavierServes$Will", name := "here", desc := "()I" } : Jvm.MethodName)) ∈ lw_all := lw_g (lw_at lw_m3 168 rfl) rfl
theorem q723 : (Jvm.Cond.sameMethod "HeavierServes$Will" "HeavierServes$Words" "here" "()I") ∈ lw_all := lw_g (lw_at lw_m3 169 rfl) rfl
theorem q725 : (Jvm.Cond.selects "HeavierServes$Will" ({ cls := "HeavierServes$Will", name := "here", desc := "()I" } : Jvm.MethodName) ({ cls := "HeavierServes$Words", name := "here", desc := "()I" } : Jvm.MethodName)) ∈ lw_all := lw_g (lw_at lw_m3 171 rfl) rfl
theorem q726 : (Jvm.Cond.methodLink "HeavierServes$Will" (53 : Nat) ({ cls := "HeavierServes$Will", name := "need", desc := "(Z)V" } : Jvm.MethodName)) ∈ lw_all := lw_g (lw_at lw_m3 172 rfl) rfl
theorem q727 : (Jvm.Cond.sameMethod "HeavierServes$Will" "HeavierServes$Words" "need" "(Z)V") ∈ lw_all := lw_g (lw_at lw_m3 173 rfl) rfl
theorem q729 : (Jvm.Cond.selects "HeavierServes$Will" ({ cls := "HeavierServes$Will", name := "need", desc := "(Z)V" } : Jvm.MethodName) ({ cls := "HeavierServes$Words", name := "need", desc := "(Z)V" } : Jvm.MethodName)) ∈ lw_all := lw_g (lw_at lw_m3 175 rfl) rfl
theorem q730 : (Jvm.Cond.constantLong "HeavierServes$Will" (57 : Nat) (48 : Int64)) ∈ lw_all := lw_g (lw_at lw_m3 176 rfl) rfl
theorem q731 : (Jvm.Cond.constantLong "HeavierServes$Will" (59 : Nat) (57 : Int64)) ∈ lw_all := lw_g (lw_at lw_m3 177 rfl) rfl
theorem q732 : (Jvm.Cond.methodLinkNest "HeavierServes$Will" (61 : Nat) ({ cls := "HeavierServes", name := "in", desc := "(JJJ)Z" } : Jvm.MethodName) "HeavierServes") ∈ lw_tbl := lw_at lw_m3 178 rfl
theorem q733 : (Jvm.Cond.methodLink "HeavierServes$Will" (65 : Nat) ({ cls := "HeavierServes$Will", name := "number", desc := "(III)I" } : Jvm.MethodName)) ∈ lw_all := lw_g (lw_at lw_m3 179 rfl) rfl
theorem q734 : (Jvm.Cond.sameMethod "HeavierServes$Will" "HeavierServes$Words" "number" "(III)I") ∈ lw_all := lw_g (lw_at lw_m3 180 rfl) rfl
theorem q736 : (Jvm.Cond.selects "HeavierServes$Will" ({ cls := "HeavierServes$Will", name := "number", desc := "(III)I" } : Jvm.MethodName) ({ cls := "HeavierServes$Words", name := "number", desc := "(III)I" } : Jvm.MethodName)) ∈ lw_all := lw_g (lw_at lw_m3 182 rfl) rfl
theorem q737 : (Jvm.Cond.stringRef "HeavierServes$Will" (69 : Nat) "iwpvqstno") ∈ lw_tbl := lw_at lw_m3 183 rfl
theorem q738 : (Jvm.Cond.methodLink "HeavierServes$Will" (71 : Nat) ({ cls := "java/lang/String", name := "indexOf", desc := "(I)I" } : Jvm.MethodName)) ∈ lw_all := lw_g (lw_at lw_m3 184 rfl) rfl
theorem q822 : (Jvm.Cond.methodLink "HeavierServes$Will" (76 : Nat) ({ cls := "HeavierServes$Will", name := "letter", desc := "(I)I" } : Jvm.MethodName)) ∈ lw_all := lw_g (lw_at lw_m4 28 rfl) rfl
theorem q823 : (Jvm.Cond.privateMethod ({ cls := "HeavierServes$Will", name := "letter", desc := "(I)I" } : Jvm.MethodName)) ∈ lw_tbl := lw_at lw_m4 29 rfl
theorem q824 : (Jvm.Cond.instanceMethod ({ cls := "HeavierServes$Will", name := "letter", desc := "(I)I" } : Jvm.MethodName)) ∈ lw_all := lw_g (lw_at lw_m4 30 rfl) rfl
theorem q825 : (Jvm.Cond.code ({ cls := "HeavierServes$Will", name := "letter", desc := "(I)I" } : Jvm.MethodName) prog_17_method_8_code (3 : Nat) (Option.some Jvm.ClassFile.FieldType.int)) ∈ lw_all := lw_g (lw_at lw_m4 31 rfl) rfl
theorem q826 : (Jvm.Cond.methodLink "HeavierServes$Will" (100 : Nat) ({ cls := "HeavierServes$Time", name := "holding", desc := "()I" } : Jvm.MethodName)) ∈ lw_all := lw_g (lw_at lw_m4 32 rfl) rfl
theorem q834 : (Jvm.Cond.methodLink "HeavierServes$Will" (103 : Nat) ({ cls := "java/lang/Integer", name := "bitCount", desc := "(I)I" } : Jvm.MethodName)) ∈ lw_all := lw_g (lw_at lw_m4 40 rfl) rfl
theorem q840 : (Jvm.Cond.methodLink "HeavierServes$Will" (19 : Nat) ({ cls := "HeavierServes$Will", name := "needEnd", desc := "()V" } : Jvm.MethodName)) ∈ lw_all := lw_g (lw_at lw_m4 46 rfl) rfl
theorem q841 : (Jvm.Cond.sameMethod "HeavierServes$Will" "HeavierServes$Words" "needEnd" "()V") ∈ lw_all := lw_g (lw_at lw_m4 47 rfl) rfl
theorem q843 : (Jvm.Cond.selects "HeavierServes$Will" ({ cls := "HeavierServes$Will", name := "needEnd", desc := "()V" } : Jvm.MethodName) ({ cls := "HeavierServes$Words", name := "needEnd", desc := "()V" } : Jvm.MethodName)) ∈ lw_all := lw_g (lw_at lw_m4 49 rfl) rfl
theorem q955 : (Jvm.Cond.instanceMethod ({ cls := "HeavierServes$Will", name := "of", desc := "(LHeavierServes$Time;I)I" } : Jvm.MethodName)) ∈ lw_all := lw_g (lw_at lw_m4 161 rfl) rfl
theorem q956 : (Jvm.Cond.selects "HeavierServes$Will" ({ cls := "HeavierServes$Will", name := "of", desc := "(LHeavierServes$Time;I)I" } : Jvm.MethodName) ({ cls := "HeavierServes$Will", name := "of", desc := "(LHeavierServes$Time;I)I" } : Jvm.MethodName)) ∈ lw_all := lw_g (lw_at lw_m4 162 rfl) rfl
theorem q957 : (Jvm.Cond.codeWith ({ cls := "HeavierServes$Will", name := "of", desc := "(LHeavierServes$Time;I)I" } : Jvm.MethodName) prog_17_method_3_code (6 : Nat) (Option.some Jvm.ClassFile.FieldType.int) [((15 : Nat), (21 : Nat), (28 : Nat), (34 : Nat)), ((15 : Nat), (21 : Nat), (40 : Nat), (0 : Nat)), ((28 : Nat), (32 : Nat), (40 : Nat), (0 : Nat)), ((40 : Nat), (42 : Nat), (40 : Nat), (0 : Nat))]) ∈ lw_all := lw_g (lw_at lw_m4 163 rfl) rfl
theorem q958 : (Jvm.Cond.classLink "HeavierServes$Will" (34 : Nat) "HeavierServes$Fault") ∈ lw_all := lw_g (lw_at lw_m4 164 rfl) rfl
theorem q1964 : (Jvm.Cond.castable "HeavierServes$Will" "java/lang/Object") ∈ lw_tbl := lw_at lw_m8 210 rfl
theorem in_X17 : ∀ w ∈ wsX170, w ∈ lw_all := lw_in wsX170 [693, 694, 695, 696, 687, 689, 691] (by decide +kernel) (by decide +kernel)
def RX18 : String := "HeavierServes$Kept"
def TX18 : u_T := fun k => match k with
  | 0 => ("HeavierServes$Kept", "was", "LHeavierServes$Time;", true)
  | 1 => ("HeavierServes$Kept", "there", "I", true)
  | _ => ("HeavierServes$Kept", "this$0", "LHeavierServes;", true)
def tyX18 : Nat → FieldType := fun k => match k with
  | 0 => .object "HeavierServes$Time"
  | 1 => .int
  | _ => .object "HeavierServes"
abbrev wsX180 : List Cond := u_ws RX18 TX18 3
theorem nmX18 : ∀ a, a < 3 → ∀ b, b < 3 → a ≠ b → (TX18 a).2.1 ≠ (TX18 b).2.1 := by decide +kernel
theorem tyX18_ok : ∀ k, k < 3 → parseFieldDescriptor (TX18 k).2.2.1 = some (tyX18 k) := by decide +kernel
abbrev cX18_init : ByteArray := prog_8_method_1_code
def yX18_init : MethodName := ⟨RX18, "<init>", "(LHeavierServes;)V"⟩
theorem q106 : (Jvm.Cond.initialized "HeavierServes$Kept") ∈ lw_all := lw_g (lw_at lw_m1 32 rfl) rfl
theorem q371 : (Jvm.Cond.fieldLinkNest "HeavierServes$Kept" (29 : Nat) "HeavierServes" "now" "LHeavierServes$Time;" "HeavierServes") ∈ lw_tbl := lw_at lw_m2 57 rfl
theorem q383 : (Jvm.Cond.fieldLinkNest "HeavierServes$Kept" (20 : Nat) "HeavierServes" "came" "I" "HeavierServes") ∈ lw_tbl := lw_at lw_m2 69 rfl
theorem q1272 : (Jvm.Cond.instantiable "HeavierServes$Kept" (3 : Nat)) ∈ lw_all := lw_g (lw_at lw_m5 238 rfl) rfl
theorem q1274 : (Jvm.Cond.instanceMethod ({ cls := "HeavierServes$Kept", name := "<init>", desc := "(LHeavierServes;)V" } : Jvm.MethodName)) ∈ lw_all := lw_g (lw_at lw_m6 0 rfl) rfl
theorem q1275 : (Jvm.Cond.code ({ cls := "HeavierServes$Kept", name := "<init>", desc := "(LHeavierServes;)V" } : Jvm.MethodName) prog_8_method_1_code (2 : Nat) (Option.none : Option Jvm.ClassFile.FieldType)) ∈ lw_all := lw_g (lw_at lw_m6 1 rfl) rfl
theorem q1276 : (Jvm.Cond.methodLink "HeavierServes$Kept" (7 : Nat) ({ cls := "java/lang/Object", name := "<init>", desc := "()V" } : Jvm.MethodName)) ∈ lw_all := lw_g (lw_at lw_m6 2 rfl) rfl
theorem q1277 : (Jvm.Cond.classLink "HeavierServes$Kept" (13 : Nat) "HeavierServes$Time") ∈ lw_all := lw_g (lw_at lw_m6 3 rfl) rfl
theorem q1278 : (Jvm.Cond.methodLinkNest "HeavierServes$Kept" (15 : Nat) ({ cls := "HeavierServes$Time", name := "<init>", desc := "()V" } : Jvm.MethodName) "HeavierServes") ∈ lw_tbl := lw_at lw_m6 4 rfl
theorem q1279 : (Jvm.Cond.methodLink "HeavierServes$Kept" (32 : Nat) ({ cls := "HeavierServes$Time", name := "be", desc := "(LHeavierServes$Time;)V" } : Jvm.MethodName)) ∈ lw_all := lw_g (lw_at lw_m6 5 rfl) rfl
theorem q1280 : (Jvm.Cond.fieldLink "HeavierServes$Kept" (16 : Nat) "HeavierServes$Kept" "was" "LHeavierServes$Time;") ∈ lw_all := lw_g (lw_at lw_m6 6 rfl) rfl
theorem q1282 : (Jvm.Cond.fieldLink "HeavierServes$Kept" (26 : Nat) "HeavierServes$Kept" "there" "I") ∈ lw_all := lw_g (lw_at lw_m6 8 rfl) rfl
theorem q1284 : (Jvm.Cond.fieldLink "HeavierServes$Kept" (1 : Nat) "HeavierServes$Kept" "this$0" "LHeavierServes;") ∈ lw_all := lw_g (lw_at lw_m6 10 rfl) rfl
theorem q1285 : (Jvm.Cond.laysFinal "HeavierServes$Kept" "HeavierServes$Kept" "was" "LHeavierServes$Time;") ∈ lw_all := lw_g (lw_at lw_m6 11 rfl) rfl
theorem q1286 : (Jvm.Cond.soleField "HeavierServes$Kept" "was") ∈ lw_all := lw_g (lw_at lw_m6 12 rfl) rfl
theorem q1287 : (Jvm.Cond.laysFinal "HeavierServes$Kept" "HeavierServes$Kept" "there" "I") ∈ lw_all := lw_g (lw_at lw_m6 13 rfl) rfl
theorem q1288 : (Jvm.Cond.soleField "HeavierServes$Kept" "there") ∈ lw_all := lw_g (lw_at lw_m6 14 rfl) rfl
theorem q1289 : (Jvm.Cond.laysFinal "HeavierServes$Kept" "HeavierServes$Kept" "this$0" "LHeavierServes;") ∈ lw_all := lw_g (lw_at lw_m6 15 rfl) rfl
theorem q1290 : (Jvm.Cond.soleField "HeavierServes$Kept" "this$0") ∈ lw_all := lw_g (lw_at lw_m6 16 rfl) rfl
theorem q1291 : (Jvm.Cond.superclass "HeavierServes$Kept" "java/lang/Object") ∈ lw_all := lw_g (lw_at lw_m6 17 rfl) rfl
theorem q1967 : (Jvm.Cond.castable "HeavierServes$Kept" "java/lang/Object") ∈ lw_tbl := lw_at lw_m8 213 rfl
theorem in_X18 : ∀ w ∈ wsX180, w ∈ lw_all := lw_in wsX180 [1285, 1287, 1289] (by decide +kernel) (by decide +kernel)
theorem q935 : (Jvm.Cond.interfaceMethod "HeavierServes$Chooser" "HeavierServes$Chooser" "stands" "(LHeavierServes$Time;I)Z") ∈ lw_tbl := lw_at lw_m4 141 rfl
theorem q936 : (Jvm.Cond.declares ({ cls := "HeavierServes$Chooser", name := "stands", desc := "(LHeavierServes$Time;I)Z" } : Jvm.MethodName)) ∈ lw_tbl := lw_at lw_m4 142 rfl
theorem q1126 : (Jvm.Cond.interfaceMethod "HeavierServes$Wanted" "HeavierServes$Wanted" "isSo" "(I)Z") ∈ lw_tbl := lw_at lw_m5 92 rfl
theorem q1127 : (Jvm.Cond.declares ({ cls := "HeavierServes$Wanted", name := "isSo", desc := "(I)Z" } : Jvm.MethodName)) ∈ lw_tbl := lw_at lw_m5 93 rfl
theorem q672 : (Jvm.Cond.sameMethod "[B" "java/lang/Object" "clone" "()Ljava/lang/Object;") ∈ lw_all := lw_g (lw_at lw_m3 118 rfl) rfl
theorem q675 : (Jvm.Cond.selects "[B" ({ cls := "[B", name := "clone", desc := "()Ljava/lang/Object;" } : Jvm.MethodName) ({ cls := "java/lang/Object", name := "clone", desc := "()Ljava/lang/Object;" } : Jvm.MethodName)) ∈ lw_all := lw_g (lw_at lw_m3 121 rfl) rfl
theorem q676 : (Jvm.Cond.castable "[B" "java/lang/Cloneable") ∈ lw_tbl := lw_at lw_m3 122 rfl
theorem q94 : (Jvm.Cond.initialized "java/lang/System") ∈ lw_all := lw_g (lw_at lw_m1 20 rfl) rfl
theorem q665 : (Jvm.Cond.static ({ cls := "java/lang/System", name := "arraycopy", desc := "(Ljava/lang/Object;ILjava/lang/Object;II)V" } : Jvm.MethodName)) ∈ lw_all := lw_g (lw_at lw_m3 111 rfl) rfl
theorem q666 : (Jvm.Cond.native ({ cls := "java/lang/System", name := "arraycopy", desc := "(Ljava/lang/Object;ILjava/lang/Object;II)V" } : Jvm.MethodName)) ∈ lw_all := lw_g (lw_at lw_m3 112 rfl) rfl
theorem q116 : (Jvm.Cond.arrayOver (Jvm.ClassFile.FieldType.object "HeavierServes$One")) ∈ lw_tbl := lw_at lw_m1 42 rfl
theorem q181 : (Jvm.Cond.arrayClass Jvm.ClassFile.FieldType.int) ∈ lw_all := lw_g (lw_at lw_m1 107 rfl) rfl
theorem q182 : (Jvm.Cond.arrayOver (Jvm.ClassFile.FieldType.object "HeavierServes$Time")) ∈ lw_tbl := lw_at lw_m1 108 rfl
theorem q209 : (Jvm.Cond.arrayClass Jvm.ClassFile.FieldType.byte) ∈ lw_all := lw_g (lw_at lw_m1 135 rfl) rfl
theorem q210 : (Jvm.Cond.arrayClass Jvm.ClassFile.FieldType.long) ∈ lw_all := lw_g (lw_at lw_m1 136 rfl) rfl
theorem q367 : (Jvm.Cond.arrayOver (Jvm.ClassFile.FieldType.object "HeavierServes$Kept")) ∈ lw_tbl := lw_at lw_m2 53 rfl
theorem q908 : (Jvm.Cond.arrayClass Jvm.ClassFile.FieldType.short) ∈ lw_all := lw_g (lw_at lw_m4 114 rfl) rfl
theorem q1505 : (Jvm.Cond.arrayClass Jvm.ClassFile.FieldType.boolean) ∈ lw_all := lw_g (lw_at lw_m6 231 rfl) rfl
abbrev cL_law : ByteArray := code
