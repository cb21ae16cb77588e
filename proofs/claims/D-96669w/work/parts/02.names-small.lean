/-! DECODE ROWS BY BYTES: one lemma an opcode; a method's code is cut into short pieces once, and a row reads its own piece alone. -/
set_option maxRecDepth 100000
/-- the code has just these bytes from pc on -/
def DkAt (code : ByteArray) (pc : Nat) (bs : List UInt8) : Prop := ∀ (j : Nat) (b : UInt8), bs[j]? = some b → code.data.toList[pc + j]? = some b
/-- the piece W has the bytes bs from its place j on -/
def dkIn (W : List UInt8) (j : Nat) (bs : List UInt8) : Bool := decide ((W.drop j).take bs.length = bs)
theorem dk_seg {l W T : List UInt8} {o o2 : Nat} (h : l.drop o = W ++ T) (n : Nat) (hn : W.length = n) (ho : o + n = o2) : l.drop o2 = T := by
  subst ho
  rw [← List.drop_drop, h, List.drop_left' hn]
theorem dk_at {code : ByteArray} {W T bs : List UInt8} {o pc : Nat} (h : code.data.toList.drop o = W ++ T) (j : Nat) (hp : o + j = pc) (hw : dkIn W j bs = true) : DkAt code pc bs := by
  subst hp
  intro i b e
  have h1 := of_decide_eq_true hw
  have h2 : i < bs.length := (List.getElem?_eq_some_iff.mp e).1
  have h3 : W[j + i]? = some b := by
    rw [← h1, List.getElem?_take, if_pos h2, List.getElem?_drop] at e
    exact e
  have h4 : j + i < W.length := (List.getElem?_eq_some_iff.mp h3).1
  have h5 : (code.data.toList.drop o)[j + i]? = some b := by
    rw [h, List.getElem?_append_left h4]
    exact h3
  rw [List.getElem?_drop, ← Nat.add_assoc] at h5
  exact h5
theorem dk_u1 {A : ByteArray} {p : Nat} {b : UInt8} (h : A.data.toList[p]? = some b) : (Reader.u1 : Reader DecodeError Nat) A p = .ok (b.toNat, p + 1) := by
  obtain ⟨h1, h2⟩ := List.getElem?_eq_some_iff.mp h
  have h3 : p < A.size := by simpa using h1
  have h4 : A[p]'h3 = b := h2
  have e : (Reader.u1 : Reader DecodeError Nat) A p = (if h : p < A.size then .ok (A[p].toNat, p + 1) else .error (HasTruncated.truncated p)) := by
    show (do if h : p < A.size then do set (p + 1); Pure.pure A[p].toNat else MonadExcept.throw (HasTruncated.truncated p) : Reader DecodeError Nat) A p = _
    by_cases hi : p < A.size
    · rw [dif_pos hi, dif_pos hi]; rfl
    · rw [dif_neg hi, dif_neg hi]; rfl
  rw [e, dif_pos h3, h4]
theorem dk_bind {α β : Type} {r : Reader DecodeError α} {f : α → Reader DecodeError β} {A : ByteArray} {p s : Nat} {a : α} (h : r A p = .ok (a, s)) : (r >>= f) A p = f a A s := by
  show (do let (a, s) ← r A p; f a A s : Except DecodeError (β × Nat)) = _
  rw [h]
  rfl
theorem dk_map {α β : Type} {r : Reader DecodeError α} {g : α → β} {A : ByteArray} {p s : Nat} {a : α} (h : r A p = .ok (a, s)) : (g <$> r) A p = .ok (g a, s) := by
  show (do let (a, s) ← r A p; .ok (g a, s) : Except DecodeError (β × Nat)) = _
  rw [h]
  rfl
theorem dk_u2 {A : ByteArray} {p : Nat} {a b : UInt8} (h : A.data.toList[p]? = some a) (h2 : A.data.toList[p + 1]? = some b) : (Reader.u2 : Reader DecodeError Nat) A p = .ok (a.toNat * 256 + b.toNat, p + 2) := by
  show (Reader.u1 >>= fun hi => Reader.u1 >>= fun lo => Pure.pure (hi * 256 + lo) : Reader DecodeError Nat) A p = _
  rw [dk_bind (dk_u1 h), dk_bind (dk_u1 h2)]
  rfl
theorem dk_of {code : ByteArray} {pc n : Nat} {i : Instr} (h : Decoder.instr pc code pc = .ok (i, pc + n)) : decode code pc = .ok (i, n) := by
  have e : decode code pc = (match Decoder.instr pc code pc with | .error x => .error x | .ok (j, s) => .ok (j, s - pc)) := by
    show (do let (j, s) ← Decoder.instr pc code pc; Pure.pure (j, s - pc) : Except DecodeError (Instr × Nat)) = _
    cases Decoder.instr pc code pc <;> rfl
  rw [e, h]
  show Except.ok (i, pc + n - pc) = _
  rw [Nat.add_sub_cancel_left]
theorem dk_1 {code : ByteArray} {pc : Nat} (h : DkAt code pc [1]) : decode code pc = .ok (.aconst_null, 1) := dk_of ((dk_bind (dk_u1 (h 0 _ rfl))).trans rfl)
theorem dk_2 {code : ByteArray} {pc : Nat} (h : DkAt code pc [2]) : decode code pc = .ok (.iconst (-1), 1) := dk_of ((dk_bind (dk_u1 (h 0 _ rfl))).trans rfl)
theorem dk_3 {code : ByteArray} {pc : Nat} (h : DkAt code pc [3]) : decode code pc = .ok (.iconst 0, 1) := dk_of ((dk_bind (dk_u1 (h 0 _ rfl))).trans rfl)
theorem dk_4 {code : ByteArray} {pc : Nat} (h : DkAt code pc [4]) : decode code pc = .ok (.iconst 1, 1) := dk_of ((dk_bind (dk_u1 (h 0 _ rfl))).trans rfl)
theorem dk_5 {code : ByteArray} {pc : Nat} (h : DkAt code pc [5]) : decode code pc = .ok (.iconst 2, 1) := dk_of ((dk_bind (dk_u1 (h 0 _ rfl))).trans rfl)
theorem dk_6 {code : ByteArray} {pc : Nat} (h : DkAt code pc [6]) : decode code pc = .ok (.iconst 3, 1) := dk_of ((dk_bind (dk_u1 (h 0 _ rfl))).trans rfl)
theorem dk_7 {code : ByteArray} {pc : Nat} (h : DkAt code pc [7]) : decode code pc = .ok (.iconst 4, 1) := dk_of ((dk_bind (dk_u1 (h 0 _ rfl))).trans rfl)
theorem dk_8 {code : ByteArray} {pc : Nat} (h : DkAt code pc [8]) : decode code pc = .ok (.iconst 5, 1) := dk_of ((dk_bind (dk_u1 (h 0 _ rfl))).trans rfl)
theorem dk_9 {code : ByteArray} {pc : Nat} (h : DkAt code pc [9]) : decode code pc = .ok (.lconst 0, 1) := dk_of ((dk_bind (dk_u1 (h 0 _ rfl))).trans rfl)
theorem dk_10 {code : ByteArray} {pc : Nat} (h : DkAt code pc [10]) : decode code pc = .ok (.lconst 1, 1) := dk_of ((dk_bind (dk_u1 (h 0 _ rfl))).trans rfl)
theorem dk_16 {code : ByteArray} {pc : Nat} (a : UInt8) (h : DkAt code pc [16, a]) : decode code pc = .ok (.bipush (Reader.signed 8 a.toNat), 2) := dk_of ((dk_bind (dk_u1 (h 0 _ rfl))).trans ((dk_bind (dk_map (dk_u1 (h 1 _ rfl)))).trans rfl))
theorem dk_17 {code : ByteArray} {pc : Nat} (a b : UInt8) (h : DkAt code pc [17, a, b]) : decode code pc = .ok (.sipush (Reader.signed 16 (a.toNat * 256 + b.toNat)), 3) := dk_of ((dk_bind (dk_u1 (h 0 _ rfl))).trans ((dk_bind (dk_map (dk_u2 (h 1 _ rfl) (h 2 _ rfl)))).trans rfl))
theorem dk_18 {code : ByteArray} {pc : Nat} (a : UInt8) (h : DkAt code pc [18, a]) : decode code pc = .ok (.ldc a.toNat, 2) := dk_of ((dk_bind (dk_u1 (h 0 _ rfl))).trans ((dk_bind (dk_u1 (h 1 _ rfl))).trans rfl))
theorem dk_19 {code : ByteArray} {pc : Nat} (a b : UInt8) (h : DkAt code pc [19, a, b]) : decode code pc = .ok (.ldc_w (a.toNat * 256 + b.toNat), 3) := dk_of ((dk_bind (dk_u1 (h 0 _ rfl))).trans ((dk_bind (dk_u2 (h 1 _ rfl) (h 2 _ rfl))).trans rfl))
theorem dk_20 {code : ByteArray} {pc : Nat} (a b : UInt8) (h : DkAt code pc [20, a, b]) : decode code pc = .ok (.ldc2_w (a.toNat * 256 + b.toNat), 3) := dk_of ((dk_bind (dk_u1 (h 0 _ rfl))).trans ((dk_bind (dk_u2 (h 1 _ rfl) (h 2 _ rfl))).trans rfl))
theorem dk_21 {code : ByteArray} {pc : Nat} (a : UInt8) (h : DkAt code pc [21, a]) : decode code pc = .ok (.iload a.toNat, 2) := dk_of ((dk_bind (dk_u1 (h 0 _ rfl))).trans ((dk_bind (dk_u1 (h 1 _ rfl))).trans rfl))
theorem dk_22 {code : ByteArray} {pc : Nat} (a : UInt8) (h : DkAt code pc [22, a]) : decode code pc = .ok (.lload a.toNat, 2) := dk_of ((dk_bind (dk_u1 (h 0 _ rfl))).trans ((dk_bind (dk_u1 (h 1 _ rfl))).trans rfl))
theorem dk_25 {code : ByteArray} {pc : Nat} (a : UInt8) (h : DkAt code pc [25, a]) : decode code pc = .ok (.aload a.toNat, 2) := dk_of ((dk_bind (dk_u1 (h 0 _ rfl))).trans ((dk_bind (dk_u1 (h 1 _ rfl))).trans rfl))
theorem dk_26 {code : ByteArray} {pc : Nat} (h : DkAt code pc [26]) : decode code pc = .ok (.iload_n 0, 1) := dk_of ((dk_bind (dk_u1 (h 0 _ rfl))).trans rfl)
theorem dk_27 {code : ByteArray} {pc : Nat} (h : DkAt code pc [27]) : decode code pc = .ok (.iload_n 1, 1) := dk_of ((dk_bind (dk_u1 (h 0 _ rfl))).trans rfl)
theorem dk_28 {code : ByteArray} {pc : Nat} (h : DkAt code pc [28]) : decode code pc = .ok (.iload_n 2, 1) := dk_of ((dk_bind (dk_u1 (h 0 _ rfl))).trans rfl)
theorem dk_29 {code : ByteArray} {pc : Nat} (h : DkAt code pc [29]) : decode code pc = .ok (.iload_n 3, 1) := dk_of ((dk_bind (dk_u1 (h 0 _ rfl))).trans rfl)
theorem dk_30 {code : ByteArray} {pc : Nat} (h : DkAt code pc [30]) : decode code pc = .ok (.lload_n 0, 1) := dk_of ((dk_bind (dk_u1 (h 0 _ rfl))).trans rfl)
theorem dk_32 {code : ByteArray} {pc : Nat} (h : DkAt code pc [32]) : decode code pc = .ok (.lload_n 2, 1) := dk_of ((dk_bind (dk_u1 (h 0 _ rfl))).trans rfl)
theorem dk_42 {code : ByteArray} {pc : Nat} (h : DkAt code pc [42]) : decode code pc = .ok (.aload_n 0, 1) := dk_of ((dk_bind (dk_u1 (h 0 _ rfl))).trans rfl)
theorem dk_43 {code : ByteArray} {pc : Nat} (h : DkAt code pc [43]) : decode code pc = .ok (.aload_n 1, 1) := dk_of ((dk_bind (dk_u1 (h 0 _ rfl))).trans rfl)
theorem dk_44 {code : ByteArray} {pc : Nat} (h : DkAt code pc [44]) : decode code pc = .ok (.aload_n 2, 1) := dk_of ((dk_bind (dk_u1 (h 0 _ rfl))).trans rfl)
theorem dk_45 {code : ByteArray} {pc : Nat} (h : DkAt code pc [45]) : decode code pc = .ok (.aload_n 3, 1) := dk_of ((dk_bind (dk_u1 (h 0 _ rfl))).trans rfl)
theorem dk_46 {code : ByteArray} {pc : Nat} (h : DkAt code pc [46]) : decode code pc = .ok (.iaload, 1) := dk_of ((dk_bind (dk_u1 (h 0 _ rfl))).trans rfl)
theorem dk_50 {code : ByteArray} {pc : Nat} (h : DkAt code pc [50]) : decode code pc = .ok (.aaload, 1) := dk_of ((dk_bind (dk_u1 (h 0 _ rfl))).trans rfl)
theorem dk_51 {code : ByteArray} {pc : Nat} (h : DkAt code pc [51]) : decode code pc = .ok (.baload, 1) := dk_of ((dk_bind (dk_u1 (h 0 _ rfl))).trans rfl)
theorem dk_53 {code : ByteArray} {pc : Nat} (h : DkAt code pc [53]) : decode code pc = .ok (.saload, 1) := dk_of ((dk_bind (dk_u1 (h 0 _ rfl))).trans rfl)
theorem dk_54 {code : ByteArray} {pc : Nat} (a : UInt8) (h : DkAt code pc [54, a]) : decode code pc = .ok (.istore a.toNat, 2) := dk_of ((dk_bind (dk_u1 (h 0 _ rfl))).trans ((dk_bind (dk_u1 (h 1 _ rfl))).trans rfl))
theorem dk_55 {code : ByteArray} {pc : Nat} (a : UInt8) (h : DkAt code pc [55, a]) : decode code pc = .ok (.lstore a.toNat, 2) := dk_of ((dk_bind (dk_u1 (h 0 _ rfl))).trans ((dk_bind (dk_u1 (h 1 _ rfl))).trans rfl))
theorem dk_58 {code : ByteArray} {pc : Nat} (a : UInt8) (h : DkAt code pc [58, a]) : decode code pc = .ok (.astore a.toNat, 2) := dk_of ((dk_bind (dk_u1 (h 0 _ rfl))).trans ((dk_bind (dk_u1 (h 1 _ rfl))).trans rfl))
theorem dk_59 {code : ByteArray} {pc : Nat} (h : DkAt code pc [59]) : decode code pc = .ok (.istore_n 0, 1) := dk_of ((dk_bind (dk_u1 (h 0 _ rfl))).trans rfl)
theorem dk_60 {code : ByteArray} {pc : Nat} (h : DkAt code pc [60]) : decode code pc = .ok (.istore_n 1, 1) := dk_of ((dk_bind (dk_u1 (h 0 _ rfl))).trans rfl)
theorem dk_61 {code : ByteArray} {pc : Nat} (h : DkAt code pc [61]) : decode code pc = .ok (.istore_n 2, 1) := dk_of ((dk_bind (dk_u1 (h 0 _ rfl))).trans rfl)
theorem dk_62 {code : ByteArray} {pc : Nat} (h : DkAt code pc [62]) : decode code pc = .ok (.istore_n 3, 1) := dk_of ((dk_bind (dk_u1 (h 0 _ rfl))).trans rfl)
theorem dk_76 {code : ByteArray} {pc : Nat} (h : DkAt code pc [76]) : decode code pc = .ok (.astore_n 1, 1) := dk_of ((dk_bind (dk_u1 (h 0 _ rfl))).trans rfl)
theorem dk_77 {code : ByteArray} {pc : Nat} (h : DkAt code pc [77]) : decode code pc = .ok (.astore_n 2, 1) := dk_of ((dk_bind (dk_u1 (h 0 _ rfl))).trans rfl)
theorem dk_78 {code : ByteArray} {pc : Nat} (h : DkAt code pc [78]) : decode code pc = .ok (.astore_n 3, 1) := dk_of ((dk_bind (dk_u1 (h 0 _ rfl))).trans rfl)
theorem dk_79 {code : ByteArray} {pc : Nat} (h : DkAt code pc [79]) : decode code pc = .ok (.iastore, 1) := dk_of ((dk_bind (dk_u1 (h 0 _ rfl))).trans rfl)
theorem dk_83 {code : ByteArray} {pc : Nat} (h : DkAt code pc [83]) : decode code pc = .ok (.aastore, 1) := dk_of ((dk_bind (dk_u1 (h 0 _ rfl))).trans rfl)
theorem dk_84 {code : ByteArray} {pc : Nat} (h : DkAt code pc [84]) : decode code pc = .ok (.bastore, 1) := dk_of ((dk_bind (dk_u1 (h 0 _ rfl))).trans rfl)
theorem dk_86 {code : ByteArray} {pc : Nat} (h : DkAt code pc [86]) : decode code pc = .ok (.sastore, 1) := dk_of ((dk_bind (dk_u1 (h 0 _ rfl))).trans rfl)
theorem dk_87 {code : ByteArray} {pc : Nat} (h : DkAt code pc [87]) : decode code pc = .ok (.pop, 1) := dk_of ((dk_bind (dk_u1 (h 0 _ rfl))).trans rfl)
theorem dk_89 {code : ByteArray} {pc : Nat} (h : DkAt code pc [89]) : decode code pc = .ok (.dup, 1) := dk_of ((dk_bind (dk_u1 (h 0 _ rfl))).trans rfl)
theorem dk_96 {code : ByteArray} {pc : Nat} (h : DkAt code pc [96]) : decode code pc = .ok (.iadd, 1) := dk_of ((dk_bind (dk_u1 (h 0 _ rfl))).trans rfl)
theorem dk_97 {code : ByteArray} {pc : Nat} (h : DkAt code pc [97]) : decode code pc = .ok (.ladd, 1) := dk_of ((dk_bind (dk_u1 (h 0 _ rfl))).trans rfl)
theorem dk_100 {code : ByteArray} {pc : Nat} (h : DkAt code pc [100]) : decode code pc = .ok (.isub, 1) := dk_of ((dk_bind (dk_u1 (h 0 _ rfl))).trans rfl)
theorem dk_101 {code : ByteArray} {pc : Nat} (h : DkAt code pc [101]) : decode code pc = .ok (.lsub, 1) := dk_of ((dk_bind (dk_u1 (h 0 _ rfl))).trans rfl)
theorem dk_104 {code : ByteArray} {pc : Nat} (h : DkAt code pc [104]) : decode code pc = .ok (.imul, 1) := dk_of ((dk_bind (dk_u1 (h 0 _ rfl))).trans rfl)
theorem dk_105 {code : ByteArray} {pc : Nat} (h : DkAt code pc [105]) : decode code pc = .ok (.lmul, 1) := dk_of ((dk_bind (dk_u1 (h 0 _ rfl))).trans rfl)
theorem dk_108 {code : ByteArray} {pc : Nat} (h : DkAt code pc [108]) : decode code pc = .ok (.idiv, 1) := dk_of ((dk_bind (dk_u1 (h 0 _ rfl))).trans rfl)
theorem dk_109 {code : ByteArray} {pc : Nat} (h : DkAt code pc [109]) : decode code pc = .ok (.ldiv, 1) := dk_of ((dk_bind (dk_u1 (h 0 _ rfl))).trans rfl)
theorem dk_112 {code : ByteArray} {pc : Nat} (h : DkAt code pc [112]) : decode code pc = .ok (.irem, 1) := dk_of ((dk_bind (dk_u1 (h 0 _ rfl))).trans rfl)
theorem dk_113 {code : ByteArray} {pc : Nat} (h : DkAt code pc [113]) : decode code pc = .ok (.lrem, 1) := dk_of ((dk_bind (dk_u1 (h 0 _ rfl))).trans rfl)
theorem dk_116 {code : ByteArray} {pc : Nat} (h : DkAt code pc [116]) : decode code pc = .ok (.ineg, 1) := dk_of ((dk_bind (dk_u1 (h 0 _ rfl))).trans rfl)
theorem dk_120 {code : ByteArray} {pc : Nat} (h : DkAt code pc [120]) : decode code pc = .ok (.ishl, 1) := dk_of ((dk_bind (dk_u1 (h 0 _ rfl))).trans rfl)
theorem dk_122 {code : ByteArray} {pc : Nat} (h : DkAt code pc [122]) : decode code pc = .ok (.ishr, 1) := dk_of ((dk_bind (dk_u1 (h 0 _ rfl))).trans rfl)
theorem dk_124 {code : ByteArray} {pc : Nat} (h : DkAt code pc [124]) : decode code pc = .ok (.iushr, 1) := dk_of ((dk_bind (dk_u1 (h 0 _ rfl))).trans rfl)
theorem dk_126 {code : ByteArray} {pc : Nat} (h : DkAt code pc [126]) : decode code pc = .ok (.iand, 1) := dk_of ((dk_bind (dk_u1 (h 0 _ rfl))).trans rfl)
theorem dk_128 {code : ByteArray} {pc : Nat} (h : DkAt code pc [128]) : decode code pc = .ok (.ior, 1) := dk_of ((dk_bind (dk_u1 (h 0 _ rfl))).trans rfl)
theorem dk_130 {code : ByteArray} {pc : Nat} (h : DkAt code pc [130]) : decode code pc = .ok (.ixor, 1) := dk_of ((dk_bind (dk_u1 (h 0 _ rfl))).trans rfl)
theorem dk_132 {code : ByteArray} {pc : Nat} (a b : UInt8) (h : DkAt code pc [132, a, b]) : decode code pc = .ok (.iinc a.toNat (Reader.signed 8 b.toNat), 3) := dk_of ((dk_bind (dk_u1 (h 0 _ rfl))).trans ((dk_bind (dk_u1 (h 1 _ rfl))).trans ((dk_bind (dk_map (dk_u1 (h 2 _ rfl)))).trans rfl)))
theorem dk_133 {code : ByteArray} {pc : Nat} (h : DkAt code pc [133]) : decode code pc = .ok (.i2l, 1) := dk_of ((dk_bind (dk_u1 (h 0 _ rfl))).trans rfl)
theorem dk_136 {code : ByteArray} {pc : Nat} (h : DkAt code pc [136]) : decode code pc = .ok (.l2i, 1) := dk_of ((dk_bind (dk_u1 (h 0 _ rfl))).trans rfl)
theorem dk_145 {code : ByteArray} {pc : Nat} (h : DkAt code pc [145]) : decode code pc = .ok (.i2b, 1) := dk_of ((dk_bind (dk_u1 (h 0 _ rfl))).trans rfl)
theorem dk_146 {code : ByteArray} {pc : Nat} (h : DkAt code pc [146]) : decode code pc = .ok (.i2c, 1) := dk_of ((dk_bind (dk_u1 (h 0 _ rfl))).trans rfl)
theorem dk_147 {code : ByteArray} {pc : Nat} (h : DkAt code pc [147]) : decode code pc = .ok (.i2s, 1) := dk_of ((dk_bind (dk_u1 (h 0 _ rfl))).trans rfl)
theorem dk_148 {code : ByteArray} {pc : Nat} (h : DkAt code pc [148]) : decode code pc = .ok (.lcmp, 1) := dk_of ((dk_bind (dk_u1 (h 0 _ rfl))).trans rfl)
theorem dk_153 {code : ByteArray} {pc : Nat} (a b : UInt8) (h : DkAt code pc [153, a, b]) : decode code pc = .ok (.ifCond .eq (Reader.signed 16 (a.toNat * 256 + b.toNat)), 3) := dk_of ((dk_bind (dk_u1 (h 0 _ rfl))).trans ((dk_bind (dk_map (dk_u2 (h 1 _ rfl) (h 2 _ rfl)))).trans rfl))
theorem dk_154 {code : ByteArray} {pc : Nat} (a b : UInt8) (h : DkAt code pc [154, a, b]) : decode code pc = .ok (.ifCond .ne (Reader.signed 16 (a.toNat * 256 + b.toNat)), 3) := dk_of ((dk_bind (dk_u1 (h 0 _ rfl))).trans ((dk_bind (dk_map (dk_u2 (h 1 _ rfl) (h 2 _ rfl)))).trans rfl))
theorem dk_155 {code : ByteArray} {pc : Nat} (a b : UInt8) (h : DkAt code pc [155, a, b]) : decode code pc = .ok (.ifCond .lt (Reader.signed 16 (a.toNat * 256 + b.toNat)), 3) := dk_of ((dk_bind (dk_u1 (h 0 _ rfl))).trans ((dk_bind (dk_map (dk_u2 (h 1 _ rfl) (h 2 _ rfl)))).trans rfl))
theorem dk_156 {code : ByteArray} {pc : Nat} (a b : UInt8) (h : DkAt code pc [156, a, b]) : decode code pc = .ok (.ifCond .ge (Reader.signed 16 (a.toNat * 256 + b.toNat)), 3) := dk_of ((dk_bind (dk_u1 (h 0 _ rfl))).trans ((dk_bind (dk_map (dk_u2 (h 1 _ rfl) (h 2 _ rfl)))).trans rfl))
theorem dk_157 {code : ByteArray} {pc : Nat} (a b : UInt8) (h : DkAt code pc [157, a, b]) : decode code pc = .ok (.ifCond .gt (Reader.signed 16 (a.toNat * 256 + b.toNat)), 3) := dk_of ((dk_bind (dk_u1 (h 0 _ rfl))).trans ((dk_bind (dk_map (dk_u2 (h 1 _ rfl) (h 2 _ rfl)))).trans rfl))
theorem dk_158 {code : ByteArray} {pc : Nat} (a b : UInt8) (h : DkAt code pc [158, a, b]) : decode code pc = .ok (.ifCond .le (Reader.signed 16 (a.toNat * 256 + b.toNat)), 3) := dk_of ((dk_bind (dk_u1 (h 0 _ rfl))).trans ((dk_bind (dk_map (dk_u2 (h 1 _ rfl) (h 2 _ rfl)))).trans rfl))
theorem dk_159 {code : ByteArray} {pc : Nat} (a b : UInt8) (h : DkAt code pc [159, a, b]) : decode code pc = .ok (.if_icmp .eq (Reader.signed 16 (a.toNat * 256 + b.toNat)), 3) := dk_of ((dk_bind (dk_u1 (h 0 _ rfl))).trans ((dk_bind (dk_map (dk_u2 (h 1 _ rfl) (h 2 _ rfl)))).trans rfl))
theorem dk_160 {code : ByteArray} {pc : Nat} (a b : UInt8) (h : DkAt code pc [160, a, b]) : decode code pc = .ok (.if_icmp .ne (Reader.signed 16 (a.toNat * 256 + b.toNat)), 3) := dk_of ((dk_bind (dk_u1 (h 0 _ rfl))).trans ((dk_bind (dk_map (dk_u2 (h 1 _ rfl) (h 2 _ rfl)))).trans rfl))
theorem dk_161 {code : ByteArray} {pc : Nat} (a b : UInt8) (h : DkAt code pc [161, a, b]) : decode code pc = .ok (.if_icmp .lt (Reader.signed 16 (a.toNat * 256 + b.toNat)), 3) := dk_of ((dk_bind (dk_u1 (h 0 _ rfl))).trans ((dk_bind (dk_map (dk_u2 (h 1 _ rfl) (h 2 _ rfl)))).trans rfl))
theorem dk_162 {code : ByteArray} {pc : Nat} (a b : UInt8) (h : DkAt code pc [162, a, b]) : decode code pc = .ok (.if_icmp .ge (Reader.signed 16 (a.toNat * 256 + b.toNat)), 3) := dk_of ((dk_bind (dk_u1 (h 0 _ rfl))).trans ((dk_bind (dk_map (dk_u2 (h 1 _ rfl) (h 2 _ rfl)))).trans rfl))
theorem dk_163 {code : ByteArray} {pc : Nat} (a b : UInt8) (h : DkAt code pc [163, a, b]) : decode code pc = .ok (.if_icmp .gt (Reader.signed 16 (a.toNat * 256 + b.toNat)), 3) := dk_of ((dk_bind (dk_u1 (h 0 _ rfl))).trans ((dk_bind (dk_map (dk_u2 (h 1 _ rfl) (h 2 _ rfl)))).trans rfl))
theorem dk_164 {code : ByteArray} {pc : Nat} (a b : UInt8) (h : DkAt code pc [164, a, b]) : decode code pc = .ok (.if_icmp .le (Reader.signed 16 (a.toNat * 256 + b.toNat)), 3) := dk_of ((dk_bind (dk_u1 (h 0 _ rfl))).trans ((dk_bind (dk_map (dk_u2 (h 1 _ rfl) (h 2 _ rfl)))).trans rfl))
theorem dk_167 {code : ByteArray} {pc : Nat} (a b : UInt8) (h : DkAt code pc [167, a, b]) : decode code pc = .ok (.goto (Reader.signed 16 (a.toNat * 256 + b.toNat)), 3) := dk_of ((dk_bind (dk_u1 (h 0 _ rfl))).trans ((dk_bind (dk_map (dk_u2 (h 1 _ rfl) (h 2 _ rfl)))).trans rfl))
theorem dk_172 {code : ByteArray} {pc : Nat} (h : DkAt code pc [172]) : decode code pc = .ok (.ireturn, 1) := dk_of ((dk_bind (dk_u1 (h 0 _ rfl))).trans rfl)
theorem dk_173 {code : ByteArray} {pc : Nat} (h : DkAt code pc [173]) : decode code pc = .ok (.lreturn, 1) := dk_of ((dk_bind (dk_u1 (h 0 _ rfl))).trans rfl)
theorem dk_176 {code : ByteArray} {pc : Nat} (h : DkAt code pc [176]) : decode code pc = .ok (.areturn, 1) := dk_of ((dk_bind (dk_u1 (h 0 _ rfl))).trans rfl)
theorem dk_177 {code : ByteArray} {pc : Nat} (h : DkAt code pc [177]) : decode code pc = .ok (.return_, 1) := dk_of ((dk_bind (dk_u1 (h 0 _ rfl))).trans rfl)
theorem dk_178 {code : ByteArray} {pc : Nat} (a b : UInt8) (h : DkAt code pc [178, a, b]) : decode code pc = .ok (.getstatic (a.toNat * 256 + b.toNat), 3) := dk_of ((dk_bind (dk_u1 (h 0 _ rfl))).trans ((dk_bind (dk_u2 (h 1 _ rfl) (h 2 _ rfl))).trans rfl))
theorem dk_180 {code : ByteArray} {pc : Nat} (a b : UInt8) (h : DkAt code pc [180, a, b]) : decode code pc = .ok (.getfield (a.toNat * 256 + b.toNat), 3) := dk_of ((dk_bind (dk_u1 (h 0 _ rfl))).trans ((dk_bind (dk_u2 (h 1 _ rfl) (h 2 _ rfl))).trans rfl))
theorem dk_181 {code : ByteArray} {pc : Nat} (a b : UInt8) (h : DkAt code pc [181, a, b]) : decode code pc = .ok (.putfield (a.toNat * 256 + b.toNat), 3) := dk_of ((dk_bind (dk_u1 (h 0 _ rfl))).trans ((dk_bind (dk_u2 (h 1 _ rfl) (h 2 _ rfl))).trans rfl))
theorem dk_182 {code : ByteArray} {pc : Nat} (a b : UInt8) (h : DkAt code pc [182, a, b]) : decode code pc = .ok (.invokevirtual (a.toNat * 256 + b.toNat), 3) := dk_of ((dk_bind (dk_u1 (h 0 _ rfl))).trans ((dk_bind (dk_u2 (h 1 _ rfl) (h 2 _ rfl))).trans rfl))
theorem dk_183 {code : ByteArray} {pc : Nat} (a b : UInt8) (h : DkAt code pc [183, a, b]) : decode code pc = .ok (.invokespecial (a.toNat * 256 + b.toNat), 3) := dk_of ((dk_bind (dk_u1 (h 0 _ rfl))).trans ((dk_bind (dk_u2 (h 1 _ rfl) (h 2 _ rfl))).trans rfl))
theorem dk_184 {code : ByteArray} {pc : Nat} (a b : UInt8) (h : DkAt code pc [184, a, b]) : decode code pc = .ok (.invokestatic (a.toNat * 256 + b.toNat), 3) := dk_of ((dk_bind (dk_u1 (h 0 _ rfl))).trans ((dk_bind (dk_u2 (h 1 _ rfl) (h 2 _ rfl))).trans rfl))
theorem dk_187 {code : ByteArray} {pc : Nat} (a b : UInt8) (h : DkAt code pc [187, a, b]) : decode code pc = .ok (.new (a.toNat * 256 + b.toNat), 3) := dk_of ((dk_bind (dk_u1 (h 0 _ rfl))).trans ((dk_bind (dk_u2 (h 1 _ rfl) (h 2 _ rfl))).trans rfl))
theorem dk_188_4 {code : ByteArray} {pc : Nat} (h : DkAt code pc [188, 4]) : decode code pc = .ok (.newarray .boolean, 2) := dk_of ((dk_bind (dk_u1 (h 0 _ rfl))).trans ((dk_bind (dk_u1 (h 1 _ rfl))).trans rfl))
theorem dk_188_8 {code : ByteArray} {pc : Nat} (h : DkAt code pc [188, 8]) : decode code pc = .ok (.newarray .byte, 2) := dk_of ((dk_bind (dk_u1 (h 0 _ rfl))).trans ((dk_bind (dk_u1 (h 1 _ rfl))).trans rfl))
theorem dk_188_9 {code : ByteArray} {pc : Nat} (h : DkAt code pc [188, 9]) : decode code pc = .ok (.newarray .short, 2) := dk_of ((dk_bind (dk_u1 (h 0 _ rfl))).trans ((dk_bind (dk_u1 (h 1 _ rfl))).trans rfl))
theorem dk_188_10 {code : ByteArray} {pc : Nat} (h : DkAt code pc [188, 10]) : decode code pc = .ok (.newarray .int, 2) := dk_of ((dk_bind (dk_u1 (h 0 _ rfl))).trans ((dk_bind (dk_u1 (h 1 _ rfl))).trans rfl))
theorem dk_189 {code : ByteArray} {pc : Nat} (a b : UInt8) (h : DkAt code pc [189, a, b]) : decode code pc = .ok (.anewarray (a.toNat * 256 + b.toNat), 3) := dk_of ((dk_bind (dk_u1 (h 0 _ rfl))).trans ((dk_bind (dk_u2 (h 1 _ rfl) (h 2 _ rfl))).trans rfl))
theorem dk_190 {code : ByteArray} {pc : Nat} (h : DkAt code pc [190]) : decode code pc = .ok (.arraylength, 1) := dk_of ((dk_bind (dk_u1 (h 0 _ rfl))).trans rfl)
theorem dk_191 {code : ByteArray} {pc : Nat} (h : DkAt code pc [191]) : decode code pc = .ok (.athrow, 1) := dk_of ((dk_bind (dk_u1 (h 0 _ rfl))).trans rfl)
theorem dk_192 {code : ByteArray} {pc : Nat} (a b : UInt8) (h : DkAt code pc [192, a, b]) : decode code pc = .ok (.checkcast (a.toNat * 256 + b.toNat), 3) := dk_of ((dk_bind (dk_u1 (h 0 _ rfl))).trans ((dk_bind (dk_u2 (h 1 _ rfl) (h 2 _ rfl))).trans rfl))
theorem dk_193 {code : ByteArray} {pc : Nat} (a b : UInt8) (h : DkAt code pc [193, a, b]) : decode code pc = .ok (.instanceof (a.toNat * 256 + b.toNat), 3) := dk_of ((dk_bind (dk_u1 (h 0 _ rfl))).trans ((dk_bind (dk_u2 (h 1 _ rfl) (h 2 _ rfl))).trans rfl))
theorem dk_198 {code : ByteArray} {pc : Nat} (a b : UInt8) (h : DkAt code pc [198, a, b]) : decode code pc = .ok (.ifnull (Reader.signed 16 (a.toNat * 256 + b.toNat)), 3) := dk_of ((dk_bind (dk_u1 (h 0 _ rfl))).trans ((dk_bind (dk_map (dk_u2 (h 1 _ rfl) (h 2 _ rfl)))).trans rfl))
theorem dk_199 {code : ByteArray} {pc : Nat} (a b : UInt8) (h : DkAt code pc [199, a, b]) : decode code pc = .ok (.ifnonnull (Reader.signed 16 (a.toNat * 256 + b.toNat)), 3) := dk_of ((dk_bind (dk_u1 (h 0 _ rfl))).trans ((dk_bind (dk_map (dk_u2 (h 1 _ rfl) (h 2 _ rfl)))).trans rfl))
/-! PaneKeepsWeather$Faulty -/
set_option maxRecDepth 100000
def RX1 : String := "PaneKeepsWeather$Faulty"
def TX1 : u_T := fun k => match k with
  | 0 => ("java/lang/Throwable", "cause", "Ljava/lang/Throwable;", false)
  | 1 => ("java/lang/Throwable", "stackTrace", "[Ljava/lang/StackTraceElement;", false)
  | 2 => ("java/lang/Throwable", "suppressedExceptions", "Ljava/util/List;", false)
  | 3 => ("java/lang/Throwable", "detailMessage", "Ljava/lang/String;", false)
  | 4 => ("java/lang/Throwable", "backtrace", "Ljava/lang/Object;", false)
  | _ => ("java/lang/Throwable", "depth", "I", false)
def tyX1 : Nat → FieldType := fun k => match k with
  | 0 => .object "java/lang/Throwable"
  | 1 => .array (.object "java/lang/StackTraceElement")
  | 2 => .object "java/util/List"
  | 3 => .object "java/lang/String"
  | 4 => .object "java/lang/Object"
  | _ => .int
abbrev wsX10 : List Cond := u_ws RX1 TX1 6
theorem nmX1 : ∀ a, a < 6 → ∀ b, b < 6 → a ≠ b → (TX1 a).2.1 ≠ (TX1 b).2.1 := by decide +kernel
theorem tyX1_ok : ∀ k, k < 6 → parseFieldDescriptor (TX1 k).2.2.1 = some (tyX1 k) := by decide +kernel
abbrev cX1_init : ByteArray := prog_3_method_1_code
def yX1_init : MethodName := ⟨RX1, "<init>", "()V"⟩
def dkwX1_init_0 : List UInt8 := [42, 1, 1, 3, 3, 183, 0, 1, 177]
abbrev dktX1_init_0 : List UInt8 := dkwX1_init_0 ++ []
theorem dksX1_init_0 : cX1_init.data.toList.drop 0 = dktX1_init_0 := by decide +kernel
theorem dX1_init_0 : decode cX1_init 0 = .ok (.aload_n 0, 1) := dk_42 (dk_at dksX1_init_0 0 rfl rfl)
theorem dX1_init_1 : decode cX1_init 1 = .ok (.aconst_null, 1) := dk_1 (dk_at dksX1_init_0 1 rfl rfl)
theorem dX1_init_2 : decode cX1_init 2 = .ok (.aconst_null, 1) := dk_1 (dk_at dksX1_init_0 2 rfl rfl)
theorem dX1_init_3 : decode cX1_init 3 = .ok (.iconst 0, 1) := dk_3 (dk_at dksX1_init_0 3 rfl rfl)
theorem dX1_init_4 : decode cX1_init 4 = .ok (.iconst 0, 1) := dk_3 (dk_at dksX1_init_0 4 rfl rfl)
theorem dX1_init_5 : decode cX1_init 5 = .ok (.invokespecial 1, 3) := dk_183 0 1 (dk_at dksX1_init_0 5 rfl rfl)
theorem dX1_init_8 : decode cX1_init 8 = .ok (.return_, 1) := dk_177 (dk_at dksX1_init_0 8 rfl rfl)
theorem q105 : (Jvm.Cond.initialized "PaneKeepsWeather$Faulty") ∈ lw_all := lw_g (lw_at lw_m1 5 rfl) rfl
theorem q691 : (Jvm.Cond.instantiable "PaneKeepsWeather$Faulty" (6 : Nat)) ∈ lw_all := lw_g (lw_at lw_m3 111 rfl) rfl
theorem q692 : (Jvm.Cond.castable "PaneKeepsWeather$Faulty" "PaneKeepsWeather$Faulty") ∈ lw_tbl := lw_at lw_m3 112 rfl
theorem q699 : (Jvm.Cond.selects "PaneKeepsWeather$Faulty" ({ cls := "java/lang/Throwable", name := "fillInStackTrace", desc := "(I)Ljava/lang/Throwable;" } : Jvm.MethodName) ({ cls := "java/lang/Throwable", name := "fillInStackTrace", desc := "(I)Ljava/lang/Throwable;" } : Jvm.MethodName)) ∈ lw_all := lw_g (lw_at lw_m3 119 rfl) rfl
theorem q700 : (Jvm.Cond.selects "PaneKeepsWeather$Faulty" ({ cls := "java/lang/Throwable", name := "fillInStackTrace", desc := "()Ljava/lang/Throwable;" } : Jvm.MethodName) ({ cls := "java/lang/Throwable", name := "fillInStackTrace", desc := "()Ljava/lang/Throwable;" } : Jvm.MethodName)) ∈ lw_all := lw_g (lw_at lw_m3 120 rfl) rfl
theorem q701 : (Jvm.Cond.lays "PaneKeepsWeather$Faulty" "java/lang/Throwable" "cause" "Ljava/lang/Throwable;") ∈ lw_all := lw_g (lw_at lw_m3 121 rfl) rfl
theorem q703 : (Jvm.Cond.lays "PaneKeepsWeather$Faulty" "java/lang/Throwable" "stackTrace" "[Ljava/lang/StackTraceElement;") ∈ lw_all := lw_g (lw_at lw_m3 123 rfl) rfl
theorem q705 : (Jvm.Cond.lays "PaneKeepsWeather$Faulty" "java/lang/Throwable" "suppressedExceptions" "Ljava/util/List;") ∈ lw_all := lw_g (lw_at lw_m3 125 rfl) rfl
theorem q707 : (Jvm.Cond.lays "PaneKeepsWeather$Faulty" "java/lang/Throwable" "detailMessage" "Ljava/lang/String;") ∈ lw_all := lw_g (lw_at lw_m3 127 rfl) rfl
theorem q709 : (Jvm.Cond.lays "PaneKeepsWeather$Faulty" "java/lang/Throwable" "backtrace" "Ljava/lang/Object;") ∈ lw_all := lw_g (lw_at lw_m3 129 rfl) rfl
theorem q748 : (Jvm.Cond.instanceMethod ({ cls := "PaneKeepsWeather$Faulty", name := "<init>", desc := "()V" } : Jvm.MethodName)) ∈ lw_all := lw_g (lw_at lw_m3 168 rfl) rfl
theorem q749 : (Jvm.Cond.code ({ cls := "PaneKeepsWeather$Faulty", name := "<init>", desc := "()V" } : Jvm.MethodName) prog_3_method_1_code (1 : Nat) (Option.none : Option Jvm.ClassFile.FieldType)) ∈ lw_all := lw_g (lw_at lw_m3 169 rfl) rfl
theorem q750 : (Jvm.Cond.methodLink "PaneKeepsWeather$Faulty" (1 : Nat) ({ cls := "java/lang/RuntimeException", name := "<init>", desc := "(Ljava/lang/String;Ljava/lang/Throwable;ZZ)V" } : Jvm.MethodName)) ∈ lw_all := lw_g (lw_at lw_m3 170 rfl) rfl
theorem q768 : (Jvm.Cond.lays "PaneKeepsWeather$Faulty" "java/lang/Throwable" "depth" "I") ∈ lw_all := lw_g (lw_at lw_m3 188 rfl) rfl
theorem q771 : (Jvm.Cond.superclass "PaneKeepsWeather$Faulty" "java/lang/RuntimeException") ∈ lw_all := lw_g (lw_at lw_m3 191 rfl) rfl
theorem in_X1 : ∀ w ∈ wsX10, w ∈ lw_all := lw_in wsX10 [701, 703, 705, 707, 709, 768] (by decide +kernel) (by decide +kernel)
/-! PaneKeepsWeather$Sheet -/
set_option maxRecDepth 100000
def RX2 : String := "PaneKeepsWeather$Sheet"
def TX2 : u_T := fun k => match k with
  | _ => ("PaneKeepsWeather$Sheet", "row", "Ljava/lang/Object;", false)
def tyX2 : Nat → FieldType := fun k => match k with
  | _ => .object "java/lang/Object"
abbrev wsX20 : List Cond := u_ws RX2 TX2 1
theorem nmX2 : ∀ a, a < 1 → ∀ b, b < 1 → a ≠ b → (TX2 a).2.1 ≠ (TX2 b).2.1 := by decide +kernel
theorem tyX2_ok : ∀ k, k < 1 → parseFieldDescriptor (TX2 k).2.2.1 = some (tyX2 k) := by decide +kernel
abbrev cX2_init : ByteArray := prog_9_method_1_code
def yX2_init : MethodName := ⟨RX2, "<init>", "()V"⟩
theorem dX2_init_0 : decode cX2_init 0 = .ok (.aload_n 0, 1) := by decide +kernel
theorem dX2_init_1 : decode cX2_init 1 = .ok (.invokespecial 1, 3) := by decide +kernel
theorem dX2_init_4 : decode cX2_init 4 = .ok (.return_, 1) := by decide +kernel
theorem q106 : (Jvm.Cond.initialized "PaneKeepsWeather$Sheet") ∈ lw_all := lw_g (lw_at lw_m1 6 rfl) rfl
theorem q796 : (Jvm.Cond.instantiable "PaneKeepsWeather$Sheet" (1 : Nat)) ∈ lw_all := lw_g (lw_at lw_m3 216 rfl) rfl
theorem q798 : (Jvm.Cond.instanceMethod ({ cls := "PaneKeepsWeather$Sheet", name := "<init>", desc := "()V" } : Jvm.MethodName)) ∈ lw_all := lw_g (lw_at lw_m3 218 rfl) rfl
theorem q799 : (Jvm.Cond.code ({ cls := "PaneKeepsWeather$Sheet", name := "<init>", desc := "()V" } : Jvm.MethodName) prog_9_method_1_code (1 : Nat) (Option.none : Option Jvm.ClassFile.FieldType)) ∈ lw_all := lw_g (lw_at lw_m3 219 rfl) rfl
theorem q800 : (Jvm.Cond.methodLink "PaneKeepsWeather$Sheet" (1 : Nat) ({ cls := "java/lang/Object", name := "<init>", desc := "()V" } : Jvm.MethodName)) ∈ lw_all := lw_g (lw_at lw_m3 220 rfl) rfl
theorem q802 : (Jvm.Cond.lays "PaneKeepsWeather$Sheet" "PaneKeepsWeather$Sheet" "row" "Ljava/lang/Object;") ∈ lw_all := lw_g (lw_at lw_m3 222 rfl) rfl
theorem q803 : (Jvm.Cond.soleField "PaneKeepsWeather$Sheet" "row") ∈ lw_all := lw_g (lw_at lw_m3 223 rfl) rfl
theorem q804 : (Jvm.Cond.superclass "PaneKeepsWeather$Sheet" "java/lang/Object") ∈ lw_all := lw_g (lw_at lw_m3 224 rfl) rfl
theorem in_X2 : ∀ w ∈ wsX20, w ∈ lw_all := lw_in wsX20 [802] (by decide +kernel) (by decide +kernel)
/-! PaneKeepsWeather$Node -/
set_option maxRecDepth 100000
def RX3 : String := "PaneKeepsWeather$Node"
abbrev cX3_init : ByteArray := prog_5_method_1_code
def yX3_init : MethodName := ⟨RX3, "<init>", "()V"⟩
theorem dX3_init_0 : decode cX3_init 0 = .ok (.aload_n 0, 1) := by decide +kernel
theorem dX3_init_1 : decode cX3_init 1 = .ok (.invokespecial 1, 3) := by decide +kernel
theorem dX3_init_4 : decode cX3_init 4 = .ok (.return_, 1) := by decide +kernel
theorem q113 : (Jvm.Cond.initialized "PaneKeepsWeather$Node") ∈ lw_all := lw_g (lw_at lw_m1 13 rfl) rfl
theorem q291 : (Jvm.Cond.declares ({ cls := "PaneKeepsWeather$Node", name := "worth", desc := "()I" } : Jvm.MethodName)) ∈ lw_tbl := lw_at lw_m1 191 rfl
theorem q292 : (Jvm.Cond.sameMethod "PaneKeepsWeather$Node" "PaneKeepsWeather$Node" "worth" "()I") ∈ lw_all := lw_g (lw_at lw_m1 192 rfl) rfl
theorem q619 : (Jvm.Cond.instanceMethod ({ cls := "PaneKeepsWeather$Node", name := "<init>", desc := "()V" } : Jvm.MethodName)) ∈ lw_all := lw_g (lw_at lw_m3 39 rfl) rfl
theorem q620 : (Jvm.Cond.code ({ cls := "PaneKeepsWeather$Node", name := "<init>", desc := "()V" } : Jvm.MethodName) prog_5_method_1_code (1 : Nat) (Option.none : Option Jvm.ClassFile.FieldType)) ∈ lw_all := lw_g (lw_at lw_m3 40 rfl) rfl
theorem q621 : (Jvm.Cond.methodLink "PaneKeepsWeather$Node" (1 : Nat) ({ cls := "java/lang/Object", name := "<init>", desc := "()V" } : Jvm.MethodName)) ∈ lw_all := lw_g (lw_at lw_m3 41 rfl) rfl
/-! PaneKeepsWeather$Turned -/
set_option maxRecDepth 100000
def RX4 : String := "PaneKeepsWeather$Turned"
def TX4 : u_T := fun k => match k with
  | 0 => ("PaneKeepsWeather$Turned", "of", "LPaneKeepsWeather$Node;", true)
  | _ => ("PaneKeepsWeather$Turned", "isMinus", "Z", true)
def tyX4 : Nat → FieldType := fun k => match k with
  | 0 => .object "PaneKeepsWeather$Node"
  | _ => .boolean
abbrev wsX40 : List Cond := u_ws RX4 TX4 2
theorem nmX4 : ∀ a, a < 2 → ∀ b, b < 2 → a ≠ b → (TX4 a).2.1 ≠ (TX4 b).2.1 := by decide +kernel
theorem tyX4_ok : ∀ k, k < 2 → parseFieldDescriptor (TX4 k).2.2.1 = some (tyX4 k) := by decide +kernel
abbrev cX4_worth : ByteArray := prog_13_method_2_code
def yX4_worth : MethodName := ⟨RX4, "worth", "()I"⟩
def dkwX4_worth_1 : List UInt8 := [4, 167, 0, 4, 3, 172]
abbrev dktX4_worth_1 : List UInt8 := dkwX4_worth_1 ++ []
def dkwX4_worth_0 : List UInt8 := [42, 180, 0, 7, 182, 0, 17, 60, 42, 180, 0, 13, 153, 0, 8, 27, 116, 167, 0, 12, 27, 154, 0, 7]
abbrev dktX4_worth_0 : List UInt8 := dkwX4_worth_0 ++ dktX4_worth_1
theorem dksX4_worth_0 : cX4_worth.data.toList.drop 0 = dktX4_worth_0 := by decide +kernel
theorem dksX4_worth_1 : cX4_worth.data.toList.drop 24 = dktX4_worth_1 := dk_seg dksX4_worth_0 24 rfl rfl
theorem dX4_worth_0 : decode cX4_worth 0 = .ok (.aload_n 0, 1) := dk_42 (dk_at dksX4_worth_0 0 rfl rfl)
theorem dX4_worth_1 : decode cX4_worth 1 = .ok (.getfield 7, 3) := dk_180 0 7 (dk_at dksX4_worth_0 1 rfl rfl)
theorem dX4_worth_4 : decode cX4_worth 4 = .ok (.invokevirtual 17, 3) := dk_182 0 17 (dk_at dksX4_worth_0 4 rfl rfl)
theorem dX4_worth_7 : decode cX4_worth 7 = .ok (.istore_n 1, 1) := dk_60 (dk_at dksX4_worth_0 7 rfl rfl)
theorem dX4_worth_8 : decode cX4_worth 8 = .ok (.aload_n 0, 1) := dk_42 (dk_at dksX4_worth_0 8 rfl rfl)
theorem dX4_worth_9 : decode cX4_worth 9 = .ok (.getfield 13, 3) := dk_180 0 13 (dk_at dksX4_worth_0 9 rfl rfl)
theorem dX4_worth_12 : decode cX4_worth 12 = .ok (.ifCond .eq 8, 3) := dk_153 0 8 (dk_at dksX4_worth_0 12 rfl rfl)
theorem dX4_worth_15 : decode cX4_worth 15 = .ok (.iload_n 1, 1) := dk_27 (dk_at dksX4_worth_0 15 rfl rfl)
theorem dX4_worth_16 : decode cX4_worth 16 = .ok (.ineg, 1) := dk_116 (dk_at dksX4_worth_0 16 rfl rfl)
theorem dX4_worth_17 : decode cX4_worth 17 = .ok (.goto 12, 3) := dk_167 0 12 (dk_at dksX4_worth_0 17 rfl rfl)
theorem dX4_worth_20 : decode cX4_worth 20 = .ok (.iload_n 1, 1) := dk_27 (dk_at dksX4_worth_0 20 rfl rfl)
theorem dX4_worth_21 : decode cX4_worth 21 = .ok (.ifCond .ne 7, 3) := dk_154 0 7 (dk_at dksX4_worth_0 21 rfl rfl)
theorem dX4_worth_24 : decode cX4_worth 24 = .ok (.iconst 1, 1) := dk_4 (dk_at dksX4_worth_1 0 rfl rfl)
theorem dX4_worth_25 : decode cX4_worth 25 = .ok (.goto 4, 3) := dk_167 0 4 (dk_at dksX4_worth_1 1 rfl rfl)
theorem dX4_worth_28 : decode cX4_worth 28 = .ok (.iconst 0, 1) := dk_3 (dk_at dksX4_worth_1 4 rfl rfl)
theorem dX4_worth_29 : decode cX4_worth 29 = .ok (.ireturn, 1) := dk_172 (dk_at dksX4_worth_1 5 rfl rfl)
abbrev cX4_init : ByteArray := prog_13_method_1_code
def yX4_init : MethodName := ⟨RX4, "<init>", "(LPaneKeepsWeather$Node;Z)V"⟩
def dkwX4_init_0 : List UInt8 := [42, 183, 0, 1, 42, 43, 181, 0, 7, 42, 28, 181, 0, 13, 177]
abbrev dktX4_init_0 : List UInt8 := dkwX4_init_0 ++ []
theorem dksX4_init_0 : cX4_init.data.toList.drop 0 = dktX4_init_0 := by decide +kernel
theorem dX4_init_0 : decode cX4_init 0 = .ok (.aload_n 0, 1) := dk_42 (dk_at dksX4_init_0 0 rfl rfl)
theorem dX4_init_1 : decode cX4_init 1 = .ok (.invokespecial 1, 3) := dk_183 0 1 (dk_at dksX4_init_0 1 rfl rfl)
theorem dX4_init_4 : decode cX4_init 4 = .ok (.aload_n 0, 1) := dk_42 (dk_at dksX4_init_0 4 rfl rfl)
theorem dX4_init_5 : decode cX4_init 5 = .ok (.aload_n 1, 1) := dk_43 (dk_at dksX4_init_0 5 rfl rfl)
theorem dX4_init_6 : decode cX4_init 6 = .ok (.putfield 7, 3) := dk_181 0 7 (dk_at dksX4_init_0 6 rfl rfl)
theorem dX4_init_9 : decode cX4_init 9 = .ok (.aload_n 0, 1) := dk_42 (dk_at dksX4_init_0 9 rfl rfl)
theorem dX4_init_10 : decode cX4_init 10 = .ok (.iload_n 2, 1) := dk_28 (dk_at dksX4_init_0 10 rfl rfl)
theorem dX4_init_11 : decode cX4_init 11 = .ok (.putfield 13, 3) := dk_181 0 13 (dk_at dksX4_init_0 11 rfl rfl)
theorem dX4_init_14 : decode cX4_init 14 = .ok (.return_, 1) := dk_177 (dk_at dksX4_init_0 14 rfl rfl)
theorem q114 : (Jvm.Cond.initialized "PaneKeepsWeather$Turned") ∈ lw_all := lw_g (lw_at lw_m1 14 rfl) rfl
theorem q299 : (Jvm.Cond.selects "PaneKeepsWeather$Turned" ({ cls := "PaneKeepsWeather$Node", name := "worth", desc := "()I" } : Jvm.MethodName) ({ cls := "PaneKeepsWeather$Turned", name := "worth", desc := "()I" } : Jvm.MethodName)) ∈ lw_all := lw_g (lw_at lw_m1 199 rfl) rfl
theorem q300 : (Jvm.Cond.instanceMethod ({ cls := "PaneKeepsWeather$Turned", name := "worth", desc := "()I" } : Jvm.MethodName)) ∈ lw_all := lw_g (lw_at lw_m1 200 rfl) rfl
theorem q301 : (Jvm.Cond.code ({ cls := "PaneKeepsWeather$Turned", name := "worth", desc := "()I" } : Jvm.MethodName) prog_13_method_2_code (2 : Nat) (Option.some Jvm.ClassFile.FieldType.int)) ∈ lw_all := lw_g (lw_at lw_m1 201 rfl) rfl
theorem q302 : (Jvm.Cond.methodLink "PaneKeepsWeather$Turned" (17 : Nat) ({ cls := "PaneKeepsWeather$Node", name := "worth", desc := "()I" } : Jvm.MethodName)) ∈ lw_all := lw_g (lw_at lw_m1 202 rfl) rfl
theorem q614 : (Jvm.Cond.instantiable "PaneKeepsWeather$Turned" (2 : Nat)) ∈ lw_all := lw_g (lw_at lw_m3 34 rfl) rfl
theorem q616 : (Jvm.Cond.instanceMethod ({ cls := "PaneKeepsWeather$Turned", name := "<init>", desc := "(LPaneKeepsWeather$Node;Z)V" } : Jvm.MethodName)) ∈ lw_all := lw_g (lw_at lw_m3 36 rfl) rfl
theorem q617 : (Jvm.Cond.code ({ cls := "PaneKeepsWeather$Turned", name := "<init>", desc := "(LPaneKeepsWeather$Node;Z)V" } : Jvm.MethodName) prog_13_method_1_code (3 : Nat) (Option.none : Option Jvm.ClassFile.FieldType)) ∈ lw_all := lw_g (lw_at lw_m3 37 rfl) rfl
theorem q618 : (Jvm.Cond.methodLinkNest "PaneKeepsWeather$Turned" (1 : Nat) ({ cls := "PaneKeepsWeather$Node", name := "<init>", desc := "()V" } : Jvm.MethodName) "PaneKeepsWeather") ∈ lw_tbl := lw_at lw_m3 38 rfl
theorem q622 : (Jvm.Cond.fieldLink "PaneKeepsWeather$Turned" (7 : Nat) "PaneKeepsWeather$Turned" "of" "LPaneKeepsWeather$Node;") ∈ lw_all := lw_g (lw_at lw_m3 42 rfl) rfl
theorem q623 : (Jvm.Cond.fieldLink "PaneKeepsWeather$Turned" (13 : Nat) "PaneKeepsWeather$Turned" "isMinus" "Z") ∈ lw_all := lw_g (lw_at lw_m3 43 rfl) rfl
theorem q624 : (Jvm.Cond.laysFinal "PaneKeepsWeather$Turned" "PaneKeepsWeather$Turned" "of" "LPaneKeepsWeather$Node;") ∈ lw_all := lw_g (lw_at lw_m3 44 rfl) rfl
theorem q625 : (Jvm.Cond.soleField "PaneKeepsWeather$Turned" "of") ∈ lw_all := lw_g (lw_at lw_m3 45 rfl) rfl
theorem q626 : (Jvm.Cond.laysFinal "PaneKeepsWeather$Turned" "PaneKeepsWeather$Turned" "isMinus" "Z") ∈ lw_all := lw_g (lw_at lw_m3 46 rfl) rfl
theorem q627 : (Jvm.Cond.soleField "PaneKeepsWeather$Turned" "isMinus") ∈ lw_all := lw_g (lw_at lw_m3 47 rfl) rfl
theorem q628 : (Jvm.Cond.superclass "PaneKeepsWeather$Turned" "PaneKeepsWeather$Node") ∈ lw_all := lw_g (lw_at lw_m3 48 rfl) rfl
theorem q1766 : (Jvm.Cond.castable "PaneKeepsWeather$Turned" "PaneKeepsWeather$Node") ∈ lw_tbl := lw_at lw_m7 226 rfl
theorem in_X4 : ∀ w ∈ wsX40, w ∈ lw_all := lw_in wsX40 [624, 626] (by decide +kernel) (by decide +kernel)
/-! PaneKeepsWeather$Number -/
set_option maxRecDepth 100000
def RX5 : String := "PaneKeepsWeather$Number"
def TX5 : u_T := fun k => match k with
  | _ => ("PaneKeepsWeather$Number", "v", "I", true)
def tyX5 : Nat → FieldType := fun k => match k with
  | _ => .int
abbrev wsX50 : List Cond := u_ws RX5 TX5 1
theorem nmX5 : ∀ a, a < 1 → ∀ b, b < 1 → a ≠ b → (TX5 a).2.1 ≠ (TX5 b).2.1 := by decide +kernel
theorem tyX5_ok : ∀ k, k < 1 → parseFieldDescriptor (TX5 k).2.2.1 = some (tyX5 k) := by decide +kernel
abbrev cX5_worth : ByteArray := prog_7_method_2_code
def yX5_worth : MethodName := ⟨RX5, "worth", "()I"⟩
theorem dX5_worth_0 : decode cX5_worth 0 = .ok (.aload_n 0, 1) := by decide +kernel
theorem dX5_worth_1 : decode cX5_worth 1 = .ok (.getfield 7, 3) := by decide +kernel
theorem dX5_worth_4 : decode cX5_worth 4 = .ok (.ireturn, 1) := by decide +kernel
abbrev cX5_init : ByteArray := prog_7_method_1_code
def yX5_init : MethodName := ⟨RX5, "<init>", "(I)V"⟩
def dkwX5_init_0 : List UInt8 := [42, 183, 0, 1, 42, 27, 181, 0, 7, 177]
abbrev dktX5_init_0 : List UInt8 := dkwX5_init_0 ++ []
theorem dksX5_init_0 : cX5_init.data.toList.drop 0 = dktX5_init_0 := by decide +kernel
theorem dX5_init_0 : decode cX5_init 0 = .ok (.aload_n 0, 1) := dk_42 (dk_at dksX5_init_0 0 rfl rfl)
theorem dX5_init_1 : decode cX5_init 1 = .ok (.invokespecial 1, 3) := dk_183 0 1 (dk_at dksX5_init_0 1 rfl rfl)
theorem dX5_init_4 : decode cX5_init 4 = .ok (.aload_n 0, 1) := dk_42 (dk_at dksX5_init_0 4 rfl rfl)
theorem dX5_init_5 : decode cX5_init 5 = .ok (.iload_n 1, 1) := dk_27 (dk_at dksX5_init_0 5 rfl rfl)
theorem dX5_init_6 : decode cX5_init 6 = .ok (.putfield 7, 3) := dk_181 0 7 (dk_at dksX5_init_0 6 rfl rfl)
theorem dX5_init_9 : decode cX5_init 9 = .ok (.return_, 1) := dk_177 (dk_at dksX5_init_0 9 rfl rfl)
theorem q115 : (Jvm.Cond.initialized "PaneKeepsWeather$Number") ∈ lw_all := lw_g (lw_at lw_m1 15 rfl) rfl
theorem q296 : (Jvm.Cond.selects "PaneKeepsWeather$Number" ({ cls := "PaneKeepsWeather$Node", name := "worth", desc := "()I" } : Jvm.MethodName) ({ cls := "PaneKeepsWeather$Number", name := "worth", desc := "()I" } : Jvm.MethodName)) ∈ lw_all := lw_g (lw_at lw_m1 196 rfl) rfl
theorem q297 : (Jvm.Cond.instanceMethod ({ cls := "PaneKeepsWeather$Number", name := "worth", desc := "()I" } : Jvm.MethodName)) ∈ lw_all := lw_g (lw_at lw_m1 197 rfl) rfl
theorem q298 : (Jvm.Cond.code ({ cls := "PaneKeepsWeather$Number", name := "worth", desc := "()I" } : Jvm.MethodName) prog_7_method_2_code (1 : Nat) (Option.some Jvm.ClassFile.FieldType.int)) ∈ lw_all := lw_g (lw_at lw_m1 198 rfl) rfl
theorem q643 : (Jvm.Cond.instantiable "PaneKeepsWeather$Number" (1 : Nat)) ∈ lw_all := lw_g (lw_at lw_m3 63 rfl) rfl
theorem q645 : (Jvm.Cond.instanceMethod ({ cls := "PaneKeepsWeather$Number", name := "<init>", desc := "(I)V" } : Jvm.MethodName)) ∈ lw_all := lw_g (lw_at lw_m3 65 rfl) rfl
theorem q646 : (Jvm.Cond.code ({ cls := "PaneKeepsWeather$Number", name := "<init>", desc := "(I)V" } : Jvm.MethodName) prog_7_method_1_code (2 : Nat) (Option.none : Option Jvm.ClassFile.FieldType)) ∈ lw_all := lw_g (lw_at lw_m3 66 rfl) rfl
theorem q647 : (Jvm.Cond.methodLinkNest "PaneKeepsWeather$Number" (1 : Nat) ({ cls := "PaneKeepsWeather$Node", name := "<init>", desc := "()V" } : Jvm.MethodName) "PaneKeepsWeather") ∈ lw_tbl := lw_at lw_m3 67 rfl
theorem q648 : (Jvm.Cond.fieldLink "PaneKeepsWeather$Number" (7 : Nat) "PaneKeepsWeather$Number" "v" "I") ∈ lw_all := lw_g (lw_at lw_m3 68 rfl) rfl
theorem q649 : (Jvm.Cond.laysFinal "PaneKeepsWeather$Number" "PaneKeepsWeather$Number" "v" "I") ∈ lw_all := lw_g (lw_at lw_m3 69 rfl) rfl
theorem q650 : (Jvm.Cond.soleField "PaneKeepsWeather$Number" "v") ∈ lw_all := lw_g (lw_at lw_m3 70 rfl) rfl
theorem q651 : (Jvm.Cond.superclass "PaneKeepsWeather$Number" "PaneKeepsWeather$Node") ∈ lw_all := lw_g (lw_at lw_m3 71 rfl) rfl
theorem q1767 : (Jvm.Cond.castable "PaneKeepsWeather$Number" "PaneKeepsWeather$Node") ∈ lw_tbl := lw_at lw_m7 227 rfl
theorem in_X5 : ∀ w ∈ wsX50, w ∈ lw_all := lw_in wsX50 [649] (by decide +kernel) (by decide +kernel)
/-! PaneKeepsWeather$Name -/
set_option maxRecDepth 100000
def RX6 : String := "PaneKeepsWeather$Name"
def TX6 : u_T := fun k => match k with
  | 0 => ("PaneKeepsWeather$Name", "which", "I", true)
  | _ => ("PaneKeepsWeather$Name", "this$0", "LPaneKeepsWeather;", true)
def tyX6 : Nat → FieldType := fun k => match k with
  | 0 => .int
  | _ => .object "PaneKeepsWeather"
abbrev wsX60 : List Cond := u_ws RX6 TX6 2
theorem nmX6 : ∀ a, a < 2 → ∀ b, b < 2 → a ≠ b → (TX6 a).2.1 ≠ (TX6 b).2.1 := by decide +kernel
theorem tyX6_ok : ∀ k, k < 2 → parseFieldDescriptor (TX6 k).2.2.1 = some (tyX6 k) := by decide +kernel
abbrev cX6_worth : ByteArray := prog_4_method_2_code
def yX6_worth : MethodName := ⟨RX6, "worth", "()I"⟩
def dkwX6_worth_5 : List UInt8 := [180, 0, 40, 172, 42, 180, 0, 1, 180, 0, 43, 172]
abbrev dktX6_worth_5 : List UInt8 := dkwX6_worth_5 ++ []
def dkwX6_worth_4 : List UInt8 := [180, 0, 1, 180, 0, 22, 42, 180, 0, 1, 180, 0, 26, 50, 180, 0, 37, 172, 42, 180, 0, 1]
abbrev dktX6_worth_4 : List UInt8 := dkwX6_worth_4 ++ dktX6_worth_5
def dkwX6_worth_3 : List UInt8 := [180, 0, 29, 172, 42, 180, 0, 1, 180, 0, 22, 42, 180, 0, 1, 180, 0, 26, 50, 180, 0, 34, 172, 42]
abbrev dktX6_worth_3 : List UInt8 := dkwX6_worth_3 ++ dktX6_worth_4
def dkwX6_worth_2 : List UInt8 := [42, 180, 0, 1, 180, 0, 17, 172, 42, 180, 0, 1, 180, 0, 22, 42, 180, 0, 1, 180, 0, 26, 50]
abbrev dktX6_worth_2 : List UInt8 := dkwX6_worth_2 ++ dktX6_worth_3
def dkwX6_worth_1 : List UInt8 := [170, 0, 0, 0, 0, 0, 0, 109, 0, 0, 0, 0, 0, 0, 0, 4, 0, 0, 0, 36, 0, 0, 0, 44, 0, 0, 0, 63, 0, 0, 0, 82, 0, 0, 0, 101]
abbrev dktX6_worth_1 : List UInt8 := dkwX6_worth_1 ++ dktX6_worth_2
def dkwX6_worth_0 : List UInt8 := [42, 180, 0, 13]
abbrev dktX6_worth_0 : List UInt8 := dkwX6_worth_0 ++ dktX6_worth_1
theorem dksX6_worth_0 : cX6_worth.data.toList.drop 0 = dktX6_worth_0 := by decide +kernel
theorem dksX6_worth_1 : cX6_worth.data.toList.drop 4 = dktX6_worth_1 := dk_seg dksX6_worth_0 4 rfl rfl
theorem dksX6_worth_2 : cX6_worth.data.toList.drop 40 = dktX6_worth_2 := dk_seg dksX6_worth_1 36 rfl rfl
theorem dksX6_worth_3 : cX6_worth.data.toList.drop 63 = dktX6_worth_3 := dk_seg dksX6_worth_2 23 rfl rfl
theorem dksX6_worth_4 : cX6_worth.data.toList.drop 87 = dktX6_worth_4 := dk_seg dksX6_worth_3 24 rfl rfl
theorem dksX6_worth_5 : cX6_worth.data.toList.drop 109 = dktX6_worth_5 := dk_seg dksX6_worth_4 22 rfl rfl
theorem dX6_worth_0 : decode cX6_worth 0 = .ok (.aload_n 0, 1) := dk_42 (dk_at dksX6_worth_0 0 rfl rfl)
theorem dX6_worth_1 : decode cX6_worth 1 = .ok (.getfield 13, 3) := dk_180 0 13 (dk_at dksX6_worth_0 1 rfl rfl)
theorem dX6_worth_4 : decode cX6_worth 4 = .ok (.tableswitch 109 0 4 #[36, 44, 63, 82, 101], 36) := by decide +kernel
theorem dX6_worth_40 : decode cX6_worth 40 = .ok (.aload_n 0, 1) := dk_42 (dk_at dksX6_worth_2 0 rfl rfl)
theorem dX6_worth_41 : decode cX6_worth 41 = .ok (.getfield 1, 3) := dk_180 0 1 (dk_at dksX6_worth_2 1 rfl rfl)
theorem dX6_worth_44 : decode cX6_worth 44 = .ok (.getfield 17, 3) := dk_180 0 17 (dk_at dksX6_worth_2 4 rfl rfl)
theorem dX6_worth_47 : decode cX6_worth 47 = .ok (.ireturn, 1) := dk_172 (dk_at dksX6_worth_2 7 rfl rfl)
theorem dX6_worth_48 : decode cX6_worth 48 = .ok (.aload_n 0, 1) := dk_42 (dk_at dksX6_worth_2 8 rfl rfl)
theorem dX6_worth_49 : decode cX6_worth 49 = .ok (.getfield 1, 3) := dk_180 0 1 (dk_at dksX6_worth_2 9 rfl rfl)
theorem dX6_worth_52 : decode cX6_worth 52 = .ok (.getfield 22, 3) := dk_180 0 22 (dk_at dksX6_worth_2 12 rfl rfl)
theorem dX6_worth_55 : decode cX6_worth 55 = .ok (.aload_n 0, 1) := dk_42 (dk_at dksX6_worth_2 15 rfl rfl)
theorem dX6_worth_56 : decode cX6_worth 56 = .ok (.getfield 1, 3) := dk_180 0 1 (dk_at dksX6_worth_2 16 rfl rfl)
theorem dX6_worth_59 : decode cX6_worth 59 = .ok (.getfield 26, 3) := dk_180 0 26 (dk_at dksX6_worth_2 19 rfl rfl)
theorem dX6_worth_62 : decode cX6_worth 62 = .ok (.aaload, 1) := dk_50 (dk_at dksX6_worth_2 22 rfl rfl)
theorem dX6_worth_63 : decode cX6_worth 63 = .ok (.getfield 29, 3) := dk_180 0 29 (dk_at dksX6_worth_3 0 rfl rfl)
theorem dX6_worth_66 : decode cX6_worth 66 = .ok (.ireturn, 1) := dk_172 (dk_at dksX6_worth_3 3 rfl rfl)
theorem dX6_worth_67 : decode cX6_worth 67 = .ok (.aload_n 0, 1) := dk_42 (dk_at dksX6_worth_3 4 rfl rfl)
theorem dX6_worth_68 : decode cX6_worth 68 = .ok (.getfield 1, 3) := dk_180 0 1 (dk_at dksX6_worth_3 5 rfl rfl)
theorem dX6_worth_71 : decode cX6_worth 71 = .ok (.getfield 22, 3) := dk_180 0 22 (dk_at dksX6_worth_3 8 rfl rfl)
theorem dX6_worth_74 : decode cX6_worth 74 = .ok (.aload_n 0, 1) := dk_42 (dk_at dksX6_worth_3 11 rfl rfl)
theorem dX6_worth_75 : decode cX6_worth 75 = .ok (.getfield 1, 3) := dk_180 0 1 (dk_at dksX6_worth_3 12 rfl rfl)
theorem dX6_worth_78 : decode cX6_worth 78 = .ok (.getfield 26, 3) := dk_180 0 26 (dk_at dksX6_worth_3 15 rfl rfl)
theorem dX6_worth_81 : decode cX6_worth 81 = .ok (.aaload, 1) := dk_50 (dk_at dksX6_worth_3 18 rfl rfl)
theorem dX6_worth_82 : decode cX6_worth 82 = .ok (.getfield 34, 3) := dk_180 0 34 (dk_at dksX6_worth_3 19 rfl rfl)
theorem dX6_worth_85 : decode cX6_worth 85 = .ok (.ireturn, 1) := dk_172 (dk_at dksX6_worth_3 22 rfl rfl)
theorem dX6_worth_86 : decode cX6_worth 86 = .ok (.aload_n 0, 1) := dk_42 (dk_at dksX6_worth_3 23 rfl rfl)
theorem dX6_worth_87 : decode cX6_worth 87 = .ok (.getfield 1, 3) := dk_180 0 1 (dk_at dksX6_worth_4 0 rfl rfl)
theorem dX6_worth_90 : decode cX6_worth 90 = .ok (.getfield 22, 3) := dk_180 0 22 (dk_at dksX6_worth_4 3 rfl rfl)
theorem dX6_worth_93 : decode cX6_worth 93 = .ok (.aload_n 0, 1) := dk_42 (dk_at dksX6_worth_4 6 rfl rfl)
theorem dX6_worth_94 : decode cX6_worth 94 = .ok (.getfield 1, 3) := dk_180 0 1 (dk_at dksX6_worth_4 7 rfl rfl)
theorem dX6_worth_97 : decode cX6_worth 97 = .ok (.getfield 26, 3) := dk_180 0 26 (dk_at dksX6_worth_4 10 rfl rfl)
theorem dX6_worth_100 : decode cX6_worth 100 = .ok (.aaload, 1) := dk_50 (dk_at dksX6_worth_4 13 rfl rfl)
theorem dX6_worth_101 : decode cX6_worth 101 = .ok (.getfield 37, 3) := dk_180 0 37 (dk_at dksX6_worth_4 14 rfl rfl)
theorem dX6_worth_104 : decode cX6_worth 104 = .ok (.ireturn, 1) := dk_172 (dk_at dksX6_worth_4 17 rfl rfl)
theorem dX6_worth_105 : decode cX6_worth 105 = .ok (.aload_n 0, 1) := dk_42 (dk_at dksX6_worth_4 18 rfl rfl)
theorem dX6_worth_106 : decode cX6_worth 106 = .ok (.getfield 1, 3) := dk_180 0 1 (dk_at dksX6_worth_4 19 rfl rfl)
theorem dX6_worth_109 : decode cX6_worth 109 = .ok (.getfield 40, 3) := dk_180 0 40 (dk_at dksX6_worth_5 0 rfl rfl)
theorem dX6_worth_112 : decode cX6_worth 112 = .ok (.ireturn, 1) := dk_172 (dk_at dksX6_worth_5 3 rfl rfl)
theorem dX6_worth_113 : decode cX6_worth 113 = .ok (.aload_n 0, 1) := dk_42 (dk_at dksX6_worth_5 4 rfl rfl)
theorem dX6_worth_114 : decode cX6_worth 114 = .ok (.getfield 1, 3) := dk_180 0 1 (dk_at dksX6_worth_5 5 rfl rfl)
theorem dX6_worth_117 : decode cX6_worth 117 = .ok (.getfield 43, 3) := dk_180 0 43 (dk_at dksX6_worth_5 8 rfl rfl)
theorem dX6_worth_120 : decode cX6_worth 120 = .ok (.ireturn, 1) := dk_172 (dk_at dksX6_worth_5 11 rfl rfl)
abbrev cX6_init : ByteArray := prog_4_method_1_code
def yX6_init : MethodName := ⟨RX6, "<init>", "(LPaneKeepsWeather;I)V"⟩
def dkwX6_init_0 : List UInt8 := [42, 43, 181, 0, 1, 42, 183, 0, 7, 42, 28, 181, 0, 13, 177]
abbrev dktX6_init_0 : List UInt8 := dkwX6_init_0 ++ []
theorem dksX6_init_0 : cX6_init.data.toList.drop 0 = dktX6_init_0 := by decide +kernel
theorem dX6_init_0 : decode cX6_init 0 = .ok (.aload_n 0, 1) := dk_42 (dk_at dksX6_init_0 0 rfl rfl)
theorem dX6_init_1 : decode cX6_init 1 = .ok (.aload_n 1, 1) := dk_43 (dk_at dksX6_init_0 1 rfl rfl)
theorem dX6_init_2 : decode cX6_init 2 = .ok (.putfield 1, 3) := dk_181 0 1 (dk_at dksX6_init_0 2 rfl rfl)
theorem dX6_init_5 : decode cX6_init 5 = .ok (.aload_n 0, 1) := dk_42 (dk_at dksX6_init_0 5 rfl rfl)
theorem dX6_init_6 : decode cX6_init 6 = .ok (.invokespecial 7, 3) := dk_183 0 7 (dk_at dksX6_init_0 6 rfl rfl)
theorem dX6_init_9 : decode cX6_init 9 = .ok (.aload_n 0, 1) := dk_42 (dk_at dksX6_init_0 9 rfl rfl)
theorem dX6_init_10 : decode cX6_init 10 = .ok (.iload_n 2, 1) := dk_28 (dk_at dksX6_init_0 10 rfl rfl)
theorem dX6_init_11 : decode cX6_init 11 = .ok (.putfield 13, 3) := dk_181 0 13 (dk_at dksX6_init_0 11 rfl rfl)
theorem dX6_init_14 : decode cX6_init 14 = .ok (.return_, 1) := dk_177 (dk_at dksX6_init_0 14 rfl rfl)
theorem q116 : (Jvm.Cond.initialized "PaneKeepsWeather$Name") ∈ lw_all := lw_g (lw_at lw_m1 16 rfl) rfl
theorem q157 : (Jvm.Cond.fieldLink "PaneKeepsWeather$Name" (37 : Nat) "PaneKeepsWeather$Pane" "number" "I") ∈ lw_all := lw_g (lw_at lw_m1 57 rfl) rfl
theorem q166 : (Jvm.Cond.fieldLink "PaneKeepsWeather$Name" (29 : Nat) "PaneKeepsWeather$Pane" "day" "I") ∈ lw_all := lw_g (lw_at lw_m1 66 rfl) rfl
theorem q170 : (Jvm.Cond.fieldLink "PaneKeepsWeather$Name" (34 : Nat) "PaneKeepsWeather$Pane" "wet" "I") ∈ lw_all := lw_g (lw_at lw_m1 70 rfl) rfl
theorem q293 : (Jvm.Cond.selects "PaneKeepsWeather$Name" ({ cls := "PaneKeepsWeather$Node", name := "worth", desc := "()I" } : Jvm.MethodName) ({ cls := "PaneKeepsWeather$Name", name := "worth", desc := "()I" } : Jvm.MethodName)) ∈ lw_all := lw_g (lw_at lw_m1 193 rfl) rfl
theorem q294 : (Jvm.Cond.instanceMethod ({ cls := "PaneKeepsWeather$Name", name := "worth", desc := "()I" } : Jvm.MethodName)) ∈ lw_all := lw_g (lw_at lw_m1 194 rfl) rfl
theorem q295 : (Jvm.Cond.code ({ cls := "PaneKeepsWeather$Name", name := "worth", desc := "()I" } : Jvm.MethodName) prog_4_method_2_code (1 : Nat) (Option.some Jvm.ClassFile.FieldType.int)) ∈ lw_all := lw_g (lw_at lw_m1 195 rfl) rfl
theorem q653 : (Jvm.Cond.instantiable "PaneKeepsWeather$Name" (2 : Nat)) ∈ lw_all := lw_g (lw_at lw_m3 73 rfl) rfl
theorem q655 : (Jvm.Cond.instanceMethod ({ cls := "PaneKeepsWeather$Name", name := "<init>", desc := "(LPaneKeepsWeather;I)V" } : Jvm.MethodName)) ∈ lw_all := lw_g (lw_at lw_m3 75 rfl) rfl
theorem q656 : (Jvm.Cond.code ({ cls := "PaneKeepsWeather$Name", name := "<init>", desc := "(LPaneKeepsWeather;I)V" } : Jvm.MethodName) prog_4_method_1_code (3 : Nat) (Option.none : Option Jvm.ClassFile.FieldType)) ∈ lw_all := lw_g (lw_at lw_m3 76 rfl) rfl
theorem q657 : (Jvm.Cond.methodLinkNest "PaneKeepsWeather$Name" (7 : Nat) ({ cls := "PaneKeepsWeather$Node", name := "<init>", desc := "()V" } : Jvm.MethodName) "PaneKeepsWeather") ∈ lw_tbl := lw_at lw_m3 77 rfl
theorem q658 : (Jvm.Cond.fieldLink "PaneKeepsWeather$Name" (13 : Nat) "PaneKeepsWeather$Name" "which" "I") ∈ lw_all := lw_g (lw_at lw_m3 78 rfl) rfl
theorem q659 : (Jvm.Cond.fieldLink "PaneKeepsWeather$Name" (1 : Nat) "PaneKeepsWeather$Name" "this$0" "LPaneKeepsWeather;") ∈ lw_all := lw_g (lw_at lw_m3 79 rfl) rfl
theorem q660 : (Jvm.Cond.laysFinal "PaneKeepsWeather$Name" "PaneKeepsWeather$Name" "which" "I") ∈ lw_all := lw_g (lw_at lw_m3 80 rfl) rfl
theorem q661 : (Jvm.Cond.soleField "PaneKeepsWeather$Name" "which") ∈ lw_all := lw_g (lw_at lw_m3 81 rfl) rfl
theorem q662 : (Jvm.Cond.laysFinal "PaneKeepsWeather$Name" "PaneKeepsWeather$Name" "this$0" "LPaneKeepsWeather;") ∈ lw_all := lw_g (lw_at lw_m3 82 rfl) rfl
theorem q663 : (Jvm.Cond.soleField "PaneKeepsWeather$Name" "this$0") ∈ lw_all := lw_g (lw_at lw_m3 83 rfl) rfl
theorem q664 : (Jvm.Cond.superclass "PaneKeepsWeather$Name" "PaneKeepsWeather$Node") ∈ lw_all := lw_g (lw_at lw_m3 84 rfl) rfl
theorem q811 : (Jvm.Cond.fieldLinkNest "PaneKeepsWeather$Name" (22 : Nat) "PaneKeepsWeather" "panes" "[LPaneKeepsWeather$Pane;" "PaneKeepsWeather") ∈ lw_tbl := lw_at lw_m3 231 rfl
theorem q817 : (Jvm.Cond.fieldLinkNest "PaneKeepsWeather$Name" (26 : Nat) "PaneKeepsWeather" "forPane" "I" "PaneKeepsWeather") ∈ lw_tbl := lw_at lw_m3 237 rfl
theorem q819 : (Jvm.Cond.fieldLinkNest "PaneKeepsWeather$Name" (17 : Nat) "PaneKeepsWeather" "forHour" "I" "PaneKeepsWeather") ∈ lw_tbl := lw_at lw_m3 239 rfl
theorem q821 : (Jvm.Cond.fieldLinkNest "PaneKeepsWeather$Name" (40 : Nat) "PaneKeepsWeather" "forOpening" "I" "PaneKeepsWeather") ∈ lw_tbl := lw_at lw_m4 1 rfl
theorem q823 : (Jvm.Cond.fieldLinkNest "PaneKeepsWeather$Name" (43 : Nat) "PaneKeepsWeather" "forBetween" "I" "PaneKeepsWeather") ∈ lw_tbl := lw_at lw_m4 3 rfl
theorem q1768 : (Jvm.Cond.castable "PaneKeepsWeather$Name" "PaneKeepsWeather$Node") ∈ lw_tbl := lw_at lw_m7 228 rfl
theorem in_X6 : ∀ w ∈ wsX60, w ∈ lw_all := lw_in wsX60 [660, 662] (by decide +kernel) (by decide +kernel)
/-! PaneKeepsWeather$Two -/
set_option maxRecDepth 100000
def RX7 : String := "PaneKeepsWeather$Two"
def TX7 : u_T := fun k => match k with
  | 0 => ("PaneKeepsWeather$Two", "sign", "I", true)
  | 1 => ("PaneKeepsWeather$Two", "a", "LPaneKeepsWeather$Node;", true)
  | _ => ("PaneKeepsWeather$Two", "b", "LPaneKeepsWeather$Node;", true)
def tyX7 : Nat → FieldType := fun k => match k with
  | 0 => .int
  | 1 => .object "PaneKeepsWeather$Node"
  | _ => .object "PaneKeepsWeather$Node"
abbrev wsX70 : List Cond := u_ws RX7 TX7 3
theorem nmX7 : ∀ a, a < 3 → ∀ b, b < 3 → a ≠ b → (TX7 a).2.1 ≠ (TX7 b).2.1 := by decide +kernel
theorem tyX7_ok : ∀ k, k < 3 → parseFieldDescriptor (TX7 k).2.2.1 = some (tyX7 k) := by decide +kernel
abbrev cX7_worth : ByteArray := prog_14_method_2_code
def yX7_worth : MethodName := ⟨RX7, "worth", "()I"⟩
def dkwX7_worth_4 : List UInt8 := [27, 154, 0, 7, 28, 153, 0, 7, 4, 167, 0, 4, 3, 172]
abbrev dktX7_worth_4 : List UInt8 := dkwX7_worth_4 ++ []
def dkwX7_worth_3 : List UInt8 := [28, 160, 0, 7, 4, 167, 0, 4, 3, 172, 27, 153, 0, 11, 28, 153, 0, 7, 4, 167, 0, 4, 3, 172]
abbrev dktX7_worth_3 : List UInt8 := dkwX7_worth_3 ++ dktX7_worth_4
def dkwX7_worth_2 : List UInt8 := [27, 28, 96, 172, 27, 28, 100, 172, 27, 28, 104, 172, 27, 28, 162, 0, 7, 4, 167, 0, 4, 3, 172, 27]
abbrev dktX7_worth_2 : List UInt8 := dkwX7_worth_2 ++ dktX7_worth_3
def dkwX7_worth_1 : List UInt8 := [171, 0, 0, 0, 0, 0, 0, 108, 0, 0, 0, 6, 0, 0, 0, 38, 0, 0, 0, 94, 0, 0, 0, 42, 0, 0, 0, 68, 0, 0, 0, 43, 0, 0, 0, 60, 0, 0, 0, 45, 0, 0, 0, 64, 0, 0, 0, 60, 0, 0, 0, 72, 0, 0, 0, 61, 0, 0, 0, 83]
abbrev dktX7_worth_1 : List UInt8 := dkwX7_worth_1 ++ dktX7_worth_2
def dkwX7_worth_0 : List UInt8 := [42, 180, 0, 13, 182, 0, 20, 60, 42, 180, 0, 17, 182, 0, 20, 61, 42, 180, 0, 7]
abbrev dktX7_worth_0 : List UInt8 := dkwX7_worth_0 ++ dktX7_worth_1
theorem dksX7_worth_0 : cX7_worth.data.toList.drop 0 = dktX7_worth_0 := by decide +kernel
theorem dksX7_worth_1 : cX7_worth.data.toList.drop 20 = dktX7_worth_1 := dk_seg dksX7_worth_0 20 rfl rfl
theorem dksX7_worth_2 : cX7_worth.data.toList.drop 80 = dktX7_worth_2 := dk_seg dksX7_worth_1 60 rfl rfl
theorem dksX7_worth_3 : cX7_worth.data.toList.drop 104 = dktX7_worth_3 := dk_seg dksX7_worth_2 24 rfl rfl
theorem dksX7_worth_4 : cX7_worth.data.toList.drop 128 = dktX7_worth_4 := dk_seg dksX7_worth_3 24 rfl rfl
theorem dX7_worth_0 : decode cX7_worth 0 = .ok (.aload_n 0, 1) := dk_42 (dk_at dksX7_worth_0 0 rfl rfl)
theorem dX7_worth_1 : decode cX7_worth 1 = .ok (.getfield 13, 3) := dk_180 0 13 (dk_at dksX7_worth_0 1 rfl rfl)
theorem dX7_worth_4 : decode cX7_worth 4 = .ok (.invokevirtual 20, 3) := dk_182 0 20 (dk_at dksX7_worth_0 4 rfl rfl)
theorem dX7_worth_7 : decode cX7_worth 7 = .ok (.istore_n 1, 1) := dk_60 (dk_at dksX7_worth_0 7 rfl rfl)
theorem dX7_worth_8 : decode cX7_worth 8 = .ok (.aload_n 0, 1) := dk_42 (dk_at dksX7_worth_0 8 rfl rfl)
theorem dX7_worth_9 : decode cX7_worth 9 = .ok (.getfield 17, 3) := dk_180 0 17 (dk_at dksX7_worth_0 9 rfl rfl)
theorem dX7_worth_12 : decode cX7_worth 12 = .ok (.invokevirtual 20, 3) := dk_182 0 20 (dk_at dksX7_worth_0 12 rfl rfl)
theorem dX7_worth_15 : decode cX7_worth 15 = .ok (.istore_n 2, 1) := dk_61 (dk_at dksX7_worth_0 15 rfl rfl)
theorem dX7_worth_16 : decode cX7_worth 16 = .ok (.aload_n 0, 1) := dk_42 (dk_at dksX7_worth_0 16 rfl rfl)
theorem dX7_worth_17 : decode cX7_worth 17 = .ok (.getfield 7, 3) := dk_180 0 7 (dk_at dksX7_worth_0 17 rfl rfl)
theorem dX7_worth_20 : decode cX7_worth 20 = .ok (.lookupswitch 108 #[(38, 94), (42, 68), (43, 60), (45, 64), (60, 72), (61, 83)], 60) := by decide +kernel
theorem dX7_worth_80 : decode cX7_worth 80 = .ok (.iload_n 1, 1) := dk_27 (dk_at dksX7_worth_2 0 rfl rfl)
theorem dX7_worth_81 : decode cX7_worth 81 = .ok (.iload_n 2, 1) := dk_28 (dk_at dksX7_worth_2 1 rfl rfl)
theorem dX7_worth_82 : decode cX7_worth 82 = .ok (.iadd, 1) := dk_96 (dk_at dksX7_worth_2 2 rfl rfl)
theorem dX7_worth_83 : decode cX7_worth 83 = .ok (.ireturn, 1) := dk_172 (dk_at dksX7_worth_2 3 rfl rfl)
theorem dX7_worth_84 : decode cX7_worth 84 = .ok (.iload_n 1, 1) := dk_27 (dk_at dksX7_worth_2 4 rfl rfl)
theorem dX7_worth_85 : decode cX7_worth 85 = .ok (.iload_n 2, 1) := dk_28 (dk_at dksX7_worth_2 5 rfl rfl)
theorem dX7_worth_86 : decode cX7_worth 86 = .ok (.isub, 1) := dk_100 (dk_at dksX7_worth_2 6 rfl rfl)
theorem dX7_worth_87 : decode cX7_worth 87 = .ok (.ireturn, 1) := dk_172 (dk_at dksX7_worth_2 7 rfl rfl)
theorem dX7_worth_88 : decode cX7_worth 88 = .ok (.iload_n 1, 1) := dk_27 (dk_at dksX7_worth_2 8 rfl rfl)
theorem dX7_worth_89 : decode cX7_worth 89 = .ok (.iload_n 2, 1) := dk_28 (dk_at dksX7_worth_2 9 rfl rfl)
theorem dX7_worth_90 : decode cX7_worth 90 = .ok (.imul, 1) := dk_104 (dk_at dksX7_worth_2 10 rfl rfl)
theorem dX7_worth_91 : decode cX7_worth 91 = .ok (.ireturn, 1) := dk_172 (dk_at dksX7_worth_2 11 rfl rfl)
theorem dX7_worth_92 : decode cX7_worth 92 = .ok (.iload_n 1, 1) := dk_27 (dk_at dksX7_worth_2 12 rfl rfl)
theorem dX7_worth_93 : decode cX7_worth 93 = .ok (.iload_n 2, 1) := dk_28 (dk_at dksX7_worth_2 13 rfl rfl)
theorem dX7_worth_94 : decode cX7_worth 94 = .ok (.if_icmp .ge 7, 3) := dk_162 0 7 (dk_at dksX7_worth_2 14 rfl rfl)
theorem dX7_worth_97 : decode cX7_worth 97 = .ok (.iconst 1, 1) := dk_4 (dk_at dksX7_worth_2 17 rfl rfl)
theorem dX7_worth_98 : decode cX7_worth 98 = .ok (.goto 4, 3) := dk_167 0 4 (dk_at dksX7_worth_2 18 rfl rfl)
theorem dX7_worth_101 : decode cX7_worth 101 = .ok (.iconst 0, 1) := dk_3 (dk_at dksX7_worth_2 21 rfl rfl)
theorem dX7_worth_102 : decode cX7_worth 102 = .ok (.ireturn, 1) := dk_172 (dk_at dksX7_worth_2 22 rfl rfl)
theorem dX7_worth_103 : decode cX7_worth 103 = .ok (.iload_n 1, 1) := dk_27 (dk_at dksX7_worth_2 23 rfl rfl)
theorem dX7_worth_104 : decode cX7_worth 104 = .ok (.iload_n 2, 1) := dk_28 (dk_at dksX7_worth_3 0 rfl rfl)
theorem dX7_worth_105 : decode cX7_worth 105 = .ok (.if_icmp .ne 7, 3) := dk_160 0 7 (dk_at dksX7_worth_3 1 rfl rfl)
theorem dX7_worth_108 : decode cX7_worth 108 = .ok (.iconst 1, 1) := dk_4 (dk_at dksX7_worth_3 4 rfl rfl)
theorem dX7_worth_109 : decode cX7_worth 109 = .ok (.goto 4, 3) := dk_167 0 4 (dk_at dksX7_worth_3 5 rfl rfl)
theorem dX7_worth_112 : decode cX7_worth 112 = .ok (.iconst 0, 1) := dk_3 (dk_at dksX7_worth_3 8 rfl rfl)
theorem dX7_worth_113 : decode cX7_worth 113 = .ok (.ireturn, 1) := dk_172 (dk_at dksX7_worth_3 9 rfl rfl)
theorem dX7_worth_114 : decode cX7_worth 114 = .ok (.iload_n 1, 1) := dk_27 (dk_at dksX7_worth_3 10 rfl rfl)
theorem dX7_worth_115 : decode cX7_worth 115 = .ok (.ifCond .eq 11, 3) := dk_153 0 11 (dk_at dksX7_worth_3 11 rfl rfl)
theorem dX7_worth_118 : decode cX7_worth 118 = .ok (.iload_n 2, 1) := dk_28 (dk_at dksX7_worth_3 14 rfl rfl)
theorem dX7_worth_119 : decode cX7_worth 119 = .ok (.ifCond .eq 7, 3) := dk_153 0 7 (dk_at dksX7_worth_3 15 rfl rfl)
theorem dX7_worth_122 : decode cX7_worth 122 = .ok (.iconst 1, 1) := dk_4 (dk_at dksX7_worth_3 18 rfl rfl)
theorem dX7_worth_123 : decode cX7_worth 123 = .ok (.goto 4, 3) := dk_167 0 4 (dk_at dksX7_worth_3 19 rfl rfl)
theorem dX7_worth_126 : decode cX7_worth 126 = .ok (.iconst 0, 1) := dk_3 (dk_at dksX7_worth_3 22 rfl rfl)
theorem dX7_worth_127 : decode cX7_worth 127 = .ok (.ireturn, 1) := dk_172 (dk_at dksX7_worth_3 23 rfl rfl)
theorem dX7_worth_128 : decode cX7_worth 128 = .ok (.iload_n 1, 1) := dk_27 (dk_at dksX7_worth_4 0 rfl rfl)
theorem dX7_worth_129 : decode cX7_worth 129 = .ok (.ifCond .ne 7, 3) := dk_154 0 7 (dk_at dksX7_worth_4 1 rfl rfl)
theorem dX7_worth_132 : decode cX7_worth 132 = .ok (.iload_n 2, 1) := dk_28 (dk_at dksX7_worth_4 4 rfl rfl)
theorem dX7_worth_133 : decode cX7_worth 133 = .ok (.ifCond .eq 7, 3) := dk_153 0 7 (dk_at dksX7_worth_4 5 rfl rfl)
theorem dX7_worth_136 : decode cX7_worth 136 = .ok (.iconst 1, 1) := dk_4 (dk_at dksX7_worth_4 8 rfl rfl)
theorem dX7_worth_137 : decode cX7_worth 137 = .ok (.goto 4, 3) := dk_167 0 4 (dk_at dksX7_worth_4 9 rfl rfl)
theorem dX7_worth_140 : decode cX7_worth 140 = .ok (.iconst 0, 1) := dk_3 (dk_at dksX7_worth_4 12 rfl rfl)
theorem dX7_worth_141 : decode cX7_worth 141 = .ok (.ireturn, 1) := dk_172 (dk_at dksX7_worth_4 13 rfl rfl)
abbrev cX7_init : ByteArray := prog_14_method_1_code
def yX7_init : MethodName := ⟨RX7, "<init>", "(ILPaneKeepsWeather$Node;LPaneKeepsWeather$Node;)V"⟩
def dkwX7_init_0 : List UInt8 := [42, 183, 0, 1, 42, 27, 181, 0, 7, 42, 44, 181, 0, 13, 42, 45, 181, 0, 17, 177]
abbrev dktX7_init_0 : List UInt8 := dkwX7_init_0 ++ []
theorem dksX7_init_0 : cX7_init.data.toList.drop 0 = dktX7_init_0 := by decide +kernel
theorem dX7_init_0 : decode cX7_init 0 = .ok (.aload_n 0, 1) := dk_42 (dk_at dksX7_init_0 0 rfl rfl)
theorem dX7_init_1 : decode cX7_init 1 = .ok (.invokespecial 1, 3) := dk_183 0 1 (dk_at dksX7_init_0 1 rfl rfl)
theorem dX7_init_4 : decode cX7_init 4 = .ok (.aload_n 0, 1) := dk_42 (dk_at dksX7_init_0 4 rfl rfl)
theorem dX7_init_5 : decode cX7_init 5 = .ok (.iload_n 1, 1) := dk_27 (dk_at dksX7_init_0 5 rfl rfl)
theorem dX7_init_6 : decode cX7_init 6 = .ok (.putfield 7, 3) := dk_181 0 7 (dk_at dksX7_init_0 6 rfl rfl)
theorem dX7_init_9 : decode cX7_init 9 = .ok (.aload_n 0, 1) := dk_42 (dk_at dksX7_init_0 9 rfl rfl)
theorem dX7_init_10 : decode cX7_init 10 = .ok (.aload_n 2, 1) := dk_44 (dk_at dksX7_init_0 10 rfl rfl)
theorem dX7_init_11 : decode cX7_init 11 = .ok (.putfield 13, 3) := dk_181 0 13 (dk_at dksX7_init_0 11 rfl rfl)
theorem dX7_init_14 : decode cX7_init 14 = .ok (.aload_n 0, 1) := dk_42 (dk_at dksX7_init_0 14 rfl rfl)
theorem dX7_init_15 : decode cX7_init 15 = .ok (.aload_n 3, 1) := dk_45 (dk_at dksX7_init_0 15 rfl rfl)
theorem dX7_init_16 : decode cX7_init 16 = .ok (.putfield 17, 3) := dk_181 0 17 (dk_at dksX7_init_0 16 rfl rfl)
theorem dX7_init_19 : decode cX7_init 19 = .ok (.return_, 1) := dk_177 (dk_at dksX7_init_0 19 rfl rfl)
theorem q117 : (Jvm.Cond.initialized "PaneKeepsWeather$Two") ∈ lw_all := lw_g (lw_at lw_m1 17 rfl) rfl
theorem q303 : (Jvm.Cond.instanceMethod ({ cls := "PaneKeepsWeather$Two", name := "worth", desc := "()I" } : Jvm.MethodName)) ∈ lw_all := lw_g (lw_at lw_m1 203 rfl) rfl
theorem q304 : (Jvm.Cond.code ({ cls := "PaneKeepsWeather$Two", name := "worth", desc := "()I" } : Jvm.MethodName) prog_14_method_2_code (3 : Nat) (Option.some Jvm.ClassFile.FieldType.int)) ∈ lw_all := lw_g (lw_at lw_m1 204 rfl) rfl
theorem q305 : (Jvm.Cond.methodLink "PaneKeepsWeather$Two" (20 : Nat) ({ cls := "PaneKeepsWeather$Node", name := "worth", desc := "()I" } : Jvm.MethodName)) ∈ lw_all := lw_g (lw_at lw_m1 205 rfl) rfl
theorem q306 : (Jvm.Cond.selects "PaneKeepsWeather$Two" ({ cls := "PaneKeepsWeather$Node", name := "worth", desc := "()I" } : Jvm.MethodName) ({ cls := "PaneKeepsWeather$Two", name := "worth", desc := "()I" } : Jvm.MethodName)) ∈ lw_all := lw_g (lw_at lw_m1 206 rfl) rfl
theorem q670 : (Jvm.Cond.instantiable "PaneKeepsWeather$Two" (3 : Nat)) ∈ lw_all := lw_g (lw_at lw_m3 90 rfl) rfl
theorem q672 : (Jvm.Cond.instanceMethod ({ cls := "PaneKeepsWeather$Two", name := "<init>", desc := "(ILPaneKeepsWeather$Node;LPaneKeepsWeather$Node;)V" } : Jvm.MethodName)) ∈ lw_all := lw_g (lw_at lw_m3 92 rfl) rfl
theorem q673 : (Jvm.Cond.code ({ cls := "PaneKeepsWeather$Two", name := "<init>", desc := "(ILPaneKeepsWeather$Node;LPaneKeepsWeather$Node;)V" } : Jvm.MethodName) prog_14_method_1_code (4 : Nat) (Option.none : Option Jvm.ClassFile.FieldType)) ∈ lw_all := lw_g (lw_at lw_m3 93 rfl) rfl
theorem q674 : (Jvm.Cond.methodLinkNest "PaneKeepsWeather$Two" (1 : Nat) ({ cls := "PaneKeepsWeather$Node", name := "<init>", desc := "()V" } : Jvm.MethodName) "PaneKeepsWeather") ∈ lw_tbl := lw_at lw_m3 94 rfl
theorem q675 : (Jvm.Cond.fieldLink "PaneKeepsWeather$Two" (7 : Nat) "PaneKeepsWeather$Two" "sign" "I") ∈ lw_all := lw_g (lw_at lw_m3 95 rfl) rfl
theorem q676 : (Jvm.Cond.fieldLink "PaneKeepsWeather$Two" (13 : Nat) "PaneKeepsWeather$Two" "a" "LPaneKeepsWeather$Node;") ∈ lw_all := lw_g (lw_at lw_m3 96 rfl) rfl
theorem q677 : (Jvm.Cond.fieldLink "PaneKeepsWeather$Two" (17 : Nat) "PaneKeepsWeather$Two" "b" "LPaneKeepsWeather$Node;") ∈ lw_all := lw_g (lw_at lw_m3 97 rfl) rfl
theorem q678 : (Jvm.Cond.laysFinal "PaneKeepsWeather$Two" "PaneKeepsWeather$Two" "sign" "I") ∈ lw_all := lw_g (lw_at lw_m3 98 rfl) rfl
theorem q679 : (Jvm.Cond.soleField "PaneKeepsWeather$Two" "sign") ∈ lw_all := lw_g (lw_at lw_m3 99 rfl) rfl
theorem q680 : (Jvm.Cond.laysFinal "PaneKeepsWeather$Two" "PaneKeepsWeather$Two" "a" "LPaneKeepsWeather$Node;") ∈ lw_all := lw_g (lw_at lw_m3 100 rfl) rfl
theorem q681 : (Jvm.Cond.soleField "PaneKeepsWeather$Two" "a") ∈ lw_all := lw_g (lw_at lw_m3 101 rfl) rfl
theorem q682 : (Jvm.Cond.laysFinal "PaneKeepsWeather$Two" "PaneKeepsWeather$Two" "b" "LPaneKeepsWeather$Node;") ∈ lw_all := lw_g (lw_at lw_m3 102 rfl) rfl
theorem q683 : (Jvm.Cond.soleField "PaneKeepsWeather$Two" "b") ∈ lw_all := lw_g (lw_at lw_m3 103 rfl) rfl
theorem q684 : (Jvm.Cond.superclass "PaneKeepsWeather$Two" "PaneKeepsWeather$Node") ∈ lw_all := lw_g (lw_at lw_m3 104 rfl) rfl
theorem q1769 : (Jvm.Cond.castable "PaneKeepsWeather$Two" "PaneKeepsWeather$Node") ∈ lw_tbl := lw_at lw_m7 229 rfl
theorem in_X7 : ∀ w ∈ wsX70, w ∈ lw_all := lw_in wsX70 [678, 680, 682] (by decide +kernel) (by decide +kernel)
/-! PaneKeepsWeather$Pane -/
set_option maxRecDepth 100000
def RX9 : String := "PaneKeepsWeather$Pane"
def TX9 : u_T := fun k => match k with
  | 0 => ("PaneKeepsWeather$Pane", "number", "I", false)
  | 1 => ("PaneKeepsWeather$Pane", "day", "I", false)
  | 2 => ("PaneKeepsWeather$Pane", "wet", "I", false)
  | 3 => ("PaneKeepsWeather$Pane", "opening", "I", false)
  | _ => ("PaneKeepsWeather$Pane", "broken", "Z", false)
def tyX9 : Nat → FieldType := fun k => match k with
  | 0 => .int
  | 1 => .int
  | 2 => .int
  | 3 => .int
  | _ => .boolean
abbrev wsX90 : List Cond := u_ws RX9 TX9 5
theorem nmX9 : ∀ a, a < 5 → ∀ b, b < 5 → a ≠ b → (TX9 a).2.1 ≠ (TX9 b).2.1 := by decide +kernel
theorem tyX9_ok : ∀ k, k < 5 → parseFieldDescriptor (TX9 k).2.2.1 = some (tyX9 k) := by decide +kernel
abbrev cX9_init : ByteArray := prog_8_method_1_code
def yX9_init : MethodName := ⟨RX9, "<init>", "(II)V"⟩
def dkwX9_init_0 : List UInt8 := [42, 183, 0, 3, 42, 2, 181, 0, 9, 42, 27, 181, 0, 15, 42, 28, 181, 0, 18, 177]
abbrev dktX9_init_0 : List UInt8 := dkwX9_init_0 ++ []
theorem dksX9_init_0 : cX9_init.data.toList.drop 0 = dktX9_init_0 := by decide +kernel
theorem dX9_init_0 : decode cX9_init 0 = .ok (.aload_n 0, 1) := dk_42 (dk_at dksX9_init_0 0 rfl rfl)
theorem dX9_init_1 : decode cX9_init 1 = .ok (.invokespecial 3, 3) := dk_183 0 3 (dk_at dksX9_init_0 1 rfl rfl)
theorem dX9_init_4 : decode cX9_init 4 = .ok (.aload_n 0, 1) := dk_42 (dk_at dksX9_init_0 4 rfl rfl)
theorem dX9_init_5 : decode cX9_init 5 = .ok (.iconst (-1), 1) := dk_2 (dk_at dksX9_init_0 5 rfl rfl)
theorem dX9_init_6 : decode cX9_init 6 = .ok (.putfield 9, 3) := dk_181 0 9 (dk_at dksX9_init_0 6 rfl rfl)
theorem dX9_init_9 : decode cX9_init 9 = .ok (.aload_n 0, 1) := dk_42 (dk_at dksX9_init_0 9 rfl rfl)
theorem dX9_init_10 : decode cX9_init 10 = .ok (.iload_n 1, 1) := dk_27 (dk_at dksX9_init_0 10 rfl rfl)
theorem dX9_init_11 : decode cX9_init 11 = .ok (.putfield 15, 3) := dk_181 0 15 (dk_at dksX9_init_0 11 rfl rfl)
theorem dX9_init_14 : decode cX9_init 14 = .ok (.aload_n 0, 1) := dk_42 (dk_at dksX9_init_0 14 rfl rfl)
theorem dX9_init_15 : decode cX9_init 15 = .ok (.iload_n 2, 1) := dk_28 (dk_at dksX9_init_0 15 rfl rfl)
theorem dX9_init_16 : decode cX9_init 16 = .ok (.putfield 18, 3) := dk_181 0 18 (dk_at dksX9_init_0 16 rfl rfl)
theorem dX9_init_19 : decode cX9_init 19 = .ok (.return_, 1) := dk_177 (dk_at dksX9_init_0 19 rfl rfl)
abbrev cX9_light : ByteArray := prog_8_method_3_code
def yX9_light : MethodName := ⟨RX9, "light", "(II)I"⟩
theorem dX9_light_0 : decode cX9_light 0 = .ok (.iload_n 1, 1) := by decide +kernel
theorem dX9_light_1 : decode cX9_light 1 = .ok (.ireturn, 1) := by decide +kernel
abbrev cX9_kind : ByteArray := prog_8_method_2_code
def yX9_kind : MethodName := ⟨RX9, "kind", "()I"⟩
theorem dX9_kind_0 : decode cX9_kind 0 = .ok (.iconst 0, 1) := by decide +kernel
theorem dX9_kind_1 : decode cX9_kind 1 = .ok (.ireturn, 1) := by decide +kernel
abbrev cX9_costs : ByteArray := prog_8_method_4_code
def yX9_costs : MethodName := ⟨RX9, "costs", "(I)I"⟩
theorem dX9_costs_0 : decode cX9_costs 0 = .ok (.iload_n 1, 1) := by decide +kernel
theorem dX9_costs_1 : decode cX9_costs 1 = .ok (.ireturn, 1) := by decide +kernel
abbrev cX9_spills : ByteArray := prog_8_method_5_code
def yX9_spills : MethodName := ⟨RX9, "spills", "()I"⟩
theorem dX9_spills_0 : decode cX9_spills 0 = .ok (.iconst 0, 1) := by decide +kernel
theorem dX9_spills_1 : decode cX9_spills 1 = .ok (.ireturn, 1) := by decide +kernel
abbrev cX9_like : ByteArray := prog_8_method_6_code
def yX9_like : MethodName := ⟨RX9, "like", "(LPaneKeepsWeather$Pane;)LPaneKeepsWeather$Pane;"⟩
def dkwX9_like_1 : List UInt8 := [42, 176]
abbrev dktX9_like_1 : List UInt8 := dkwX9_like_1 ++ []
def dkwX9_like_0 : List UInt8 := [42, 43, 180, 0, 21, 181, 0, 21, 42, 43, 180, 0, 9, 181, 0, 9, 42, 43, 180, 0, 24, 181, 0, 24]
abbrev dktX9_like_0 : List UInt8 := dkwX9_like_0 ++ dktX9_like_1
theorem dksX9_like_0 : cX9_like.data.toList.drop 0 = dktX9_like_0 := by decide +kernel
theorem dksX9_like_1 : cX9_like.data.toList.drop 24 = dktX9_like_1 := dk_seg dksX9_like_0 24 rfl rfl
theorem dX9_like_0 : decode cX9_like 0 = .ok (.aload_n 0, 1) := dk_42 (dk_at dksX9_like_0 0 rfl rfl)
theorem dX9_like_1 : decode cX9_like 1 = .ok (.aload_n 1, 1) := dk_43 (dk_at dksX9_like_0 1 rfl rfl)
theorem dX9_like_2 : decode cX9_like 2 = .ok (.getfield 21, 3) := dk_180 0 21 (dk_at dksX9_like_0 2 rfl rfl)
theorem dX9_like_5 : decode cX9_like 5 = .ok (.putfield 21, 3) := dk_181 0 21 (dk_at dksX9_like_0 5 rfl rfl)
theorem dX9_like_8 : decode cX9_like 8 = .ok (.aload_n 0, 1) := dk_42 (dk_at dksX9_like_0 8 rfl rfl)
theorem dX9_like_9 : decode cX9_like 9 = .ok (.aload_n 1, 1) := dk_43 (dk_at dksX9_like_0 9 rfl rfl)
theorem dX9_like_10 : decode cX9_like 10 = .ok (.getfield 9, 3) := dk_180 0 9 (dk_at dksX9_like_0 10 rfl rfl)
theorem dX9_like_13 : decode cX9_like 13 = .ok (.putfield 9, 3) := dk_181 0 9 (dk_at dksX9_like_0 13 rfl rfl)
theorem dX9_like_16 : decode cX9_like 16 = .ok (.aload_n 0, 1) := dk_42 (dk_at dksX9_like_0 16 rfl rfl)
theorem dX9_like_17 : decode cX9_like 17 = .ok (.aload_n 1, 1) := dk_43 (dk_at dksX9_like_0 17 rfl rfl)
theorem dX9_like_18 : decode cX9_like 18 = .ok (.getfield 24, 3) := dk_180 0 24 (dk_at dksX9_like_0 18 rfl rfl)
theorem dX9_like_21 : decode cX9_like 21 = .ok (.putfield 24, 3) := dk_181 0 24 (dk_at dksX9_like_0 21 rfl rfl)
theorem dX9_like_24 : decode cX9_like 24 = .ok (.aload_n 0, 1) := dk_42 (dk_at dksX9_like_1 0 rfl rfl)
theorem dX9_like_25 : decode cX9_like 25 = .ok (.areturn, 1) := dk_176 (dk_at dksX9_like_1 1 rfl rfl)
theorem q119 : (Jvm.Cond.initialized "PaneKeepsWeather$Pane") ∈ lw_all := lw_g (lw_at lw_m1 19 rfl) rfl
theorem q151 : (Jvm.Cond.instanceMethod ({ cls := "PaneKeepsWeather$Pane", name := "<init>", desc := "(II)V" } : Jvm.MethodName)) ∈ lw_all := lw_g (lw_at lw_m1 51 rfl) rfl
theorem q152 : (Jvm.Cond.code ({ cls := "PaneKeepsWeather$Pane", name := "<init>", desc := "(II)V" } : Jvm.MethodName) prog_8_method_1_code (3 : Nat) (Option.none : Option Jvm.ClassFile.FieldType)) ∈ lw_all := lw_g (lw_at lw_m1 52 rfl) rfl
theorem q153 : (Jvm.Cond.methodLink "PaneKeepsWeather$Pane" (3 : Nat) ({ cls := "java/lang/Object", name := "<init>", desc := "()V" } : Jvm.MethodName)) ∈ lw_all := lw_g (lw_at lw_m1 53 rfl) rfl
theorem q156 : (Jvm.Cond.fieldLink "PaneKeepsWeather$Pane" (15 : Nat) "PaneKeepsWeather$Pane" "number" "I") ∈ lw_all := lw_g (lw_at lw_m1 56 rfl) rfl
theorem q165 : (Jvm.Cond.fieldLink "PaneKeepsWeather$Pane" (18 : Nat) "PaneKeepsWeather$Pane" "day" "I") ∈ lw_all := lw_g (lw_at lw_m1 65 rfl) rfl
theorem q173 : (Jvm.Cond.fieldLink "PaneKeepsWeather$Pane" (21 : Nat) "PaneKeepsWeather$Pane" "wet" "I") ∈ lw_all := lw_g (lw_at lw_m1 73 rfl) rfl
theorem q175 : (Jvm.Cond.fieldLink "PaneKeepsWeather$Pane" (9 : Nat) "PaneKeepsWeather$Pane" "opening" "I") ∈ lw_all := lw_g (lw_at lw_m1 75 rfl) rfl
theorem q177 : (Jvm.Cond.fieldLink "PaneKeepsWeather$Pane" (24 : Nat) "PaneKeepsWeather$Pane" "broken" "Z") ∈ lw_all := lw_g (lw_at lw_m1 77 rfl) rfl
theorem q180 : (Jvm.Cond.soleField "PaneKeepsWeather$Pane" "number") ∈ lw_all := lw_g (lw_at lw_m1 80 rfl) rfl
theorem q182 : (Jvm.Cond.soleField "PaneKeepsWeather$Pane" "day") ∈ lw_all := lw_g (lw_at lw_m1 82 rfl) rfl
theorem q184 : (Jvm.Cond.soleField "PaneKeepsWeather$Pane" "wet") ∈ lw_all := lw_g (lw_at lw_m1 84 rfl) rfl
theorem q186 : (Jvm.Cond.soleField "PaneKeepsWeather$Pane" "opening") ∈ lw_all := lw_g (lw_at lw_m1 86 rfl) rfl
theorem q188 : (Jvm.Cond.soleField "PaneKeepsWeather$Pane" "broken") ∈ lw_all := lw_g (lw_at lw_m1 88 rfl) rfl
theorem q239 : (Jvm.Cond.instantiable "PaneKeepsWeather$Pane" (5 : Nat)) ∈ lw_all := lw_g (lw_at lw_m1 139 rfl) rfl
theorem q241 : (Jvm.Cond.lays "PaneKeepsWeather$Pane" "PaneKeepsWeather$Pane" "number" "I") ∈ lw_all := lw_g (lw_at lw_m1 141 rfl) rfl
theorem q242 : (Jvm.Cond.lays "PaneKeepsWeather$Pane" "PaneKeepsWeather$Pane" "day" "I") ∈ lw_all := lw_g (lw_at lw_m1 142 rfl) rfl
theorem q243 : (Jvm.Cond.lays "PaneKeepsWeather$Pane" "PaneKeepsWeather$Pane" "wet" "I") ∈ lw_all := lw_g (lw_at lw_m1 143 rfl) rfl
theorem q244 : (Jvm.Cond.lays "PaneKeepsWeather$Pane" "PaneKeepsWeather$Pane" "opening" "I") ∈ lw_all := lw_g (lw_at lw_m1 144 rfl) rfl
theorem q245 : (Jvm.Cond.lays "PaneKeepsWeather$Pane" "PaneKeepsWeather$Pane" "broken" "Z") ∈ lw_all := lw_g (lw_at lw_m1 145 rfl) rfl
theorem q246 : (Jvm.Cond.superclass "PaneKeepsWeather$Pane" "java/lang/Object") ∈ lw_all := lw_g (lw_at lw_m1 146 rfl) rfl
theorem q314 : (Jvm.Cond.instanceMethod ({ cls := "PaneKeepsWeather$Pane", name := "light", desc := "(II)I" } : Jvm.MethodName)) ∈ lw_all := lw_g (lw_at lw_m1 214 rfl) rfl
theorem q315 : (Jvm.Cond.selects "PaneKeepsWeather$Pane" ({ cls := "PaneKeepsWeather$Pane", name := "light", desc := "(II)I" } : Jvm.MethodName) ({ cls := "PaneKeepsWeather$Pane", name := "light", desc := "(II)I" } : Jvm.MethodName)) ∈ lw_all := lw_g (lw_at lw_m1 215 rfl) rfl
theorem q316 : (Jvm.Cond.sameMethod "PaneKeepsWeather$Pane" "PaneKeepsWeather$Pane" "light" "(II)I") ∈ lw_all := lw_g (lw_at lw_m1 216 rfl) rfl
theorem q321 : (Jvm.Cond.code ({ cls := "PaneKeepsWeather$Pane", name := "light", desc := "(II)I" } : Jvm.MethodName) prog_8_method_3_code (3 : Nat) (Option.some Jvm.ClassFile.FieldType.int)) ∈ lw_all := lw_g (lw_at lw_m1 221 rfl) rfl
theorem q350 : (Jvm.Cond.instanceMethod ({ cls := "PaneKeepsWeather$Pane", name := "kind", desc := "()I" } : Jvm.MethodName)) ∈ lw_all := lw_g (lw_at lw_m2 10 rfl) rfl
theorem q351 : (Jvm.Cond.selects "PaneKeepsWeather$Pane" ({ cls := "PaneKeepsWeather$Pane", name := "kind", desc := "()I" } : Jvm.MethodName) ({ cls := "PaneKeepsWeather$Pane", name := "kind", desc := "()I" } : Jvm.MethodName)) ∈ lw_all := lw_g (lw_at lw_m2 11 rfl) rfl
theorem q352 : (Jvm.Cond.sameMethod "PaneKeepsWeather$Pane" "PaneKeepsWeather$Pane" "kind" "()I") ∈ lw_all := lw_g (lw_at lw_m2 12 rfl) rfl
theorem q357 : (Jvm.Cond.code ({ cls := "PaneKeepsWeather$Pane", name := "kind", desc := "()I" } : Jvm.MethodName) prog_8_method_2_code (1 : Nat) (Option.some Jvm.ClassFile.FieldType.int)) ∈ lw_all := lw_g (lw_at lw_m2 17 rfl) rfl
theorem q379 : (Jvm.Cond.instanceMethod ({ cls := "PaneKeepsWeather$Pane", name := "costs", desc := "(I)I" } : Jvm.MethodName)) ∈ lw_all := lw_g (lw_at lw_m2 39 rfl) rfl
theorem q380 : (Jvm.Cond.selects "PaneKeepsWeather$Pane" ({ cls := "PaneKeepsWeather$Pane", name := "costs", desc := "(I)I" } : Jvm.MethodName) ({ cls := "PaneKeepsWeather$Pane", name := "costs", desc := "(I)I" } : Jvm.MethodName)) ∈ lw_all := lw_g (lw_at lw_m2 40 rfl) rfl
theorem q381 : (Jvm.Cond.sameMethod "PaneKeepsWeather$Pane" "PaneKeepsWeather$Pane" "costs" "(I)I") ∈ lw_all := lw_g (lw_at lw_m2 41 rfl) rfl
theorem q387 : (Jvm.Cond.code ({ cls := "PaneKeepsWeather$Pane", name := "costs", desc := "(I)I" } : Jvm.MethodName) prog_8_method_4_code (2 : Nat) (Option.some Jvm.ClassFile.FieldType.int)) ∈ lw_all := lw_g (lw_at lw_m2 47 rfl) rfl
theorem q401 : (Jvm.Cond.instanceMethod ({ cls := "PaneKeepsWeather$Pane", name := "spills", desc := "()I" } : Jvm.MethodName)) ∈ lw_all := lw_g (lw_at lw_m2 61 rfl) rfl
theorem q402 : (Jvm.Cond.selects "PaneKeepsWeather$Pane" ({ cls := "PaneKeepsWeather$Pane", name := "spills", desc := "()I" } : Jvm.MethodName) ({ cls := "PaneKeepsWeather$Pane", name := "spills", desc := "()I" } : Jvm.MethodName)) ∈ lw_all := lw_g (lw_at lw_m2 62 rfl) rfl
theorem q403 : (Jvm.Cond.sameMethod "PaneKeepsWeather$Pane" "PaneKeepsWeather$Pane" "spills" "()I") ∈ lw_all := lw_g (lw_at lw_m2 63 rfl) rfl
theorem q408 : (Jvm.Cond.code ({ cls := "PaneKeepsWeather$Pane", name := "spills", desc := "()I" } : Jvm.MethodName) prog_8_method_5_code (1 : Nat) (Option.some Jvm.ClassFile.FieldType.int)) ∈ lw_all := lw_g (lw_at lw_m2 68 rfl) rfl
theorem q1092 : (Jvm.Cond.instanceMethod ({ cls := "PaneKeepsWeather$Pane", name := "like", desc := "(LPaneKeepsWeather$Pane;)LPaneKeepsWeather$Pane;" } : Jvm.MethodName)) ∈ lw_all := lw_g (lw_at lw_m5 32 rfl) rfl
theorem q1093 : (Jvm.Cond.selects "PaneKeepsWeather$Pane" ({ cls := "PaneKeepsWeather$Pane", name := "like", desc := "(LPaneKeepsWeather$Pane;)LPaneKeepsWeather$Pane;" } : Jvm.MethodName) ({ cls := "PaneKeepsWeather$Pane", name := "like", desc := "(LPaneKeepsWeather$Pane;)LPaneKeepsWeather$Pane;" } : Jvm.MethodName)) ∈ lw_all := lw_g (lw_at lw_m5 33 rfl) rfl
theorem q1094 : (Jvm.Cond.sameMethod "PaneKeepsWeather$Pane" "PaneKeepsWeather$Pane" "like" "(LPaneKeepsWeather$Pane;)LPaneKeepsWeather$Pane;") ∈ lw_all := lw_g (lw_at lw_m5 34 rfl) rfl
theorem q1100 : (Jvm.Cond.code ({ cls := "PaneKeepsWeather$Pane", name := "like", desc := "(LPaneKeepsWeather$Pane;)LPaneKeepsWeather$Pane;" } : Jvm.MethodName) prog_8_method_6_code (2 : Nat) (Option.some (Jvm.ClassFile.FieldType.object "PaneKeepsWeather$Pane"))) ∈ lw_all := lw_g (lw_at lw_m5 40 rfl) rfl
theorem in_X9 : ∀ w ∈ wsX90, w ∈ lw_all := lw_in wsX90 [241, 242, 243, 244, 245] (by decide +kernel) (by decide +kernel)
/-! PaneKeepsWeather$Storm -/
set_option maxRecDepth 100000
def RX10 : String := "PaneKeepsWeather$Storm"
def TX10 : u_T := fun k => match k with
  | 0 => ("PaneKeepsWeather$Pane", "number", "I", false)
  | 1 => ("PaneKeepsWeather$Pane", "day", "I", false)
  | 2 => ("PaneKeepsWeather$Pane", "wet", "I", false)
  | 3 => ("PaneKeepsWeather$Pane", "opening", "I", false)
  | _ => ("PaneKeepsWeather$Pane", "broken", "Z", false)
def tyX10 : Nat → FieldType := fun k => match k with
  | 0 => .int
  | 1 => .int
  | 2 => .int
  | 3 => .int
  | _ => .boolean
abbrev wsX100 : List Cond := u_ws RX10 TX10 5
theorem nmX10 : ∀ a, a < 5 → ∀ b, b < 5 → a ≠ b → (TX10 a).2.1 ≠ (TX10 b).2.1 := by decide +kernel
theorem tyX10_ok : ∀ k, k < 5 → parseFieldDescriptor (TX10 k).2.2.1 = some (tyX10 k) := by decide +kernel
abbrev cX10_init : ByteArray := prog_11_method_1_code
def yX10_init : MethodName := ⟨RX10, "<init>", "(II)V"⟩
def dkwX10_init_0 : List UInt8 := [42, 27, 28, 183, 0, 1, 177]
abbrev dktX10_init_0 : List UInt8 := dkwX10_init_0 ++ []
theorem dksX10_init_0 : cX10_init.data.toList.drop 0 = dktX10_init_0 := by decide +kernel
theorem dX10_init_0 : decode cX10_init 0 = .ok (.aload_n 0, 1) := dk_42 (dk_at dksX10_init_0 0 rfl rfl)
theorem dX10_init_1 : decode cX10_init 1 = .ok (.iload_n 1, 1) := dk_27 (dk_at dksX10_init_0 1 rfl rfl)
theorem dX10_init_2 : decode cX10_init 2 = .ok (.iload_n 2, 1) := dk_28 (dk_at dksX10_init_0 2 rfl rfl)
theorem dX10_init_3 : decode cX10_init 3 = .ok (.invokespecial 1, 3) := dk_183 0 1 (dk_at dksX10_init_0 3 rfl rfl)
theorem dX10_init_6 : decode cX10_init 6 = .ok (.return_, 1) := dk_177 (dk_at dksX10_init_0 6 rfl rfl)
abbrev cX10_light : ByteArray := prog_11_method_3_code
def yX10_light : MethodName := ⟨RX10, "light", "(II)I"⟩
def dkwX10_light_0 : List UInt8 := [42, 27, 28, 183, 0, 11, 5, 108, 172]
abbrev dktX10_light_0 : List UInt8 := dkwX10_light_0 ++ []
theorem dksX10_light_0 : cX10_light.data.toList.drop 0 = dktX10_light_0 := by decide +kernel
theorem dX10_light_0 : decode cX10_light 0 = .ok (.aload_n 0, 1) := dk_42 (dk_at dksX10_light_0 0 rfl rfl)
theorem dX10_light_1 : decode cX10_light 1 = .ok (.iload_n 1, 1) := dk_27 (dk_at dksX10_light_0 1 rfl rfl)
theorem dX10_light_2 : decode cX10_light 2 = .ok (.iload_n 2, 1) := dk_28 (dk_at dksX10_light_0 2 rfl rfl)
theorem dX10_light_3 : decode cX10_light 3 = .ok (.invokespecial 11, 3) := dk_183 0 11 (dk_at dksX10_light_0 3 rfl rfl)
theorem dX10_light_6 : decode cX10_light 6 = .ok (.iconst 2, 1) := dk_5 (dk_at dksX10_light_0 6 rfl rfl)
theorem dX10_light_7 : decode cX10_light 7 = .ok (.idiv, 1) := dk_108 (dk_at dksX10_light_0 7 rfl rfl)
theorem dX10_light_8 : decode cX10_light 8 = .ok (.ireturn, 1) := dk_172 (dk_at dksX10_light_0 8 rfl rfl)
abbrev cX10_kind : ByteArray := prog_11_method_2_code
def yX10_kind : MethodName := ⟨RX10, "kind", "()I"⟩
def dkwX10_kind_0 : List UInt8 := [42, 183, 0, 7, 4, 96, 172]
abbrev dktX10_kind_0 : List UInt8 := dkwX10_kind_0 ++ []
theorem dksX10_kind_0 : cX10_kind.data.toList.drop 0 = dktX10_kind_0 := by decide +kernel
theorem dX10_kind_0 : decode cX10_kind 0 = .ok (.aload_n 0, 1) := dk_42 (dk_at dksX10_kind_0 0 rfl rfl)
theorem dX10_kind_1 : decode cX10_kind 1 = .ok (.invokespecial 7, 3) := dk_183 0 7 (dk_at dksX10_kind_0 1 rfl rfl)
theorem dX10_kind_4 : decode cX10_kind 4 = .ok (.iconst 1, 1) := dk_4 (dk_at dksX10_kind_0 4 rfl rfl)
theorem dX10_kind_5 : decode cX10_kind 5 = .ok (.iadd, 1) := dk_96 (dk_at dksX10_kind_0 5 rfl rfl)
theorem dX10_kind_6 : decode cX10_kind 6 = .ok (.ireturn, 1) := dk_172 (dk_at dksX10_kind_0 6 rfl rfl)
abbrev cX10_costs : ByteArray := prog_11_method_4_code
def yX10_costs : MethodName := ⟨RX10, "costs", "(I)I"⟩
def dkwX10_costs_0 : List UInt8 := [42, 27, 183, 0, 15, 5, 108, 172]
abbrev dktX10_costs_0 : List UInt8 := dkwX10_costs_0 ++ []
theorem dksX10_costs_0 : cX10_costs.data.toList.drop 0 = dktX10_costs_0 := by decide +kernel
theorem dX10_costs_0 : decode cX10_costs 0 = .ok (.aload_n 0, 1) := dk_42 (dk_at dksX10_costs_0 0 rfl rfl)
theorem dX10_costs_1 : decode cX10_costs 1 = .ok (.iload_n 1, 1) := dk_27 (dk_at dksX10_costs_0 1 rfl rfl)
theorem dX10_costs_2 : decode cX10_costs 2 = .ok (.invokespecial 15, 3) := dk_183 0 15 (dk_at dksX10_costs_0 2 rfl rfl)
theorem dX10_costs_5 : decode cX10_costs 5 = .ok (.iconst 2, 1) := dk_5 (dk_at dksX10_costs_0 5 rfl rfl)
theorem dX10_costs_6 : decode cX10_costs 6 = .ok (.idiv, 1) := dk_108 (dk_at dksX10_costs_0 6 rfl rfl)
theorem dX10_costs_7 : decode cX10_costs 7 = .ok (.ireturn, 1) := dk_172 (dk_at dksX10_costs_0 7 rfl rfl)
abbrev cX10_spills : ByteArray := prog_11_method_5_code
def yX10_spills : MethodName := ⟨RX10, "spills", "()I"⟩
def dkwX10_spills_0 : List UInt8 := [42, 183, 0, 19, 4, 96, 42, 180, 0, 22, 6, 108, 96, 172]
abbrev dktX10_spills_0 : List UInt8 := dkwX10_spills_0 ++ []
theorem dksX10_spills_0 : cX10_spills.data.toList.drop 0 = dktX10_spills_0 := by decide +kernel
theorem dX10_spills_0 : decode cX10_spills 0 = .ok (.aload_n 0, 1) := dk_42 (dk_at dksX10_spills_0 0 rfl rfl)
theorem dX10_spills_1 : decode cX10_spills 1 = .ok (.invokespecial 19, 3) := dk_183 0 19 (dk_at dksX10_spills_0 1 rfl rfl)
theorem dX10_spills_4 : decode cX10_spills 4 = .ok (.iconst 1, 1) := dk_4 (dk_at dksX10_spills_0 4 rfl rfl)
theorem dX10_spills_5 : decode cX10_spills 5 = .ok (.iadd, 1) := dk_96 (dk_at dksX10_spills_0 5 rfl rfl)
theorem dX10_spills_6 : decode cX10_spills 6 = .ok (.aload_n 0, 1) := dk_42 (dk_at dksX10_spills_0 6 rfl rfl)
theorem dX10_spills_7 : decode cX10_spills 7 = .ok (.getfield 22, 3) := dk_180 0 22 (dk_at dksX10_spills_0 7 rfl rfl)
theorem dX10_spills_10 : decode cX10_spills 10 = .ok (.iconst 3, 1) := dk_6 (dk_at dksX10_spills_0 10 rfl rfl)
theorem dX10_spills_11 : decode cX10_spills 11 = .ok (.idiv, 1) := dk_108 (dk_at dksX10_spills_0 11 rfl rfl)
theorem dX10_spills_12 : decode cX10_spills 12 = .ok (.iadd, 1) := dk_96 (dk_at dksX10_spills_0 12 rfl rfl)
theorem dX10_spills_13 : decode cX10_spills 13 = .ok (.ireturn, 1) := dk_172 (dk_at dksX10_spills_0 13 rfl rfl)
theorem q120 : (Jvm.Cond.initialized "PaneKeepsWeather$Storm") ∈ lw_all := lw_g (lw_at lw_m1 20 rfl) rfl
theorem q146 : (Jvm.Cond.instantiable "PaneKeepsWeather$Storm" (5 : Nat)) ∈ lw_all := lw_g (lw_at lw_m1 46 rfl) rfl
theorem q148 : (Jvm.Cond.instanceMethod ({ cls := "PaneKeepsWeather$Storm", name := "<init>", desc := "(II)V" } : Jvm.MethodName)) ∈ lw_all := lw_g (lw_at lw_m1 48 rfl) rfl
theorem q149 : (Jvm.Cond.code ({ cls := "PaneKeepsWeather$Storm", name := "<init>", desc := "(II)V" } : Jvm.MethodName) prog_11_method_1_code (3 : Nat) (Option.none : Option Jvm.ClassFile.FieldType)) ∈ lw_all := lw_g (lw_at lw_m1 49 rfl) rfl
theorem q150 : (Jvm.Cond.methodLink "PaneKeepsWeather$Storm" (1 : Nat) ({ cls := "PaneKeepsWeather$Pane", name := "<init>", desc := "(II)V" } : Jvm.MethodName)) ∈ lw_all := lw_g (lw_at lw_m1 50 rfl) rfl
theorem q171 : (Jvm.Cond.fieldLink "PaneKeepsWeather$Storm" (22 : Nat) "PaneKeepsWeather$Storm" "wet" "I") ∈ lw_all := lw_g (lw_at lw_m1 71 rfl) rfl
theorem q172 : (Jvm.Cond.sameField "PaneKeepsWeather$Storm" "PaneKeepsWeather$Pane" "wet" "I") ∈ lw_all := lw_g (lw_at lw_m1 72 rfl) rfl
theorem q179 : (Jvm.Cond.lays "PaneKeepsWeather$Storm" "PaneKeepsWeather$Pane" "number" "I") ∈ lw_all := lw_g (lw_at lw_m1 79 rfl) rfl
theorem q181 : (Jvm.Cond.lays "PaneKeepsWeather$Storm" "PaneKeepsWeather$Pane" "day" "I") ∈ lw_all := lw_g (lw_at lw_m1 81 rfl) rfl
theorem q183 : (Jvm.Cond.lays "PaneKeepsWeather$Storm" "PaneKeepsWeather$Pane" "wet" "I") ∈ lw_all := lw_g (lw_at lw_m1 83 rfl) rfl
theorem q185 : (Jvm.Cond.lays "PaneKeepsWeather$Storm" "PaneKeepsWeather$Pane" "opening" "I") ∈ lw_all := lw_g (lw_at lw_m1 85 rfl) rfl
theorem q187 : (Jvm.Cond.lays "PaneKeepsWeather$Storm" "PaneKeepsWeather$Pane" "broken" "Z") ∈ lw_all := lw_g (lw_at lw_m1 87 rfl) rfl
theorem q189 : (Jvm.Cond.superclass "PaneKeepsWeather$Storm" "PaneKeepsWeather$Pane") ∈ lw_all := lw_g (lw_at lw_m1 89 rfl) rfl
theorem q333 : (Jvm.Cond.instanceMethod ({ cls := "PaneKeepsWeather$Storm", name := "light", desc := "(II)I" } : Jvm.MethodName)) ∈ lw_all := lw_g (lw_at lw_m1 233 rfl) rfl
theorem q334 : (Jvm.Cond.code ({ cls := "PaneKeepsWeather$Storm", name := "light", desc := "(II)I" } : Jvm.MethodName) prog_11_method_3_code (3 : Nat) (Option.some Jvm.ClassFile.FieldType.int)) ∈ lw_all := lw_g (lw_at lw_m1 234 rfl) rfl
theorem q335 : (Jvm.Cond.methodLink "PaneKeepsWeather$Storm" (11 : Nat) ({ cls := "PaneKeepsWeather$Pane", name := "light", desc := "(II)I" } : Jvm.MethodName)) ∈ lw_all := lw_g (lw_at lw_m1 235 rfl) rfl
theorem q336 : (Jvm.Cond.selects "PaneKeepsWeather$Storm" ({ cls := "PaneKeepsWeather$Pane", name := "light", desc := "(II)I" } : Jvm.MethodName) ({ cls := "PaneKeepsWeather$Storm", name := "light", desc := "(II)I" } : Jvm.MethodName)) ∈ lw_all := lw_g (lw_at lw_m1 236 rfl) rfl
theorem q366 : (Jvm.Cond.instanceMethod ({ cls := "PaneKeepsWeather$Storm", name := "kind", desc := "()I" } : Jvm.MethodName)) ∈ lw_all := lw_g (lw_at lw_m2 26 rfl) rfl
theorem q367 : (Jvm.Cond.code ({ cls := "PaneKeepsWeather$Storm", name := "kind", desc := "()I" } : Jvm.MethodName) prog_11_method_2_code (1 : Nat) (Option.some Jvm.ClassFile.FieldType.int)) ∈ lw_all := lw_g (lw_at lw_m2 27 rfl) rfl
theorem q368 : (Jvm.Cond.methodLink "PaneKeepsWeather$Storm" (7 : Nat) ({ cls := "PaneKeepsWeather$Pane", name := "kind", desc := "()I" } : Jvm.MethodName)) ∈ lw_all := lw_g (lw_at lw_m2 28 rfl) rfl
theorem q369 : (Jvm.Cond.selects "PaneKeepsWeather$Storm" ({ cls := "PaneKeepsWeather$Pane", name := "kind", desc := "()I" } : Jvm.MethodName) ({ cls := "PaneKeepsWeather$Storm", name := "kind", desc := "()I" } : Jvm.MethodName)) ∈ lw_all := lw_g (lw_at lw_m2 29 rfl) rfl
theorem q392 : (Jvm.Cond.instanceMethod ({ cls := "PaneKeepsWeather$Storm", name := "costs", desc := "(I)I" } : Jvm.MethodName)) ∈ lw_all := lw_g (lw_at lw_m2 52 rfl) rfl
theorem q393 : (Jvm.Cond.code ({ cls := "PaneKeepsWeather$Storm", name := "costs", desc := "(I)I" } : Jvm.MethodName) prog_11_method_4_code (2 : Nat) (Option.some Jvm.ClassFile.FieldType.int)) ∈ lw_all := lw_g (lw_at lw_m2 53 rfl) rfl
theorem q394 : (Jvm.Cond.methodLink "PaneKeepsWeather$Storm" (15 : Nat) ({ cls := "PaneKeepsWeather$Pane", name := "costs", desc := "(I)I" } : Jvm.MethodName)) ∈ lw_all := lw_g (lw_at lw_m2 54 rfl) rfl
theorem q395 : (Jvm.Cond.selects "PaneKeepsWeather$Storm" ({ cls := "PaneKeepsWeather$Pane", name := "costs", desc := "(I)I" } : Jvm.MethodName) ({ cls := "PaneKeepsWeather$Storm", name := "costs", desc := "(I)I" } : Jvm.MethodName)) ∈ lw_all := lw_g (lw_at lw_m2 55 rfl) rfl
theorem q414 : (Jvm.Cond.instanceMethod ({ cls := "PaneKeepsWeather$Storm", name := "spills", desc := "()I" } : Jvm.MethodName)) ∈ lw_all := lw_g (lw_at lw_m2 74 rfl) rfl
theorem q415 : (Jvm.Cond.code ({ cls := "PaneKeepsWeather$Storm", name := "spills", desc := "()I" } : Jvm.MethodName) prog_11_method_5_code (1 : Nat) (Option.some Jvm.ClassFile.FieldType.int)) ∈ lw_all := lw_g (lw_at lw_m2 75 rfl) rfl
theorem q416 : (Jvm.Cond.methodLink "PaneKeepsWeather$Storm" (19 : Nat) ({ cls := "PaneKeepsWeather$Pane", name := "spills", desc := "()I" } : Jvm.MethodName)) ∈ lw_all := lw_g (lw_at lw_m2 76 rfl) rfl
theorem q417 : (Jvm.Cond.selects "PaneKeepsWeather$Storm" ({ cls := "PaneKeepsWeather$Pane", name := "spills", desc := "()I" } : Jvm.MethodName) ({ cls := "PaneKeepsWeather$Storm", name := "spills", desc := "()I" } : Jvm.MethodName)) ∈ lw_all := lw_g (lw_at lw_m2 77 rfl) rfl
theorem q1098 : (Jvm.Cond.selects "PaneKeepsWeather$Storm" ({ cls := "PaneKeepsWeather$Pane", name := "like", desc := "(LPaneKeepsWeather$Pane;)LPaneKeepsWeather$Pane;" } : Jvm.MethodName) ({ cls := "PaneKeepsWeather$Pane", name := "like", desc := "(LPaneKeepsWeather$Pane;)LPaneKeepsWeather$Pane;" } : Jvm.MethodName)) ∈ lw_all := lw_g (lw_at lw_m5 38 rfl) rfl
theorem q1755 : (Jvm.Cond.sameMethod "PaneKeepsWeather$Storm" "PaneKeepsWeather$Storm" "light" "(II)I") ∈ lw_all := lw_g (lw_at lw_m7 215 rfl) rfl
theorem q1757 : (Jvm.Cond.sameMethod "PaneKeepsWeather$Storm" "PaneKeepsWeather$Storm" "kind" "()I") ∈ lw_all := lw_g (lw_at lw_m7 217 rfl) rfl
theorem q1759 : (Jvm.Cond.sameMethod "PaneKeepsWeather$Storm" "PaneKeepsWeather$Storm" "costs" "(I)I") ∈ lw_all := lw_g (lw_at lw_m7 219 rfl) rfl
theorem q1761 : (Jvm.Cond.sameMethod "PaneKeepsWeather$Storm" "PaneKeepsWeather$Storm" "spills" "()I") ∈ lw_all := lw_g (lw_at lw_m7 221 rfl) rfl
theorem q1770 : (Jvm.Cond.castable "PaneKeepsWeather$Storm" "PaneKeepsWeather$Pane") ∈ lw_tbl := lw_at lw_m7 230 rfl
theorem in_X10 : ∀ w ∈ wsX100, w ∈ lw_all := lw_in wsX100 [179, 181, 183, 185, 187] (by decide +kernel) (by decide +kernel)
/-! PaneKeepsWeather$Noon -/
set_option maxRecDepth 100000
def RX11 : String := "PaneKeepsWeather$Noon"
def TX11 : u_T := fun k => match k with
  | 0 => ("PaneKeepsWeather$Pane", "number", "I", false)
  | 1 => ("PaneKeepsWeather$Pane", "day", "I", false)
  | 2 => ("PaneKeepsWeather$Pane", "wet", "I", false)
  | 3 => ("PaneKeepsWeather$Pane", "opening", "I", false)
  | _ => ("PaneKeepsWeather$Pane", "broken", "Z", false)
def tyX11 : Nat → FieldType := fun k => match k with
  | 0 => .int
  | 1 => .int
  | 2 => .int
  | 3 => .int
  | _ => .boolean
abbrev wsX110 : List Cond := u_ws RX11 TX11 5
theorem nmX11 : ∀ a, a < 5 → ∀ b, b < 5 → a ≠ b → (TX11 a).2.1 ≠ (TX11 b).2.1 := by decide +kernel
theorem tyX11_ok : ∀ k, k < 5 → parseFieldDescriptor (TX11 k).2.2.1 = some (tyX11 k) := by decide +kernel
abbrev cX11_init : ByteArray := prog_6_method_1_code
def yX11_init : MethodName := ⟨RX11, "<init>", "(II)V"⟩
def dkwX11_init_0 : List UInt8 := [42, 27, 28, 183, 0, 1, 177]
abbrev dktX11_init_0 : List UInt8 := dkwX11_init_0 ++ []
theorem dksX11_init_0 : cX11_init.data.toList.drop 0 = dktX11_init_0 := by decide +kernel
theorem dX11_init_0 : decode cX11_init 0 = .ok (.aload_n 0, 1) := dk_42 (dk_at dksX11_init_0 0 rfl rfl)
theorem dX11_init_1 : decode cX11_init 1 = .ok (.iload_n 1, 1) := dk_27 (dk_at dksX11_init_0 1 rfl rfl)
theorem dX11_init_2 : decode cX11_init 2 = .ok (.iload_n 2, 1) := dk_28 (dk_at dksX11_init_0 2 rfl rfl)
theorem dX11_init_3 : decode cX11_init 3 = .ok (.invokespecial 1, 3) := dk_183 0 1 (dk_at dksX11_init_0 3 rfl rfl)
theorem dX11_init_6 : decode cX11_init 6 = .ok (.return_, 1) := dk_177 (dk_at dksX11_init_0 6 rfl rfl)
abbrev cX11_light : ByteArray := prog_6_method_3_code
def yX11_light : MethodName := ⟨RX11, "light", "(II)I"⟩
def dkwX11_light_1 : List UInt8 := [167, 0, 9, 42, 27, 28, 183, 0, 21, 172]
abbrev dktX11_light_1 : List UInt8 := dkwX11_light_1 ++ []
def dkwX11_light_0 : List UInt8 := [28, 133, 20, 0, 11, 20, 0, 13, 184, 0, 15, 153, 0, 14, 5, 42, 27, 28, 183, 0, 21, 104]
abbrev dktX11_light_0 : List UInt8 := dkwX11_light_0 ++ dktX11_light_1
theorem dksX11_light_0 : cX11_light.data.toList.drop 0 = dktX11_light_0 := by decide +kernel
theorem dksX11_light_1 : cX11_light.data.toList.drop 22 = dktX11_light_1 := dk_seg dksX11_light_0 22 rfl rfl
theorem dX11_light_0 : decode cX11_light 0 = .ok (.iload_n 2, 1) := dk_28 (dk_at dksX11_light_0 0 rfl rfl)
theorem dX11_light_1 : decode cX11_light 1 = .ok (.i2l, 1) := dk_133 (dk_at dksX11_light_0 1 rfl rfl)
theorem dX11_light_2 : decode cX11_light 2 = .ok (.ldc2_w 11, 3) := dk_20 0 11 (dk_at dksX11_light_0 2 rfl rfl)
theorem dX11_light_5 : decode cX11_light 5 = .ok (.ldc2_w 13, 3) := dk_20 0 13 (dk_at dksX11_light_0 5 rfl rfl)
theorem dX11_light_8 : decode cX11_light 8 = .ok (.invokestatic 15, 3) := dk_184 0 15 (dk_at dksX11_light_0 8 rfl rfl)
theorem dX11_light_11 : decode cX11_light 11 = .ok (.ifCond .eq 14, 3) := dk_153 0 14 (dk_at dksX11_light_0 11 rfl rfl)
theorem dX11_light_14 : decode cX11_light 14 = .ok (.iconst 2, 1) := dk_5 (dk_at dksX11_light_0 14 rfl rfl)
theorem dX11_light_15 : decode cX11_light 15 = .ok (.aload_n 0, 1) := dk_42 (dk_at dksX11_light_0 15 rfl rfl)
theorem dX11_light_16 : decode cX11_light 16 = .ok (.iload_n 1, 1) := dk_27 (dk_at dksX11_light_0 16 rfl rfl)
theorem dX11_light_17 : decode cX11_light 17 = .ok (.iload_n 2, 1) := dk_28 (dk_at dksX11_light_0 17 rfl rfl)
theorem dX11_light_18 : decode cX11_light 18 = .ok (.invokespecial 21, 3) := dk_183 0 21 (dk_at dksX11_light_0 18 rfl rfl)
theorem dX11_light_21 : decode cX11_light 21 = .ok (.imul, 1) := dk_104 (dk_at dksX11_light_0 21 rfl rfl)
theorem dX11_light_22 : decode cX11_light 22 = .ok (.goto 9, 3) := dk_167 0 9 (dk_at dksX11_light_1 0 rfl rfl)
theorem dX11_light_25 : decode cX11_light 25 = .ok (.aload_n 0, 1) := dk_42 (dk_at dksX11_light_1 3 rfl rfl)
theorem dX11_light_26 : decode cX11_light 26 = .ok (.iload_n 1, 1) := dk_27 (dk_at dksX11_light_1 4 rfl rfl)
theorem dX11_light_27 : decode cX11_light 27 = .ok (.iload_n 2, 1) := dk_28 (dk_at dksX11_light_1 5 rfl rfl)
theorem dX11_light_28 : decode cX11_light 28 = .ok (.invokespecial 21, 3) := dk_183 0 21 (dk_at dksX11_light_1 6 rfl rfl)
theorem dX11_light_31 : decode cX11_light 31 = .ok (.ireturn, 1) := dk_172 (dk_at dksX11_light_1 9 rfl rfl)
abbrev cX11_kind : ByteArray := prog_6_method_2_code
def yX11_kind : MethodName := ⟨RX11, "kind", "()I"⟩
def dkwX11_kind_0 : List UInt8 := [42, 183, 0, 7, 5, 96, 172]
abbrev dktX11_kind_0 : List UInt8 := dkwX11_kind_0 ++ []
theorem dksX11_kind_0 : cX11_kind.data.toList.drop 0 = dktX11_kind_0 := by decide +kernel
theorem dX11_kind_0 : decode cX11_kind 0 = .ok (.aload_n 0, 1) := dk_42 (dk_at dksX11_kind_0 0 rfl rfl)
theorem dX11_kind_1 : decode cX11_kind 1 = .ok (.invokespecial 7, 3) := dk_183 0 7 (dk_at dksX11_kind_0 1 rfl rfl)
theorem dX11_kind_4 : decode cX11_kind 4 = .ok (.iconst 2, 1) := dk_5 (dk_at dksX11_kind_0 4 rfl rfl)
theorem dX11_kind_5 : decode cX11_kind 5 = .ok (.iadd, 1) := dk_96 (dk_at dksX11_kind_0 5 rfl rfl)
theorem dX11_kind_6 : decode cX11_kind 6 = .ok (.ireturn, 1) := dk_172 (dk_at dksX11_kind_0 6 rfl rfl)
abbrev cX11_costs : ByteArray := prog_6_method_4_code
def yX11_costs : MethodName := ⟨RX11, "costs", "(I)I"⟩
def dkwX11_costs_0 : List UInt8 := [42, 27, 183, 0, 25, 42, 180, 0, 29, 96, 172]
abbrev dktX11_costs_0 : List UInt8 := dkwX11_costs_0 ++ []
theorem dksX11_costs_0 : cX11_costs.data.toList.drop 0 = dktX11_costs_0 := by decide +kernel
theorem dX11_costs_0 : decode cX11_costs 0 = .ok (.aload_n 0, 1) := dk_42 (dk_at dksX11_costs_0 0 rfl rfl)
theorem dX11_costs_1 : decode cX11_costs 1 = .ok (.iload_n 1, 1) := dk_27 (dk_at dksX11_costs_0 1 rfl rfl)
theorem dX11_costs_2 : decode cX11_costs 2 = .ok (.invokespecial 25, 3) := dk_183 0 25 (dk_at dksX11_costs_0 2 rfl rfl)
theorem dX11_costs_5 : decode cX11_costs 5 = .ok (.aload_n 0, 1) := dk_42 (dk_at dksX11_costs_0 5 rfl rfl)
theorem dX11_costs_6 : decode cX11_costs 6 = .ok (.getfield 29, 3) := dk_180 0 29 (dk_at dksX11_costs_0 6 rfl rfl)
theorem dX11_costs_9 : decode cX11_costs 9 = .ok (.iadd, 1) := dk_96 (dk_at dksX11_costs_0 9 rfl rfl)
theorem dX11_costs_10 : decode cX11_costs 10 = .ok (.ireturn, 1) := dk_172 (dk_at dksX11_costs_0 10 rfl rfl)
theorem q121 : (Jvm.Cond.initialized "PaneKeepsWeather$Noon") ∈ lw_all := lw_g (lw_at lw_m1 21 rfl) rfl
theorem q162 : (Jvm.Cond.fieldLink "PaneKeepsWeather$Noon" (29 : Nat) "PaneKeepsWeather$Noon" "number" "I") ∈ lw_all := lw_g (lw_at lw_m1 62 rfl) rfl
theorem q163 : (Jvm.Cond.sameField "PaneKeepsWeather$Noon" "PaneKeepsWeather$Pane" "number" "I") ∈ lw_all := lw_g (lw_at lw_m1 63 rfl) rfl
theorem q191 : (Jvm.Cond.instantiable "PaneKeepsWeather$Noon" (5 : Nat)) ∈ lw_all := lw_g (lw_at lw_m1 91 rfl) rfl
theorem q193 : (Jvm.Cond.instanceMethod ({ cls := "PaneKeepsWeather$Noon", name := "<init>", desc := "(II)V" } : Jvm.MethodName)) ∈ lw_all := lw_g (lw_at lw_m1 93 rfl) rfl
theorem q194 : (Jvm.Cond.code ({ cls := "PaneKeepsWeather$Noon", name := "<init>", desc := "(II)V" } : Jvm.MethodName) prog_6_method_1_code (3 : Nat) (Option.none : Option Jvm.ClassFile.FieldType)) ∈ lw_all := lw_g (lw_at lw_m1 94 rfl) rfl
theorem q195 : (Jvm.Cond.methodLink "PaneKeepsWeather$Noon" (1 : Nat) ({ cls := "PaneKeepsWeather$Pane", name := "<init>", desc := "(II)V" } : Jvm.MethodName)) ∈ lw_all := lw_g (lw_at lw_m1 95 rfl) rfl
theorem q196 : (Jvm.Cond.lays "PaneKeepsWeather$Noon" "PaneKeepsWeather$Pane" "number" "I") ∈ lw_all := lw_g (lw_at lw_m1 96 rfl) rfl
theorem q197 : (Jvm.Cond.lays "PaneKeepsWeather$Noon" "PaneKeepsWeather$Pane" "day" "I") ∈ lw_all := lw_g (lw_at lw_m1 97 rfl) rfl
theorem q198 : (Jvm.Cond.lays "PaneKeepsWeather$Noon" "PaneKeepsWeather$Pane" "wet" "I") ∈ lw_all := lw_g (lw_at lw_m1 98 rfl) rfl
theorem q199 : (Jvm.Cond.lays "PaneKeepsWeather$Noon" "PaneKeepsWeather$Pane" "opening" "I") ∈ lw_all := lw_g (lw_at lw_m1 99 rfl) rfl
theorem q200 : (Jvm.Cond.lays "PaneKeepsWeather$Noon" "PaneKeepsWeather$Pane" "broken" "Z") ∈ lw_all := lw_g (lw_at lw_m1 100 rfl) rfl
theorem q201 : (Jvm.Cond.superclass "PaneKeepsWeather$Noon" "PaneKeepsWeather$Pane") ∈ lw_all := lw_g (lw_at lw_m1 101 rfl) rfl
theorem q322 : (Jvm.Cond.selects "PaneKeepsWeather$Noon" ({ cls := "PaneKeepsWeather$Pane", name := "light", desc := "(II)I" } : Jvm.MethodName) ({ cls := "PaneKeepsWeather$Noon", name := "light", desc := "(II)I" } : Jvm.MethodName)) ∈ lw_all := lw_g (lw_at lw_m1 222 rfl) rfl
theorem q323 : (Jvm.Cond.instanceMethod ({ cls := "PaneKeepsWeather$Noon", name := "light", desc := "(II)I" } : Jvm.MethodName)) ∈ lw_all := lw_g (lw_at lw_m1 223 rfl) rfl
theorem q324 : (Jvm.Cond.code ({ cls := "PaneKeepsWeather$Noon", name := "light", desc := "(II)I" } : Jvm.MethodName) prog_6_method_3_code (3 : Nat) (Option.some Jvm.ClassFile.FieldType.int)) ∈ lw_all := lw_g (lw_at lw_m1 224 rfl) rfl
theorem q325 : (Jvm.Cond.constantLong "PaneKeepsWeather$Noon" (11 : Nat) (3 : Int64)) ∈ lw_all := lw_g (lw_at lw_m1 225 rfl) rfl
theorem q326 : (Jvm.Cond.constantLong "PaneKeepsWeather$Noon" (13 : Nat) (5 : Int64)) ∈ lw_all := lw_g (lw_at lw_m1 226 rfl) rfl
theorem q327 : (Jvm.Cond.methodLinkNest "PaneKeepsWeather$Noon" (15 : Nat) ({ cls := "PaneKeepsWeather", name := "in", desc := "(JJJ)Z" } : Jvm.MethodName) "PaneKeepsWeather") ∈ lw_tbl := lw_at lw_m1 227 rfl
theorem q328 : (Jvm.Cond.methodLink "PaneKeepsWeather$Noon" (21 : Nat) ({ cls := "PaneKeepsWeather$Pane", name := "light", desc := "(II)I" } : Jvm.MethodName)) ∈ lw_all := lw_g (lw_at lw_m1 228 rfl) rfl
theorem q358 : (Jvm.Cond.selects "PaneKeepsWeather$Noon" ({ cls := "PaneKeepsWeather$Pane", name := "kind", desc := "()I" } : Jvm.MethodName) ({ cls := "PaneKeepsWeather$Noon", name := "kind", desc := "()I" } : Jvm.MethodName)) ∈ lw_all := lw_g (lw_at lw_m2 18 rfl) rfl
theorem q359 : (Jvm.Cond.instanceMethod ({ cls := "PaneKeepsWeather$Noon", name := "kind", desc := "()I" } : Jvm.MethodName)) ∈ lw_all := lw_g (lw_at lw_m2 19 rfl) rfl
theorem q360 : (Jvm.Cond.code ({ cls := "PaneKeepsWeather$Noon", name := "kind", desc := "()I" } : Jvm.MethodName) prog_6_method_2_code (1 : Nat) (Option.some Jvm.ClassFile.FieldType.int)) ∈ lw_all := lw_g (lw_at lw_m2 20 rfl) rfl
theorem q361 : (Jvm.Cond.methodLink "PaneKeepsWeather$Noon" (7 : Nat) ({ cls := "PaneKeepsWeather$Pane", name := "kind", desc := "()I" } : Jvm.MethodName)) ∈ lw_all := lw_g (lw_at lw_m2 21 rfl) rfl
theorem q383 : (Jvm.Cond.selects "PaneKeepsWeather$Noon" ({ cls := "PaneKeepsWeather$Pane", name := "costs", desc := "(I)I" } : Jvm.MethodName) ({ cls := "PaneKeepsWeather$Noon", name := "costs", desc := "(I)I" } : Jvm.MethodName)) ∈ lw_all := lw_g (lw_at lw_m2 43 rfl) rfl
theorem q384 : (Jvm.Cond.instanceMethod ({ cls := "PaneKeepsWeather$Noon", name := "costs", desc := "(I)I" } : Jvm.MethodName)) ∈ lw_all := lw_g (lw_at lw_m2 44 rfl) rfl
theorem q385 : (Jvm.Cond.code ({ cls := "PaneKeepsWeather$Noon", name := "costs", desc := "(I)I" } : Jvm.MethodName) prog_6_method_4_code (2 : Nat) (Option.some Jvm.ClassFile.FieldType.int)) ∈ lw_all := lw_g (lw_at lw_m2 45 rfl) rfl
theorem q386 : (Jvm.Cond.methodLink "PaneKeepsWeather$Noon" (25 : Nat) ({ cls := "PaneKeepsWeather$Pane", name := "costs", desc := "(I)I" } : Jvm.MethodName)) ∈ lw_all := lw_g (lw_at lw_m2 46 rfl) rfl
theorem q409 : (Jvm.Cond.selects "PaneKeepsWeather$Noon" ({ cls := "PaneKeepsWeather$Pane", name := "spills", desc := "()I" } : Jvm.MethodName) ({ cls := "PaneKeepsWeather$Pane", name := "spills", desc := "()I" } : Jvm.MethodName)) ∈ lw_all := lw_g (lw_at lw_m2 69 rfl) rfl
theorem q1096 : (Jvm.Cond.selects "PaneKeepsWeather$Noon" ({ cls := "PaneKeepsWeather$Pane", name := "like", desc := "(LPaneKeepsWeather$Pane;)LPaneKeepsWeather$Pane;" } : Jvm.MethodName) ({ cls := "PaneKeepsWeather$Pane", name := "like", desc := "(LPaneKeepsWeather$Pane;)LPaneKeepsWeather$Pane;" } : Jvm.MethodName)) ∈ lw_all := lw_g (lw_at lw_m5 36 rfl) rfl
theorem q1756 : (Jvm.Cond.sameMethod "PaneKeepsWeather$Noon" "PaneKeepsWeather$Noon" "light" "(II)I") ∈ lw_all := lw_g (lw_at lw_m7 216 rfl) rfl
theorem q1758 : (Jvm.Cond.sameMethod "PaneKeepsWeather$Noon" "PaneKeepsWeather$Noon" "kind" "()I") ∈ lw_all := lw_g (lw_at lw_m7 218 rfl) rfl
theorem q1760 : (Jvm.Cond.sameMethod "PaneKeepsWeather$Noon" "PaneKeepsWeather$Noon" "costs" "(I)I") ∈ lw_all := lw_g (lw_at lw_m7 220 rfl) rfl
theorem q1771 : (Jvm.Cond.castable "PaneKeepsWeather$Noon" "PaneKeepsWeather$Pane") ∈ lw_tbl := lw_at lw_m7 231 rfl
theorem in_X11 : ∀ w ∈ wsX110, w ∈ lw_all := lw_in wsX110 [196, 197, 198, 199, 200] (by decide +kernel) (by decide +kernel)
/-! PaneKeepsWeather$Snow -/
set_option maxRecDepth 100000
def RX12 : String := "PaneKeepsWeather$Snow"
def TX12 : u_T := fun k => match k with
  | 0 => ("PaneKeepsWeather$Pane", "number", "I", false)
  | 1 => ("PaneKeepsWeather$Pane", "day", "I", false)
  | 2 => ("PaneKeepsWeather$Pane", "wet", "I", false)
  | 3 => ("PaneKeepsWeather$Pane", "opening", "I", false)
  | _ => ("PaneKeepsWeather$Pane", "broken", "Z", false)
def tyX12 : Nat → FieldType := fun k => match k with
  | 0 => .int
  | 1 => .int
  | 2 => .int
  | 3 => .int
  | _ => .boolean
abbrev wsX120 : List Cond := u_ws RX12 TX12 5
theorem nmX12 : ∀ a, a < 5 → ∀ b, b < 5 → a ≠ b → (TX12 a).2.1 ≠ (TX12 b).2.1 := by decide +kernel
theorem tyX12_ok : ∀ k, k < 5 → parseFieldDescriptor (TX12 k).2.2.1 = some (tyX12 k) := by decide +kernel
abbrev cX12_init : ByteArray := prog_10_method_1_code
def yX12_init : MethodName := ⟨RX12, "<init>", "(II)V"⟩
def dkwX12_init_0 : List UInt8 := [42, 27, 28, 183, 0, 1, 177]
abbrev dktX12_init_0 : List UInt8 := dkwX12_init_0 ++ []
theorem dksX12_init_0 : cX12_init.data.toList.drop 0 = dktX12_init_0 := by decide +kernel
theorem dX12_init_0 : decode cX12_init 0 = .ok (.aload_n 0, 1) := dk_42 (dk_at dksX12_init_0 0 rfl rfl)
theorem dX12_init_1 : decode cX12_init 1 = .ok (.iload_n 1, 1) := dk_27 (dk_at dksX12_init_0 1 rfl rfl)
theorem dX12_init_2 : decode cX12_init 2 = .ok (.iload_n 2, 1) := dk_28 (dk_at dksX12_init_0 2 rfl rfl)
theorem dX12_init_3 : decode cX12_init 3 = .ok (.invokespecial 1, 3) := dk_183 0 1 (dk_at dksX12_init_0 3 rfl rfl)
theorem dX12_init_6 : decode cX12_init 6 = .ok (.return_, 1) := dk_177 (dk_at dksX12_init_0 6 rfl rfl)
abbrev cX12_light : ByteArray := prog_10_method_3_code
def yX12_light : MethodName := ⟨RX12, "light", "(II)I"⟩
def dkwX12_light_0 : List UInt8 := [42, 27, 28, 183, 0, 11, 6, 42, 180, 0, 15, 104, 96, 172]
abbrev dktX12_light_0 : List UInt8 := dkwX12_light_0 ++ []
theorem dksX12_light_0 : cX12_light.data.toList.drop 0 = dktX12_light_0 := by decide +kernel
theorem dX12_light_0 : decode cX12_light 0 = .ok (.aload_n 0, 1) := dk_42 (dk_at dksX12_light_0 0 rfl rfl)
theorem dX12_light_1 : decode cX12_light 1 = .ok (.iload_n 1, 1) := dk_27 (dk_at dksX12_light_0 1 rfl rfl)
theorem dX12_light_2 : decode cX12_light 2 = .ok (.iload_n 2, 1) := dk_28 (dk_at dksX12_light_0 2 rfl rfl)
theorem dX12_light_3 : decode cX12_light 3 = .ok (.invokespecial 11, 3) := dk_183 0 11 (dk_at dksX12_light_0 3 rfl rfl)
theorem dX12_light_6 : decode cX12_light 6 = .ok (.iconst 3, 1) := dk_6 (dk_at dksX12_light_0 6 rfl rfl)
theorem dX12_light_7 : decode cX12_light 7 = .ok (.aload_n 0, 1) := dk_42 (dk_at dksX12_light_0 7 rfl rfl)
theorem dX12_light_8 : decode cX12_light 8 = .ok (.getfield 15, 3) := dk_180 0 15 (dk_at dksX12_light_0 8 rfl rfl)
theorem dX12_light_11 : decode cX12_light 11 = .ok (.imul, 1) := dk_104 (dk_at dksX12_light_0 11 rfl rfl)
theorem dX12_light_12 : decode cX12_light 12 = .ok (.iadd, 1) := dk_96 (dk_at dksX12_light_0 12 rfl rfl)
theorem dX12_light_13 : decode cX12_light 13 = .ok (.ireturn, 1) := dk_172 (dk_at dksX12_light_0 13 rfl rfl)
abbrev cX12_kind : ByteArray := prog_10_method_2_code
def yX12_kind : MethodName := ⟨RX12, "kind", "()I"⟩
def dkwX12_kind_0 : List UInt8 := [42, 183, 0, 7, 5, 96, 172]
abbrev dktX12_kind_0 : List UInt8 := dkwX12_kind_0 ++ []
theorem dksX12_kind_0 : cX12_kind.data.toList.drop 0 = dktX12_kind_0 := by decide +kernel
theorem dX12_kind_0 : decode cX12_kind 0 = .ok (.aload_n 0, 1) := dk_42 (dk_at dksX12_kind_0 0 rfl rfl)
theorem dX12_kind_1 : decode cX12_kind 1 = .ok (.invokespecial 7, 3) := dk_183 0 7 (dk_at dksX12_kind_0 1 rfl rfl)
theorem dX12_kind_4 : decode cX12_kind 4 = .ok (.iconst 2, 1) := dk_5 (dk_at dksX12_kind_0 4 rfl rfl)
theorem dX12_kind_5 : decode cX12_kind 5 = .ok (.iadd, 1) := dk_96 (dk_at dksX12_kind_0 5 rfl rfl)
theorem dX12_kind_6 : decode cX12_kind 6 = .ok (.ireturn, 1) := dk_172 (dk_at dksX12_kind_0 6 rfl rfl)
abbrev cX12_costs : ByteArray := prog_10_method_4_code
def yX12_costs : MethodName := ⟨RX12, "costs", "(I)I"⟩
def dkwX12_costs_0 : List UInt8 := [42, 27, 183, 0, 21, 4, 100, 172]
abbrev dktX12_costs_0 : List UInt8 := dkwX12_costs_0 ++ []
theorem dksX12_costs_0 : cX12_costs.data.toList.drop 0 = dktX12_costs_0 := by decide +kernel
theorem dX12_costs_0 : decode cX12_costs 0 = .ok (.aload_n 0, 1) := dk_42 (dk_at dksX12_costs_0 0 rfl rfl)
theorem dX12_costs_1 : decode cX12_costs 1 = .ok (.iload_n 1, 1) := dk_27 (dk_at dksX12_costs_0 1 rfl rfl)
theorem dX12_costs_2 : decode cX12_costs 2 = .ok (.invokespecial 21, 3) := dk_183 0 21 (dk_at dksX12_costs_0 2 rfl rfl)
theorem dX12_costs_5 : decode cX12_costs 5 = .ok (.iconst 1, 1) := dk_4 (dk_at dksX12_costs_0 5 rfl rfl)
theorem dX12_costs_6 : decode cX12_costs 6 = .ok (.isub, 1) := dk_100 (dk_at dksX12_costs_0 6 rfl rfl)
theorem dX12_costs_7 : decode cX12_costs 7 = .ok (.ireturn, 1) := dk_172 (dk_at dksX12_costs_0 7 rfl rfl)
abbrev cX12_spills : ByteArray := prog_10_method_5_code
def yX12_spills : MethodName := ⟨RX12, "spills", "()I"⟩
def dkwX12_spills_0 : List UInt8 := [42, 183, 0, 25, 4, 96, 172]
abbrev dktX12_spills_0 : List UInt8 := dkwX12_spills_0 ++ []
theorem dksX12_spills_0 : cX12_spills.data.toList.drop 0 = dktX12_spills_0 := by decide +kernel
theorem dX12_spills_0 : decode cX12_spills 0 = .ok (.aload_n 0, 1) := dk_42 (dk_at dksX12_spills_0 0 rfl rfl)
theorem dX12_spills_1 : decode cX12_spills 1 = .ok (.invokespecial 25, 3) := dk_183 0 25 (dk_at dksX12_spills_0 1 rfl rfl)
theorem dX12_spills_4 : decode cX12_spills 4 = .ok (.iconst 1, 1) := dk_4 (dk_at dksX12_spills_0 4 rfl rfl)
theorem dX12_spills_5 : decode cX12_spills 5 = .ok (.iadd, 1) := dk_96 (dk_at dksX12_spills_0 5 rfl rfl)
theorem dX12_spills_6 : decode cX12_spills 6 = .ok (.ireturn, 1) := dk_172 (dk_at dksX12_spills_0 6 rfl rfl)
theorem q122 : (Jvm.Cond.initialized "PaneKeepsWeather$Snow") ∈ lw_all := lw_g (lw_at lw_m1 22 rfl) rfl
theorem q158 : (Jvm.Cond.fieldLink "PaneKeepsWeather$Snow" (15 : Nat) "PaneKeepsWeather$Snow" "number" "I") ∈ lw_all := lw_g (lw_at lw_m1 58 rfl) rfl
theorem q159 : (Jvm.Cond.sameField "PaneKeepsWeather$Snow" "PaneKeepsWeather$Pane" "number" "I") ∈ lw_all := lw_g (lw_at lw_m1 59 rfl) rfl
theorem q203 : (Jvm.Cond.instantiable "PaneKeepsWeather$Snow" (5 : Nat)) ∈ lw_all := lw_g (lw_at lw_m1 103 rfl) rfl
theorem q205 : (Jvm.Cond.instanceMethod ({ cls := "PaneKeepsWeather$Snow", name := "<init>", desc := "(II)V" } : Jvm.MethodName)) ∈ lw_all := lw_g (lw_at lw_m1 105 rfl) rfl
theorem q206 : (Jvm.Cond.code ({ cls := "PaneKeepsWeather$Snow", name := "<init>", desc := "(II)V" } : Jvm.MethodName) prog_10_method_1_code (3 : Nat) (Option.none : Option Jvm.ClassFile.FieldType)) ∈ lw_all := lw_g (lw_at lw_m1 106 rfl) rfl
theorem q207 : (Jvm.Cond.methodLink "PaneKeepsWeather$Snow" (1 : Nat) ({ cls := "PaneKeepsWeather$Storm", name := "<init>", desc := "(II)V" } : Jvm.MethodName)) ∈ lw_all := lw_g (lw_at lw_m1 107 rfl) rfl
theorem q208 : (Jvm.Cond.lays "PaneKeepsWeather$Snow" "PaneKeepsWeather$Pane" "number" "I") ∈ lw_all := lw_g (lw_at lw_m1 108 rfl) rfl
theorem q209 : (Jvm.Cond.lays "PaneKeepsWeather$Snow" "PaneKeepsWeather$Pane" "day" "I") ∈ lw_all := lw_g (lw_at lw_m1 109 rfl) rfl
theorem q210 : (Jvm.Cond.lays "PaneKeepsWeather$Snow" "PaneKeepsWeather$Pane" "wet" "I") ∈ lw_all := lw_g (lw_at lw_m1 110 rfl) rfl
theorem q211 : (Jvm.Cond.lays "PaneKeepsWeather$Snow" "PaneKeepsWeather$Pane" "opening" "I") ∈ lw_all := lw_g (lw_at lw_m1 111 rfl) rfl
theorem q212 : (Jvm.Cond.lays "PaneKeepsWeather$Snow" "PaneKeepsWeather$Pane" "broken" "Z") ∈ lw_all := lw_g (lw_at lw_m1 112 rfl) rfl
theorem q213 : (Jvm.Cond.superclass "PaneKeepsWeather$Snow" "PaneKeepsWeather$Storm") ∈ lw_all := lw_g (lw_at lw_m1 113 rfl) rfl
theorem q329 : (Jvm.Cond.selects "PaneKeepsWeather$Snow" ({ cls := "PaneKeepsWeather$Pane", name := "light", desc := "(II)I" } : Jvm.MethodName) ({ cls := "PaneKeepsWeather$Snow", name := "light", desc := "(II)I" } : Jvm.MethodName)) ∈ lw_all := lw_g (lw_at lw_m1 229 rfl) rfl
theorem q330 : (Jvm.Cond.instanceMethod ({ cls := "PaneKeepsWeather$Snow", name := "light", desc := "(II)I" } : Jvm.MethodName)) ∈ lw_all := lw_g (lw_at lw_m1 230 rfl) rfl
theorem q331 : (Jvm.Cond.code ({ cls := "PaneKeepsWeather$Snow", name := "light", desc := "(II)I" } : Jvm.MethodName) prog_10_method_3_code (3 : Nat) (Option.some Jvm.ClassFile.FieldType.int)) ∈ lw_all := lw_g (lw_at lw_m1 231 rfl) rfl
theorem q332 : (Jvm.Cond.methodLink "PaneKeepsWeather$Snow" (11 : Nat) ({ cls := "PaneKeepsWeather$Storm", name := "light", desc := "(II)I" } : Jvm.MethodName)) ∈ lw_all := lw_g (lw_at lw_m1 232 rfl) rfl
theorem q362 : (Jvm.Cond.selects "PaneKeepsWeather$Snow" ({ cls := "PaneKeepsWeather$Pane", name := "kind", desc := "()I" } : Jvm.MethodName) ({ cls := "PaneKeepsWeather$Snow", name := "kind", desc := "()I" } : Jvm.MethodName)) ∈ lw_all := lw_g (lw_at lw_m2 22 rfl) rfl
theorem q363 : (Jvm.Cond.instanceMethod ({ cls := "PaneKeepsWeather$Snow", name := "kind", desc := "()I" } : Jvm.MethodName)) ∈ lw_all := lw_g (lw_at lw_m2 23 rfl) rfl
theorem q364 : (Jvm.Cond.code ({ cls := "PaneKeepsWeather$Snow", name := "kind", desc := "()I" } : Jvm.MethodName) prog_10_method_2_code (1 : Nat) (Option.some Jvm.ClassFile.FieldType.int)) ∈ lw_all := lw_g (lw_at lw_m2 24 rfl) rfl
theorem q365 : (Jvm.Cond.methodLink "PaneKeepsWeather$Snow" (7 : Nat) ({ cls := "PaneKeepsWeather$Storm", name := "kind", desc := "()I" } : Jvm.MethodName)) ∈ lw_all := lw_g (lw_at lw_m2 25 rfl) rfl
theorem q388 : (Jvm.Cond.selects "PaneKeepsWeather$Snow" ({ cls := "PaneKeepsWeather$Pane", name := "costs", desc := "(I)I" } : Jvm.MethodName) ({ cls := "PaneKeepsWeather$Snow", name := "costs", desc := "(I)I" } : Jvm.MethodName)) ∈ lw_all := lw_g (lw_at lw_m2 48 rfl) rfl
theorem q389 : (Jvm.Cond.instanceMethod ({ cls := "PaneKeepsWeather$Snow", name := "costs", desc := "(I)I" } : Jvm.MethodName)) ∈ lw_all := lw_g (lw_at lw_m2 49 rfl) rfl
theorem q390 : (Jvm.Cond.code ({ cls := "PaneKeepsWeather$Snow", name := "costs", desc := "(I)I" } : Jvm.MethodName) prog_10_method_4_code (2 : Nat) (Option.some Jvm.ClassFile.FieldType.int)) ∈ lw_all := lw_g (lw_at lw_m2 50 rfl) rfl
theorem q391 : (Jvm.Cond.methodLink "PaneKeepsWeather$Snow" (21 : Nat) ({ cls := "PaneKeepsWeather$Storm", name := "costs", desc := "(I)I" } : Jvm.MethodName)) ∈ lw_all := lw_g (lw_at lw_m2 51 rfl) rfl
theorem q410 : (Jvm.Cond.selects "PaneKeepsWeather$Snow" ({ cls := "PaneKeepsWeather$Pane", name := "spills", desc := "()I" } : Jvm.MethodName) ({ cls := "PaneKeepsWeather$Snow", name := "spills", desc := "()I" } : Jvm.MethodName)) ∈ lw_all := lw_g (lw_at lw_m2 70 rfl) rfl
theorem q411 : (Jvm.Cond.instanceMethod ({ cls := "PaneKeepsWeather$Snow", name := "spills", desc := "()I" } : Jvm.MethodName)) ∈ lw_all := lw_g (lw_at lw_m2 71 rfl) rfl
theorem q412 : (Jvm.Cond.code ({ cls := "PaneKeepsWeather$Snow", name := "spills", desc := "()I" } : Jvm.MethodName) prog_10_method_5_code (1 : Nat) (Option.some Jvm.ClassFile.FieldType.int)) ∈ lw_all := lw_g (lw_at lw_m2 72 rfl) rfl
theorem q413 : (Jvm.Cond.methodLink "PaneKeepsWeather$Snow" (25 : Nat) ({ cls := "PaneKeepsWeather$Storm", name := "spills", desc := "()I" } : Jvm.MethodName)) ∈ lw_all := lw_g (lw_at lw_m2 73 rfl) rfl
theorem q1097 : (Jvm.Cond.selects "PaneKeepsWeather$Snow" ({ cls := "PaneKeepsWeather$Pane", name := "like", desc := "(LPaneKeepsWeather$Pane;)LPaneKeepsWeather$Pane;" } : Jvm.MethodName) ({ cls := "PaneKeepsWeather$Pane", name := "like", desc := "(LPaneKeepsWeather$Pane;)LPaneKeepsWeather$Pane;" } : Jvm.MethodName)) ∈ lw_all := lw_g (lw_at lw_m5 37 rfl) rfl
theorem q1764 : (Jvm.Cond.castable "PaneKeepsWeather$Snow" "PaneKeepsWeather$Storm") ∈ lw_tbl := lw_at lw_m7 224 rfl
theorem q1772 : (Jvm.Cond.castable "PaneKeepsWeather$Snow" "PaneKeepsWeather$Pane") ∈ lw_tbl := lw_at lw_m7 232 rfl
theorem in_X12 : ∀ w ∈ wsX120, w ∈ lw_all := lw_in wsX120 [208, 209, 210, 211, 212] (by decide +kernel) (by decide +kernel)
/-! PaneKeepsWeather$Sunday -/
set_option maxRecDepth 100000
def RX13 : String := "PaneKeepsWeather$Sunday"
def TX13 : u_T := fun k => match k with
  | 0 => ("PaneKeepsWeather$Pane", "number", "I", false)
  | 1 => ("PaneKeepsWeather$Pane", "day", "I", false)
  | 2 => ("PaneKeepsWeather$Pane", "wet", "I", false)
  | 3 => ("PaneKeepsWeather$Pane", "opening", "I", false)
  | _ => ("PaneKeepsWeather$Pane", "broken", "Z", false)
def tyX13 : Nat → FieldType := fun k => match k with
  | 0 => .int
  | 1 => .int
  | 2 => .int
  | 3 => .int
  | _ => .boolean
abbrev wsX130 : List Cond := u_ws RX13 TX13 5
theorem nmX13 : ∀ a, a < 5 → ∀ b, b < 5 → a ≠ b → (TX13 a).2.1 ≠ (TX13 b).2.1 := by decide +kernel
theorem tyX13_ok : ∀ k, k < 5 → parseFieldDescriptor (TX13 k).2.2.1 = some (tyX13 k) := by decide +kernel
abbrev cX13_init : ByteArray := prog_12_method_1_code
def yX13_init : MethodName := ⟨RX13, "<init>", "(II)V"⟩
def dkwX13_init_0 : List UInt8 := [42, 27, 28, 183, 0, 1, 177]
abbrev dktX13_init_0 : List UInt8 := dkwX13_init_0 ++ []
theorem dksX13_init_0 : cX13_init.data.toList.drop 0 = dktX13_init_0 := by decide +kernel
theorem dX13_init_0 : decode cX13_init 0 = .ok (.aload_n 0, 1) := dk_42 (dk_at dksX13_init_0 0 rfl rfl)
theorem dX13_init_1 : decode cX13_init 1 = .ok (.iload_n 1, 1) := dk_27 (dk_at dksX13_init_0 1 rfl rfl)
theorem dX13_init_2 : decode cX13_init 2 = .ok (.iload_n 2, 1) := dk_28 (dk_at dksX13_init_0 2 rfl rfl)
theorem dX13_init_3 : decode cX13_init 3 = .ok (.invokespecial 1, 3) := dk_183 0 1 (dk_at dksX13_init_0 3 rfl rfl)
theorem dX13_init_6 : decode cX13_init 6 = .ok (.return_, 1) := dk_177 (dk_at dksX13_init_0 6 rfl rfl)
abbrev cX13_light : ByteArray := prog_12_method_3_code
def yX13_light : MethodName := ⟨RX13, "light", "(II)I"⟩
def dkwX13_light_1 : List UInt8 := [16, 10, 167, 0, 4, 3, 96, 172]
abbrev dktX13_light_1 : List UInt8 := dkwX13_light_1 ++ []
def dkwX13_light_0 : List UInt8 := [42, 27, 28, 183, 0, 11, 42, 180, 0, 15, 16, 7, 112, 42, 180, 0, 21, 16, 7, 112, 160, 0, 8]
abbrev dktX13_light_0 : List UInt8 := dkwX13_light_0 ++ dktX13_light_1
theorem dksX13_light_0 : cX13_light.data.toList.drop 0 = dktX13_light_0 := by decide +kernel
theorem dksX13_light_1 : cX13_light.data.toList.drop 23 = dktX13_light_1 := dk_seg dksX13_light_0 23 rfl rfl
theorem dX13_light_0 : decode cX13_light 0 = .ok (.aload_n 0, 1) := dk_42 (dk_at dksX13_light_0 0 rfl rfl)
theorem dX13_light_1 : decode cX13_light 1 = .ok (.iload_n 1, 1) := dk_27 (dk_at dksX13_light_0 1 rfl rfl)
theorem dX13_light_2 : decode cX13_light 2 = .ok (.iload_n 2, 1) := dk_28 (dk_at dksX13_light_0 2 rfl rfl)
theorem dX13_light_3 : decode cX13_light 3 = .ok (.invokespecial 11, 3) := dk_183 0 11 (dk_at dksX13_light_0 3 rfl rfl)
theorem dX13_light_6 : decode cX13_light 6 = .ok (.aload_n 0, 1) := dk_42 (dk_at dksX13_light_0 6 rfl rfl)
theorem dX13_light_7 : decode cX13_light 7 = .ok (.getfield 15, 3) := dk_180 0 15 (dk_at dksX13_light_0 7 rfl rfl)
theorem dX13_light_10 : decode cX13_light 10 = .ok (.bipush 7, 2) := dk_16 7 (dk_at dksX13_light_0 10 rfl rfl)
theorem dX13_light_12 : decode cX13_light 12 = .ok (.irem, 1) := dk_112 (dk_at dksX13_light_0 12 rfl rfl)
theorem dX13_light_13 : decode cX13_light 13 = .ok (.aload_n 0, 1) := dk_42 (dk_at dksX13_light_0 13 rfl rfl)
theorem dX13_light_14 : decode cX13_light 14 = .ok (.getfield 21, 3) := dk_180 0 21 (dk_at dksX13_light_0 14 rfl rfl)
theorem dX13_light_17 : decode cX13_light 17 = .ok (.bipush 7, 2) := dk_16 7 (dk_at dksX13_light_0 17 rfl rfl)
theorem dX13_light_19 : decode cX13_light 19 = .ok (.irem, 1) := dk_112 (dk_at dksX13_light_0 19 rfl rfl)
theorem dX13_light_20 : decode cX13_light 20 = .ok (.if_icmp .ne 8, 3) := dk_160 0 8 (dk_at dksX13_light_0 20 rfl rfl)
theorem dX13_light_23 : decode cX13_light 23 = .ok (.bipush 10, 2) := dk_16 10 (dk_at dksX13_light_1 0 rfl rfl)
theorem dX13_light_25 : decode cX13_light 25 = .ok (.goto 4, 3) := dk_167 0 4 (dk_at dksX13_light_1 2 rfl rfl)
theorem dX13_light_28 : decode cX13_light 28 = .ok (.iconst 0, 1) := dk_3 (dk_at dksX13_light_1 5 rfl rfl)
theorem dX13_light_29 : decode cX13_light 29 = .ok (.iadd, 1) := dk_96 (dk_at dksX13_light_1 6 rfl rfl)
theorem dX13_light_30 : decode cX13_light 30 = .ok (.ireturn, 1) := dk_172 (dk_at dksX13_light_1 7 rfl rfl)
abbrev cX13_kind : ByteArray := prog_12_method_2_code
def yX13_kind : MethodName := ⟨RX13, "kind", "()I"⟩
def dkwX13_kind_0 : List UInt8 := [42, 183, 0, 7, 5, 96, 172]
abbrev dktX13_kind_0 : List UInt8 := dkwX13_kind_0 ++ []
theorem dksX13_kind_0 : cX13_kind.data.toList.drop 0 = dktX13_kind_0 := by decide +kernel
theorem dX13_kind_0 : decode cX13_kind 0 = .ok (.aload_n 0, 1) := dk_42 (dk_at dksX13_kind_0 0 rfl rfl)
theorem dX13_kind_1 : decode cX13_kind 1 = .ok (.invokespecial 7, 3) := dk_183 0 7 (dk_at dksX13_kind_0 1 rfl rfl)
theorem dX13_kind_4 : decode cX13_kind 4 = .ok (.iconst 2, 1) := dk_5 (dk_at dksX13_kind_0 4 rfl rfl)
theorem dX13_kind_5 : decode cX13_kind 5 = .ok (.iadd, 1) := dk_96 (dk_at dksX13_kind_0 5 rfl rfl)
theorem dX13_kind_6 : decode cX13_kind 6 = .ok (.ireturn, 1) := dk_172 (dk_at dksX13_kind_0 6 rfl rfl)
abbrev cX13_costs : ByteArray := prog_12_method_4_code
def yX13_costs : MethodName := ⟨RX13, "costs", "(I)I"⟩
def dkwX13_costs_0 : List UInt8 := [5, 42, 27, 183, 0, 24, 104, 172]
abbrev dktX13_costs_0 : List UInt8 := dkwX13_costs_0 ++ []
theorem dksX13_costs_0 : cX13_costs.data.toList.drop 0 = dktX13_costs_0 := by decide +kernel
theorem dX13_costs_0 : decode cX13_costs 0 = .ok (.iconst 2, 1) := dk_5 (dk_at dksX13_costs_0 0 rfl rfl)
theorem dX13_costs_1 : decode cX13_costs 1 = .ok (.aload_n 0, 1) := dk_42 (dk_at dksX13_costs_0 1 rfl rfl)
theorem dX13_costs_2 : decode cX13_costs 2 = .ok (.iload_n 1, 1) := dk_27 (dk_at dksX13_costs_0 2 rfl rfl)
theorem dX13_costs_3 : decode cX13_costs 3 = .ok (.invokespecial 24, 3) := dk_183 0 24 (dk_at dksX13_costs_0 3 rfl rfl)
theorem dX13_costs_6 : decode cX13_costs 6 = .ok (.imul, 1) := dk_104 (dk_at dksX13_costs_0 6 rfl rfl)
theorem dX13_costs_7 : decode cX13_costs 7 = .ok (.ireturn, 1) := dk_172 (dk_at dksX13_costs_0 7 rfl rfl)
theorem q123 : (Jvm.Cond.initialized "PaneKeepsWeather$Sunday") ∈ lw_all := lw_g (lw_at lw_m1 23 rfl) rfl
theorem q160 : (Jvm.Cond.fieldLink "PaneKeepsWeather$Sunday" (21 : Nat) "PaneKeepsWeather$Sunday" "number" "I") ∈ lw_all := lw_g (lw_at lw_m1 60 rfl) rfl
theorem q161 : (Jvm.Cond.sameField "PaneKeepsWeather$Sunday" "PaneKeepsWeather$Pane" "number" "I") ∈ lw_all := lw_g (lw_at lw_m1 61 rfl) rfl
theorem q167 : (Jvm.Cond.fieldLink "PaneKeepsWeather$Sunday" (15 : Nat) "PaneKeepsWeather$Sunday" "day" "I") ∈ lw_all := lw_g (lw_at lw_m1 67 rfl) rfl
theorem q168 : (Jvm.Cond.sameField "PaneKeepsWeather$Sunday" "PaneKeepsWeather$Pane" "day" "I") ∈ lw_all := lw_g (lw_at lw_m1 68 rfl) rfl
theorem q215 : (Jvm.Cond.instantiable "PaneKeepsWeather$Sunday" (5 : Nat)) ∈ lw_all := lw_g (lw_at lw_m1 115 rfl) rfl
theorem q217 : (Jvm.Cond.instanceMethod ({ cls := "PaneKeepsWeather$Sunday", name := "<init>", desc := "(II)V" } : Jvm.MethodName)) ∈ lw_all := lw_g (lw_at lw_m1 117 rfl) rfl
theorem q218 : (Jvm.Cond.code ({ cls := "PaneKeepsWeather$Sunday", name := "<init>", desc := "(II)V" } : Jvm.MethodName) prog_12_method_1_code (3 : Nat) (Option.none : Option Jvm.ClassFile.FieldType)) ∈ lw_all := lw_g (lw_at lw_m1 118 rfl) rfl
theorem q219 : (Jvm.Cond.methodLink "PaneKeepsWeather$Sunday" (1 : Nat) ({ cls := "PaneKeepsWeather$Noon", name := "<init>", desc := "(II)V" } : Jvm.MethodName)) ∈ lw_all := lw_g (lw_at lw_m1 119 rfl) rfl
theorem q220 : (Jvm.Cond.lays "PaneKeepsWeather$Sunday" "PaneKeepsWeather$Pane" "number" "I") ∈ lw_all := lw_g (lw_at lw_m1 120 rfl) rfl
theorem q221 : (Jvm.Cond.lays "PaneKeepsWeather$Sunday" "PaneKeepsWeather$Pane" "day" "I") ∈ lw_all := lw_g (lw_at lw_m1 121 rfl) rfl
theorem q222 : (Jvm.Cond.lays "PaneKeepsWeather$Sunday" "PaneKeepsWeather$Pane" "wet" "I") ∈ lw_all := lw_g (lw_at lw_m1 122 rfl) rfl
theorem q223 : (Jvm.Cond.lays "PaneKeepsWeather$Sunday" "PaneKeepsWeather$Pane" "opening" "I") ∈ lw_all := lw_g (lw_at lw_m1 123 rfl) rfl
theorem q224 : (Jvm.Cond.lays "PaneKeepsWeather$Sunday" "PaneKeepsWeather$Pane" "broken" "Z") ∈ lw_all := lw_g (lw_at lw_m1 124 rfl) rfl
theorem q225 : (Jvm.Cond.superclass "PaneKeepsWeather$Sunday" "PaneKeepsWeather$Noon") ∈ lw_all := lw_g (lw_at lw_m1 125 rfl) rfl
theorem q337 : (Jvm.Cond.selects "PaneKeepsWeather$Sunday" ({ cls := "PaneKeepsWeather$Pane", name := "light", desc := "(II)I" } : Jvm.MethodName) ({ cls := "PaneKeepsWeather$Sunday", name := "light", desc := "(II)I" } : Jvm.MethodName)) ∈ lw_all := lw_g (lw_at lw_m1 237 rfl) rfl
theorem q338 : (Jvm.Cond.instanceMethod ({ cls := "PaneKeepsWeather$Sunday", name := "light", desc := "(II)I" } : Jvm.MethodName)) ∈ lw_all := lw_g (lw_at lw_m1 238 rfl) rfl
theorem q339 : (Jvm.Cond.code ({ cls := "PaneKeepsWeather$Sunday", name := "light", desc := "(II)I" } : Jvm.MethodName) prog_12_method_3_code (3 : Nat) (Option.some Jvm.ClassFile.FieldType.int)) ∈ lw_all := lw_g (lw_at lw_m1 239 rfl) rfl
theorem q340 : (Jvm.Cond.methodLink "PaneKeepsWeather$Sunday" (11 : Nat) ({ cls := "PaneKeepsWeather$Noon", name := "light", desc := "(II)I" } : Jvm.MethodName)) ∈ lw_all := lw_g (lw_at lw_m2 0 rfl) rfl
theorem q370 : (Jvm.Cond.selects "PaneKeepsWeather$Sunday" ({ cls := "PaneKeepsWeather$Pane", name := "kind", desc := "()I" } : Jvm.MethodName) ({ cls := "PaneKeepsWeather$Sunday", name := "kind", desc := "()I" } : Jvm.MethodName)) ∈ lw_all := lw_g (lw_at lw_m2 30 rfl) rfl
theorem q371 : (Jvm.Cond.instanceMethod ({ cls := "PaneKeepsWeather$Sunday", name := "kind", desc := "()I" } : Jvm.MethodName)) ∈ lw_all := lw_g (lw_at lw_m2 31 rfl) rfl
theorem q372 : (Jvm.Cond.code ({ cls := "PaneKeepsWeather$Sunday", name := "kind", desc := "()I" } : Jvm.MethodName) prog_12_method_2_code (1 : Nat) (Option.some Jvm.ClassFile.FieldType.int)) ∈ lw_all := lw_g (lw_at lw_m2 32 rfl) rfl
theorem q373 : (Jvm.Cond.methodLink "PaneKeepsWeather$Sunday" (7 : Nat) ({ cls := "PaneKeepsWeather$Noon", name := "kind", desc := "()I" } : Jvm.MethodName)) ∈ lw_all := lw_g (lw_at lw_m2 33 rfl) rfl
theorem q396 : (Jvm.Cond.selects "PaneKeepsWeather$Sunday" ({ cls := "PaneKeepsWeather$Pane", name := "costs", desc := "(I)I" } : Jvm.MethodName) ({ cls := "PaneKeepsWeather$Sunday", name := "costs", desc := "(I)I" } : Jvm.MethodName)) ∈ lw_all := lw_g (lw_at lw_m2 56 rfl) rfl
theorem q397 : (Jvm.Cond.instanceMethod ({ cls := "PaneKeepsWeather$Sunday", name := "costs", desc := "(I)I" } : Jvm.MethodName)) ∈ lw_all := lw_g (lw_at lw_m2 57 rfl) rfl
theorem q398 : (Jvm.Cond.code ({ cls := "PaneKeepsWeather$Sunday", name := "costs", desc := "(I)I" } : Jvm.MethodName) prog_12_method_4_code (2 : Nat) (Option.some Jvm.ClassFile.FieldType.int)) ∈ lw_all := lw_g (lw_at lw_m2 58 rfl) rfl
theorem q399 : (Jvm.Cond.methodLink "PaneKeepsWeather$Sunday" (24 : Nat) ({ cls := "PaneKeepsWeather$Noon", name := "costs", desc := "(I)I" } : Jvm.MethodName)) ∈ lw_all := lw_g (lw_at lw_m2 59 rfl) rfl
theorem q418 : (Jvm.Cond.selects "PaneKeepsWeather$Sunday" ({ cls := "PaneKeepsWeather$Pane", name := "spills", desc := "()I" } : Jvm.MethodName) ({ cls := "PaneKeepsWeather$Pane", name := "spills", desc := "()I" } : Jvm.MethodName)) ∈ lw_all := lw_g (lw_at lw_m2 78 rfl) rfl
theorem q1099 : (Jvm.Cond.selects "PaneKeepsWeather$Sunday" ({ cls := "PaneKeepsWeather$Pane", name := "like", desc := "(LPaneKeepsWeather$Pane;)LPaneKeepsWeather$Pane;" } : Jvm.MethodName) ({ cls := "PaneKeepsWeather$Pane", name := "like", desc := "(LPaneKeepsWeather$Pane;)LPaneKeepsWeather$Pane;" } : Jvm.MethodName)) ∈ lw_all := lw_g (lw_at lw_m5 39 rfl) rfl
theorem q1765 : (Jvm.Cond.castable "PaneKeepsWeather$Sunday" "PaneKeepsWeather$Noon") ∈ lw_tbl := lw_at lw_m7 225 rfl
theorem q1773 : (Jvm.Cond.castable "PaneKeepsWeather$Sunday" "PaneKeepsWeather$Pane") ∈ lw_tbl := lw_at lw_m7 233 rfl
theorem in_X13 : ∀ w ∈ wsX130, w ∈ lw_all := lw_in wsX130 [220, 221, 222, 223, 224] (by decide +kernel) (by decide +kernel)
/-! PaneKeepsWeather$Dusk -/
set_option maxRecDepth 100000
def RX14 : String := "PaneKeepsWeather$Dusk"
def TX14 : u_T := fun k => match k with
  | 0 => ("PaneKeepsWeather$Pane", "number", "I", false)
  | 1 => ("PaneKeepsWeather$Pane", "day", "I", false)
  | 2 => ("PaneKeepsWeather$Pane", "wet", "I", false)
  | 3 => ("PaneKeepsWeather$Pane", "opening", "I", false)
  | _ => ("PaneKeepsWeather$Pane", "broken", "Z", false)
def tyX14 : Nat → FieldType := fun k => match k with
  | 0 => .int
  | 1 => .int
  | 2 => .int
  | 3 => .int
  | _ => .boolean
abbrev wsX140 : List Cond := u_ws RX14 TX14 5
theorem nmX14 : ∀ a, a < 5 → ∀ b, b < 5 → a ≠ b → (TX14 a).2.1 ≠ (TX14 b).2.1 := by decide +kernel
theorem tyX14_ok : ∀ k, k < 5 → parseFieldDescriptor (TX14 k).2.2.1 = some (tyX14 k) := by decide +kernel
abbrev cX14_init : ByteArray := prog_2_method_1_code
def yX14_init : MethodName := ⟨RX14, "<init>", "(II)V"⟩
def dkwX14_init_0 : List UInt8 := [42, 27, 28, 183, 0, 1, 177]
abbrev dktX14_init_0 : List UInt8 := dkwX14_init_0 ++ []
theorem dksX14_init_0 : cX14_init.data.toList.drop 0 = dktX14_init_0 := by decide +kernel
theorem dX14_init_0 : decode cX14_init 0 = .ok (.aload_n 0, 1) := dk_42 (dk_at dksX14_init_0 0 rfl rfl)
theorem dX14_init_1 : decode cX14_init 1 = .ok (.iload_n 1, 1) := dk_27 (dk_at dksX14_init_0 1 rfl rfl)
theorem dX14_init_2 : decode cX14_init 2 = .ok (.iload_n 2, 1) := dk_28 (dk_at dksX14_init_0 2 rfl rfl)
theorem dX14_init_3 : decode cX14_init 3 = .ok (.invokespecial 1, 3) := dk_183 0 1 (dk_at dksX14_init_0 3 rfl rfl)
theorem dX14_init_6 : decode cX14_init 6 = .ok (.return_, 1) := dk_177 (dk_at dksX14_init_0 6 rfl rfl)
abbrev cX14_light : ByteArray := prog_2_method_3_code
def yX14_light : MethodName := ⟨RX14, "light", "(II)I"⟩
def dkwX14_light_0 : List UInt8 := [28, 8, 164, 0, 12, 42, 27, 28, 183, 0, 11, 167, 0, 4, 3, 172]
abbrev dktX14_light_0 : List UInt8 := dkwX14_light_0 ++ []
theorem dksX14_light_0 : cX14_light.data.toList.drop 0 = dktX14_light_0 := by decide +kernel
theorem dX14_light_0 : decode cX14_light 0 = .ok (.iload_n 2, 1) := dk_28 (dk_at dksX14_light_0 0 rfl rfl)
theorem dX14_light_1 : decode cX14_light 1 = .ok (.iconst 5, 1) := dk_8 (dk_at dksX14_light_0 1 rfl rfl)
theorem dX14_light_2 : decode cX14_light 2 = .ok (.if_icmp .le 12, 3) := dk_164 0 12 (dk_at dksX14_light_0 2 rfl rfl)
theorem dX14_light_5 : decode cX14_light 5 = .ok (.aload_n 0, 1) := dk_42 (dk_at dksX14_light_0 5 rfl rfl)
theorem dX14_light_6 : decode cX14_light 6 = .ok (.iload_n 1, 1) := dk_27 (dk_at dksX14_light_0 6 rfl rfl)
theorem dX14_light_7 : decode cX14_light 7 = .ok (.iload_n 2, 1) := dk_28 (dk_at dksX14_light_0 7 rfl rfl)
theorem dX14_light_8 : decode cX14_light 8 = .ok (.invokespecial 11, 3) := dk_183 0 11 (dk_at dksX14_light_0 8 rfl rfl)
theorem dX14_light_11 : decode cX14_light 11 = .ok (.goto 4, 3) := dk_167 0 4 (dk_at dksX14_light_0 11 rfl rfl)
theorem dX14_light_14 : decode cX14_light 14 = .ok (.iconst 0, 1) := dk_3 (dk_at dksX14_light_0 14 rfl rfl)
theorem dX14_light_15 : decode cX14_light 15 = .ok (.ireturn, 1) := dk_172 (dk_at dksX14_light_0 15 rfl rfl)
abbrev cX14_kind : ByteArray := prog_2_method_2_code
def yX14_kind : MethodName := ⟨RX14, "kind", "()I"⟩
def dkwX14_kind_0 : List UInt8 := [42, 183, 0, 7, 8, 96, 172]
abbrev dktX14_kind_0 : List UInt8 := dkwX14_kind_0 ++ []
theorem dksX14_kind_0 : cX14_kind.data.toList.drop 0 = dktX14_kind_0 := by decide +kernel
theorem dX14_kind_0 : decode cX14_kind 0 = .ok (.aload_n 0, 1) := dk_42 (dk_at dksX14_kind_0 0 rfl rfl)
theorem dX14_kind_1 : decode cX14_kind 1 = .ok (.invokespecial 7, 3) := dk_183 0 7 (dk_at dksX14_kind_0 1 rfl rfl)
theorem dX14_kind_4 : decode cX14_kind 4 = .ok (.iconst 5, 1) := dk_8 (dk_at dksX14_kind_0 4 rfl rfl)
theorem dX14_kind_5 : decode cX14_kind 5 = .ok (.iadd, 1) := dk_96 (dk_at dksX14_kind_0 5 rfl rfl)
theorem dX14_kind_6 : decode cX14_kind 6 = .ok (.ireturn, 1) := dk_172 (dk_at dksX14_kind_0 6 rfl rfl)
abbrev cX14_spills : ByteArray := prog_2_method_4_code
def yX14_spills : MethodName := ⟨RX14, "spills", "()I"⟩
def dkwX14_spills_0 : List UInt8 := [42, 183, 0, 15, 4, 96, 172]
abbrev dktX14_spills_0 : List UInt8 := dkwX14_spills_0 ++ []
theorem dksX14_spills_0 : cX14_spills.data.toList.drop 0 = dktX14_spills_0 := by decide +kernel
theorem dX14_spills_0 : decode cX14_spills 0 = .ok (.aload_n 0, 1) := dk_42 (dk_at dksX14_spills_0 0 rfl rfl)
theorem dX14_spills_1 : decode cX14_spills 1 = .ok (.invokespecial 15, 3) := dk_183 0 15 (dk_at dksX14_spills_0 1 rfl rfl)
theorem dX14_spills_4 : decode cX14_spills 4 = .ok (.iconst 1, 1) := dk_4 (dk_at dksX14_spills_0 4 rfl rfl)
theorem dX14_spills_5 : decode cX14_spills 5 = .ok (.iadd, 1) := dk_96 (dk_at dksX14_spills_0 5 rfl rfl)
theorem dX14_spills_6 : decode cX14_spills 6 = .ok (.ireturn, 1) := dk_172 (dk_at dksX14_spills_0 6 rfl rfl)
theorem q124 : (Jvm.Cond.initialized "PaneKeepsWeather$Dusk") ∈ lw_all := lw_g (lw_at lw_m1 24 rfl) rfl
theorem q227 : (Jvm.Cond.instantiable "PaneKeepsWeather$Dusk" (5 : Nat)) ∈ lw_all := lw_g (lw_at lw_m1 127 rfl) rfl
theorem q229 : (Jvm.Cond.instanceMethod ({ cls := "PaneKeepsWeather$Dusk", name := "<init>", desc := "(II)V" } : Jvm.MethodName)) ∈ lw_all := lw_g (lw_at lw_m1 129 rfl) rfl
theorem q230 : (Jvm.Cond.code ({ cls := "PaneKeepsWeather$Dusk", name := "<init>", desc := "(II)V" } : Jvm.MethodName) prog_2_method_1_code (3 : Nat) (Option.none : Option Jvm.ClassFile.FieldType)) ∈ lw_all := lw_g (lw_at lw_m1 130 rfl) rfl
theorem q231 : (Jvm.Cond.methodLink "PaneKeepsWeather$Dusk" (1 : Nat) ({ cls := "PaneKeepsWeather$Pane", name := "<init>", desc := "(II)V" } : Jvm.MethodName)) ∈ lw_all := lw_g (lw_at lw_m1 131 rfl) rfl
theorem q232 : (Jvm.Cond.lays "PaneKeepsWeather$Dusk" "PaneKeepsWeather$Pane" "number" "I") ∈ lw_all := lw_g (lw_at lw_m1 132 rfl) rfl
theorem q233 : (Jvm.Cond.lays "PaneKeepsWeather$Dusk" "PaneKeepsWeather$Pane" "day" "I") ∈ lw_all := lw_g (lw_at lw_m1 133 rfl) rfl
theorem q234 : (Jvm.Cond.lays "PaneKeepsWeather$Dusk" "PaneKeepsWeather$Pane" "wet" "I") ∈ lw_all := lw_g (lw_at lw_m1 134 rfl) rfl
theorem q235 : (Jvm.Cond.lays "PaneKeepsWeather$Dusk" "PaneKeepsWeather$Pane" "opening" "I") ∈ lw_all := lw_g (lw_at lw_m1 135 rfl) rfl
theorem q236 : (Jvm.Cond.lays "PaneKeepsWeather$Dusk" "PaneKeepsWeather$Pane" "broken" "Z") ∈ lw_all := lw_g (lw_at lw_m1 136 rfl) rfl
theorem q237 : (Jvm.Cond.superclass "PaneKeepsWeather$Dusk" "PaneKeepsWeather$Pane") ∈ lw_all := lw_g (lw_at lw_m1 137 rfl) rfl
theorem q317 : (Jvm.Cond.selects "PaneKeepsWeather$Dusk" ({ cls := "PaneKeepsWeather$Pane", name := "light", desc := "(II)I" } : Jvm.MethodName) ({ cls := "PaneKeepsWeather$Dusk", name := "light", desc := "(II)I" } : Jvm.MethodName)) ∈ lw_all := lw_g (lw_at lw_m1 217 rfl) rfl
theorem q318 : (Jvm.Cond.instanceMethod ({ cls := "PaneKeepsWeather$Dusk", name := "light", desc := "(II)I" } : Jvm.MethodName)) ∈ lw_all := lw_g (lw_at lw_m1 218 rfl) rfl
theorem q319 : (Jvm.Cond.code ({ cls := "PaneKeepsWeather$Dusk", name := "light", desc := "(II)I" } : Jvm.MethodName) prog_2_method_3_code (3 : Nat) (Option.some Jvm.ClassFile.FieldType.int)) ∈ lw_all := lw_g (lw_at lw_m1 219 rfl) rfl
theorem q320 : (Jvm.Cond.methodLink "PaneKeepsWeather$Dusk" (11 : Nat) ({ cls := "PaneKeepsWeather$Pane", name := "light", desc := "(II)I" } : Jvm.MethodName)) ∈ lw_all := lw_g (lw_at lw_m1 220 rfl) rfl
theorem q353 : (Jvm.Cond.selects "PaneKeepsWeather$Dusk" ({ cls := "PaneKeepsWeather$Pane", name := "kind", desc := "()I" } : Jvm.MethodName) ({ cls := "PaneKeepsWeather$Dusk", name := "kind", desc := "()I" } : Jvm.MethodName)) ∈ lw_all := lw_g (lw_at lw_m2 13 rfl) rfl
theorem q354 : (Jvm.Cond.instanceMethod ({ cls := "PaneKeepsWeather$Dusk", name := "kind", desc := "()I" } : Jvm.MethodName)) ∈ lw_all := lw_g (lw_at lw_m2 14 rfl) rfl
theorem q355 : (Jvm.Cond.code ({ cls := "PaneKeepsWeather$Dusk", name := "kind", desc := "()I" } : Jvm.MethodName) prog_2_method_2_code (1 : Nat) (Option.some Jvm.ClassFile.FieldType.int)) ∈ lw_all := lw_g (lw_at lw_m2 15 rfl) rfl
theorem q356 : (Jvm.Cond.methodLink "PaneKeepsWeather$Dusk" (7 : Nat) ({ cls := "PaneKeepsWeather$Pane", name := "kind", desc := "()I" } : Jvm.MethodName)) ∈ lw_all := lw_g (lw_at lw_m2 16 rfl) rfl
theorem q382 : (Jvm.Cond.selects "PaneKeepsWeather$Dusk" ({ cls := "PaneKeepsWeather$Pane", name := "costs", desc := "(I)I" } : Jvm.MethodName) ({ cls := "PaneKeepsWeather$Pane", name := "costs", desc := "(I)I" } : Jvm.MethodName)) ∈ lw_all := lw_g (lw_at lw_m2 42 rfl) rfl
theorem q404 : (Jvm.Cond.selects "PaneKeepsWeather$Dusk" ({ cls := "PaneKeepsWeather$Pane", name := "spills", desc := "()I" } : Jvm.MethodName) ({ cls := "PaneKeepsWeather$Dusk", name := "spills", desc := "()I" } : Jvm.MethodName)) ∈ lw_all := lw_g (lw_at lw_m2 64 rfl) rfl
theorem q405 : (Jvm.Cond.instanceMethod ({ cls := "PaneKeepsWeather$Dusk", name := "spills", desc := "()I" } : Jvm.MethodName)) ∈ lw_all := lw_g (lw_at lw_m2 65 rfl) rfl
theorem q406 : (Jvm.Cond.code ({ cls := "PaneKeepsWeather$Dusk", name := "spills", desc := "()I" } : Jvm.MethodName) prog_2_method_4_code (1 : Nat) (Option.some Jvm.ClassFile.FieldType.int)) ∈ lw_all := lw_g (lw_at lw_m2 66 rfl) rfl
theorem q407 : (Jvm.Cond.methodLink "PaneKeepsWeather$Dusk" (15 : Nat) ({ cls := "PaneKeepsWeather$Pane", name := "spills", desc := "()I" } : Jvm.MethodName)) ∈ lw_all := lw_g (lw_at lw_m2 67 rfl) rfl
theorem q1095 : (Jvm.Cond.selects "PaneKeepsWeather$Dusk" ({ cls := "PaneKeepsWeather$Pane", name := "like", desc := "(LPaneKeepsWeather$Pane;)LPaneKeepsWeather$Pane;" } : Jvm.MethodName) ({ cls := "PaneKeepsWeather$Pane", name := "like", desc := "(LPaneKeepsWeather$Pane;)LPaneKeepsWeather$Pane;" } : Jvm.MethodName)) ∈ lw_all := lw_g (lw_at lw_m5 35 rfl) rfl
theorem q1774 : (Jvm.Cond.castable "PaneKeepsWeather$Dusk" "PaneKeepsWeather$Pane") ∈ lw_tbl := lw_at lw_m7 234 rfl
theorem in_X14 : ∀ w ∈ wsX140, w ∈ lw_all := lw_in wsX140 [232, 233, 234, 235, 236] (by decide +kernel) (by decide +kernel)
theorem q100 : (Jvm.Cond.initialized "PaneKeepsWeatherLaw") ∈ lw_all := lw_g (lw_at lw_m1 0 rfl) rfl
set_option maxRecDepth 100000
theorem q132 : (Jvm.Cond.methodLink "PaneKeepsWeatherLaw" (18 : Nat) ({ cls := "PaneKeepsWeather", name := "pane", desc := "(III)I" } : Jvm.MethodName)) ∈ lw_all := lw_g (lw_at lw_m1 32 rfl) rfl
theorem q247 : (Jvm.Cond.methodLink "PaneKeepsWeatherLaw" (13 : Nat) ({ cls := "PaneKeepsWeather", name := "set", desc := "(III)I" } : Jvm.MethodName)) ∈ lw_all := lw_g (lw_at lw_m1 147 rfl) rfl
theorem q423 : (Jvm.Cond.methodLink "PaneKeepsWeatherLaw" (22 : Nat) ({ cls := "PaneKeepsWeather", name := "glaze", desc := "(II)I" } : Jvm.MethodName)) ∈ lw_all := lw_g (lw_at lw_m2 83 rfl) rfl
theorem q427 : (Jvm.Cond.methodLink "PaneKeepsWeatherLaw" (27 : Nat) ({ cls := "PaneKeepsWeather", name := "stone", desc := "(I)I" } : Jvm.MethodName)) ∈ lw_all := lw_g (lw_at lw_m2 87 rfl) rfl
theorem q438 : (Jvm.Cond.methodLink "PaneKeepsWeatherLaw" (32 : Nat) ({ cls := "PaneKeepsWeather", name := "told", desc := "(II)I" } : Jvm.MethodName)) ∈ lw_all := lw_g (lw_at lw_m2 98 rfl) rfl
theorem q439 : (Jvm.Cond.methodLink "PaneKeepsWeatherLaw" (36 : Nat) ({ cls := "PaneKeepsWeather", name := "feed", desc := "(I)I" } : Jvm.MethodName)) ∈ lw_all := lw_g (lw_at lw_m2 99 rfl) rfl
theorem q444 : (Jvm.Cond.methodLink "PaneKeepsWeatherLaw" (40 : Nat) ({ cls := "PaneKeepsWeather", name := "text", desc := "()I" } : Jvm.MethodName)) ∈ lw_all := lw_g (lw_at lw_m2 104 rfl) rfl
theorem q685 : (Jvm.Cond.classLink "PaneKeepsWeatherLaw" (7 : Nat) "PaneKeepsWeather") ∈ lw_all := lw_g (lw_at lw_m3 105 rfl) rfl
theorem q686 : (Jvm.Cond.methodLink "PaneKeepsWeatherLaw" (9 : Nat) ({ cls := "PaneKeepsWeather", name := "<init>", desc := "()V" } : Jvm.MethodName)) ∈ lw_all := lw_g (lw_at lw_m3 106 rfl) rfl
theorem q922 : (Jvm.Cond.methodLink "PaneKeepsWeatherLaw" (45 : Nat) ({ cls := "PaneKeepsWeather", name := "force", desc := "(I)I" } : Jvm.MethodName)) ∈ lw_all := lw_g (lw_at lw_m4 102 rfl) rfl
theorem q930 : (Jvm.Cond.methodLink "PaneKeepsWeatherLaw" (49 : Nat) ({ cls := "PaneKeepsWeather", name := "light", desc := "(III)I" } : Jvm.MethodName)) ∈ lw_all := lw_g (lw_at lw_m4 110 rfl) rfl
theorem q936 : (Jvm.Cond.methodLink "PaneKeepsWeatherLaw" (53 : Nat) ({ cls := "PaneKeepsWeather", name := "house", desc := "(I)I" } : Jvm.MethodName)) ∈ lw_all := lw_g (lw_at lw_m4 116 rfl) rfl
theorem q964 : (Jvm.Cond.methodLink "PaneKeepsWeatherLaw" (57 : Nat) ({ cls := "PaneKeepsWeather", name := "half", desc := "(I)I" } : Jvm.MethodName)) ∈ lw_all := lw_g (lw_at lw_m4 144 rfl) rfl
theorem q968 : (Jvm.Cond.methodLink "PaneKeepsWeatherLaw" (61 : Nat) ({ cls := "PaneKeepsWeather", name := "brightest", desc := "(I)I" } : Jvm.MethodName)) ∈ lw_all := lw_g (lw_at lw_m4 148 rfl) rfl
theorem q992 : (Jvm.Cond.methodLink "PaneKeepsWeatherLaw" (65 : Nat) ({ cls := "PaneKeepsWeather", name := "cheapest", desc := "(I)I" } : Jvm.MethodName)) ∈ lw_all := lw_g (lw_at lw_m4 172 rfl) rfl
theorem q996 : (Jvm.Cond.methodLink "PaneKeepsWeatherLaw" (77 : Nat) ({ cls := "PaneKeepsWeather", name := "settle", desc := "()I" } : Jvm.MethodName)) ∈ lw_all := lw_g (lw_at lw_m4 176 rfl) rfl
theorem q1000 : (Jvm.Cond.methodLink "PaneKeepsWeatherLaw" (69 : Nat) ({ cls := "PaneKeepsWeather", name := "turnOut", desc := "(I)I" } : Jvm.MethodName)) ∈ lw_all := lw_g (lw_at lw_m4 180 rfl) rfl
theorem q1014 : (Jvm.Cond.methodLink "PaneKeepsWeatherLaw" (73 : Nat) ({ cls := "PaneKeepsWeather", name := "swap", desc := "(I)I" } : Jvm.MethodName)) ∈ lw_all := lw_g (lw_at lw_m4 194 rfl) rfl
theorem q1026 : (Jvm.Cond.methodLink "PaneKeepsWeatherLaw" (81 : Nat) ({ cls := "PaneKeepsWeather", name := "tells", desc := "(III)I" } : Jvm.MethodName)) ∈ lw_all := lw_g (lw_at lw_m4 206 rfl) rfl
theorem q1117 : (Jvm.Cond.methodLink "PaneKeepsWeatherLaw" (85 : Nat) ({ cls := "PaneKeepsWeather", name := "film", desc := "(III)I" } : Jvm.MethodName)) ∈ lw_all := lw_g (lw_at lw_m5 57 rfl) rfl
theorem q1201 : (Jvm.Cond.methodLink "PaneKeepsWeatherLaw" (89 : Nat) ({ cls := "PaneKeepsWeather", name := "drawn", desc := "(I)I" } : Jvm.MethodName)) ∈ lw_all := lw_g (lw_at lw_m5 141 rfl) rfl
theorem q1214 : (Jvm.Cond.methodLink "PaneKeepsWeatherLaw" (93 : Nat) ({ cls := "PaneKeepsWeather", name := "chance", desc := "(III)J" } : Jvm.MethodName)) ∈ lw_all := lw_g (lw_at lw_m5 154 rfl) rfl
theorem q1224 : (Jvm.Cond.methodLink "PaneKeepsWeatherLaw" (98 : Nat) ({ cls := "PaneKeepsWeather", name := "image", desc := "()I" } : Jvm.MethodName)) ∈ lw_all := lw_g (lw_at lw_m5 164 rfl) rfl
theorem q1231 : (Jvm.Cond.methodLink "PaneKeepsWeatherLaw" (102 : Nat) ({ cls := "PaneKeepsWeather", name := "back", desc := "()I" } : Jvm.MethodName)) ∈ lw_all := lw_g (lw_at lw_m5 171 rfl) rfl
theorem q1235 : (Jvm.Cond.methodLink "PaneKeepsWeatherLaw" (106 : Nat) ({ cls := "PaneKeepsWeather", name := "count", desc := "(I)I" } : Jvm.MethodName)) ∈ lw_all := lw_g (lw_at lw_m5 175 rfl) rfl
theorem q1247 : (Jvm.Cond.methodLink "PaneKeepsWeatherLaw" (110 : Nat) ({ cls := "PaneKeepsWeather", name := "sheet", desc := "(III)I" } : Jvm.MethodName)) ∈ lw_all := lw_g (lw_at lw_m5 187 rfl) rfl
theorem q1248 : (Jvm.Cond.methodLink "PaneKeepsWeatherLaw" (114 : Nat) ({ cls := "PaneKeepsWeather", name := "cell", desc := "(III)I" } : Jvm.MethodName)) ∈ lw_all := lw_g (lw_at lw_m5 188 rfl) rfl
theorem q1249 : (Jvm.Cond.methodLink "PaneKeepsWeatherLaw" (118 : Nat) ({ cls := "PaneKeepsWeather", name := "copy", desc := "(IIIII)I" } : Jvm.MethodName)) ∈ lw_all := lw_g (lw_at lw_m5 189 rfl) rfl
theorem q1253 : (Jvm.Cond.methodLink "PaneKeepsWeatherLaw" (123 : Nat) ({ cls := "PaneKeepsWeather", name := "panes", desc := "(IIII)I" } : Jvm.MethodName)) ∈ lw_all := lw_g (lw_at lw_m5 193 rfl) rfl
theorem q1277 : (Jvm.Cond.methodLink "PaneKeepsWeatherLaw" (128 : Nat) ({ cls := "PaneKeepsWeather", name := "taken", desc := "(II)I" } : Jvm.MethodName)) ∈ lw_all := lw_g (lw_at lw_m5 217 rfl) rfl
theorem q1284 : (Jvm.Cond.classLink "PaneKeepsWeatherLaw" (10 : Nat) "PaneKeepsWeatherModel") ∈ lw_all := lw_g (lw_at lw_m5 224 rfl) rfl
theorem q1286 : (Jvm.Cond.methodLink "PaneKeepsWeatherLaw" (12 : Nat) ({ cls := "PaneKeepsWeatherModel", name := "<init>", desc := "()V" } : Jvm.MethodName)) ∈ lw_all := lw_g (lw_at lw_m5 226 rfl) rfl
theorem q1441 : (Jvm.Cond.methodLink "PaneKeepsWeatherLaw" (17 : Nat) ({ cls := "PaneKeepsWeatherModel", name := "set", desc := "(III)I" } : Jvm.MethodName)) ∈ lw_all := lw_g (lw_at lw_m6 141 rfl) rfl
theorem q1580 : (Jvm.Cond.methodLink "PaneKeepsWeatherLaw" (21 : Nat) ({ cls := "PaneKeepsWeatherModel", name := "pane", desc := "(III)I" } : Jvm.MethodName)) ∈ lw_all := lw_g (lw_at lw_m7 40 rfl) rfl
theorem q1586 : (Jvm.Cond.methodLink "PaneKeepsWeatherLaw" (26 : Nat) ({ cls := "PaneKeepsWeatherModel", name := "glaze", desc := "(II)I" } : Jvm.MethodName)) ∈ lw_all := lw_g (lw_at lw_m7 46 rfl) rfl
theorem q1590 : (Jvm.Cond.methodLink "PaneKeepsWeatherLaw" (31 : Nat) ({ cls := "PaneKeepsWeatherModel", name := "stone", desc := "(I)I" } : Jvm.MethodName)) ∈ lw_all := lw_g (lw_at lw_m7 50 rfl) rfl
theorem q1598 : (Jvm.Cond.methodLink "PaneKeepsWeatherLaw" (35 : Nat) ({ cls := "PaneKeepsWeatherModel", name := "told", desc := "(II)I" } : Jvm.MethodName)) ∈ lw_all := lw_g (lw_at lw_m7 58 rfl) rfl
theorem q1599 : (Jvm.Cond.methodLink "PaneKeepsWeatherLaw" (39 : Nat) ({ cls := "PaneKeepsWeatherModel", name := "feed", desc := "(I)I" } : Jvm.MethodName)) ∈ lw_all := lw_g (lw_at lw_m7 59 rfl) rfl
theorem q1604 : (Jvm.Cond.methodLink "PaneKeepsWeatherLaw" (44 : Nat) ({ cls := "PaneKeepsWeatherModel", name := "text", desc := "()I" } : Jvm.MethodName)) ∈ lw_all := lw_g (lw_at lw_m7 64 rfl) rfl
theorem q1608 : (Jvm.Cond.methodLink "PaneKeepsWeatherLaw" (48 : Nat) ({ cls := "PaneKeepsWeatherModel", name := "force", desc := "(I)I" } : Jvm.MethodName)) ∈ lw_all := lw_g (lw_at lw_m7 68 rfl) rfl
theorem q1612 : (Jvm.Cond.methodLink "PaneKeepsWeatherLaw" (52 : Nat) ({ cls := "PaneKeepsWeatherModel", name := "light", desc := "(III)I" } : Jvm.MethodName)) ∈ lw_all := lw_g (lw_at lw_m7 72 rfl) rfl
theorem q1617 : (Jvm.Cond.methodLink "PaneKeepsWeatherLaw" (56 : Nat) ({ cls := "PaneKeepsWeatherModel", name := "house", desc := "(I)I" } : Jvm.MethodName)) ∈ lw_all := lw_g (lw_at lw_m7 77 rfl) rfl
theorem q1633 : (Jvm.Cond.methodLink "PaneKeepsWeatherLaw" (60 : Nat) ({ cls := "PaneKeepsWeatherModel", name := "half", desc := "(I)I" } : Jvm.MethodName)) ∈ lw_all := lw_g (lw_at lw_m7 93 rfl) rfl
theorem q1637 : (Jvm.Cond.methodLink "PaneKeepsWeatherLaw" (64 : Nat) ({ cls := "PaneKeepsWeatherModel", name := "brightest", desc := "(I)I" } : Jvm.MethodName)) ∈ lw_all := lw_g (lw_at lw_m7 97 rfl) rfl
theorem q1657 : (Jvm.Cond.methodLink "PaneKeepsWeatherLaw" (68 : Nat) ({ cls := "PaneKeepsWeatherModel", name := "cheapest", desc := "(I)I" } : Jvm.MethodName)) ∈ lw_all := lw_g (lw_at lw_m7 117 rfl) rfl
theorem q1661 : (Jvm.Cond.methodLink "PaneKeepsWeatherLaw" (72 : Nat) ({ cls := "PaneKeepsWeatherModel", name := "turnOut", desc := "(I)I" } : Jvm.MethodName)) ∈ lw_all := lw_g (lw_at lw_m7 121 rfl) rfl
theorem q1668 : (Jvm.Cond.methodLink "PaneKeepsWeatherLaw" (76 : Nat) ({ cls := "PaneKeepsWeatherModel", name := "swap", desc := "(I)I" } : Jvm.MethodName)) ∈ lw_all := lw_g (lw_at lw_m7 128 rfl) rfl
theorem q1676 : (Jvm.Cond.methodLink "PaneKeepsWeatherLaw" (80 : Nat) ({ cls := "PaneKeepsWeatherModel", name := "settle", desc := "()I" } : Jvm.MethodName)) ∈ lw_all := lw_g (lw_at lw_m7 136 rfl) rfl
theorem q1680 : (Jvm.Cond.methodLink "PaneKeepsWeatherLaw" (84 : Nat) ({ cls := "PaneKeepsWeatherModel", name := "tells", desc := "(III)I" } : Jvm.MethodName)) ∈ lw_all := lw_g (lw_at lw_m7 140 rfl) rfl
theorem q1692 : (Jvm.Cond.methodLink "PaneKeepsWeatherLaw" (88 : Nat) ({ cls := "PaneKeepsWeatherModel", name := "film", desc := "(III)I" } : Jvm.MethodName)) ∈ lw_all := lw_g (lw_at lw_m7 152 rfl) rfl
theorem q1702 : (Jvm.Cond.methodLink "PaneKeepsWeatherLaw" (92 : Nat) ({ cls := "PaneKeepsWeatherModel", name := "drawn", desc := "(I)I" } : Jvm.MethodName)) ∈ lw_all := lw_g (lw_at lw_m7 162 rfl) rfl
theorem q1715 : (Jvm.Cond.methodLink "PaneKeepsWeatherLaw" (97 : Nat) ({ cls := "PaneKeepsWeatherModel", name := "chance", desc := "(III)J" } : Jvm.MethodName)) ∈ lw_all := lw_g (lw_at lw_m7 175 rfl) rfl
theorem q1721 : (Jvm.Cond.methodLink "PaneKeepsWeatherLaw" (101 : Nat) ({ cls := "PaneKeepsWeatherModel", name := "image", desc := "()I" } : Jvm.MethodName)) ∈ lw_all := lw_g (lw_at lw_m7 181 rfl) rfl
theorem q1725 : (Jvm.Cond.methodLink "PaneKeepsWeatherLaw" (105 : Nat) ({ cls := "PaneKeepsWeatherModel", name := "back", desc := "()I" } : Jvm.MethodName)) ∈ lw_all := lw_g (lw_at lw_m7 185 rfl) rfl
theorem q1729 : (Jvm.Cond.methodLink "PaneKeepsWeatherLaw" (109 : Nat) ({ cls := "PaneKeepsWeatherModel", name := "count", desc := "(I)I" } : Jvm.MethodName)) ∈ lw_all := lw_g (lw_at lw_m7 189 rfl) rfl
theorem q1733 : (Jvm.Cond.methodLink "PaneKeepsWeatherLaw" (113 : Nat) ({ cls := "PaneKeepsWeatherModel", name := "sheet", desc := "(III)I" } : Jvm.MethodName)) ∈ lw_all := lw_g (lw_at lw_m7 193 rfl) rfl
theorem q1734 : (Jvm.Cond.methodLink "PaneKeepsWeatherLaw" (117 : Nat) ({ cls := "PaneKeepsWeatherModel", name := "cell", desc := "(III)I" } : Jvm.MethodName)) ∈ lw_all := lw_g (lw_at lw_m7 194 rfl) rfl
theorem q1738 : (Jvm.Cond.methodLink "PaneKeepsWeatherLaw" (122 : Nat) ({ cls := "PaneKeepsWeatherModel", name := "copy", desc := "(IIIII)I" } : Jvm.MethodName)) ∈ lw_all := lw_g (lw_at lw_m7 198 rfl) rfl
theorem q1742 : (Jvm.Cond.methodLink "PaneKeepsWeatherLaw" (127 : Nat) ({ cls := "PaneKeepsWeatherModel", name := "panes", desc := "(IIII)I" } : Jvm.MethodName)) ∈ lw_all := lw_g (lw_at lw_m7 202 rfl) rfl
theorem q1748 : (Jvm.Cond.methodLink "PaneKeepsWeatherLaw" (131 : Nat) ({ cls := "PaneKeepsWeatherModel", name := "taken", desc := "(II)I" } : Jvm.MethodName)) ∈ lw_all := lw_g (lw_at lw_m7 208 rfl) rfl
theorem q454 : (Jvm.Cond.arrayOver (Jvm.ClassFile.FieldType.object "PaneKeepsWeather$Node")) ∈ lw_tbl := lw_at lw_m2 114 rfl
set_option maxRecDepth 100000
theorem q629 : (Jvm.Cond.arrayClass Jvm.ClassFile.FieldType.byte) ∈ lw_all := lw_g (lw_at lw_m3 49 rfl) rfl
theorem q690 : (Jvm.Cond.arrayOver (Jvm.ClassFile.FieldType.object "PaneKeepsWeather$Pane")) ∈ lw_tbl := lw_at lw_m3 110 rfl
theorem q772 : (Jvm.Cond.arrayClass Jvm.ClassFile.FieldType.int) ∈ lw_all := lw_g (lw_at lw_m3 192 rfl) rfl
theorem q774 : (Jvm.Cond.arrayOver (Jvm.ClassFile.FieldType.array (Jvm.ClassFile.FieldType.object "PaneKeepsWeather$Node"))) ∈ lw_tbl := lw_at lw_m3 194 rfl
theorem q776 : (Jvm.Cond.arrayOver (Jvm.ClassFile.FieldType.object "java/lang/String")) ∈ lw_tbl := lw_at lw_m3 196 rfl
theorem q790 : (Jvm.Cond.arrayOver (Jvm.ClassFile.FieldType.array Jvm.ClassFile.FieldType.int)) ∈ lw_tbl := lw_at lw_m3 210 rfl
theorem q792 : (Jvm.Cond.arrayOver (Jvm.ClassFile.FieldType.array (Jvm.ClassFile.FieldType.array Jvm.ClassFile.FieldType.boolean))) ∈ lw_tbl := lw_at lw_m3 212 rfl
theorem q793 : (Jvm.Cond.arrayOver (Jvm.ClassFile.FieldType.array Jvm.ClassFile.FieldType.boolean)) ∈ lw_tbl := lw_at lw_m3 213 rfl
theorem q795 : (Jvm.Cond.arrayOver (Jvm.ClassFile.FieldType.object "PaneKeepsWeather$Sheet")) ∈ lw_tbl := lw_at lw_m3 215 rfl
theorem q805 : (Jvm.Cond.arrayClass Jvm.ClassFile.FieldType.boolean) ∈ lw_all := lw_g (lw_at lw_m3 225 rfl) rfl
theorem q1200 : (Jvm.Cond.arrayClass Jvm.ClassFile.FieldType.short) ∈ lw_all := lw_g (lw_at lw_m5 140 rfl) rfl
theorem q130 : (Jvm.Cond.initialized "java/lang/System") ∈ lw_all := lw_g (lw_at lw_m1 30 rfl) rfl
set_option maxRecDepth 100000
theorem q1229 : (Jvm.Cond.static ({ cls := "java/lang/System", name := "arraycopy", desc := "(Ljava/lang/Object;ILjava/lang/Object;II)V" } : Jvm.MethodName)) ∈ lw_all := lw_g (lw_at lw_m5 169 rfl) rfl
theorem q1230 : (Jvm.Cond.native ({ cls := "java/lang/System", name := "arraycopy", desc := "(Ljava/lang/Object;ILjava/lang/Object;II)V" } : Jvm.MethodName)) ∈ lw_all := lw_g (lw_at lw_m5 170 rfl) rfl
