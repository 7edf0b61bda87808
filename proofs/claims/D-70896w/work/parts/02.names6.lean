/-! DECODE ROWS BY BYTES: one lemma an opcode; a method's code is cut into short pieces once, and a row reads its own piece alone. -/
set_option maxRecDepth 100000
/-- the code has just these bytes from pc on -/
def DkAt (code : ByteArray) (pc : Nat) (bs : List UInt8) : Prop := ∀ (j : Nat) (b : UInt8), bs[j]? = some b → code.data.toList[pc + j]? = some b
/-- the piece W has the bytes bs from its place j on -/
def dkIn (W : List UInt8) (j : Nat) (bs : List UInt8) : Bool := decide ((W.drop j).take bs.length = bs)
theorem dk_seg {l W T : List UInt8} {o o2 : Nat} (h : l.drop o = W ++ T) (n : Nat) (hn : W.length = n) (ho : o + n = o2) : l.drop o2 = T := by
  subst ho
  rw [← List.drop_drop, h, List.drop_left' hn]
theorem dk_at {code : ByteArray} {W T bs : List UInt8} {o pc : Nat} (h : code.data.toList.drop o = W ++ T) (j : Nat) (hp : o + j = pc) (hw : dkIn W j bs = true) : DkAt code pc bs := by
  subst hp
  intro i b e
  have h1 := of_decide_eq_true hw
  have h2 : i < bs.length := (List.getElem?_eq_some_iff.mp e).1
  have h3 : W[j + i]? = some b := by
    rw [← h1, List.getElem?_take, if_pos h2, List.getElem?_drop] at e
    exact e
  have h4 : j + i < W.length := (List.getElem?_eq_some_iff.mp h3).1
  have h5 : (code.data.toList.drop o)[j + i]? = some b := by
    rw [h, List.getElem?_append_left h4]
    exact h3
  rw [List.getElem?_drop, ← Nat.add_assoc] at h5
  exact h5
theorem dk_u1 {A : ByteArray} {p : Nat} {b : UInt8} (h : A.data.toList[p]? = some b) : (Reader.u1 : Reader DecodeError Nat) A p = .ok (b.toNat, p + 1) := by
  obtain ⟨h1, h2⟩ := List.getElem?_eq_some_iff.mp h
  have h3 : p < A.size := by simpa using h1
  have h4 : A[p]'h3 = b := h2
  have e : (Reader.u1 : Reader DecodeError Nat) A p = (if h : p < A.size then .ok (A[p].toNat, p + 1) else .error (HasTruncated.truncated p)) := by
    show (do if h : p < A.size then do set (p + 1); Pure.pure A[p].toNat else MonadExcept.throw (HasTruncated.truncated p) : Reader DecodeError Nat) A p = _
    by_cases hi : p < A.size
    · rw [dif_pos hi, dif_pos hi]; rfl
    · rw [dif_neg hi, dif_neg hi]; rfl
  rw [e, dif_pos h3, h4]
theorem dk_bind {α β : Type} {r : Reader DecodeError α} {f : α → Reader DecodeError β} {A : ByteArray} {p s : Nat} {a : α} (h : r A p = .ok (a, s)) : (r >>= f) A p = f a A s := by
  show (do let (a, s) ← r A p; f a A s : Except DecodeError (β × Nat)) = _
  rw [h]
  rfl
theorem dk_map {α β : Type} {r : Reader DecodeError α} {g : α → β} {A : ByteArray} {p s : Nat} {a : α} (h : r A p = .ok (a, s)) : (g <$> r) A p = .ok (g a, s) := by
  show (do let (a, s) ← r A p; .ok (g a, s) : Except DecodeError (β × Nat)) = _
  rw [h]
  rfl
theorem dk_u2 {A : ByteArray} {p : Nat} {a b : UInt8} (h : A.data.toList[p]? = some a) (h2 : A.data.toList[p + 1]? = some b) : (Reader.u2 : Reader DecodeError Nat) A p = .ok (a.toNat * 256 + b.toNat, p + 2) := by
  show (Reader.u1 >>= fun hi => Reader.u1 >>= fun lo => Pure.pure (hi * 256 + lo) : Reader DecodeError Nat) A p = _
  rw [dk_bind (dk_u1 h), dk_bind (dk_u1 h2)]
  rfl
theorem dk_of {code : ByteArray} {pc n : Nat} {i : Instr} (h : Decoder.instr pc code pc = .ok (i, pc + n)) : decode code pc = .ok (i, n) := by
  have e : decode code pc = (match Decoder.instr pc code pc with | .error x => .error x | .ok (j, s) => .ok (j, s - pc)) := by
    show (do let (j, s) ← Decoder.instr pc code pc; Pure.pure (j, s - pc) : Except DecodeError (Instr × Nat)) = _
    cases Decoder.instr pc code pc <;> rfl
  rw [e, h]
  show Except.ok (i, pc + n - pc) = _
  rw [Nat.add_sub_cancel_left]
theorem dk_1 {code : ByteArray} {pc : Nat} (h : DkAt code pc [1]) : decode code pc = .ok (.aconst_null, 1) := dk_of ((dk_bind (dk_u1 (h 0 _ rfl))).trans rfl)
theorem dk_2 {code : ByteArray} {pc : Nat} (h : DkAt code pc [2]) : decode code pc = .ok (.iconst (-1), 1) := dk_of ((dk_bind (dk_u1 (h 0 _ rfl))).trans rfl)
theorem dk_3 {code : ByteArray} {pc : Nat} (h : DkAt code pc [3]) : decode code pc = .ok (.iconst 0, 1) := dk_of ((dk_bind (dk_u1 (h 0 _ rfl))).trans rfl)
theorem dk_4 {code : ByteArray} {pc : Nat} (h : DkAt code pc [4]) : decode code pc = .ok (.iconst 1, 1) := dk_of ((dk_bind (dk_u1 (h 0 _ rfl))).trans rfl)
theorem dk_5 {code : ByteArray} {pc : Nat} (h : DkAt code pc [5]) : decode code pc = .ok (.iconst 2, 1) := dk_of ((dk_bind (dk_u1 (h 0 _ rfl))).trans rfl)
theorem dk_6 {code : ByteArray} {pc : Nat} (h : DkAt code pc [6]) : decode code pc = .ok (.iconst 3, 1) := dk_of ((dk_bind (dk_u1 (h 0 _ rfl))).trans rfl)
theorem dk_7 {code : ByteArray} {pc : Nat} (h : DkAt code pc [7]) : decode code pc = .ok (.iconst 4, 1) := dk_of ((dk_bind (dk_u1 (h 0 _ rfl))).trans rfl)
theorem dk_8 {code : ByteArray} {pc : Nat} (h : DkAt code pc [8]) : decode code pc = .ok (.iconst 5, 1) := dk_of ((dk_bind (dk_u1 (h 0 _ rfl))).trans rfl)
theorem dk_9 {code : ByteArray} {pc : Nat} (h : DkAt code pc [9]) : decode code pc = .ok (.lconst 0, 1) := dk_of ((dk_bind (dk_u1 (h 0 _ rfl))).trans rfl)
theorem dk_10 {code : ByteArray} {pc : Nat} (h : DkAt code pc [10]) : decode code pc = .ok (.lconst 1, 1) := dk_of ((dk_bind (dk_u1 (h 0 _ rfl))).trans rfl)
theorem dk_16 {code : ByteArray} {pc : Nat} (a : UInt8) (h : DkAt code pc [16, a]) : decode code pc = .ok (.bipush (Reader.signed 8 a.toNat), 2) := dk_of ((dk_bind (dk_u1 (h 0 _ rfl))).trans ((dk_bind (dk_map (dk_u1 (h 1 _ rfl)))).trans rfl))
theorem dk_17 {code : ByteArray} {pc : Nat} (a b : UInt8) (h : DkAt code pc [17, a, b]) : decode code pc = .ok (.sipush (Reader.signed 16 (a.toNat * 256 + b.toNat)), 3) := dk_of ((dk_bind (dk_u1 (h 0 _ rfl))).trans ((dk_bind (dk_map (dk_u2 (h 1 _ rfl) (h 2 _ rfl)))).trans rfl))
theorem dk_18 {code : ByteArray} {pc : Nat} (a : UInt8) (h : DkAt code pc [18, a]) : decode code pc = .ok (.ldc a.toNat, 2) := dk_of ((dk_bind (dk_u1 (h 0 _ rfl))).trans ((dk_bind (dk_u1 (h 1 _ rfl))).trans rfl))
theorem dk_19 {code : ByteArray} {pc : Nat} (a b : UInt8) (h : DkAt code pc [19, a, b]) : decode code pc = .ok (.ldc_w (a.toNat * 256 + b.toNat), 3) := dk_of ((dk_bind (dk_u1 (h 0 _ rfl))).trans ((dk_bind (dk_u2 (h 1 _ rfl) (h 2 _ rfl))).trans rfl))
theorem dk_20 {code : ByteArray} {pc : Nat} (a b : UInt8) (h : DkAt code pc [20, a, b]) : decode code pc = .ok (.ldc2_w (a.toNat * 256 + b.toNat), 3) := dk_of ((dk_bind (dk_u1 (h 0 _ rfl))).trans ((dk_bind (dk_u2 (h 1 _ rfl) (h 2 _ rfl))).trans rfl))
theorem dk_21 {code : ByteArray} {pc : Nat} (a : UInt8) (h : DkAt code pc [21, a]) : decode code pc = .ok (.iload a.toNat, 2) := dk_of ((dk_bind (dk_u1 (h 0 _ rfl))).trans ((dk_bind (dk_u1 (h 1 _ rfl))).trans rfl))
theorem dk_22 {code : ByteArray} {pc : Nat} (a : UInt8) (h : DkAt code pc [22, a]) : decode code pc = .ok (.lload a.toNat, 2) := dk_of ((dk_bind (dk_u1 (h 0 _ rfl))).trans ((dk_bind (dk_u1 (h 1 _ rfl))).trans rfl))
theorem dk_25 {code : ByteArray} {pc : Nat} (a : UInt8) (h : DkAt code pc [25, a]) : decode code pc = .ok (.aload a.toNat, 2) := dk_of ((dk_bind (dk_u1 (h 0 _ rfl))).trans ((dk_bind (dk_u1 (h 1 _ rfl))).trans rfl))
theorem dk_26 {code : ByteArray} {pc : Nat} (h : DkAt code pc [26]) : decode code pc = .ok (.iload_n 0, 1) := dk_of ((dk_bind (dk_u1 (h 0 _ rfl))).trans rfl)
theorem dk_27 {code : ByteArray} {pc : Nat} (h : DkAt code pc [27]) : decode code pc = .ok (.iload_n 1, 1) := dk_of ((dk_bind (dk_u1 (h 0 _ rfl))).trans rfl)
theorem dk_28 {code : ByteArray} {pc : Nat} (h : DkAt code pc [28]) : decode code pc = .ok (.iload_n 2, 1) := dk_of ((dk_bind (dk_u1 (h 0 _ rfl))).trans rfl)
theorem dk_29 {code : ByteArray} {pc : Nat} (h : DkAt code pc [29]) : decode code pc = .ok (.iload_n 3, 1) := dk_of ((dk_bind (dk_u1 (h 0 _ rfl))).trans rfl)
theorem dk_30 {code : ByteArray} {pc : Nat} (h : DkAt code pc [30]) : decode code pc = .ok (.lload_n 0, 1) := dk_of ((dk_bind (dk_u1 (h 0 _ rfl))).trans rfl)
theorem dk_31 {code : ByteArray} {pc : Nat} (h : DkAt code pc [31]) : decode code pc = .ok (.lload_n 1, 1) := dk_of ((dk_bind (dk_u1 (h 0 _ rfl))).trans rfl)
theorem dk_32 {code : ByteArray} {pc : Nat} (h : DkAt code pc [32]) : decode code pc = .ok (.lload_n 2, 1) := dk_of ((dk_bind (dk_u1 (h 0 _ rfl))).trans rfl)
theorem dk_42 {code : ByteArray} {pc : Nat} (h : DkAt code pc [42]) : decode code pc = .ok (.aload_n 0, 1) := dk_of ((dk_bind (dk_u1 (h 0 _ rfl))).trans rfl)
theorem dk_43 {code : ByteArray} {pc : Nat} (h : DkAt code pc [43]) : decode code pc = .ok (.aload_n 1, 1) := dk_of ((dk_bind (dk_u1 (h 0 _ rfl))).trans rfl)
theorem dk_44 {code : ByteArray} {pc : Nat} (h : DkAt code pc [44]) : decode code pc = .ok (.aload_n 2, 1) := dk_of ((dk_bind (dk_u1 (h 0 _ rfl))).trans rfl)
theorem dk_45 {code : ByteArray} {pc : Nat} (h : DkAt code pc [45]) : decode code pc = .ok (.aload_n 3, 1) := dk_of ((dk_bind (dk_u1 (h 0 _ rfl))).trans rfl)
theorem dk_46 {code : ByteArray} {pc : Nat} (h : DkAt code pc [46]) : decode code pc = .ok (.iaload, 1) := dk_of ((dk_bind (dk_u1 (h 0 _ rfl))).trans rfl)
theorem dk_50 {code : ByteArray} {pc : Nat} (h : DkAt code pc [50]) : decode code pc = .ok (.aaload, 1) := dk_of ((dk_bind (dk_u1 (h 0 _ rfl))).trans rfl)
theorem dk_51 {code : ByteArray} {pc : Nat} (h : DkAt code pc [51]) : decode code pc = .ok (.baload, 1) := dk_of ((dk_bind (dk_u1 (h 0 _ rfl))).trans rfl)
theorem dk_53 {code : ByteArray} {pc : Nat} (h : DkAt code pc [53]) : decode code pc = .ok (.saload, 1) := dk_of ((dk_bind (dk_u1 (h 0 _ rfl))).trans rfl)
theorem dk_54 {code : ByteArray} {pc : Nat} (a : UInt8) (h : DkAt code pc [54, a]) : decode code pc = .ok (.istore a.toNat, 2) := dk_of ((dk_bind (dk_u1 (h 0 _ rfl))).trans ((dk_bind (dk_u1 (h 1 _ rfl))).trans rfl))
theorem dk_55 {code : ByteArray} {pc : Nat} (a : UInt8) (h : DkAt code pc [55, a]) : decode code pc = .ok (.lstore a.toNat, 2) := dk_of ((dk_bind (dk_u1 (h 0 _ rfl))).trans ((dk_bind (dk_u1 (h 1 _ rfl))).trans rfl))
theorem dk_58 {code : ByteArray} {pc : Nat} (a : UInt8) (h : DkAt code pc [58, a]) : decode code pc = .ok (.astore a.toNat, 2) := dk_of ((dk_bind (dk_u1 (h 0 _ rfl))).trans ((dk_bind (dk_u1 (h 1 _ rfl))).trans rfl))
theorem dk_60 {code : ByteArray} {pc : Nat} (h : DkAt code pc [60]) : decode code pc = .ok (.istore_n 1, 1) := dk_of ((dk_bind (dk_u1 (h 0 _ rfl))).trans rfl)
theorem dk_61 {code : ByteArray} {pc : Nat} (h : DkAt code pc [61]) : decode code pc = .ok (.istore_n 2, 1) := dk_of ((dk_bind (dk_u1 (h 0 _ rfl))).trans rfl)
theorem dk_62 {code : ByteArray} {pc : Nat} (h : DkAt code pc [62]) : decode code pc = .ok (.istore_n 3, 1) := dk_of ((dk_bind (dk_u1 (h 0 _ rfl))).trans rfl)
theorem dk_64 {code : ByteArray} {pc : Nat} (h : DkAt code pc [64]) : decode code pc = .ok (.lstore_n 1, 1) := dk_of ((dk_bind (dk_u1 (h 0 _ rfl))).trans rfl)
theorem dk_76 {code : ByteArray} {pc : Nat} (h : DkAt code pc [76]) : decode code pc = .ok (.astore_n 1, 1) := dk_of ((dk_bind (dk_u1 (h 0 _ rfl))).trans rfl)
theorem dk_77 {code : ByteArray} {pc : Nat} (h : DkAt code pc [77]) : decode code pc = .ok (.astore_n 2, 1) := dk_of ((dk_bind (dk_u1 (h 0 _ rfl))).trans rfl)
theorem dk_78 {code : ByteArray} {pc : Nat} (h : DkAt code pc [78]) : decode code pc = .ok (.astore_n 3, 1) := dk_of ((dk_bind (dk_u1 (h 0 _ rfl))).trans rfl)
theorem dk_79 {code : ByteArray} {pc : Nat} (h : DkAt code pc [79]) : decode code pc = .ok (.iastore, 1) := dk_of ((dk_bind (dk_u1 (h 0 _ rfl))).trans rfl)
theorem dk_83 {code : ByteArray} {pc : Nat} (h : DkAt code pc [83]) : decode code pc = .ok (.aastore, 1) := dk_of ((dk_bind (dk_u1 (h 0 _ rfl))).trans rfl)
theorem dk_84 {code : ByteArray} {pc : Nat} (h : DkAt code pc [84]) : decode code pc = .ok (.bastore, 1) := dk_of ((dk_bind (dk_u1 (h 0 _ rfl))).trans rfl)
theorem dk_86 {code : ByteArray} {pc : Nat} (h : DkAt code pc [86]) : decode code pc = .ok (.sastore, 1) := dk_of ((dk_bind (dk_u1 (h 0 _ rfl))).trans rfl)
theorem dk_87 {code : ByteArray} {pc : Nat} (h : DkAt code pc [87]) : decode code pc = .ok (.pop, 1) := dk_of ((dk_bind (dk_u1 (h 0 _ rfl))).trans rfl)
theorem dk_89 {code : ByteArray} {pc : Nat} (h : DkAt code pc [89]) : decode code pc = .ok (.dup, 1) := dk_of ((dk_bind (dk_u1 (h 0 _ rfl))).trans rfl)
theorem dk_92 {code : ByteArray} {pc : Nat} (h : DkAt code pc [92]) : decode code pc = .ok (.dup2, 1) := dk_of ((dk_bind (dk_u1 (h 0 _ rfl))).trans rfl)
theorem dk_96 {code : ByteArray} {pc : Nat} (h : DkAt code pc [96]) : decode code pc = .ok (.iadd, 1) := dk_of ((dk_bind (dk_u1 (h 0 _ rfl))).trans rfl)
theorem dk_97 {code : ByteArray} {pc : Nat} (h : DkAt code pc [97]) : decode code pc = .ok (.ladd, 1) := dk_of ((dk_bind (dk_u1 (h 0 _ rfl))).trans rfl)
theorem dk_100 {code : ByteArray} {pc : Nat} (h : DkAt code pc [100]) : decode code pc = .ok (.isub, 1) := dk_of ((dk_bind (dk_u1 (h 0 _ rfl))).trans rfl)
theorem dk_101 {code : ByteArray} {pc : Nat} (h : DkAt code pc [101]) : decode code pc = .ok (.lsub, 1) := dk_of ((dk_bind (dk_u1 (h 0 _ rfl))).trans rfl)
theorem dk_104 {code : ByteArray} {pc : Nat} (h : DkAt code pc [104]) : decode code pc = .ok (.imul, 1) := dk_of ((dk_bind (dk_u1 (h 0 _ rfl))).trans rfl)
theorem dk_105 {code : ByteArray} {pc : Nat} (h : DkAt code pc [105]) : decode code pc = .ok (.lmul, 1) := dk_of ((dk_bind (dk_u1 (h 0 _ rfl))).trans rfl)
theorem dk_108 {code : ByteArray} {pc : Nat} (h : DkAt code pc [108]) : decode code pc = .ok (.idiv, 1) := dk_of ((dk_bind (dk_u1 (h 0 _ rfl))).trans rfl)
theorem dk_109 {code : ByteArray} {pc : Nat} (h : DkAt code pc [109]) : decode code pc = .ok (.ldiv, 1) := dk_of ((dk_bind (dk_u1 (h 0 _ rfl))).trans rfl)
theorem dk_112 {code : ByteArray} {pc : Nat} (h : DkAt code pc [112]) : decode code pc = .ok (.irem, 1) := dk_of ((dk_bind (dk_u1 (h 0 _ rfl))).trans rfl)
theorem dk_113 {code : ByteArray} {pc : Nat} (h : DkAt code pc [113]) : decode code pc = .ok (.lrem, 1) := dk_of ((dk_bind (dk_u1 (h 0 _ rfl))).trans rfl)
theorem dk_120 {code : ByteArray} {pc : Nat} (h : DkAt code pc [120]) : decode code pc = .ok (.ishl, 1) := dk_of ((dk_bind (dk_u1 (h 0 _ rfl))).trans rfl)
theorem dk_121 {code : ByteArray} {pc : Nat} (h : DkAt code pc [121]) : decode code pc = .ok (.lshl, 1) := dk_of ((dk_bind (dk_u1 (h 0 _ rfl))).trans rfl)
theorem dk_122 {code : ByteArray} {pc : Nat} (h : DkAt code pc [122]) : decode code pc = .ok (.ishr, 1) := dk_of ((dk_bind (dk_u1 (h 0 _ rfl))).trans rfl)
theorem dk_124 {code : ByteArray} {pc : Nat} (h : DkAt code pc [124]) : decode code pc = .ok (.iushr, 1) := dk_of ((dk_bind (dk_u1 (h 0 _ rfl))).trans rfl)
theorem dk_126 {code : ByteArray} {pc : Nat} (h : DkAt code pc [126]) : decode code pc = .ok (.iand, 1) := dk_of ((dk_bind (dk_u1 (h 0 _ rfl))).trans rfl)
theorem dk_128 {code : ByteArray} {pc : Nat} (h : DkAt code pc [128]) : decode code pc = .ok (.ior, 1) := dk_of ((dk_bind (dk_u1 (h 0 _ rfl))).trans rfl)
theorem dk_132 {code : ByteArray} {pc : Nat} (a b : UInt8) (h : DkAt code pc [132, a, b]) : decode code pc = .ok (.iinc a.toNat (Reader.signed 8 b.toNat), 3) := dk_of ((dk_bind (dk_u1 (h 0 _ rfl))).trans ((dk_bind (dk_u1 (h 1 _ rfl))).trans ((dk_bind (dk_map (dk_u1 (h 2 _ rfl)))).trans rfl)))
theorem dk_133 {code : ByteArray} {pc : Nat} (h : DkAt code pc [133]) : decode code pc = .ok (.i2l, 1) := dk_of ((dk_bind (dk_u1 (h 0 _ rfl))).trans rfl)
theorem dk_145 {code : ByteArray} {pc : Nat} (h : DkAt code pc [145]) : decode code pc = .ok (.i2b, 1) := dk_of ((dk_bind (dk_u1 (h 0 _ rfl))).trans rfl)
theorem dk_147 {code : ByteArray} {pc : Nat} (h : DkAt code pc [147]) : decode code pc = .ok (.i2s, 1) := dk_of ((dk_bind (dk_u1 (h 0 _ rfl))).trans rfl)
theorem dk_148 {code : ByteArray} {pc : Nat} (h : DkAt code pc [148]) : decode code pc = .ok (.lcmp, 1) := dk_of ((dk_bind (dk_u1 (h 0 _ rfl))).trans rfl)
theorem dk_153 {code : ByteArray} {pc : Nat} (a b : UInt8) (h : DkAt code pc [153, a, b]) : decode code pc = .ok (.ifCond .eq (Reader.signed 16 (a.toNat * 256 + b.toNat)), 3) := dk_of ((dk_bind (dk_u1 (h 0 _ rfl))).trans ((dk_bind (dk_map (dk_u2 (h 1 _ rfl) (h 2 _ rfl)))).trans rfl))
theorem dk_154 {code : ByteArray} {pc : Nat} (a b : UInt8) (h : DkAt code pc [154, a, b]) : decode code pc = .ok (.ifCond .ne (Reader.signed 16 (a.toNat * 256 + b.toNat)), 3) := dk_of ((dk_bind (dk_u1 (h 0 _ rfl))).trans ((dk_bind (dk_map (dk_u2 (h 1 _ rfl) (h 2 _ rfl)))).trans rfl))
theorem dk_155 {code : ByteArray} {pc : Nat} (a b : UInt8) (h : DkAt code pc [155, a, b]) : decode code pc = .ok (.ifCond .lt (Reader.signed 16 (a.toNat * 256 + b.toNat)), 3) := dk_of ((dk_bind (dk_u1 (h 0 _ rfl))).trans ((dk_bind (dk_map (dk_u2 (h 1 _ rfl) (h 2 _ rfl)))).trans rfl))
theorem dk_156 {code : ByteArray} {pc : Nat} (a b : UInt8) (h : DkAt code pc [156, a, b]) : decode code pc = .ok (.ifCond .ge (Reader.signed 16 (a.toNat * 256 + b.toNat)), 3) := dk_of ((dk_bind (dk_u1 (h 0 _ rfl))).trans ((dk_bind (dk_map (dk_u2 (h 1 _ rfl) (h 2 _ rfl)))).trans rfl))
theorem dk_157 {code : ByteArray} {pc : Nat} (a b : UInt8) (h : DkAt code pc [157, a, b]) : decode code pc = .ok (.ifCond .gt (Reader.signed 16 (a.toNat * 256 + b.toNat)), 3) := dk_of ((dk_bind (dk_u1 (h 0 _ rfl))).trans ((dk_bind (dk_map (dk_u2 (h 1 _ rfl) (h 2 _ rfl)))).trans rfl))
theorem dk_158 {code : ByteArray} {pc : Nat} (a b : UInt8) (h : DkAt code pc [158, a, b]) : decode code pc = .ok (.ifCond .le (Reader.signed 16 (a.toNat * 256 + b.toNat)), 3) := dk_of ((dk_bind (dk_u1 (h 0 _ rfl))).trans ((dk_bind (dk_map (dk_u2 (h 1 _ rfl) (h 2 _ rfl)))).trans rfl))
theorem dk_159 {code : ByteArray} {pc : Nat} (a b : UInt8) (h : DkAt code pc [159, a, b]) : decode code pc = .ok (.if_icmp .eq (Reader.signed 16 (a.toNat * 256 + b.toNat)), 3) := dk_of ((dk_bind (dk_u1 (h 0 _ rfl))).trans ((dk_bind (dk_map (dk_u2 (h 1 _ rfl) (h 2 _ rfl)))).trans rfl))
theorem dk_160 {code : ByteArray} {pc : Nat} (a b : UInt8) (h : DkAt code pc [160, a, b]) : decode code pc = .ok (.if_icmp .ne (Reader.signed 16 (a.toNat * 256 + b.toNat)), 3) := dk_of ((dk_bind (dk_u1 (h 0 _ rfl))).trans ((dk_bind (dk_map (dk_u2 (h 1 _ rfl) (h 2 _ rfl)))).trans rfl))
theorem dk_161 {code : ByteArray} {pc : Nat} (a b : UInt8) (h : DkAt code pc [161, a, b]) : decode code pc = .ok (.if_icmp .lt (Reader.signed 16 (a.toNat * 256 + b.toNat)), 3) := dk_of ((dk_bind (dk_u1 (h 0 _ rfl))).trans ((dk_bind (dk_map (dk_u2 (h 1 _ rfl) (h 2 _ rfl)))).trans rfl))
theorem dk_162 {code : ByteArray} {pc : Nat} (a b : UInt8) (h : DkAt code pc [162, a, b]) : decode code pc = .ok (.if_icmp .ge (Reader.signed 16 (a.toNat * 256 + b.toNat)), 3) := dk_of ((dk_bind (dk_u1 (h 0 _ rfl))).trans ((dk_bind (dk_map (dk_u2 (h 1 _ rfl) (h 2 _ rfl)))).trans rfl))
theorem dk_163 {code : ByteArray} {pc : Nat} (a b : UInt8) (h : DkAt code pc [163, a, b]) : decode code pc = .ok (.if_icmp .gt (Reader.signed 16 (a.toNat * 256 + b.toNat)), 3) := dk_of ((dk_bind (dk_u1 (h 0 _ rfl))).trans ((dk_bind (dk_map (dk_u2 (h 1 _ rfl) (h 2 _ rfl)))).trans rfl))
theorem dk_164 {code : ByteArray} {pc : Nat} (a b : UInt8) (h : DkAt code pc [164, a, b]) : decode code pc = .ok (.if_icmp .le (Reader.signed 16 (a.toNat * 256 + b.toNat)), 3) := dk_of ((dk_bind (dk_u1 (h 0 _ rfl))).trans ((dk_bind (dk_map (dk_u2 (h 1 _ rfl) (h 2 _ rfl)))).trans rfl))
theorem dk_167 {code : ByteArray} {pc : Nat} (a b : UInt8) (h : DkAt code pc [167, a, b]) : decode code pc = .ok (.goto (Reader.signed 16 (a.toNat * 256 + b.toNat)), 3) := dk_of ((dk_bind (dk_u1 (h 0 _ rfl))).trans ((dk_bind (dk_map (dk_u2 (h 1 _ rfl) (h 2 _ rfl)))).trans rfl))
theorem dk_172 {code : ByteArray} {pc : Nat} (h : DkAt code pc [172]) : decode code pc = .ok (.ireturn, 1) := dk_of ((dk_bind (dk_u1 (h 0 _ rfl))).trans rfl)
theorem dk_173 {code : ByteArray} {pc : Nat} (h : DkAt code pc [173]) : decode code pc = .ok (.lreturn, 1) := dk_of ((dk_bind (dk_u1 (h 0 _ rfl))).trans rfl)
theorem dk_176 {code : ByteArray} {pc : Nat} (h : DkAt code pc [176]) : decode code pc = .ok (.areturn, 1) := dk_of ((dk_bind (dk_u1 (h 0 _ rfl))).trans rfl)
theorem dk_177 {code : ByteArray} {pc : Nat} (h : DkAt code pc [177]) : decode code pc = .ok (.return_, 1) := dk_of ((dk_bind (dk_u1 (h 0 _ rfl))).trans rfl)
theorem dk_178 {code : ByteArray} {pc : Nat} (a b : UInt8) (h : DkAt code pc [178, a, b]) : decode code pc = .ok (.getstatic (a.toNat * 256 + b.toNat), 3) := dk_of ((dk_bind (dk_u1 (h 0 _ rfl))).trans ((dk_bind (dk_u2 (h 1 _ rfl) (h 2 _ rfl))).trans rfl))
theorem dk_180 {code : ByteArray} {pc : Nat} (a b : UInt8) (h : DkAt code pc [180, a, b]) : decode code pc = .ok (.getfield (a.toNat * 256 + b.toNat), 3) := dk_of ((dk_bind (dk_u1 (h 0 _ rfl))).trans ((dk_bind (dk_u2 (h 1 _ rfl) (h 2 _ rfl))).trans rfl))
theorem dk_181 {code : ByteArray} {pc : Nat} (a b : UInt8) (h : DkAt code pc [181, a, b]) : decode code pc = .ok (.putfield (a.toNat * 256 + b.toNat), 3) := dk_of ((dk_bind (dk_u1 (h 0 _ rfl))).trans ((dk_bind (dk_u2 (h 1 _ rfl) (h 2 _ rfl))).trans rfl))
theorem dk_182 {code : ByteArray} {pc : Nat} (a b : UInt8) (h : DkAt code pc [182, a, b]) : decode code pc = .ok (.invokevirtual (a.toNat * 256 + b.toNat), 3) := dk_of ((dk_bind (dk_u1 (h 0 _ rfl))).trans ((dk_bind (dk_u2 (h 1 _ rfl) (h 2 _ rfl))).trans rfl))
theorem dk_183 {code : ByteArray} {pc : Nat} (a b : UInt8) (h : DkAt code pc [183, a, b]) : decode code pc = .ok (.invokespecial (a.toNat * 256 + b.toNat), 3) := dk_of ((dk_bind (dk_u1 (h 0 _ rfl))).trans ((dk_bind (dk_u2 (h 1 _ rfl) (h 2 _ rfl))).trans rfl))
theorem dk_184 {code : ByteArray} {pc : Nat} (a b : UInt8) (h : DkAt code pc [184, a, b]) : decode code pc = .ok (.invokestatic (a.toNat * 256 + b.toNat), 3) := dk_of ((dk_bind (dk_u1 (h 0 _ rfl))).trans ((dk_bind (dk_u2 (h 1 _ rfl) (h 2 _ rfl))).trans rfl))
theorem dk_187 {code : ByteArray} {pc : Nat} (a b : UInt8) (h : DkAt code pc [187, a, b]) : decode code pc = .ok (.new (a.toNat * 256 + b.toNat), 3) := dk_of ((dk_bind (dk_u1 (h 0 _ rfl))).trans ((dk_bind (dk_u2 (h 1 _ rfl) (h 2 _ rfl))).trans rfl))
theorem dk_188_8 {code : ByteArray} {pc : Nat} (h : DkAt code pc [188, 8]) : decode code pc = .ok (.newarray .byte, 2) := dk_of ((dk_bind (dk_u1 (h 0 _ rfl))).trans ((dk_bind (dk_u1 (h 1 _ rfl))).trans rfl))
theorem dk_188_9 {code : ByteArray} {pc : Nat} (h : DkAt code pc [188, 9]) : decode code pc = .ok (.newarray .short, 2) := dk_of ((dk_bind (dk_u1 (h 0 _ rfl))).trans ((dk_bind (dk_u1 (h 1 _ rfl))).trans rfl))
theorem dk_188_10 {code : ByteArray} {pc : Nat} (h : DkAt code pc [188, 10]) : decode code pc = .ok (.newarray .int, 2) := dk_of ((dk_bind (dk_u1 (h 0 _ rfl))).trans ((dk_bind (dk_u1 (h 1 _ rfl))).trans rfl))
theorem dk_189 {code : ByteArray} {pc : Nat} (a b : UInt8) (h : DkAt code pc [189, a, b]) : decode code pc = .ok (.anewarray (a.toNat * 256 + b.toNat), 3) := dk_of ((dk_bind (dk_u1 (h 0 _ rfl))).trans ((dk_bind (dk_u2 (h 1 _ rfl) (h 2 _ rfl))).trans rfl))
theorem dk_190 {code : ByteArray} {pc : Nat} (h : DkAt code pc [190]) : decode code pc = .ok (.arraylength, 1) := dk_of ((dk_bind (dk_u1 (h 0 _ rfl))).trans rfl)
theorem dk_192 {code : ByteArray} {pc : Nat} (a b : UInt8) (h : DkAt code pc [192, a, b]) : decode code pc = .ok (.checkcast (a.toNat * 256 + b.toNat), 3) := dk_of ((dk_bind (dk_u1 (h 0 _ rfl))).trans ((dk_bind (dk_u2 (h 1 _ rfl) (h 2 _ rfl))).trans rfl))
theorem dk_198 {code : ByteArray} {pc : Nat} (a b : UInt8) (h : DkAt code pc [198, a, b]) : decode code pc = .ok (.ifnull (Reader.signed 16 (a.toNat * 256 + b.toNat)), 3) := dk_of ((dk_bind (dk_u1 (h 0 _ rfl))).trans ((dk_bind (dk_map (dk_u2 (h 1 _ rfl) (h 2 _ rfl)))).trans rfl))
theorem dk_199 {code : ByteArray} {pc : Nat} (a b : UInt8) (h : DkAt code pc [199, a, b]) : decode code pc = .ok (.ifnonnull (Reader.signed 16 (a.toNat * 256 + b.toNat)), 3) := dk_of ((dk_bind (dk_u1 (h 0 _ rfl))).trans ((dk_bind (dk_map (dk_u2 (h 1 _ rfl) (h 2 _ rfl)))).trans rfl))
theorem q519 : (Jvm.Cond.arrayOver (Jvm.ClassFile.FieldType.array Jvm.ClassFile.FieldType.int)) ∈ lw_tbl := lw_at lw_m2 191 rfl
set_option maxRecDepth 100000
theorem q521 : (Jvm.Cond.arrayOver (Jvm.ClassFile.FieldType.object "QuestionRoad$Carter")) ∈ lw_tbl := lw_at lw_m2 193 rfl
theorem q523 : (Jvm.Cond.arrayOver (Jvm.ClassFile.FieldType.object "QuestionRoad$Question")) ∈ lw_tbl := lw_at lw_m2 195 rfl
theorem q533 : (Jvm.Cond.arrayClass Jvm.ClassFile.FieldType.int) ∈ lw_all := lw_g (lw_at lw_m2 205 rfl) rfl
theorem q545 : (Jvm.Cond.arrayOver (Jvm.ClassFile.FieldType.object "QuestionRoad$Sheet")) ∈ lw_tbl := lw_at lw_m2 217 rfl
theorem q790 : (Jvm.Cond.arrayClass Jvm.ClassFile.FieldType.byte) ∈ lw_all := lw_g (lw_at lw_m3 222 rfl) rfl
theorem q798 : (Jvm.Cond.arrayClass Jvm.ClassFile.FieldType.short) ∈ lw_all := lw_g (lw_at lw_m3 230 rfl) rfl
theorem q97 : (Jvm.Cond.initialized "java/lang/System") ∈ lw_all := lw_g (lw_at lw_m1 9 rfl) rfl
set_option maxRecDepth 100000
theorem q280 : (Jvm.Cond.static ({ cls := "java/lang/System", name := "arraycopy", desc := "(Ljava/lang/Object;ILjava/lang/Object;II)V" } : Jvm.MethodName)) ∈ lw_all := lw_g (lw_at lw_m1 192 rfl) rfl
theorem q281 : (Jvm.Cond.native ({ cls := "java/lang/System", name := "arraycopy", desc := "(Ljava/lang/Object;ILjava/lang/Object;II)V" } : Jvm.MethodName)) ∈ lw_all := lw_g (lw_at lw_m1 193 rfl) rfl
/-! QuestionRoadModel -/
set_option maxRecDepth 100000
def RX6 : String := "QuestionRoadModel"
def TX6 : u_T := fun k => match k with
  | 0 => ("QuestionRoadModel", "forms", "[I", true)
  | 1 => ("QuestionRoadModel", "sizes", "[I", true)
  | 2 => ("QuestionRoadModel", "items", "[I", true)
  | 3 => ("QuestionRoadModel", "moved", "[I", true)
  | 4 => ("QuestionRoadModel", "latest", "I", false)
  | 5 => ("QuestionRoadModel", "bytes", "[I", true)
  | 6 => ("QuestionRoadModel", "typed", "[I", true)
  | 7 => ("QuestionRoadModel", "ways", "I", false)
  | 8 => ("QuestionRoadModel", "way", "[I", true)
  | 9 => ("QuestionRoadModel", "carters", "I", false)
  | 10 => ("QuestionRoadModel", "carter", "[I", true)
  | 11 => ("QuestionRoadModel", "late", "[I", true)
  | 12 => ("QuestionRoadModel", "answers", "I", false)
  | 13 => ("QuestionRoadModel", "answer", "[I", true)
  | 14 => ("QuestionRoadModel", "gone", "I", false)
  | 15 => ("QuestionRoadModel", "step", "[I", true)
  | 16 => ("QuestionRoadModel", "far", "[I", true)
  | 17 => ("QuestionRoadModel", "state", "[I", true)
  | 18 => ("QuestionRoadModel", "place", "[I", true)
  | 19 => ("QuestionRoadModel", "strength", "[I", true)
  | 20 => ("QuestionRoadModel", "whither", "[I", true)
  | 21 => ("QuestionRoadModel", "arrives", "[I", true)
  | 22 => ("QuestionRoadModel", "ends", "[I", true)
  | 23 => ("QuestionRoadModel", "kept", "[I", true)
  | 24 => ("QuestionRoadModel", "present", "[I", true)
  | 25 => ("QuestionRoadModel", "arrivals", "[I", true)
  | 26 => ("QuestionRoadModel", "metOn", "I", false)
  | 27 => ("QuestionRoadModel", "metAt", "I", false)
  | 28 => ("QuestionRoadModel", "sights", "I", false)
  | 29 => ("QuestionRoadModel", "sight", "[I", true)
  | 30 => ("QuestionRoadModel", "places", "[I", true)
  | _ => ("QuestionRoadModel", "drawn", "I", false)
def tyX6 : Nat → FieldType := fun k => match k with
  | 0 => .array .int
  | 1 => .array .int
  | 2 => .array .int
  | 3 => .array .int
  | 4 => .int
  | 5 => .array .int
  | 6 => .array .int
  | 7 => .int
  | 8 => .array .int
  | 9 => .int
  | 10 => .array .int
  | 11 => .array .int
  | 12 => .int
  | 13 => .array .int
  | 14 => .int
  | 15 => .array .int
  | 16 => .array .int
  | 17 => .array .int
  | 18 => .array .int
  | 19 => .array .int
  | 20 => .array .int
  | 21 => .array .int
  | 22 => .array .int
  | 23 => .array .int
  | 24 => .array .int
  | 25 => .array .int
  | 26 => .int
  | 27 => .int
  | 28 => .int
  | 29 => .array .int
  | 30 => .array .int
  | _ => .int
abbrev wsX60 : List Cond := u_ws RX6 TX6 32
set_option maxRecDepth 100000 in
theorem nmX6 : ∀ a, a < 32 → ∀ b, b < 32 → a ≠ b → (TX6 a).2.1 ≠ (TX6 b).2.1 := by decide +kernel
set_option maxRecDepth 100000 in
theorem tyX6_ok : ∀ k, k < 32 → parseFieldDescriptor (TX6 k).2.2.1 = some (tyX6 k) := by decide +kernel
abbrev cX6_init : ByteArray := prog_8_method_1_code
def yX6_init : MethodName := ⟨RX6, "<init>", "()V"⟩
def dkwX6_init_8 : List UInt8 := [7, 162, 0, 16, 42, 180, 0, 7, 27, 2, 79, 132, 1, 1, 167, 255, 241, 177]
abbrev dktX6_init_8 : List UInt8 := dkwX6_init_8 ++ []
def dkwX6_init_7 : List UInt8 := [188, 10, 181, 0, 70, 42, 16, 24, 188, 10, 181, 0, 73, 42, 16, 120, 188, 10, 181, 0, 76, 3, 60, 27]
abbrev dktX6_init_7 : List UInt8 := dkwX6_init_7 ++ dktX6_init_8
def dkwX6_init_6 : List UInt8 := [181, 0, 61, 42, 17, 5, 0, 188, 10, 181, 0, 64, 42, 16, 8, 188, 10, 181, 0, 67, 42, 16, 8]
abbrev dktX6_init_6 : List UInt8 := dkwX6_init_6 ++ dktX6_init_7
def dkwX6_init_5 : List UInt8 := [181, 0, 52, 42, 16, 8, 188, 10, 181, 0, 55, 42, 16, 8, 188, 10, 181, 0, 58, 42, 16, 8, 188, 10]
abbrev dktX6_init_5 : List UInt8 := dkwX6_init_5 ++ dktX6_init_6
def dkwX6_init_4 : List UInt8 := [181, 0, 43, 42, 16, 8, 188, 10, 181, 0, 46, 42, 16, 8, 188, 10, 181, 0, 49, 42, 16, 8, 188, 10]
abbrev dktX6_init_4 : List UInt8 := dkwX6_init_4 ++ dktX6_init_5
def dkwX6_init_3 : List UInt8 := [181, 0, 34, 42, 16, 16, 188, 10, 181, 0, 37, 42, 16, 64, 188, 10, 181, 0, 40, 42, 16, 64, 188, 10]
abbrev dktX6_init_3 : List UInt8 := dkwX6_init_3 ++ dktX6_init_4
def dkwX6_init_2 : List UInt8 := [181, 0, 25, 42, 16, 40, 188, 10, 181, 0, 28, 42, 16, 40, 188, 10, 181, 0, 31, 42, 16, 8, 188, 10]
abbrev dktX6_init_2 : List UInt8 := dkwX6_init_2 ++ dktX6_init_3
def dkwX6_init_1 : List UInt8 := [181, 0, 16, 42, 16, 60, 188, 10, 181, 0, 19, 42, 16, 112, 188, 10, 181, 0, 22, 42, 5, 188, 10]
abbrev dktX6_init_1 : List UInt8 := dkwX6_init_1 ++ dktX6_init_2
def dkwX6_init_0 : List UInt8 := [42, 183, 0, 1, 42, 7, 188, 10, 181, 0, 7, 42, 7, 188, 10, 181, 0, 13, 42, 17, 0, 240, 188, 10]
abbrev dktX6_init_0 : List UInt8 := dkwX6_init_0 ++ dktX6_init_1
theorem dksX6_init_0 : cX6_init.data.toList.drop 0 = dktX6_init_0 := by decide +kernel
theorem dksX6_init_1 : cX6_init.data.toList.drop 24 = dktX6_init_1 := dk_seg dksX6_init_0 24 rfl rfl
theorem dksX6_init_2 : cX6_init.data.toList.drop 47 = dktX6_init_2 := dk_seg dksX6_init_1 23 rfl rfl
theorem dksX6_init_3 : cX6_init.data.toList.drop 71 = dktX6_init_3 := dk_seg dksX6_init_2 24 rfl rfl
theorem dksX6_init_4 : cX6_init.data.toList.drop 95 = dktX6_init_4 := dk_seg dksX6_init_3 24 rfl rfl
theorem dksX6_init_5 : cX6_init.data.toList.drop 119 = dktX6_init_5 := dk_seg dksX6_init_4 24 rfl rfl
theorem dksX6_init_6 : cX6_init.data.toList.drop 143 = dktX6_init_6 := dk_seg dksX6_init_5 24 rfl rfl
theorem dksX6_init_7 : cX6_init.data.toList.drop 166 = dktX6_init_7 := dk_seg dksX6_init_6 23 rfl rfl
theorem dksX6_init_8 : cX6_init.data.toList.drop 190 = dktX6_init_8 := dk_seg dksX6_init_7 24 rfl rfl
theorem dX6_init_0 : decode cX6_init 0 = .ok (.aload_n 0, 1) := dk_42 (dk_at dksX6_init_0 0 rfl rfl)
theorem dX6_init_1 : decode cX6_init 1 = .ok (.invokespecial 1, 3) := dk_183 0 1 (dk_at dksX6_init_0 1 rfl rfl)
theorem dX6_init_4 : decode cX6_init 4 = .ok (.aload_n 0, 1) := dk_42 (dk_at dksX6_init_0 4 rfl rfl)
theorem dX6_init_5 : decode cX6_init 5 = .ok (.iconst 4, 1) := dk_7 (dk_at dksX6_init_0 5 rfl rfl)
theorem dX6_init_6 : decode cX6_init 6 = .ok (.newarray .int, 2) := dk_188_10 (dk_at dksX6_init_0 6 rfl rfl)
theorem dX6_init_8 : decode cX6_init 8 = .ok (.putfield 7, 3) := dk_181 0 7 (dk_at dksX6_init_0 8 rfl rfl)
theorem dX6_init_11 : decode cX6_init 11 = .ok (.aload_n 0, 1) := dk_42 (dk_at dksX6_init_0 11 rfl rfl)
theorem dX6_init_12 : decode cX6_init 12 = .ok (.iconst 4, 1) := dk_7 (dk_at dksX6_init_0 12 rfl rfl)
theorem dX6_init_13 : decode cX6_init 13 = .ok (.newarray .int, 2) := dk_188_10 (dk_at dksX6_init_0 13 rfl rfl)
theorem dX6_init_15 : decode cX6_init 15 = .ok (.putfield 13, 3) := dk_181 0 13 (dk_at dksX6_init_0 15 rfl rfl)
theorem dX6_init_18 : decode cX6_init 18 = .ok (.aload_n 0, 1) := dk_42 (dk_at dksX6_init_0 18 rfl rfl)
theorem dX6_init_19 : decode cX6_init 19 = .ok (.sipush 240, 3) := dk_17 0 240 (dk_at dksX6_init_0 19 rfl rfl)
theorem dX6_init_22 : decode cX6_init 22 = .ok (.newarray .int, 2) := dk_188_10 (dk_at dksX6_init_0 22 rfl rfl)
theorem dX6_init_24 : decode cX6_init 24 = .ok (.putfield 16, 3) := dk_181 0 16 (dk_at dksX6_init_1 0 rfl rfl)
theorem dX6_init_27 : decode cX6_init 27 = .ok (.aload_n 0, 1) := dk_42 (dk_at dksX6_init_1 3 rfl rfl)
theorem dX6_init_28 : decode cX6_init 28 = .ok (.bipush 60, 2) := dk_16 60 (dk_at dksX6_init_1 4 rfl rfl)
theorem dX6_init_30 : decode cX6_init 30 = .ok (.newarray .int, 2) := dk_188_10 (dk_at dksX6_init_1 6 rfl rfl)
theorem dX6_init_32 : decode cX6_init 32 = .ok (.putfield 19, 3) := dk_181 0 19 (dk_at dksX6_init_1 8 rfl rfl)
theorem dX6_init_35 : decode cX6_init 35 = .ok (.aload_n 0, 1) := dk_42 (dk_at dksX6_init_1 11 rfl rfl)
theorem dX6_init_36 : decode cX6_init 36 = .ok (.bipush 112, 2) := dk_16 112 (dk_at dksX6_init_1 12 rfl rfl)
theorem dX6_init_38 : decode cX6_init 38 = .ok (.newarray .int, 2) := dk_188_10 (dk_at dksX6_init_1 14 rfl rfl)
theorem dX6_init_40 : decode cX6_init 40 = .ok (.putfield 22, 3) := dk_181 0 22 (dk_at dksX6_init_1 16 rfl rfl)
theorem dX6_init_43 : decode cX6_init 43 = .ok (.aload_n 0, 1) := dk_42 (dk_at dksX6_init_1 19 rfl rfl)
theorem dX6_init_44 : decode cX6_init 44 = .ok (.iconst 2, 1) := dk_5 (dk_at dksX6_init_1 20 rfl rfl)
theorem dX6_init_45 : decode cX6_init 45 = .ok (.newarray .int, 2) := dk_188_10 (dk_at dksX6_init_1 21 rfl rfl)
theorem dX6_init_47 : decode cX6_init 47 = .ok (.putfield 25, 3) := dk_181 0 25 (dk_at dksX6_init_2 0 rfl rfl)
theorem dX6_init_50 : decode cX6_init 50 = .ok (.aload_n 0, 1) := dk_42 (dk_at dksX6_init_2 3 rfl rfl)
theorem dX6_init_51 : decode cX6_init 51 = .ok (.bipush 40, 2) := dk_16 40 (dk_at dksX6_init_2 4 rfl rfl)
theorem dX6_init_53 : decode cX6_init 53 = .ok (.newarray .int, 2) := dk_188_10 (dk_at dksX6_init_2 6 rfl rfl)
theorem dX6_init_55 : decode cX6_init 55 = .ok (.putfield 28, 3) := dk_181 0 28 (dk_at dksX6_init_2 8 rfl rfl)
theorem dX6_init_58 : decode cX6_init 58 = .ok (.aload_n 0, 1) := dk_42 (dk_at dksX6_init_2 11 rfl rfl)
theorem dX6_init_59 : decode cX6_init 59 = .ok (.bipush 40, 2) := dk_16 40 (dk_at dksX6_init_2 12 rfl rfl)
theorem dX6_init_61 : decode cX6_init 61 = .ok (.newarray .int, 2) := dk_188_10 (dk_at dksX6_init_2 14 rfl rfl)
theorem dX6_init_63 : decode cX6_init 63 = .ok (.putfield 31, 3) := dk_181 0 31 (dk_at dksX6_init_2 16 rfl rfl)
theorem dX6_init_66 : decode cX6_init 66 = .ok (.aload_n 0, 1) := dk_42 (dk_at dksX6_init_2 19 rfl rfl)
theorem dX6_init_67 : decode cX6_init 67 = .ok (.bipush 8, 2) := dk_16 8 (dk_at dksX6_init_2 20 rfl rfl)
theorem dX6_init_69 : decode cX6_init 69 = .ok (.newarray .int, 2) := dk_188_10 (dk_at dksX6_init_2 22 rfl rfl)
theorem dX6_init_71 : decode cX6_init 71 = .ok (.putfield 34, 3) := dk_181 0 34 (dk_at dksX6_init_3 0 rfl rfl)
theorem dX6_init_74 : decode cX6_init 74 = .ok (.aload_n 0, 1) := dk_42 (dk_at dksX6_init_3 3 rfl rfl)
theorem dX6_init_75 : decode cX6_init 75 = .ok (.bipush 16, 2) := dk_16 16 (dk_at dksX6_init_3 4 rfl rfl)
theorem dX6_init_77 : decode cX6_init 77 = .ok (.newarray .int, 2) := dk_188_10 (dk_at dksX6_init_3 6 rfl rfl)
theorem dX6_init_79 : decode cX6_init 79 = .ok (.putfield 37, 3) := dk_181 0 37 (dk_at dksX6_init_3 8 rfl rfl)
theorem dX6_init_82 : decode cX6_init 82 = .ok (.aload_n 0, 1) := dk_42 (dk_at dksX6_init_3 11 rfl rfl)
theorem dX6_init_83 : decode cX6_init 83 = .ok (.bipush 64, 2) := dk_16 64 (dk_at dksX6_init_3 12 rfl rfl)
theorem dX6_init_85 : decode cX6_init 85 = .ok (.newarray .int, 2) := dk_188_10 (dk_at dksX6_init_3 14 rfl rfl)
theorem dX6_init_87 : decode cX6_init 87 = .ok (.putfield 40, 3) := dk_181 0 40 (dk_at dksX6_init_3 16 rfl rfl)
theorem dX6_init_90 : decode cX6_init 90 = .ok (.aload_n 0, 1) := dk_42 (dk_at dksX6_init_3 19 rfl rfl)
theorem dX6_init_91 : decode cX6_init 91 = .ok (.bipush 64, 2) := dk_16 64 (dk_at dksX6_init_3 20 rfl rfl)
theorem dX6_init_93 : decode cX6_init 93 = .ok (.newarray .int, 2) := dk_188_10 (dk_at dksX6_init_3 22 rfl rfl)
theorem dX6_init_95 : decode cX6_init 95 = .ok (.putfield 43, 3) := dk_181 0 43 (dk_at dksX6_init_4 0 rfl rfl)
theorem dX6_init_98 : decode cX6_init 98 = .ok (.aload_n 0, 1) := dk_42 (dk_at dksX6_init_4 3 rfl rfl)
theorem dX6_init_99 : decode cX6_init 99 = .ok (.bipush 8, 2) := dk_16 8 (dk_at dksX6_init_4 4 rfl rfl)
theorem dX6_init_101 : decode cX6_init 101 = .ok (.newarray .int, 2) := dk_188_10 (dk_at dksX6_init_4 6 rfl rfl)
theorem dX6_init_103 : decode cX6_init 103 = .ok (.putfield 46, 3) := dk_181 0 46 (dk_at dksX6_init_4 8 rfl rfl)
theorem dX6_init_106 : decode cX6_init 106 = .ok (.aload_n 0, 1) := dk_42 (dk_at dksX6_init_4 11 rfl rfl)
theorem dX6_init_107 : decode cX6_init 107 = .ok (.bipush 8, 2) := dk_16 8 (dk_at dksX6_init_4 12 rfl rfl)
theorem dX6_init_109 : decode cX6_init 109 = .ok (.newarray .int, 2) := dk_188_10 (dk_at dksX6_init_4 14 rfl rfl)
theorem dX6_init_111 : decode cX6_init 111 = .ok (.putfield 49, 3) := dk_181 0 49 (dk_at dksX6_init_4 16 rfl rfl)
theorem dX6_init_114 : decode cX6_init 114 = .ok (.aload_n 0, 1) := dk_42 (dk_at dksX6_init_4 19 rfl rfl)
theorem dX6_init_115 : decode cX6_init 115 = .ok (.bipush 8, 2) := dk_16 8 (dk_at dksX6_init_4 20 rfl rfl)
theorem dX6_init_117 : decode cX6_init 117 = .ok (.newarray .int, 2) := dk_188_10 (dk_at dksX6_init_4 22 rfl rfl)
theorem dX6_init_119 : decode cX6_init 119 = .ok (.putfield 52, 3) := dk_181 0 52 (dk_at dksX6_init_5 0 rfl rfl)
theorem dX6_init_122 : decode cX6_init 122 = .ok (.aload_n 0, 1) := dk_42 (dk_at dksX6_init_5 3 rfl rfl)
theorem dX6_init_123 : decode cX6_init 123 = .ok (.bipush 8, 2) := dk_16 8 (dk_at dksX6_init_5 4 rfl rfl)
theorem dX6_init_125 : decode cX6_init 125 = .ok (.newarray .int, 2) := dk_188_10 (dk_at dksX6_init_5 6 rfl rfl)
theorem dX6_init_127 : decode cX6_init 127 = .ok (.putfield 55, 3) := dk_181 0 55 (dk_at dksX6_init_5 8 rfl rfl)
theorem dX6_init_130 : decode cX6_init 130 = .ok (.aload_n 0, 1) := dk_42 (dk_at dksX6_init_5 11 rfl rfl)
theorem dX6_init_131 : decode cX6_init 131 = .ok (.bipush 8, 2) := dk_16 8 (dk_at dksX6_init_5 12 rfl rfl)
theorem dX6_init_133 : decode cX6_init 133 = .ok (.newarray .int, 2) := dk_188_10 (dk_at dksX6_init_5 14 rfl rfl)
theorem dX6_init_135 : decode cX6_init 135 = .ok (.putfield 58, 3) := dk_181 0 58 (dk_at dksX6_init_5 16 rfl rfl)
theorem dX6_init_138 : decode cX6_init 138 = .ok (.aload_n 0, 1) := dk_42 (dk_at dksX6_init_5 19 rfl rfl)
theorem dX6_init_139 : decode cX6_init 139 = .ok (.bipush 8, 2) := dk_16 8 (dk_at dksX6_init_5 20 rfl rfl)
theorem dX6_init_141 : decode cX6_init 141 = .ok (.newarray .int, 2) := dk_188_10 (dk_at dksX6_init_5 22 rfl rfl)
theorem dX6_init_143 : decode cX6_init 143 = .ok (.putfield 61, 3) := dk_181 0 61 (dk_at dksX6_init_6 0 rfl rfl)
theorem dX6_init_146 : decode cX6_init 146 = .ok (.aload_n 0, 1) := dk_42 (dk_at dksX6_init_6 3 rfl rfl)
theorem dX6_init_147 : decode cX6_init 147 = .ok (.sipush 1280, 3) := dk_17 5 0 (dk_at dksX6_init_6 4 rfl rfl)
theorem dX6_init_150 : decode cX6_init 150 = .ok (.newarray .int, 2) := dk_188_10 (dk_at dksX6_init_6 7 rfl rfl)
theorem dX6_init_152 : decode cX6_init 152 = .ok (.putfield 64, 3) := dk_181 0 64 (dk_at dksX6_init_6 9 rfl rfl)
theorem dX6_init_155 : decode cX6_init 155 = .ok (.aload_n 0, 1) := dk_42 (dk_at dksX6_init_6 12 rfl rfl)
theorem dX6_init_156 : decode cX6_init 156 = .ok (.bipush 8, 2) := dk_16 8 (dk_at dksX6_init_6 13 rfl rfl)
theorem dX6_init_158 : decode cX6_init 158 = .ok (.newarray .int, 2) := dk_188_10 (dk_at dksX6_init_6 15 rfl rfl)
theorem dX6_init_160 : decode cX6_init 160 = .ok (.putfield 67, 3) := dk_181 0 67 (dk_at dksX6_init_6 17 rfl rfl)
theorem dX6_init_163 : decode cX6_init 163 = .ok (.aload_n 0, 1) := dk_42 (dk_at dksX6_init_6 20 rfl rfl)
theorem dX6_init_164 : decode cX6_init 164 = .ok (.bipush 8, 2) := dk_16 8 (dk_at dksX6_init_6 21 rfl rfl)
theorem dX6_init_166 : decode cX6_init 166 = .ok (.newarray .int, 2) := dk_188_10 (dk_at dksX6_init_7 0 rfl rfl)
theorem dX6_init_168 : decode cX6_init 168 = .ok (.putfield 70, 3) := dk_181 0 70 (dk_at dksX6_init_7 2 rfl rfl)
theorem dX6_init_171 : decode cX6_init 171 = .ok (.aload_n 0, 1) := dk_42 (dk_at dksX6_init_7 5 rfl rfl)
theorem dX6_init_172 : decode cX6_init 172 = .ok (.bipush 24, 2) := dk_16 24 (dk_at dksX6_init_7 6 rfl rfl)
theorem dX6_init_174 : decode cX6_init 174 = .ok (.newarray .int, 2) := dk_188_10 (dk_at dksX6_init_7 8 rfl rfl)
theorem dX6_init_176 : decode cX6_init 176 = .ok (.putfield 73, 3) := dk_181 0 73 (dk_at dksX6_init_7 10 rfl rfl)
theorem dX6_init_179 : decode cX6_init 179 = .ok (.aload_n 0, 1) := dk_42 (dk_at dksX6_init_7 13 rfl rfl)
theorem dX6_init_180 : decode cX6_init 180 = .ok (.bipush 120, 2) := dk_16 120 (dk_at dksX6_init_7 14 rfl rfl)
theorem dX6_init_182 : decode cX6_init 182 = .ok (.newarray .int, 2) := dk_188_10 (dk_at dksX6_init_7 16 rfl rfl)
theorem dX6_init_184 : decode cX6_init 184 = .ok (.putfield 76, 3) := dk_181 0 76 (dk_at dksX6_init_7 18 rfl rfl)
theorem dX6_init_187 : decode cX6_init 187 = .ok (.iconst 0, 1) := dk_3 (dk_at dksX6_init_7 21 rfl rfl)
theorem dX6_init_188 : decode cX6_init 188 = .ok (.istore_n 1, 1) := dk_60 (dk_at dksX6_init_7 22 rfl rfl)
theorem dX6_init_189 : decode cX6_init 189 = .ok (.iload_n 1, 1) := dk_27 (dk_at dksX6_init_7 23 rfl rfl)
theorem dX6_init_190 : decode cX6_init 190 = .ok (.iconst 4, 1) := dk_7 (dk_at dksX6_init_8 0 rfl rfl)
theorem dX6_init_191 : decode cX6_init 191 = .ok (.if_icmp .ge 16, 3) := dk_162 0 16 (dk_at dksX6_init_8 1 rfl rfl)
theorem dX6_init_194 : decode cX6_init 194 = .ok (.aload_n 0, 1) := dk_42 (dk_at dksX6_init_8 4 rfl rfl)
theorem dX6_init_195 : decode cX6_init 195 = .ok (.getfield 7, 3) := dk_180 0 7 (dk_at dksX6_init_8 5 rfl rfl)
theorem dX6_init_198 : decode cX6_init 198 = .ok (.iload_n 1, 1) := dk_27 (dk_at dksX6_init_8 8 rfl rfl)
theorem dX6_init_199 : decode cX6_init 199 = .ok (.iconst (-1), 1) := dk_2 (dk_at dksX6_init_8 9 rfl rfl)
theorem dX6_init_200 : decode cX6_init 200 = .ok (.iastore, 1) := dk_79 (dk_at dksX6_init_8 10 rfl rfl)
theorem dX6_init_201 : decode cX6_init 201 = .ok (.iinc 1 1, 3) := dk_132 1 1 (dk_at dksX6_init_8 11 rfl rfl)
theorem dX6_init_204 : decode cX6_init 204 = .ok (.goto (-15), 3) := dk_167 255 241 (dk_at dksX6_init_8 14 rfl rfl)
theorem dX6_init_207 : decode cX6_init 207 = .ok (.return_, 1) := dk_177 (dk_at dksX6_init_8 17 rfl rfl)
abbrev cX6_sheet : ByteArray := prog_8_method_13_code
def yX6_sheet : MethodName := ⟨RX6, "sheet", "(III)I"⟩
def dkwX6_sheet_3 : List UInt8 := [21, 4, 96, 3, 79, 132, 4, 1, 167, 255, 234, 29, 172]
abbrev dktX6_sheet_3 : List UInt8 := dkwX6_sheet_3 ++ []
def dkwX6_sheet_2 : List UInt8 := [180, 0, 13, 27, 29, 79, 3, 54, 4, 21, 4, 29, 162, 0, 22, 42, 180, 0, 16, 16, 60, 27, 104]
abbrev dktX6_sheet_2 : List UInt8 := dkwX6_sheet_2 ++ dktX6_sheet_3
def dkwX6_sheet_1 : List UInt8 := [164, 0, 6, 16, 254, 172, 29, 156, 0, 9, 42, 8, 182, 0, 97, 172, 42, 180, 0, 7, 27, 28, 79, 42]
abbrev dktX6_sheet_1 : List UInt8 := dkwX6_sheet_1 ++ dktX6_sheet_2
def dkwX6_sheet_0 : List UInt8 := [27, 184, 0, 91, 153, 0, 21, 28, 133, 9, 20, 0, 95, 184, 0, 81, 153, 0, 9, 29, 16, 60]
abbrev dktX6_sheet_0 : List UInt8 := dkwX6_sheet_0 ++ dktX6_sheet_1
theorem dksX6_sheet_0 : cX6_sheet.data.toList.drop 0 = dktX6_sheet_0 := by decide +kernel
theorem dksX6_sheet_1 : cX6_sheet.data.toList.drop 22 = dktX6_sheet_1 := dk_seg dksX6_sheet_0 22 rfl rfl
theorem dksX6_sheet_2 : cX6_sheet.data.toList.drop 46 = dktX6_sheet_2 := dk_seg dksX6_sheet_1 24 rfl rfl
theorem dksX6_sheet_3 : cX6_sheet.data.toList.drop 69 = dktX6_sheet_3 := dk_seg dksX6_sheet_2 23 rfl rfl
theorem dX6_sheet_0 : decode cX6_sheet 0 = .ok (.iload_n 1, 1) := dk_27 (dk_at dksX6_sheet_0 0 rfl rfl)
theorem dX6_sheet_1 : decode cX6_sheet 1 = .ok (.invokestatic 91, 3) := dk_184 0 91 (dk_at dksX6_sheet_0 1 rfl rfl)
theorem dX6_sheet_4 : decode cX6_sheet 4 = .ok (.ifCond .eq 21, 3) := dk_153 0 21 (dk_at dksX6_sheet_0 4 rfl rfl)
theorem dX6_sheet_7 : decode cX6_sheet 7 = .ok (.iload_n 2, 1) := dk_28 (dk_at dksX6_sheet_0 7 rfl rfl)
theorem dX6_sheet_8 : decode cX6_sheet 8 = .ok (.i2l, 1) := dk_133 (dk_at dksX6_sheet_0 8 rfl rfl)
theorem dX6_sheet_9 : decode cX6_sheet 9 = .ok (.lconst 0, 1) := dk_9 (dk_at dksX6_sheet_0 9 rfl rfl)
theorem dX6_sheet_10 : decode cX6_sheet 10 = .ok (.ldc2_w 95, 3) := dk_20 0 95 (dk_at dksX6_sheet_0 10 rfl rfl)
theorem dX6_sheet_13 : decode cX6_sheet 13 = .ok (.invokestatic 81, 3) := dk_184 0 81 (dk_at dksX6_sheet_0 13 rfl rfl)
theorem dX6_sheet_16 : decode cX6_sheet 16 = .ok (.ifCond .eq 9, 3) := dk_153 0 9 (dk_at dksX6_sheet_0 16 rfl rfl)
theorem dX6_sheet_19 : decode cX6_sheet 19 = .ok (.iload_n 3, 1) := dk_29 (dk_at dksX6_sheet_0 19 rfl rfl)
theorem dX6_sheet_20 : decode cX6_sheet 20 = .ok (.bipush 60, 2) := dk_16 60 (dk_at dksX6_sheet_0 20 rfl rfl)
theorem dX6_sheet_22 : decode cX6_sheet 22 = .ok (.if_icmp .le 6, 3) := dk_164 0 6 (dk_at dksX6_sheet_1 0 rfl rfl)
theorem dX6_sheet_25 : decode cX6_sheet 25 = .ok (.bipush (-2), 2) := dk_16 254 (dk_at dksX6_sheet_1 3 rfl rfl)
theorem dX6_sheet_27 : decode cX6_sheet 27 = .ok (.ireturn, 1) := dk_172 (dk_at dksX6_sheet_1 5 rfl rfl)
theorem dX6_sheet_28 : decode cX6_sheet 28 = .ok (.iload_n 3, 1) := dk_29 (dk_at dksX6_sheet_1 6 rfl rfl)
theorem dX6_sheet_29 : decode cX6_sheet 29 = .ok (.ifCond .ge 9, 3) := dk_156 0 9 (dk_at dksX6_sheet_1 7 rfl rfl)
theorem dX6_sheet_32 : decode cX6_sheet 32 = .ok (.aload_n 0, 1) := dk_42 (dk_at dksX6_sheet_1 10 rfl rfl)
theorem dX6_sheet_33 : decode cX6_sheet 33 = .ok (.iconst 5, 1) := dk_8 (dk_at dksX6_sheet_1 11 rfl rfl)
theorem dX6_sheet_34 : decode cX6_sheet 34 = .ok (.invokevirtual 97, 3) := dk_182 0 97 (dk_at dksX6_sheet_1 12 rfl rfl)
theorem dX6_sheet_37 : decode cX6_sheet 37 = .ok (.ireturn, 1) := dk_172 (dk_at dksX6_sheet_1 15 rfl rfl)
theorem dX6_sheet_38 : decode cX6_sheet 38 = .ok (.aload_n 0, 1) := dk_42 (dk_at dksX6_sheet_1 16 rfl rfl)
theorem dX6_sheet_39 : decode cX6_sheet 39 = .ok (.getfield 7, 3) := dk_180 0 7 (dk_at dksX6_sheet_1 17 rfl rfl)
theorem dX6_sheet_42 : decode cX6_sheet 42 = .ok (.iload_n 1, 1) := dk_27 (dk_at dksX6_sheet_1 20 rfl rfl)
theorem dX6_sheet_43 : decode cX6_sheet 43 = .ok (.iload_n 2, 1) := dk_28 (dk_at dksX6_sheet_1 21 rfl rfl)
theorem dX6_sheet_44 : decode cX6_sheet 44 = .ok (.iastore, 1) := dk_79 (dk_at dksX6_sheet_1 22 rfl rfl)
theorem dX6_sheet_45 : decode cX6_sheet 45 = .ok (.aload_n 0, 1) := dk_42 (dk_at dksX6_sheet_1 23 rfl rfl)
theorem dX6_sheet_46 : decode cX6_sheet 46 = .ok (.getfield 13, 3) := dk_180 0 13 (dk_at dksX6_sheet_2 0 rfl rfl)
theorem dX6_sheet_49 : decode cX6_sheet 49 = .ok (.iload_n 1, 1) := dk_27 (dk_at dksX6_sheet_2 3 rfl rfl)
theorem dX6_sheet_50 : decode cX6_sheet 50 = .ok (.iload_n 3, 1) := dk_29 (dk_at dksX6_sheet_2 4 rfl rfl)
theorem dX6_sheet_51 : decode cX6_sheet 51 = .ok (.iastore, 1) := dk_79 (dk_at dksX6_sheet_2 5 rfl rfl)
theorem dX6_sheet_52 : decode cX6_sheet 52 = .ok (.iconst 0, 1) := dk_3 (dk_at dksX6_sheet_2 6 rfl rfl)
theorem dX6_sheet_53 : decode cX6_sheet 53 = .ok (.istore 4, 2) := dk_54 4 (dk_at dksX6_sheet_2 7 rfl rfl)
theorem dX6_sheet_55 : decode cX6_sheet 55 = .ok (.iload 4, 2) := dk_21 4 (dk_at dksX6_sheet_2 9 rfl rfl)
theorem dX6_sheet_57 : decode cX6_sheet 57 = .ok (.iload_n 3, 1) := dk_29 (dk_at dksX6_sheet_2 11 rfl rfl)
theorem dX6_sheet_58 : decode cX6_sheet 58 = .ok (.if_icmp .ge 22, 3) := dk_162 0 22 (dk_at dksX6_sheet_2 12 rfl rfl)
theorem dX6_sheet_61 : decode cX6_sheet 61 = .ok (.aload_n 0, 1) := dk_42 (dk_at dksX6_sheet_2 15 rfl rfl)
theorem dX6_sheet_62 : decode cX6_sheet 62 = .ok (.getfield 16, 3) := dk_180 0 16 (dk_at dksX6_sheet_2 16 rfl rfl)
theorem dX6_sheet_65 : decode cX6_sheet 65 = .ok (.bipush 60, 2) := dk_16 60 (dk_at dksX6_sheet_2 19 rfl rfl)
theorem dX6_sheet_67 : decode cX6_sheet 67 = .ok (.iload_n 1, 1) := dk_27 (dk_at dksX6_sheet_2 21 rfl rfl)
theorem dX6_sheet_68 : decode cX6_sheet 68 = .ok (.imul, 1) := dk_104 (dk_at dksX6_sheet_2 22 rfl rfl)
theorem dX6_sheet_69 : decode cX6_sheet 69 = .ok (.iload 4, 2) := dk_21 4 (dk_at dksX6_sheet_3 0 rfl rfl)
theorem dX6_sheet_71 : decode cX6_sheet 71 = .ok (.iadd, 1) := dk_96 (dk_at dksX6_sheet_3 2 rfl rfl)
theorem dX6_sheet_72 : decode cX6_sheet 72 = .ok (.iconst 0, 1) := dk_3 (dk_at dksX6_sheet_3 3 rfl rfl)
theorem dX6_sheet_73 : decode cX6_sheet 73 = .ok (.iastore, 1) := dk_79 (dk_at dksX6_sheet_3 4 rfl rfl)
theorem dX6_sheet_74 : decode cX6_sheet 74 = .ok (.iinc 4 1, 3) := dk_132 4 1 (dk_at dksX6_sheet_3 5 rfl rfl)
theorem dX6_sheet_77 : decode cX6_sheet 77 = .ok (.goto (-22), 3) := dk_167 255 234 (dk_at dksX6_sheet_3 8 rfl rfl)
theorem dX6_sheet_80 : decode cX6_sheet 80 = .ok (.iload_n 3, 1) := dk_29 (dk_at dksX6_sheet_3 11 rfl rfl)
theorem dX6_sheet_81 : decode cX6_sheet 81 = .ok (.ireturn, 1) := dk_172 (dk_at dksX6_sheet_3 12 rfl rfl)
abbrev cX6_isSheet : ByteArray := prog_8_method_12_code
def yX6_isSheet : MethodName := ⟨RX6, "isSheet", "(I)Z"⟩
def dkwX6_isSheet_0 : List UInt8 := [26, 133, 9, 20, 0, 89, 184, 0, 81, 172]
abbrev dktX6_isSheet_0 : List UInt8 := dkwX6_isSheet_0 ++ []
theorem dksX6_isSheet_0 : cX6_isSheet.data.toList.drop 0 = dktX6_isSheet_0 := by decide +kernel
theorem dX6_isSheet_0 : decode cX6_isSheet 0 = .ok (.iload_n 0, 1) := dk_26 (dk_at dksX6_isSheet_0 0 rfl rfl)
theorem dX6_isSheet_1 : decode cX6_isSheet 1 = .ok (.i2l, 1) := dk_133 (dk_at dksX6_isSheet_0 1 rfl rfl)
theorem dX6_isSheet_2 : decode cX6_isSheet 2 = .ok (.lconst 0, 1) := dk_9 (dk_at dksX6_isSheet_0 2 rfl rfl)
theorem dX6_isSheet_3 : decode cX6_isSheet 3 = .ok (.ldc2_w 89, 3) := dk_20 0 89 (dk_at dksX6_isSheet_0 3 rfl rfl)
theorem dX6_isSheet_6 : decode cX6_isSheet 6 = .ok (.invokestatic 81, 3) := dk_184 0 81 (dk_at dksX6_isSheet_0 6 rfl rfl)
theorem dX6_isSheet_9 : decode cX6_isSheet 9 = .ok (.ireturn, 1) := dk_172 (dk_at dksX6_isSheet_0 9 rfl rfl)
abbrev cX6_in : ByteArray := prog_8_method_3_code
def yX6_in : MethodName := ⟨RX6, "in", "(JJJ)Z"⟩
def dkwX6_in_0 : List UInt8 := [30, 32, 148, 155, 0, 14, 30, 22, 4, 148, 157, 0, 7, 4, 167, 0, 4, 3, 172]
abbrev dktX6_in_0 : List UInt8 := dkwX6_in_0 ++ []
theorem dksX6_in_0 : cX6_in.data.toList.drop 0 = dktX6_in_0 := by decide +kernel
theorem dX6_in_0 : decode cX6_in 0 = .ok (.lload_n 0, 1) := dk_30 (dk_at dksX6_in_0 0 rfl rfl)
theorem dX6_in_1 : decode cX6_in 1 = .ok (.lload_n 2, 1) := dk_32 (dk_at dksX6_in_0 1 rfl rfl)
theorem dX6_in_2 : decode cX6_in 2 = .ok (.lcmp, 1) := dk_148 (dk_at dksX6_in_0 2 rfl rfl)
theorem dX6_in_3 : decode cX6_in 3 = .ok (.ifCond .lt 14, 3) := dk_155 0 14 (dk_at dksX6_in_0 3 rfl rfl)
theorem dX6_in_6 : decode cX6_in 6 = .ok (.lload_n 0, 1) := dk_30 (dk_at dksX6_in_0 6 rfl rfl)
theorem dX6_in_7 : decode cX6_in 7 = .ok (.lload 4, 2) := dk_22 4 (dk_at dksX6_in_0 7 rfl rfl)
theorem dX6_in_9 : decode cX6_in 9 = .ok (.lcmp, 1) := dk_148 (dk_at dksX6_in_0 9 rfl rfl)
theorem dX6_in_10 : decode cX6_in 10 = .ok (.ifCond .gt 7, 3) := dk_157 0 7 (dk_at dksX6_in_0 10 rfl rfl)
theorem dX6_in_13 : decode cX6_in 13 = .ok (.iconst 1, 1) := dk_4 (dk_at dksX6_in_0 13 rfl rfl)
theorem dX6_in_14 : decode cX6_in 14 = .ok (.goto 4, 3) := dk_167 0 4 (dk_at dksX6_in_0 14 rfl rfl)
theorem dX6_in_17 : decode cX6_in 17 = .ok (.iconst 0, 1) := dk_3 (dk_at dksX6_in_0 17 rfl rfl)
theorem dX6_in_18 : decode cX6_in 18 = .ok (.ireturn, 1) := dk_172 (dk_at dksX6_in_0 18 rfl rfl)
abbrev cX6_finds : ByteArray := prog_8_method_11_code
def yX6_finds : MethodName := ⟨RX6, "finds", "(I)I"⟩
def dkwX6_finds_0 : List UInt8 := [42, 27, 181, 0, 85, 16, 246, 27, 100, 172]
abbrev dktX6_finds_0 : List UInt8 := dkwX6_finds_0 ++ []
theorem dksX6_finds_0 : cX6_finds.data.toList.drop 0 = dktX6_finds_0 := by decide +kernel
theorem dX6_finds_0 : decode cX6_finds 0 = .ok (.aload_n 0, 1) := dk_42 (dk_at dksX6_finds_0 0 rfl rfl)
theorem dX6_finds_1 : decode cX6_finds 1 = .ok (.iload_n 1, 1) := dk_27 (dk_at dksX6_finds_0 1 rfl rfl)
theorem dX6_finds_2 : decode cX6_finds 2 = .ok (.putfield 85, 3) := dk_181 0 85 (dk_at dksX6_finds_0 2 rfl rfl)
theorem dX6_finds_5 : decode cX6_finds 5 = .ok (.bipush (-10), 2) := dk_16 246 (dk_at dksX6_finds_0 5 rfl rfl)
theorem dX6_finds_7 : decode cX6_finds 7 = .ok (.iload_n 1, 1) := dk_27 (dk_at dksX6_finds_0 7 rfl rfl)
theorem dX6_finds_8 : decode cX6_finds 8 = .ok (.isub, 1) := dk_100 (dk_at dksX6_finds_0 8 rfl rfl)
theorem dX6_finds_9 : decode cX6_finds 9 = .ok (.ireturn, 1) := dk_172 (dk_at dksX6_finds_0 9 rfl rfl)
abbrev cX6_lose : ByteArray := prog_8_method_14_code
def yX6_lose : MethodName := ⟨RX6, "lose", "(I)I"⟩
def dkwX6_lose_1 : List UInt8 := [172, 42, 180, 0, 7, 27, 2, 79, 42, 180, 0, 13, 27, 46, 172]
abbrev dktX6_lose_1 : List UInt8 := dkwX6_lose_1 ++ []
def dkwX6_lose_0 : List UInt8 := [27, 184, 0, 91, 154, 0, 6, 16, 254, 172, 42, 180, 0, 7, 27, 46, 156, 0, 9, 42, 4, 182, 0, 97]
abbrev dktX6_lose_0 : List UInt8 := dkwX6_lose_0 ++ dktX6_lose_1
theorem dksX6_lose_0 : cX6_lose.data.toList.drop 0 = dktX6_lose_0 := by decide +kernel
theorem dksX6_lose_1 : cX6_lose.data.toList.drop 24 = dktX6_lose_1 := dk_seg dksX6_lose_0 24 rfl rfl
theorem dX6_lose_0 : decode cX6_lose 0 = .ok (.iload_n 1, 1) := dk_27 (dk_at dksX6_lose_0 0 rfl rfl)
theorem dX6_lose_1 : decode cX6_lose 1 = .ok (.invokestatic 91, 3) := dk_184 0 91 (dk_at dksX6_lose_0 1 rfl rfl)
theorem dX6_lose_4 : decode cX6_lose 4 = .ok (.ifCond .ne 6, 3) := dk_154 0 6 (dk_at dksX6_lose_0 4 rfl rfl)
theorem dX6_lose_7 : decode cX6_lose 7 = .ok (.bipush (-2), 2) := dk_16 254 (dk_at dksX6_lose_0 7 rfl rfl)
theorem dX6_lose_9 : decode cX6_lose 9 = .ok (.ireturn, 1) := dk_172 (dk_at dksX6_lose_0 9 rfl rfl)
theorem dX6_lose_10 : decode cX6_lose 10 = .ok (.aload_n 0, 1) := dk_42 (dk_at dksX6_lose_0 10 rfl rfl)
theorem dX6_lose_11 : decode cX6_lose 11 = .ok (.getfield 7, 3) := dk_180 0 7 (dk_at dksX6_lose_0 11 rfl rfl)
theorem dX6_lose_14 : decode cX6_lose 14 = .ok (.iload_n 1, 1) := dk_27 (dk_at dksX6_lose_0 14 rfl rfl)
theorem dX6_lose_15 : decode cX6_lose 15 = .ok (.iaload, 1) := dk_46 (dk_at dksX6_lose_0 15 rfl rfl)
theorem dX6_lose_16 : decode cX6_lose 16 = .ok (.ifCond .ge 9, 3) := dk_156 0 9 (dk_at dksX6_lose_0 16 rfl rfl)
theorem dX6_lose_19 : decode cX6_lose 19 = .ok (.aload_n 0, 1) := dk_42 (dk_at dksX6_lose_0 19 rfl rfl)
theorem dX6_lose_20 : decode cX6_lose 20 = .ok (.iconst 1, 1) := dk_4 (dk_at dksX6_lose_0 20 rfl rfl)
theorem dX6_lose_21 : decode cX6_lose 21 = .ok (.invokevirtual 97, 3) := dk_182 0 97 (dk_at dksX6_lose_0 21 rfl rfl)
theorem dX6_lose_24 : decode cX6_lose 24 = .ok (.ireturn, 1) := dk_172 (dk_at dksX6_lose_1 0 rfl rfl)
theorem dX6_lose_25 : decode cX6_lose 25 = .ok (.aload_n 0, 1) := dk_42 (dk_at dksX6_lose_1 1 rfl rfl)
theorem dX6_lose_26 : decode cX6_lose 26 = .ok (.getfield 7, 3) := dk_180 0 7 (dk_at dksX6_lose_1 2 rfl rfl)
theorem dX6_lose_29 : decode cX6_lose 29 = .ok (.iload_n 1, 1) := dk_27 (dk_at dksX6_lose_1 5 rfl rfl)
theorem dX6_lose_30 : decode cX6_lose 30 = .ok (.iconst (-1), 1) := dk_2 (dk_at dksX6_lose_1 6 rfl rfl)
theorem dX6_lose_31 : decode cX6_lose 31 = .ok (.iastore, 1) := dk_79 (dk_at dksX6_lose_1 7 rfl rfl)
theorem dX6_lose_32 : decode cX6_lose 32 = .ok (.aload_n 0, 1) := dk_42 (dk_at dksX6_lose_1 8 rfl rfl)
theorem dX6_lose_33 : decode cX6_lose 33 = .ok (.getfield 13, 3) := dk_180 0 13 (dk_at dksX6_lose_1 9 rfl rfl)
theorem dX6_lose_36 : decode cX6_lose 36 = .ok (.iload_n 1, 1) := dk_27 (dk_at dksX6_lose_1 12 rfl rfl)
theorem dX6_lose_37 : decode cX6_lose 37 = .ok (.iaload, 1) := dk_46 (dk_at dksX6_lose_1 13 rfl rfl)
theorem dX6_lose_38 : decode cX6_lose 38 = .ok (.ireturn, 1) := dk_172 (dk_at dksX6_lose_1 14 rfl rfl)
abbrev cX6_lay : ByteArray := prog_8_method_17_code
def yX6_lay : MethodName := ⟨RX6, "lay", "(IIII)I"⟩
def dkwX6_lay_2 : List UInt8 := [96, 28, 21, 4, 184, 0, 105, 79, 4, 172]
abbrev dktX6_lay_2 : List UInt8 := dkwX6_lay_2 ++ []
def dkwX6_lay_1 : List UInt8 := [28, 29, 182, 0, 101, 54, 5, 21, 5, 153, 0, 6, 21, 5, 172, 42, 180, 0, 16, 16, 60, 27, 104, 29]
abbrev dktX6_lay_1 : List UInt8 := dkwX6_lay_1 ++ dktX6_lay_2
def dkwX6_lay_0 : List UInt8 := [27, 184, 0, 91, 153, 0, 15, 28, 133, 9, 20, 0, 95, 184, 0, 81, 154, 0, 6, 16, 254, 172, 42, 27]
abbrev dktX6_lay_0 : List UInt8 := dkwX6_lay_0 ++ dktX6_lay_1
theorem dksX6_lay_0 : cX6_lay.data.toList.drop 0 = dktX6_lay_0 := by decide +kernel
theorem dksX6_lay_1 : cX6_lay.data.toList.drop 24 = dktX6_lay_1 := dk_seg dksX6_lay_0 24 rfl rfl
theorem dksX6_lay_2 : cX6_lay.data.toList.drop 48 = dktX6_lay_2 := dk_seg dksX6_lay_1 24 rfl rfl
theorem dX6_lay_0 : decode cX6_lay 0 = .ok (.iload_n 1, 1) := dk_27 (dk_at dksX6_lay_0 0 rfl rfl)
theorem dX6_lay_1 : decode cX6_lay 1 = .ok (.invokestatic 91, 3) := dk_184 0 91 (dk_at dksX6_lay_0 1 rfl rfl)
theorem dX6_lay_4 : decode cX6_lay 4 = .ok (.ifCond .eq 15, 3) := dk_153 0 15 (dk_at dksX6_lay_0 4 rfl rfl)
theorem dX6_lay_7 : decode cX6_lay 7 = .ok (.iload_n 2, 1) := dk_28 (dk_at dksX6_lay_0 7 rfl rfl)
theorem dX6_lay_8 : decode cX6_lay 8 = .ok (.i2l, 1) := dk_133 (dk_at dksX6_lay_0 8 rfl rfl)
theorem dX6_lay_9 : decode cX6_lay 9 = .ok (.lconst 0, 1) := dk_9 (dk_at dksX6_lay_0 9 rfl rfl)
theorem dX6_lay_10 : decode cX6_lay 10 = .ok (.ldc2_w 95, 3) := dk_20 0 95 (dk_at dksX6_lay_0 10 rfl rfl)
theorem dX6_lay_13 : decode cX6_lay 13 = .ok (.invokestatic 81, 3) := dk_184 0 81 (dk_at dksX6_lay_0 13 rfl rfl)
theorem dX6_lay_16 : decode cX6_lay 16 = .ok (.ifCond .ne 6, 3) := dk_154 0 6 (dk_at dksX6_lay_0 16 rfl rfl)
theorem dX6_lay_19 : decode cX6_lay 19 = .ok (.bipush (-2), 2) := dk_16 254 (dk_at dksX6_lay_0 19 rfl rfl)
theorem dX6_lay_21 : decode cX6_lay 21 = .ok (.ireturn, 1) := dk_172 (dk_at dksX6_lay_0 21 rfl rfl)
theorem dX6_lay_22 : decode cX6_lay 22 = .ok (.aload_n 0, 1) := dk_42 (dk_at dksX6_lay_0 22 rfl rfl)
theorem dX6_lay_23 : decode cX6_lay 23 = .ok (.iload_n 1, 1) := dk_27 (dk_at dksX6_lay_0 23 rfl rfl)
theorem dX6_lay_24 : decode cX6_lay 24 = .ok (.iload_n 2, 1) := dk_28 (dk_at dksX6_lay_1 0 rfl rfl)
theorem dX6_lay_25 : decode cX6_lay 25 = .ok (.iload_n 3, 1) := dk_29 (dk_at dksX6_lay_1 1 rfl rfl)
theorem dX6_lay_26 : decode cX6_lay 26 = .ok (.invokevirtual 101, 3) := dk_182 0 101 (dk_at dksX6_lay_1 2 rfl rfl)
theorem dX6_lay_29 : decode cX6_lay 29 = .ok (.istore 5, 2) := dk_54 5 (dk_at dksX6_lay_1 5 rfl rfl)
theorem dX6_lay_31 : decode cX6_lay 31 = .ok (.iload 5, 2) := dk_21 5 (dk_at dksX6_lay_1 7 rfl rfl)
theorem dX6_lay_33 : decode cX6_lay 33 = .ok (.ifCond .eq 6, 3) := dk_153 0 6 (dk_at dksX6_lay_1 9 rfl rfl)
theorem dX6_lay_36 : decode cX6_lay 36 = .ok (.iload 5, 2) := dk_21 5 (dk_at dksX6_lay_1 12 rfl rfl)
theorem dX6_lay_38 : decode cX6_lay 38 = .ok (.ireturn, 1) := dk_172 (dk_at dksX6_lay_1 14 rfl rfl)
theorem dX6_lay_39 : decode cX6_lay 39 = .ok (.aload_n 0, 1) := dk_42 (dk_at dksX6_lay_1 15 rfl rfl)
theorem dX6_lay_40 : decode cX6_lay 40 = .ok (.getfield 16, 3) := dk_180 0 16 (dk_at dksX6_lay_1 16 rfl rfl)
theorem dX6_lay_43 : decode cX6_lay 43 = .ok (.bipush 60, 2) := dk_16 60 (dk_at dksX6_lay_1 19 rfl rfl)
theorem dX6_lay_45 : decode cX6_lay 45 = .ok (.iload_n 1, 1) := dk_27 (dk_at dksX6_lay_1 21 rfl rfl)
theorem dX6_lay_46 : decode cX6_lay 46 = .ok (.imul, 1) := dk_104 (dk_at dksX6_lay_1 22 rfl rfl)
theorem dX6_lay_47 : decode cX6_lay 47 = .ok (.iload_n 3, 1) := dk_29 (dk_at dksX6_lay_1 23 rfl rfl)
theorem dX6_lay_48 : decode cX6_lay 48 = .ok (.iadd, 1) := dk_96 (dk_at dksX6_lay_2 0 rfl rfl)
theorem dX6_lay_49 : decode cX6_lay 49 = .ok (.iload_n 2, 1) := dk_28 (dk_at dksX6_lay_2 1 rfl rfl)
theorem dX6_lay_50 : decode cX6_lay 50 = .ok (.iload 4, 2) := dk_21 4 (dk_at dksX6_lay_2 2 rfl rfl)
theorem dX6_lay_52 : decode cX6_lay 52 = .ok (.invokestatic 105, 3) := dk_184 0 105 (dk_at dksX6_lay_2 4 rfl rfl)
theorem dX6_lay_55 : decode cX6_lay 55 = .ok (.iastore, 1) := dk_79 (dk_at dksX6_lay_2 7 rfl rfl)
theorem dX6_lay_56 : decode cX6_lay 56 = .ok (.iconst 1, 1) := dk_4 (dk_at dksX6_lay_2 8 rfl rfl)
theorem dX6_lay_57 : decode cX6_lay 57 = .ok (.ireturn, 1) := dk_172 (dk_at dksX6_lay_2 9 rfl rfl)
abbrev cX6_lacks : ByteArray := prog_8_method_15_code
def yX6_lacks : MethodName := ⟨RX6, "lacks", "(III)I"⟩
def dkwX6_lacks_2 : List UInt8 := [153, 0, 7, 3, 167, 0, 8, 42, 5, 182, 0, 97, 172]
abbrev dktX6_lacks_2 : List UInt8 := dkwX6_lacks_2 ++ []
def dkwX6_lacks_1 : List UInt8 := [159, 0, 9, 42, 6, 182, 0, 97, 172, 29, 133, 9, 42, 180, 0, 13, 27, 46, 4, 100, 133, 184, 0, 81]
abbrev dktX6_lacks_1 : List UInt8 := dkwX6_lacks_1 ++ dktX6_lacks_2
def dkwX6_lacks_0 : List UInt8 := [42, 180, 0, 7, 27, 46, 156, 0, 9, 42, 4, 182, 0, 97, 172, 42, 180, 0, 7, 27, 46, 28]
abbrev dktX6_lacks_0 : List UInt8 := dkwX6_lacks_0 ++ dktX6_lacks_1
theorem dksX6_lacks_0 : cX6_lacks.data.toList.drop 0 = dktX6_lacks_0 := by decide +kernel
theorem dksX6_lacks_1 : cX6_lacks.data.toList.drop 22 = dktX6_lacks_1 := dk_seg dksX6_lacks_0 22 rfl rfl
theorem dksX6_lacks_2 : cX6_lacks.data.toList.drop 46 = dktX6_lacks_2 := dk_seg dksX6_lacks_1 24 rfl rfl
theorem dX6_lacks_0 : decode cX6_lacks 0 = .ok (.aload_n 0, 1) := dk_42 (dk_at dksX6_lacks_0 0 rfl rfl)
theorem dX6_lacks_1 : decode cX6_lacks 1 = .ok (.getfield 7, 3) := dk_180 0 7 (dk_at dksX6_lacks_0 1 rfl rfl)
theorem dX6_lacks_4 : decode cX6_lacks 4 = .ok (.iload_n 1, 1) := dk_27 (dk_at dksX6_lacks_0 4 rfl rfl)
theorem dX6_lacks_5 : decode cX6_lacks 5 = .ok (.iaload, 1) := dk_46 (dk_at dksX6_lacks_0 5 rfl rfl)
theorem dX6_lacks_6 : decode cX6_lacks 6 = .ok (.ifCond .ge 9, 3) := dk_156 0 9 (dk_at dksX6_lacks_0 6 rfl rfl)
theorem dX6_lacks_9 : decode cX6_lacks 9 = .ok (.aload_n 0, 1) := dk_42 (dk_at dksX6_lacks_0 9 rfl rfl)
theorem dX6_lacks_10 : decode cX6_lacks 10 = .ok (.iconst 1, 1) := dk_4 (dk_at dksX6_lacks_0 10 rfl rfl)
theorem dX6_lacks_11 : decode cX6_lacks 11 = .ok (.invokevirtual 97, 3) := dk_182 0 97 (dk_at dksX6_lacks_0 11 rfl rfl)
theorem dX6_lacks_14 : decode cX6_lacks 14 = .ok (.ireturn, 1) := dk_172 (dk_at dksX6_lacks_0 14 rfl rfl)
theorem dX6_lacks_15 : decode cX6_lacks 15 = .ok (.aload_n 0, 1) := dk_42 (dk_at dksX6_lacks_0 15 rfl rfl)
theorem dX6_lacks_16 : decode cX6_lacks 16 = .ok (.getfield 7, 3) := dk_180 0 7 (dk_at dksX6_lacks_0 16 rfl rfl)
theorem dX6_lacks_19 : decode cX6_lacks 19 = .ok (.iload_n 1, 1) := dk_27 (dk_at dksX6_lacks_0 19 rfl rfl)
theorem dX6_lacks_20 : decode cX6_lacks 20 = .ok (.iaload, 1) := dk_46 (dk_at dksX6_lacks_0 20 rfl rfl)
theorem dX6_lacks_21 : decode cX6_lacks 21 = .ok (.iload_n 2, 1) := dk_28 (dk_at dksX6_lacks_0 21 rfl rfl)
theorem dX6_lacks_22 : decode cX6_lacks 22 = .ok (.if_icmp .eq 9, 3) := dk_159 0 9 (dk_at dksX6_lacks_1 0 rfl rfl)
theorem dX6_lacks_25 : decode cX6_lacks 25 = .ok (.aload_n 0, 1) := dk_42 (dk_at dksX6_lacks_1 3 rfl rfl)
theorem dX6_lacks_26 : decode cX6_lacks 26 = .ok (.iconst 3, 1) := dk_6 (dk_at dksX6_lacks_1 4 rfl rfl)
theorem dX6_lacks_27 : decode cX6_lacks 27 = .ok (.invokevirtual 97, 3) := dk_182 0 97 (dk_at dksX6_lacks_1 5 rfl rfl)
theorem dX6_lacks_30 : decode cX6_lacks 30 = .ok (.ireturn, 1) := dk_172 (dk_at dksX6_lacks_1 8 rfl rfl)
theorem dX6_lacks_31 : decode cX6_lacks 31 = .ok (.iload_n 3, 1) := dk_29 (dk_at dksX6_lacks_1 9 rfl rfl)
theorem dX6_lacks_32 : decode cX6_lacks 32 = .ok (.i2l, 1) := dk_133 (dk_at dksX6_lacks_1 10 rfl rfl)
theorem dX6_lacks_33 : decode cX6_lacks 33 = .ok (.lconst 0, 1) := dk_9 (dk_at dksX6_lacks_1 11 rfl rfl)
theorem dX6_lacks_34 : decode cX6_lacks 34 = .ok (.aload_n 0, 1) := dk_42 (dk_at dksX6_lacks_1 12 rfl rfl)
theorem dX6_lacks_35 : decode cX6_lacks 35 = .ok (.getfield 13, 3) := dk_180 0 13 (dk_at dksX6_lacks_1 13 rfl rfl)
theorem dX6_lacks_38 : decode cX6_lacks 38 = .ok (.iload_n 1, 1) := dk_27 (dk_at dksX6_lacks_1 16 rfl rfl)
theorem dX6_lacks_39 : decode cX6_lacks 39 = .ok (.iaload, 1) := dk_46 (dk_at dksX6_lacks_1 17 rfl rfl)
theorem dX6_lacks_40 : decode cX6_lacks 40 = .ok (.iconst 1, 1) := dk_4 (dk_at dksX6_lacks_1 18 rfl rfl)
theorem dX6_lacks_41 : decode cX6_lacks 41 = .ok (.isub, 1) := dk_100 (dk_at dksX6_lacks_1 19 rfl rfl)
theorem dX6_lacks_42 : decode cX6_lacks 42 = .ok (.i2l, 1) := dk_133 (dk_at dksX6_lacks_1 20 rfl rfl)
theorem dX6_lacks_43 : decode cX6_lacks 43 = .ok (.invokestatic 81, 3) := dk_184 0 81 (dk_at dksX6_lacks_1 21 rfl rfl)
theorem dX6_lacks_46 : decode cX6_lacks 46 = .ok (.ifCond .eq 7, 3) := dk_153 0 7 (dk_at dksX6_lacks_2 0 rfl rfl)
theorem dX6_lacks_49 : decode cX6_lacks 49 = .ok (.iconst 0, 1) := dk_3 (dk_at dksX6_lacks_2 3 rfl rfl)
theorem dX6_lacks_50 : decode cX6_lacks 50 = .ok (.goto 8, 3) := dk_167 0 8 (dk_at dksX6_lacks_2 4 rfl rfl)
theorem dX6_lacks_53 : decode cX6_lacks 53 = .ok (.aload_n 0, 1) := dk_42 (dk_at dksX6_lacks_2 7 rfl rfl)
theorem dX6_lacks_54 : decode cX6_lacks 54 = .ok (.iconst 2, 1) := dk_5 (dk_at dksX6_lacks_2 8 rfl rfl)
theorem dX6_lacks_55 : decode cX6_lacks 55 = .ok (.invokevirtual 97, 3) := dk_182 0 97 (dk_at dksX6_lacks_2 9 rfl rfl)
theorem dX6_lacks_58 : decode cX6_lacks 58 = .ok (.ireturn, 1) := dk_172 (dk_at dksX6_lacks_2 12 rfl rfl)
abbrev cX6_cut : ByteArray := prog_8_method_16_code
def yX6_cut : MethodName := ⟨RX6, "cut", "(II)I"⟩
def dkwX6_cut_0 : List UInt8 := [26, 154, 0, 8, 27, 145, 167, 0, 14, 26, 4, 160, 0, 8, 27, 147, 167, 0, 4, 27, 172]
abbrev dktX6_cut_0 : List UInt8 := dkwX6_cut_0 ++ []
theorem dksX6_cut_0 : cX6_cut.data.toList.drop 0 = dktX6_cut_0 := by decide +kernel
theorem dX6_cut_0 : decode cX6_cut 0 = .ok (.iload_n 0, 1) := dk_26 (dk_at dksX6_cut_0 0 rfl rfl)
theorem dX6_cut_1 : decode cX6_cut 1 = .ok (.ifCond .ne 8, 3) := dk_154 0 8 (dk_at dksX6_cut_0 1 rfl rfl)
theorem dX6_cut_4 : decode cX6_cut 4 = .ok (.iload_n 1, 1) := dk_27 (dk_at dksX6_cut_0 4 rfl rfl)
theorem dX6_cut_5 : decode cX6_cut 5 = .ok (.i2b, 1) := dk_145 (dk_at dksX6_cut_0 5 rfl rfl)
theorem dX6_cut_6 : decode cX6_cut 6 = .ok (.goto 14, 3) := dk_167 0 14 (dk_at dksX6_cut_0 6 rfl rfl)
theorem dX6_cut_9 : decode cX6_cut 9 = .ok (.iload_n 0, 1) := dk_26 (dk_at dksX6_cut_0 9 rfl rfl)
theorem dX6_cut_10 : decode cX6_cut 10 = .ok (.iconst 1, 1) := dk_4 (dk_at dksX6_cut_0 10 rfl rfl)
theorem dX6_cut_11 : decode cX6_cut 11 = .ok (.if_icmp .ne 8, 3) := dk_160 0 8 (dk_at dksX6_cut_0 11 rfl rfl)
theorem dX6_cut_14 : decode cX6_cut 14 = .ok (.iload_n 1, 1) := dk_27 (dk_at dksX6_cut_0 14 rfl rfl)
theorem dX6_cut_15 : decode cX6_cut 15 = .ok (.i2s, 1) := dk_147 (dk_at dksX6_cut_0 15 rfl rfl)
theorem dX6_cut_16 : decode cX6_cut 16 = .ok (.goto 4, 3) := dk_167 0 4 (dk_at dksX6_cut_0 16 rfl rfl)
theorem dX6_cut_19 : decode cX6_cut 19 = .ok (.iload_n 1, 1) := dk_27 (dk_at dksX6_cut_0 19 rfl rfl)
theorem dX6_cut_20 : decode cX6_cut 20 = .ok (.ireturn, 1) := dk_172 (dk_at dksX6_cut_0 20 rfl rfl)
abbrev cX6_get : ByteArray := prog_8_method_18_code
def yX6_get : MethodName := ⟨RX6, "get", "(III)I"⟩
def dkwX6_get_1 : List UInt8 := [182, 0, 101, 153, 0, 6, 18, 109, 172, 42, 180, 0, 16, 16, 60, 27, 104, 29, 96, 46, 172]
abbrev dktX6_get_1 : List UInt8 := dkwX6_get_1 ++ []
def dkwX6_get_0 : List UInt8 := [27, 184, 0, 91, 153, 0, 25, 28, 133, 9, 20, 0, 95, 184, 0, 81, 153, 0, 13, 42, 27, 28, 29]
abbrev dktX6_get_0 : List UInt8 := dkwX6_get_0 ++ dktX6_get_1
theorem dksX6_get_0 : cX6_get.data.toList.drop 0 = dktX6_get_0 := by decide +kernel
theorem dksX6_get_1 : cX6_get.data.toList.drop 23 = dktX6_get_1 := dk_seg dksX6_get_0 23 rfl rfl
theorem dX6_get_0 : decode cX6_get 0 = .ok (.iload_n 1, 1) := dk_27 (dk_at dksX6_get_0 0 rfl rfl)
theorem dX6_get_1 : decode cX6_get 1 = .ok (.invokestatic 91, 3) := dk_184 0 91 (dk_at dksX6_get_0 1 rfl rfl)
theorem dX6_get_4 : decode cX6_get 4 = .ok (.ifCond .eq 25, 3) := dk_153 0 25 (dk_at dksX6_get_0 4 rfl rfl)
theorem dX6_get_7 : decode cX6_get 7 = .ok (.iload_n 2, 1) := dk_28 (dk_at dksX6_get_0 7 rfl rfl)
theorem dX6_get_8 : decode cX6_get 8 = .ok (.i2l, 1) := dk_133 (dk_at dksX6_get_0 8 rfl rfl)
theorem dX6_get_9 : decode cX6_get 9 = .ok (.lconst 0, 1) := dk_9 (dk_at dksX6_get_0 9 rfl rfl)
theorem dX6_get_10 : decode cX6_get 10 = .ok (.ldc2_w 95, 3) := dk_20 0 95 (dk_at dksX6_get_0 10 rfl rfl)
theorem dX6_get_13 : decode cX6_get 13 = .ok (.invokestatic 81, 3) := dk_184 0 81 (dk_at dksX6_get_0 13 rfl rfl)
theorem dX6_get_16 : decode cX6_get 16 = .ok (.ifCond .eq 13, 3) := dk_153 0 13 (dk_at dksX6_get_0 16 rfl rfl)
theorem dX6_get_19 : decode cX6_get 19 = .ok (.aload_n 0, 1) := dk_42 (dk_at dksX6_get_0 19 rfl rfl)
theorem dX6_get_20 : decode cX6_get 20 = .ok (.iload_n 1, 1) := dk_27 (dk_at dksX6_get_0 20 rfl rfl)
theorem dX6_get_21 : decode cX6_get 21 = .ok (.iload_n 2, 1) := dk_28 (dk_at dksX6_get_0 21 rfl rfl)
theorem dX6_get_22 : decode cX6_get 22 = .ok (.iload_n 3, 1) := dk_29 (dk_at dksX6_get_0 22 rfl rfl)
theorem dX6_get_23 : decode cX6_get 23 = .ok (.invokevirtual 101, 3) := dk_182 0 101 (dk_at dksX6_get_1 0 rfl rfl)
theorem dX6_get_26 : decode cX6_get 26 = .ok (.ifCond .eq 6, 3) := dk_153 0 6 (dk_at dksX6_get_1 3 rfl rfl)
theorem dX6_get_29 : decode cX6_get 29 = .ok (.ldc 109, 2) := dk_18 109 (dk_at dksX6_get_1 6 rfl rfl)
theorem dX6_get_31 : decode cX6_get 31 = .ok (.ireturn, 1) := dk_172 (dk_at dksX6_get_1 8 rfl rfl)
theorem dX6_get_32 : decode cX6_get 32 = .ok (.aload_n 0, 1) := dk_42 (dk_at dksX6_get_1 9 rfl rfl)
theorem dX6_get_33 : decode cX6_get 33 = .ok (.getfield 16, 3) := dk_180 0 16 (dk_at dksX6_get_1 10 rfl rfl)
theorem dX6_get_36 : decode cX6_get 36 = .ok (.bipush 60, 2) := dk_16 60 (dk_at dksX6_get_1 13 rfl rfl)
theorem dX6_get_38 : decode cX6_get 38 = .ok (.iload_n 1, 1) := dk_27 (dk_at dksX6_get_1 15 rfl rfl)
theorem dX6_get_39 : decode cX6_get 39 = .ok (.imul, 1) := dk_104 (dk_at dksX6_get_1 16 rfl rfl)
theorem dX6_get_40 : decode cX6_get 40 = .ok (.iload_n 3, 1) := dk_29 (dk_at dksX6_get_1 17 rfl rfl)
theorem dX6_get_41 : decode cX6_get 41 = .ok (.iadd, 1) := dk_96 (dk_at dksX6_get_1 18 rfl rfl)
theorem dX6_get_42 : decode cX6_get 42 = .ok (.iaload, 1) := dk_46 (dk_at dksX6_get_1 19 rfl rfl)
theorem dX6_get_43 : decode cX6_get 43 = .ok (.ireturn, 1) := dk_172 (dk_at dksX6_get_1 20 rfl rfl)
abbrev cX6_copy : ByteArray := prog_8_method_19_code
def yX6_copy : MethodName := ⟨RX6, "copy", "(IIIII)I"⟩
def dkwX6_copy_8 : List UInt8 := [167, 255, 224, 4, 172]
abbrev dktX6_copy_8 : List UInt8 := dkwX6_copy_8 ++ []
def dkwX6_copy_7 : List UInt8 := [180, 0, 16, 16, 60, 29, 104, 21, 4, 96, 21, 6, 96, 42, 180, 0, 19, 21, 6, 46, 79, 132, 6, 1]
abbrev dktX6_copy_7 : List UInt8 := dkwX6_copy_7 ++ dktX6_copy_8
def dkwX6_copy_6 : List UInt8 := [96, 21, 6, 96, 46, 79, 132, 6, 1, 167, 255, 225, 3, 54, 6, 21, 6, 21, 5, 162, 0, 31, 42]
abbrev dktX6_copy_6 : List UInt8 := dkwX6_copy_6 ++ dktX6_copy_7
def dkwX6_copy_5 : List UInt8 := [54, 6, 21, 6, 21, 5, 162, 0, 30, 42, 180, 0, 19, 21, 6, 42, 180, 0, 16, 16, 60, 27, 104, 28]
abbrev dktX6_copy_5 : List UInt8 := dkwX6_copy_5 ++ dktX6_copy_6
def dkwX6_copy_4 : List UInt8 := [133, 21, 5, 133, 97, 42, 180, 0, 13, 29, 46, 133, 148, 158, 0, 9, 42, 5, 182, 0, 97, 172, 3]
abbrev dktX6_copy_4 : List UInt8 := dkwX6_copy_4 ++ dktX6_copy_5
def dkwX6_copy_3 : List UInt8 := [21, 5, 155, 0, 38, 28, 133, 21, 5, 133, 97, 42, 180, 0, 13, 27, 46, 133, 148, 157, 0, 21, 21, 4]
abbrev dktX6_copy_3 : List UInt8 := dkwX6_copy_3 ++ dktX6_copy_4
def dkwX6_copy_2 : List UInt8 := [42, 180, 0, 7, 29, 46, 159, 0, 9, 42, 7, 182, 0, 97, 172, 28, 155, 0, 48, 21, 4, 155, 0, 43]
abbrev dktX6_copy_2 : List UInt8 := dkwX6_copy_2 ++ dktX6_copy_3
def dkwX6_copy_1 : List UInt8 := [155, 0, 12, 42, 180, 0, 7, 29, 46, 156, 0, 9, 42, 4, 182, 0, 97, 172, 42, 180, 0, 7, 27, 46]
abbrev dktX6_copy_1 : List UInt8 := dkwX6_copy_1 ++ dktX6_copy_2
def dkwX6_copy_0 : List UInt8 := [27, 184, 0, 91, 153, 0, 10, 29, 184, 0, 91, 154, 0, 6, 16, 254, 172, 42, 180, 0, 7, 27, 46]
abbrev dktX6_copy_0 : List UInt8 := dkwX6_copy_0 ++ dktX6_copy_1
theorem dksX6_copy_0 : cX6_copy.data.toList.drop 0 = dktX6_copy_0 := by decide +kernel
theorem dksX6_copy_1 : cX6_copy.data.toList.drop 23 = dktX6_copy_1 := dk_seg dksX6_copy_0 23 rfl rfl
theorem dksX6_copy_2 : cX6_copy.data.toList.drop 47 = dktX6_copy_2 := dk_seg dksX6_copy_1 24 rfl rfl
theorem dksX6_copy_3 : cX6_copy.data.toList.drop 71 = dktX6_copy_3 := dk_seg dksX6_copy_2 24 rfl rfl
theorem dksX6_copy_4 : cX6_copy.data.toList.drop 95 = dktX6_copy_4 := dk_seg dksX6_copy_3 24 rfl rfl
theorem dksX6_copy_5 : cX6_copy.data.toList.drop 118 = dktX6_copy_5 := dk_seg dksX6_copy_4 23 rfl rfl
theorem dksX6_copy_6 : cX6_copy.data.toList.drop 142 = dktX6_copy_6 := dk_seg dksX6_copy_5 24 rfl rfl
theorem dksX6_copy_7 : cX6_copy.data.toList.drop 165 = dktX6_copy_7 := dk_seg dksX6_copy_6 23 rfl rfl
theorem dksX6_copy_8 : cX6_copy.data.toList.drop 189 = dktX6_copy_8 := dk_seg dksX6_copy_7 24 rfl rfl
theorem dX6_copy_0 : decode cX6_copy 0 = .ok (.iload_n 1, 1) := dk_27 (dk_at dksX6_copy_0 0 rfl rfl)
theorem dX6_copy_1 : decode cX6_copy 1 = .ok (.invokestatic 91, 3) := dk_184 0 91 (dk_at dksX6_copy_0 1 rfl rfl)
theorem dX6_copy_4 : decode cX6_copy 4 = .ok (.ifCond .eq 10, 3) := dk_153 0 10 (dk_at dksX6_copy_0 4 rfl rfl)
theorem dX6_copy_7 : decode cX6_copy 7 = .ok (.iload_n 3, 1) := dk_29 (dk_at dksX6_copy_0 7 rfl rfl)
theorem dX6_copy_8 : decode cX6_copy 8 = .ok (.invokestatic 91, 3) := dk_184 0 91 (dk_at dksX6_copy_0 8 rfl rfl)
theorem dX6_copy_11 : decode cX6_copy 11 = .ok (.ifCond .ne 6, 3) := dk_154 0 6 (dk_at dksX6_copy_0 11 rfl rfl)
theorem dX6_copy_14 : decode cX6_copy 14 = .ok (.bipush (-2), 2) := dk_16 254 (dk_at dksX6_copy_0 14 rfl rfl)
theorem dX6_copy_16 : decode cX6_copy 16 = .ok (.ireturn, 1) := dk_172 (dk_at dksX6_copy_0 16 rfl rfl)
theorem dX6_copy_17 : decode cX6_copy 17 = .ok (.aload_n 0, 1) := dk_42 (dk_at dksX6_copy_0 17 rfl rfl)
theorem dX6_copy_18 : decode cX6_copy 18 = .ok (.getfield 7, 3) := dk_180 0 7 (dk_at dksX6_copy_0 18 rfl rfl)
theorem dX6_copy_21 : decode cX6_copy 21 = .ok (.iload_n 1, 1) := dk_27 (dk_at dksX6_copy_0 21 rfl rfl)
theorem dX6_copy_22 : decode cX6_copy 22 = .ok (.iaload, 1) := dk_46 (dk_at dksX6_copy_0 22 rfl rfl)
theorem dX6_copy_23 : decode cX6_copy 23 = .ok (.ifCond .lt 12, 3) := dk_155 0 12 (dk_at dksX6_copy_1 0 rfl rfl)
theorem dX6_copy_26 : decode cX6_copy 26 = .ok (.aload_n 0, 1) := dk_42 (dk_at dksX6_copy_1 3 rfl rfl)
theorem dX6_copy_27 : decode cX6_copy 27 = .ok (.getfield 7, 3) := dk_180 0 7 (dk_at dksX6_copy_1 4 rfl rfl)
theorem dX6_copy_30 : decode cX6_copy 30 = .ok (.iload_n 3, 1) := dk_29 (dk_at dksX6_copy_1 7 rfl rfl)
theorem dX6_copy_31 : decode cX6_copy 31 = .ok (.iaload, 1) := dk_46 (dk_at dksX6_copy_1 8 rfl rfl)
theorem dX6_copy_32 : decode cX6_copy 32 = .ok (.ifCond .ge 9, 3) := dk_156 0 9 (dk_at dksX6_copy_1 9 rfl rfl)
theorem dX6_copy_35 : decode cX6_copy 35 = .ok (.aload_n 0, 1) := dk_42 (dk_at dksX6_copy_1 12 rfl rfl)
theorem dX6_copy_36 : decode cX6_copy 36 = .ok (.iconst 1, 1) := dk_4 (dk_at dksX6_copy_1 13 rfl rfl)
theorem dX6_copy_37 : decode cX6_copy 37 = .ok (.invokevirtual 97, 3) := dk_182 0 97 (dk_at dksX6_copy_1 14 rfl rfl)
theorem dX6_copy_40 : decode cX6_copy 40 = .ok (.ireturn, 1) := dk_172 (dk_at dksX6_copy_1 17 rfl rfl)
theorem dX6_copy_41 : decode cX6_copy 41 = .ok (.aload_n 0, 1) := dk_42 (dk_at dksX6_copy_1 18 rfl rfl)
theorem dX6_copy_42 : decode cX6_copy 42 = .ok (.getfield 7, 3) := dk_180 0 7 (dk_at dksX6_copy_1 19 rfl rfl)
theorem dX6_copy_45 : decode cX6_copy 45 = .ok (.iload_n 1, 1) := dk_27 (dk_at dksX6_copy_1 22 rfl rfl)
theorem dX6_copy_46 : decode cX6_copy 46 = .ok (.iaload, 1) := dk_46 (dk_at dksX6_copy_1 23 rfl rfl)
theorem dX6_copy_47 : decode cX6_copy 47 = .ok (.aload_n 0, 1) := dk_42 (dk_at dksX6_copy_2 0 rfl rfl)
theorem dX6_copy_48 : decode cX6_copy 48 = .ok (.getfield 7, 3) := dk_180 0 7 (dk_at dksX6_copy_2 1 rfl rfl)
theorem dX6_copy_51 : decode cX6_copy 51 = .ok (.iload_n 3, 1) := dk_29 (dk_at dksX6_copy_2 4 rfl rfl)
theorem dX6_copy_52 : decode cX6_copy 52 = .ok (.iaload, 1) := dk_46 (dk_at dksX6_copy_2 5 rfl rfl)
theorem dX6_copy_53 : decode cX6_copy 53 = .ok (.if_icmp .eq 9, 3) := dk_159 0 9 (dk_at dksX6_copy_2 6 rfl rfl)
theorem dX6_copy_56 : decode cX6_copy 56 = .ok (.aload_n 0, 1) := dk_42 (dk_at dksX6_copy_2 9 rfl rfl)
theorem dX6_copy_57 : decode cX6_copy 57 = .ok (.iconst 4, 1) := dk_7 (dk_at dksX6_copy_2 10 rfl rfl)
theorem dX6_copy_58 : decode cX6_copy 58 = .ok (.invokevirtual 97, 3) := dk_182 0 97 (dk_at dksX6_copy_2 11 rfl rfl)
theorem dX6_copy_61 : decode cX6_copy 61 = .ok (.ireturn, 1) := dk_172 (dk_at dksX6_copy_2 14 rfl rfl)
theorem dX6_copy_62 : decode cX6_copy 62 = .ok (.iload_n 2, 1) := dk_28 (dk_at dksX6_copy_2 15 rfl rfl)
theorem dX6_copy_63 : decode cX6_copy 63 = .ok (.ifCond .lt 48, 3) := dk_155 0 48 (dk_at dksX6_copy_2 16 rfl rfl)
theorem dX6_copy_66 : decode cX6_copy 66 = .ok (.iload 4, 2) := dk_21 4 (dk_at dksX6_copy_2 19 rfl rfl)
theorem dX6_copy_68 : decode cX6_copy 68 = .ok (.ifCond .lt 43, 3) := dk_155 0 43 (dk_at dksX6_copy_2 21 rfl rfl)
theorem dX6_copy_71 : decode cX6_copy 71 = .ok (.iload 5, 2) := dk_21 5 (dk_at dksX6_copy_3 0 rfl rfl)
theorem dX6_copy_73 : decode cX6_copy 73 = .ok (.ifCond .lt 38, 3) := dk_155 0 38 (dk_at dksX6_copy_3 2 rfl rfl)
theorem dX6_copy_76 : decode cX6_copy 76 = .ok (.iload_n 2, 1) := dk_28 (dk_at dksX6_copy_3 5 rfl rfl)
theorem dX6_copy_77 : decode cX6_copy 77 = .ok (.i2l, 1) := dk_133 (dk_at dksX6_copy_3 6 rfl rfl)
theorem dX6_copy_78 : decode cX6_copy 78 = .ok (.iload 5, 2) := dk_21 5 (dk_at dksX6_copy_3 7 rfl rfl)
theorem dX6_copy_80 : decode cX6_copy 80 = .ok (.i2l, 1) := dk_133 (dk_at dksX6_copy_3 9 rfl rfl)
theorem dX6_copy_81 : decode cX6_copy 81 = .ok (.ladd, 1) := dk_97 (dk_at dksX6_copy_3 10 rfl rfl)
theorem dX6_copy_82 : decode cX6_copy 82 = .ok (.aload_n 0, 1) := dk_42 (dk_at dksX6_copy_3 11 rfl rfl)
theorem dX6_copy_83 : decode cX6_copy 83 = .ok (.getfield 13, 3) := dk_180 0 13 (dk_at dksX6_copy_3 12 rfl rfl)
theorem dX6_copy_86 : decode cX6_copy 86 = .ok (.iload_n 1, 1) := dk_27 (dk_at dksX6_copy_3 15 rfl rfl)
theorem dX6_copy_87 : decode cX6_copy 87 = .ok (.iaload, 1) := dk_46 (dk_at dksX6_copy_3 16 rfl rfl)
theorem dX6_copy_88 : decode cX6_copy 88 = .ok (.i2l, 1) := dk_133 (dk_at dksX6_copy_3 17 rfl rfl)
theorem dX6_copy_89 : decode cX6_copy 89 = .ok (.lcmp, 1) := dk_148 (dk_at dksX6_copy_3 18 rfl rfl)
theorem dX6_copy_90 : decode cX6_copy 90 = .ok (.ifCond .gt 21, 3) := dk_157 0 21 (dk_at dksX6_copy_3 19 rfl rfl)
theorem dX6_copy_93 : decode cX6_copy 93 = .ok (.iload 4, 2) := dk_21 4 (dk_at dksX6_copy_3 22 rfl rfl)
theorem dX6_copy_95 : decode cX6_copy 95 = .ok (.i2l, 1) := dk_133 (dk_at dksX6_copy_4 0 rfl rfl)
theorem dX6_copy_96 : decode cX6_copy 96 = .ok (.iload 5, 2) := dk_21 5 (dk_at dksX6_copy_4 1 rfl rfl)
theorem dX6_copy_98 : decode cX6_copy 98 = .ok (.i2l, 1) := dk_133 (dk_at dksX6_copy_4 3 rfl rfl)
theorem dX6_copy_99 : decode cX6_copy 99 = .ok (.ladd, 1) := dk_97 (dk_at dksX6_copy_4 4 rfl rfl)
theorem dX6_copy_100 : decode cX6_copy 100 = .ok (.aload_n 0, 1) := dk_42 (dk_at dksX6_copy_4 5 rfl rfl)
theorem dX6_copy_101 : decode cX6_copy 101 = .ok (.getfield 13, 3) := dk_180 0 13 (dk_at dksX6_copy_4 6 rfl rfl)
theorem dX6_copy_104 : decode cX6_copy 104 = .ok (.iload_n 3, 1) := dk_29 (dk_at dksX6_copy_4 9 rfl rfl)
theorem dX6_copy_105 : decode cX6_copy 105 = .ok (.iaload, 1) := dk_46 (dk_at dksX6_copy_4 10 rfl rfl)
theorem dX6_copy_106 : decode cX6_copy 106 = .ok (.i2l, 1) := dk_133 (dk_at dksX6_copy_4 11 rfl rfl)
theorem dX6_copy_107 : decode cX6_copy 107 = .ok (.lcmp, 1) := dk_148 (dk_at dksX6_copy_4 12 rfl rfl)
theorem dX6_copy_108 : decode cX6_copy 108 = .ok (.ifCond .le 9, 3) := dk_158 0 9 (dk_at dksX6_copy_4 13 rfl rfl)
theorem dX6_copy_111 : decode cX6_copy 111 = .ok (.aload_n 0, 1) := dk_42 (dk_at dksX6_copy_4 16 rfl rfl)
theorem dX6_copy_112 : decode cX6_copy 112 = .ok (.iconst 2, 1) := dk_5 (dk_at dksX6_copy_4 17 rfl rfl)
theorem dX6_copy_113 : decode cX6_copy 113 = .ok (.invokevirtual 97, 3) := dk_182 0 97 (dk_at dksX6_copy_4 18 rfl rfl)
theorem dX6_copy_116 : decode cX6_copy 116 = .ok (.ireturn, 1) := dk_172 (dk_at dksX6_copy_4 21 rfl rfl)
theorem dX6_copy_117 : decode cX6_copy 117 = .ok (.iconst 0, 1) := dk_3 (dk_at dksX6_copy_4 22 rfl rfl)
theorem dX6_copy_118 : decode cX6_copy 118 = .ok (.istore 6, 2) := dk_54 6 (dk_at dksX6_copy_5 0 rfl rfl)
theorem dX6_copy_120 : decode cX6_copy 120 = .ok (.iload 6, 2) := dk_21 6 (dk_at dksX6_copy_5 2 rfl rfl)
theorem dX6_copy_122 : decode cX6_copy 122 = .ok (.iload 5, 2) := dk_21 5 (dk_at dksX6_copy_5 4 rfl rfl)
theorem dX6_copy_124 : decode cX6_copy 124 = .ok (.if_icmp .ge 30, 3) := dk_162 0 30 (dk_at dksX6_copy_5 6 rfl rfl)
theorem dX6_copy_127 : decode cX6_copy 127 = .ok (.aload_n 0, 1) := dk_42 (dk_at dksX6_copy_5 9 rfl rfl)
theorem dX6_copy_128 : decode cX6_copy 128 = .ok (.getfield 19, 3) := dk_180 0 19 (dk_at dksX6_copy_5 10 rfl rfl)
theorem dX6_copy_131 : decode cX6_copy 131 = .ok (.iload 6, 2) := dk_21 6 (dk_at dksX6_copy_5 13 rfl rfl)
theorem dX6_copy_133 : decode cX6_copy 133 = .ok (.aload_n 0, 1) := dk_42 (dk_at dksX6_copy_5 15 rfl rfl)
theorem dX6_copy_134 : decode cX6_copy 134 = .ok (.getfield 16, 3) := dk_180 0 16 (dk_at dksX6_copy_5 16 rfl rfl)
theorem dX6_copy_137 : decode cX6_copy 137 = .ok (.bipush 60, 2) := dk_16 60 (dk_at dksX6_copy_5 19 rfl rfl)
theorem dX6_copy_139 : decode cX6_copy 139 = .ok (.iload_n 1, 1) := dk_27 (dk_at dksX6_copy_5 21 rfl rfl)
theorem dX6_copy_140 : decode cX6_copy 140 = .ok (.imul, 1) := dk_104 (dk_at dksX6_copy_5 22 rfl rfl)
theorem dX6_copy_141 : decode cX6_copy 141 = .ok (.iload_n 2, 1) := dk_28 (dk_at dksX6_copy_5 23 rfl rfl)
theorem dX6_copy_142 : decode cX6_copy 142 = .ok (.iadd, 1) := dk_96 (dk_at dksX6_copy_6 0 rfl rfl)
theorem dX6_copy_143 : decode cX6_copy 143 = .ok (.iload 6, 2) := dk_21 6 (dk_at dksX6_copy_6 1 rfl rfl)
theorem dX6_copy_145 : decode cX6_copy 145 = .ok (.iadd, 1) := dk_96 (dk_at dksX6_copy_6 3 rfl rfl)
theorem dX6_copy_146 : decode cX6_copy 146 = .ok (.iaload, 1) := dk_46 (dk_at dksX6_copy_6 4 rfl rfl)
theorem dX6_copy_147 : decode cX6_copy 147 = .ok (.iastore, 1) := dk_79 (dk_at dksX6_copy_6 5 rfl rfl)
theorem dX6_copy_148 : decode cX6_copy 148 = .ok (.iinc 6 1, 3) := dk_132 6 1 (dk_at dksX6_copy_6 6 rfl rfl)
theorem dX6_copy_151 : decode cX6_copy 151 = .ok (.goto (-31), 3) := dk_167 255 225 (dk_at dksX6_copy_6 9 rfl rfl)
theorem dX6_copy_154 : decode cX6_copy 154 = .ok (.iconst 0, 1) := dk_3 (dk_at dksX6_copy_6 12 rfl rfl)
theorem dX6_copy_155 : decode cX6_copy 155 = .ok (.istore 6, 2) := dk_54 6 (dk_at dksX6_copy_6 13 rfl rfl)
theorem dX6_copy_157 : decode cX6_copy 157 = .ok (.iload 6, 2) := dk_21 6 (dk_at dksX6_copy_6 15 rfl rfl)
theorem dX6_copy_159 : decode cX6_copy 159 = .ok (.iload 5, 2) := dk_21 5 (dk_at dksX6_copy_6 17 rfl rfl)
theorem dX6_copy_161 : decode cX6_copy 161 = .ok (.if_icmp .ge 31, 3) := dk_162 0 31 (dk_at dksX6_copy_6 19 rfl rfl)
theorem dX6_copy_164 : decode cX6_copy 164 = .ok (.aload_n 0, 1) := dk_42 (dk_at dksX6_copy_6 22 rfl rfl)
theorem dX6_copy_165 : decode cX6_copy 165 = .ok (.getfield 16, 3) := dk_180 0 16 (dk_at dksX6_copy_7 0 rfl rfl)
theorem dX6_copy_168 : decode cX6_copy 168 = .ok (.bipush 60, 2) := dk_16 60 (dk_at dksX6_copy_7 3 rfl rfl)
theorem dX6_copy_170 : decode cX6_copy 170 = .ok (.iload_n 3, 1) := dk_29 (dk_at dksX6_copy_7 5 rfl rfl)
theorem dX6_copy_171 : decode cX6_copy 171 = .ok (.imul, 1) := dk_104 (dk_at dksX6_copy_7 6 rfl rfl)
theorem dX6_copy_172 : decode cX6_copy 172 = .ok (.iload 4, 2) := dk_21 4 (dk_at dksX6_copy_7 7 rfl rfl)
theorem dX6_copy_174 : decode cX6_copy 174 = .ok (.iadd, 1) := dk_96 (dk_at dksX6_copy_7 9 rfl rfl)
theorem dX6_copy_175 : decode cX6_copy 175 = .ok (.iload 6, 2) := dk_21 6 (dk_at dksX6_copy_7 10 rfl rfl)
theorem dX6_copy_177 : decode cX6_copy 177 = .ok (.iadd, 1) := dk_96 (dk_at dksX6_copy_7 12 rfl rfl)
theorem dX6_copy_178 : decode cX6_copy 178 = .ok (.aload_n 0, 1) := dk_42 (dk_at dksX6_copy_7 13 rfl rfl)
theorem dX6_copy_179 : decode cX6_copy 179 = .ok (.getfield 19, 3) := dk_180 0 19 (dk_at dksX6_copy_7 14 rfl rfl)
theorem dX6_copy_182 : decode cX6_copy 182 = .ok (.iload 6, 2) := dk_21 6 (dk_at dksX6_copy_7 17 rfl rfl)
theorem dX6_copy_184 : decode cX6_copy 184 = .ok (.iaload, 1) := dk_46 (dk_at dksX6_copy_7 19 rfl rfl)
theorem dX6_copy_185 : decode cX6_copy 185 = .ok (.iastore, 1) := dk_79 (dk_at dksX6_copy_7 20 rfl rfl)
theorem dX6_copy_186 : decode cX6_copy 186 = .ok (.iinc 6 1, 3) := dk_132 6 1 (dk_at dksX6_copy_7 21 rfl rfl)
theorem dX6_copy_189 : decode cX6_copy 189 = .ok (.goto (-32), 3) := dk_167 255 224 (dk_at dksX6_copy_8 0 rfl rfl)
theorem dX6_copy_192 : decode cX6_copy 192 = .ok (.iconst 1, 1) := dk_4 (dk_at dksX6_copy_8 3 rfl rfl)
theorem dX6_copy_193 : decode cX6_copy 193 = .ok (.ireturn, 1) := dk_172 (dk_at dksX6_copy_8 4 rfl rfl)
abbrev cX6_type : ByteArray := prog_8_method_20_code
def yX6_type : MethodName := ⟨RX6, "type", "(II)I"⟩
def dkwX6_type_3 : List UInt8 := [96, 79, 42, 180, 0, 25, 27, 46, 172]
abbrev dktX6_type_3 : List UInt8 := dkwX6_type_3 ++ []
def dkwX6_type_2 : List UInt8 := [180, 0, 22, 16, 56, 27, 104, 42, 180, 0, 25, 27, 46, 96, 28, 79, 42, 180, 0, 25, 27, 92, 46, 4]
abbrev dktX6_type_2 : List UInt8 := dkwX6_type_2 ++ dktX6_type_3
def dkwX6_type_1 : List UInt8 := [180, 0, 25, 27, 46, 27, 154, 0, 8, 16, 49, 167, 0, 5, 16, 55, 160, 0, 6, 16, 252, 172, 42]
abbrev dktX6_type_1 : List UInt8 := dkwX6_type_1 ++ dktX6_type_2
def dkwX6_type_0 : List UInt8 := [27, 184, 0, 110, 153, 0, 15, 28, 133, 9, 20, 0, 113, 184, 0, 81, 154, 0, 6, 16, 254, 172, 42]
abbrev dktX6_type_0 : List UInt8 := dkwX6_type_0 ++ dktX6_type_1
theorem dksX6_type_0 : cX6_type.data.toList.drop 0 = dktX6_type_0 := by decide +kernel
theorem dksX6_type_1 : cX6_type.data.toList.drop 23 = dktX6_type_1 := dk_seg dksX6_type_0 23 rfl rfl
theorem dksX6_type_2 : cX6_type.data.toList.drop 46 = dktX6_type_2 := dk_seg dksX6_type_1 23 rfl rfl
theorem dksX6_type_3 : cX6_type.data.toList.drop 70 = dktX6_type_3 := dk_seg dksX6_type_2 24 rfl rfl
theorem dX6_type_0 : decode cX6_type 0 = .ok (.iload_n 1, 1) := dk_27 (dk_at dksX6_type_0 0 rfl rfl)
theorem dX6_type_1 : decode cX6_type 1 = .ok (.invokestatic 110, 3) := dk_184 0 110 (dk_at dksX6_type_0 1 rfl rfl)
theorem dX6_type_4 : decode cX6_type 4 = .ok (.ifCond .eq 15, 3) := dk_153 0 15 (dk_at dksX6_type_0 4 rfl rfl)
theorem dX6_type_7 : decode cX6_type 7 = .ok (.iload_n 2, 1) := dk_28 (dk_at dksX6_type_0 7 rfl rfl)
theorem dX6_type_8 : decode cX6_type 8 = .ok (.i2l, 1) := dk_133 (dk_at dksX6_type_0 8 rfl rfl)
theorem dX6_type_9 : decode cX6_type 9 = .ok (.lconst 0, 1) := dk_9 (dk_at dksX6_type_0 9 rfl rfl)
theorem dX6_type_10 : decode cX6_type 10 = .ok (.ldc2_w 113, 3) := dk_20 0 113 (dk_at dksX6_type_0 10 rfl rfl)
theorem dX6_type_13 : decode cX6_type 13 = .ok (.invokestatic 81, 3) := dk_184 0 81 (dk_at dksX6_type_0 13 rfl rfl)
theorem dX6_type_16 : decode cX6_type 16 = .ok (.ifCond .ne 6, 3) := dk_154 0 6 (dk_at dksX6_type_0 16 rfl rfl)
theorem dX6_type_19 : decode cX6_type 19 = .ok (.bipush (-2), 2) := dk_16 254 (dk_at dksX6_type_0 19 rfl rfl)
theorem dX6_type_21 : decode cX6_type 21 = .ok (.ireturn, 1) := dk_172 (dk_at dksX6_type_0 21 rfl rfl)
theorem dX6_type_22 : decode cX6_type 22 = .ok (.aload_n 0, 1) := dk_42 (dk_at dksX6_type_0 22 rfl rfl)
theorem dX6_type_23 : decode cX6_type 23 = .ok (.getfield 25, 3) := dk_180 0 25 (dk_at dksX6_type_1 0 rfl rfl)
theorem dX6_type_26 : decode cX6_type 26 = .ok (.iload_n 1, 1) := dk_27 (dk_at dksX6_type_1 3 rfl rfl)
theorem dX6_type_27 : decode cX6_type 27 = .ok (.iaload, 1) := dk_46 (dk_at dksX6_type_1 4 rfl rfl)
theorem dX6_type_28 : decode cX6_type 28 = .ok (.iload_n 1, 1) := dk_27 (dk_at dksX6_type_1 5 rfl rfl)
theorem dX6_type_29 : decode cX6_type 29 = .ok (.ifCond .ne 8, 3) := dk_154 0 8 (dk_at dksX6_type_1 6 rfl rfl)
theorem dX6_type_32 : decode cX6_type 32 = .ok (.bipush 49, 2) := dk_16 49 (dk_at dksX6_type_1 9 rfl rfl)
theorem dX6_type_34 : decode cX6_type 34 = .ok (.goto 5, 3) := dk_167 0 5 (dk_at dksX6_type_1 11 rfl rfl)
theorem dX6_type_37 : decode cX6_type 37 = .ok (.bipush 55, 2) := dk_16 55 (dk_at dksX6_type_1 14 rfl rfl)
theorem dX6_type_39 : decode cX6_type 39 = .ok (.if_icmp .ne 6, 3) := dk_160 0 6 (dk_at dksX6_type_1 16 rfl rfl)
theorem dX6_type_42 : decode cX6_type 42 = .ok (.bipush (-4), 2) := dk_16 252 (dk_at dksX6_type_1 19 rfl rfl)
theorem dX6_type_44 : decode cX6_type 44 = .ok (.ireturn, 1) := dk_172 (dk_at dksX6_type_1 21 rfl rfl)
theorem dX6_type_45 : decode cX6_type 45 = .ok (.aload_n 0, 1) := dk_42 (dk_at dksX6_type_1 22 rfl rfl)
theorem dX6_type_46 : decode cX6_type 46 = .ok (.getfield 22, 3) := dk_180 0 22 (dk_at dksX6_type_2 0 rfl rfl)
theorem dX6_type_49 : decode cX6_type 49 = .ok (.bipush 56, 2) := dk_16 56 (dk_at dksX6_type_2 3 rfl rfl)
theorem dX6_type_51 : decode cX6_type 51 = .ok (.iload_n 1, 1) := dk_27 (dk_at dksX6_type_2 5 rfl rfl)
theorem dX6_type_52 : decode cX6_type 52 = .ok (.imul, 1) := dk_104 (dk_at dksX6_type_2 6 rfl rfl)
theorem dX6_type_53 : decode cX6_type 53 = .ok (.aload_n 0, 1) := dk_42 (dk_at dksX6_type_2 7 rfl rfl)
theorem dX6_type_54 : decode cX6_type 54 = .ok (.getfield 25, 3) := dk_180 0 25 (dk_at dksX6_type_2 8 rfl rfl)
theorem dX6_type_57 : decode cX6_type 57 = .ok (.iload_n 1, 1) := dk_27 (dk_at dksX6_type_2 11 rfl rfl)
theorem dX6_type_58 : decode cX6_type 58 = .ok (.iaload, 1) := dk_46 (dk_at dksX6_type_2 12 rfl rfl)
theorem dX6_type_59 : decode cX6_type 59 = .ok (.iadd, 1) := dk_96 (dk_at dksX6_type_2 13 rfl rfl)
theorem dX6_type_60 : decode cX6_type 60 = .ok (.iload_n 2, 1) := dk_28 (dk_at dksX6_type_2 14 rfl rfl)
theorem dX6_type_61 : decode cX6_type 61 = .ok (.iastore, 1) := dk_79 (dk_at dksX6_type_2 15 rfl rfl)
theorem dX6_type_62 : decode cX6_type 62 = .ok (.aload_n 0, 1) := dk_42 (dk_at dksX6_type_2 16 rfl rfl)
theorem dX6_type_63 : decode cX6_type 63 = .ok (.getfield 25, 3) := dk_180 0 25 (dk_at dksX6_type_2 17 rfl rfl)
theorem dX6_type_66 : decode cX6_type 66 = .ok (.iload_n 1, 1) := dk_27 (dk_at dksX6_type_2 20 rfl rfl)
theorem dX6_type_67 : decode cX6_type 67 = .ok (.dup2, 1) := dk_92 (dk_at dksX6_type_2 21 rfl rfl)
theorem dX6_type_68 : decode cX6_type 68 = .ok (.iaload, 1) := dk_46 (dk_at dksX6_type_2 22 rfl rfl)
theorem dX6_type_69 : decode cX6_type 69 = .ok (.iconst 1, 1) := dk_4 (dk_at dksX6_type_2 23 rfl rfl)
theorem dX6_type_70 : decode cX6_type 70 = .ok (.iadd, 1) := dk_96 (dk_at dksX6_type_3 0 rfl rfl)
theorem dX6_type_71 : decode cX6_type 71 = .ok (.iastore, 1) := dk_79 (dk_at dksX6_type_3 1 rfl rfl)
theorem dX6_type_72 : decode cX6_type 72 = .ok (.aload_n 0, 1) := dk_42 (dk_at dksX6_type_3 2 rfl rfl)
theorem dX6_type_73 : decode cX6_type 73 = .ok (.getfield 25, 3) := dk_180 0 25 (dk_at dksX6_type_3 3 rfl rfl)
theorem dX6_type_76 : decode cX6_type 76 = .ok (.iload_n 1, 1) := dk_27 (dk_at dksX6_type_3 6 rfl rfl)
theorem dX6_type_77 : decode cX6_type 77 = .ok (.iaload, 1) := dk_46 (dk_at dksX6_type_3 7 rfl rfl)
theorem dX6_type_78 : decode cX6_type 78 = .ok (.ireturn, 1) := dk_172 (dk_at dksX6_type_3 8 rfl rfl)
abbrev cX6_isTwo : ByteArray := prog_8_method_5_code
def yX6_isTwo : MethodName := ⟨RX6, "isTwo", "(I)Z"⟩
def dkwX6_isTwo_0 : List UInt8 := [26, 133, 9, 10, 184, 0, 81, 172]
abbrev dktX6_isTwo_0 : List UInt8 := dkwX6_isTwo_0 ++ []
theorem dksX6_isTwo_0 : cX6_isTwo.data.toList.drop 0 = dktX6_isTwo_0 := by decide +kernel
theorem dX6_isTwo_0 : decode cX6_isTwo 0 = .ok (.iload_n 0, 1) := dk_26 (dk_at dksX6_isTwo_0 0 rfl rfl)
theorem dX6_isTwo_1 : decode cX6_isTwo 1 = .ok (.i2l, 1) := dk_133 (dk_at dksX6_isTwo_0 1 rfl rfl)
theorem dX6_isTwo_2 : decode cX6_isTwo 2 = .ok (.lconst 0, 1) := dk_9 (dk_at dksX6_isTwo_0 2 rfl rfl)
theorem dX6_isTwo_3 : decode cX6_isTwo 3 = .ok (.lconst 1, 1) := dk_10 (dk_at dksX6_isTwo_0 3 rfl rfl)
theorem dX6_isTwo_4 : decode cX6_isTwo 4 = .ok (.invokestatic 81, 3) := dk_184 0 81 (dk_at dksX6_isTwo_0 4 rfl rfl)
theorem dX6_isTwo_7 : decode cX6_isTwo 7 = .ok (.ireturn, 1) := dk_172 (dk_at dksX6_isTwo_0 7 rfl rfl)
abbrev cX6_wipe : ByteArray := prog_8_method_21_code
def yX6_wipe : MethodName := ⟨RX6, "wipe", "(I)I"⟩
def dkwX6_wipe_1 : List UInt8 := [28, 172]
abbrev dktX6_wipe_1 : List UInt8 := dkwX6_wipe_1 ++ []
def dkwX6_wipe_0 : List UInt8 := [27, 184, 0, 110, 154, 0, 6, 16, 254, 172, 42, 180, 0, 25, 27, 46, 61, 42, 180, 0, 25, 27, 3, 79]
abbrev dktX6_wipe_0 : List UInt8 := dkwX6_wipe_0 ++ dktX6_wipe_1
theorem dksX6_wipe_0 : cX6_wipe.data.toList.drop 0 = dktX6_wipe_0 := by decide +kernel
theorem dksX6_wipe_1 : cX6_wipe.data.toList.drop 24 = dktX6_wipe_1 := dk_seg dksX6_wipe_0 24 rfl rfl
theorem dX6_wipe_0 : decode cX6_wipe 0 = .ok (.iload_n 1, 1) := dk_27 (dk_at dksX6_wipe_0 0 rfl rfl)
theorem dX6_wipe_1 : decode cX6_wipe 1 = .ok (.invokestatic 110, 3) := dk_184 0 110 (dk_at dksX6_wipe_0 1 rfl rfl)
theorem dX6_wipe_4 : decode cX6_wipe 4 = .ok (.ifCond .ne 6, 3) := dk_154 0 6 (dk_at dksX6_wipe_0 4 rfl rfl)
theorem dX6_wipe_7 : decode cX6_wipe 7 = .ok (.bipush (-2), 2) := dk_16 254 (dk_at dksX6_wipe_0 7 rfl rfl)
theorem dX6_wipe_9 : decode cX6_wipe 9 = .ok (.ireturn, 1) := dk_172 (dk_at dksX6_wipe_0 9 rfl rfl)
theorem dX6_wipe_10 : decode cX6_wipe 10 = .ok (.aload_n 0, 1) := dk_42 (dk_at dksX6_wipe_0 10 rfl rfl)
theorem dX6_wipe_11 : decode cX6_wipe 11 = .ok (.getfield 25, 3) := dk_180 0 25 (dk_at dksX6_wipe_0 11 rfl rfl)
theorem dX6_wipe_14 : decode cX6_wipe 14 = .ok (.iload_n 1, 1) := dk_27 (dk_at dksX6_wipe_0 14 rfl rfl)
theorem dX6_wipe_15 : decode cX6_wipe 15 = .ok (.iaload, 1) := dk_46 (dk_at dksX6_wipe_0 15 rfl rfl)
theorem dX6_wipe_16 : decode cX6_wipe 16 = .ok (.istore_n 2, 1) := dk_61 (dk_at dksX6_wipe_0 16 rfl rfl)
theorem dX6_wipe_17 : decode cX6_wipe 17 = .ok (.aload_n 0, 1) := dk_42 (dk_at dksX6_wipe_0 17 rfl rfl)
theorem dX6_wipe_18 : decode cX6_wipe 18 = .ok (.getfield 25, 3) := dk_180 0 25 (dk_at dksX6_wipe_0 18 rfl rfl)
theorem dX6_wipe_21 : decode cX6_wipe 21 = .ok (.iload_n 1, 1) := dk_27 (dk_at dksX6_wipe_0 21 rfl rfl)
theorem dX6_wipe_22 : decode cX6_wipe 22 = .ok (.iconst 0, 1) := dk_3 (dk_at dksX6_wipe_0 22 rfl rfl)
theorem dX6_wipe_23 : decode cX6_wipe 23 = .ok (.iastore, 1) := dk_79 (dk_at dksX6_wipe_0 23 rfl rfl)
theorem dX6_wipe_24 : decode cX6_wipe 24 = .ok (.iload_n 2, 1) := dk_28 (dk_at dksX6_wipe_1 0 rfl rfl)
theorem dX6_wipe_25 : decode cX6_wipe 25 = .ok (.ireturn, 1) := dk_172 (dk_at dksX6_wipe_1 1 rfl rfl)
abbrev cX6_undo : ByteArray := prog_8_method_22_code
def yX6_undo : MethodName := ⟨RX6, "undo", "(I)I"⟩
def dkwX6_undo_1 : List UInt8 := [180, 0, 25, 27, 92, 46, 4, 100, 79, 42, 180, 0, 25, 27, 46, 172]
abbrev dktX6_undo_1 : List UInt8 := dkwX6_undo_1 ++ []
def dkwX6_undo_0 : List UInt8 := [27, 184, 0, 110, 154, 0, 6, 16, 254, 172, 42, 180, 0, 25, 27, 46, 154, 0, 6, 16, 253, 172, 42]
abbrev dktX6_undo_0 : List UInt8 := dkwX6_undo_0 ++ dktX6_undo_1
theorem dksX6_undo_0 : cX6_undo.data.toList.drop 0 = dktX6_undo_0 := by decide +kernel
theorem dksX6_undo_1 : cX6_undo.data.toList.drop 23 = dktX6_undo_1 := dk_seg dksX6_undo_0 23 rfl rfl
theorem dX6_undo_0 : decode cX6_undo 0 = .ok (.iload_n 1, 1) := dk_27 (dk_at dksX6_undo_0 0 rfl rfl)
theorem dX6_undo_1 : decode cX6_undo 1 = .ok (.invokestatic 110, 3) := dk_184 0 110 (dk_at dksX6_undo_0 1 rfl rfl)
theorem dX6_undo_4 : decode cX6_undo 4 = .ok (.ifCond .ne 6, 3) := dk_154 0 6 (dk_at dksX6_undo_0 4 rfl rfl)
theorem dX6_undo_7 : decode cX6_undo 7 = .ok (.bipush (-2), 2) := dk_16 254 (dk_at dksX6_undo_0 7 rfl rfl)
theorem dX6_undo_9 : decode cX6_undo 9 = .ok (.ireturn, 1) := dk_172 (dk_at dksX6_undo_0 9 rfl rfl)
theorem dX6_undo_10 : decode cX6_undo 10 = .ok (.aload_n 0, 1) := dk_42 (dk_at dksX6_undo_0 10 rfl rfl)
theorem dX6_undo_11 : decode cX6_undo 11 = .ok (.getfield 25, 3) := dk_180 0 25 (dk_at dksX6_undo_0 11 rfl rfl)
theorem dX6_undo_14 : decode cX6_undo 14 = .ok (.iload_n 1, 1) := dk_27 (dk_at dksX6_undo_0 14 rfl rfl)
theorem dX6_undo_15 : decode cX6_undo 15 = .ok (.iaload, 1) := dk_46 (dk_at dksX6_undo_0 15 rfl rfl)
theorem dX6_undo_16 : decode cX6_undo 16 = .ok (.ifCond .ne 6, 3) := dk_154 0 6 (dk_at dksX6_undo_0 16 rfl rfl)
theorem dX6_undo_19 : decode cX6_undo 19 = .ok (.bipush (-3), 2) := dk_16 253 (dk_at dksX6_undo_0 19 rfl rfl)
theorem dX6_undo_21 : decode cX6_undo 21 = .ok (.ireturn, 1) := dk_172 (dk_at dksX6_undo_0 21 rfl rfl)
theorem dX6_undo_22 : decode cX6_undo 22 = .ok (.aload_n 0, 1) := dk_42 (dk_at dksX6_undo_0 22 rfl rfl)
theorem dX6_undo_23 : decode cX6_undo 23 = .ok (.getfield 25, 3) := dk_180 0 25 (dk_at dksX6_undo_1 0 rfl rfl)
theorem dX6_undo_26 : decode cX6_undo 26 = .ok (.iload_n 1, 1) := dk_27 (dk_at dksX6_undo_1 3 rfl rfl)
theorem dX6_undo_27 : decode cX6_undo 27 = .ok (.dup2, 1) := dk_92 (dk_at dksX6_undo_1 4 rfl rfl)
theorem dX6_undo_28 : decode cX6_undo 28 = .ok (.iaload, 1) := dk_46 (dk_at dksX6_undo_1 5 rfl rfl)
theorem dX6_undo_29 : decode cX6_undo 29 = .ok (.iconst 1, 1) := dk_4 (dk_at dksX6_undo_1 6 rfl rfl)
theorem dX6_undo_30 : decode cX6_undo 30 = .ok (.isub, 1) := dk_100 (dk_at dksX6_undo_1 7 rfl rfl)
theorem dX6_undo_31 : decode cX6_undo 31 = .ok (.iastore, 1) := dk_79 (dk_at dksX6_undo_1 8 rfl rfl)
theorem dX6_undo_32 : decode cX6_undo 32 = .ok (.aload_n 0, 1) := dk_42 (dk_at dksX6_undo_1 9 rfl rfl)
theorem dX6_undo_33 : decode cX6_undo 33 = .ok (.getfield 25, 3) := dk_180 0 25 (dk_at dksX6_undo_1 10 rfl rfl)
theorem dX6_undo_36 : decode cX6_undo 36 = .ok (.iload_n 1, 1) := dk_27 (dk_at dksX6_undo_1 13 rfl rfl)
theorem dX6_undo_37 : decode cX6_undo 37 = .ok (.iaload, 1) := dk_46 (dk_at dksX6_undo_1 14 rfl rfl)
theorem dX6_undo_38 : decode cX6_undo 38 = .ok (.ireturn, 1) := dk_172 (dk_at dksX6_undo_1 15 rfl rfl)
abbrev cX6_fault : ByteArray := prog_8_method_30_code
def yX6_fault : MethodName := ⟨RX6, "fault", "(I)I"⟩
def dkwX6_fault_0 : List UInt8 := [27, 184, 0, 110, 153, 0, 11, 42, 27, 182, 0, 146, 167, 0, 5, 16, 254, 172]
abbrev dktX6_fault_0 : List UInt8 := dkwX6_fault_0 ++ []
theorem dksX6_fault_0 : cX6_fault.data.toList.drop 0 = dktX6_fault_0 := by decide +kernel
theorem dX6_fault_0 : decode cX6_fault 0 = .ok (.iload_n 1, 1) := dk_27 (dk_at dksX6_fault_0 0 rfl rfl)
theorem dX6_fault_1 : decode cX6_fault 1 = .ok (.invokestatic 110, 3) := dk_184 0 110 (dk_at dksX6_fault_0 1 rfl rfl)
theorem dX6_fault_4 : decode cX6_fault 4 = .ok (.ifCond .eq 11, 3) := dk_153 0 11 (dk_at dksX6_fault_0 4 rfl rfl)
theorem dX6_fault_7 : decode cX6_fault 7 = .ok (.aload_n 0, 1) := dk_42 (dk_at dksX6_fault_0 7 rfl rfl)
theorem dX6_fault_8 : decode cX6_fault 8 = .ok (.iload_n 1, 1) := dk_27 (dk_at dksX6_fault_0 8 rfl rfl)
theorem dX6_fault_9 : decode cX6_fault 9 = .ok (.invokevirtual 146, 3) := dk_182 0 146 (dk_at dksX6_fault_0 9 rfl rfl)
theorem dX6_fault_12 : decode cX6_fault 12 = .ok (.goto 5, 3) := dk_167 0 5 (dk_at dksX6_fault_0 12 rfl rfl)
theorem dX6_fault_15 : decode cX6_fault 15 = .ok (.bipush (-2), 2) := dk_16 254 (dk_at dksX6_fault_0 15 rfl rfl)
theorem dX6_fault_17 : decode cX6_fault 17 = .ok (.ireturn, 1) := dk_172 (dk_at dksX6_fault_0 17 rfl rfl)
abbrev cX6_readsText : ByteArray := prog_8_method_29_code
def yX6_readsText : MethodName := ⟨RX6, "readsText", "(I)I"⟩
def dkwX6_readsText_0 : List UInt8 := [27, 154, 0, 10, 42, 182, 0, 139, 167, 0, 7, 42, 182, 0, 143, 172]
abbrev dktX6_readsText_0 : List UInt8 := dkwX6_readsText_0 ++ []
theorem dksX6_readsText_0 : cX6_readsText.data.toList.drop 0 = dktX6_readsText_0 := by decide +kernel
theorem dX6_readsText_0 : decode cX6_readsText 0 = .ok (.iload_n 1, 1) := dk_27 (dk_at dksX6_readsText_0 0 rfl rfl)
theorem dX6_readsText_1 : decode cX6_readsText 1 = .ok (.ifCond .ne 10, 3) := dk_154 0 10 (dk_at dksX6_readsText_0 1 rfl rfl)
theorem dX6_readsText_4 : decode cX6_readsText 4 = .ok (.aload_n 0, 1) := dk_42 (dk_at dksX6_readsText_0 4 rfl rfl)
theorem dX6_readsText_5 : decode cX6_readsText 5 = .ok (.invokevirtual 139, 3) := dk_182 0 139 (dk_at dksX6_readsText_0 5 rfl rfl)
theorem dX6_readsText_8 : decode cX6_readsText 8 = .ok (.goto 7, 3) := dk_167 0 7 (dk_at dksX6_readsText_0 8 rfl rfl)
theorem dX6_readsText_11 : decode cX6_readsText 11 = .ok (.aload_n 0, 1) := dk_42 (dk_at dksX6_readsText_0 11 rfl rfl)
theorem dX6_readsText_12 : decode cX6_readsText 12 = .ok (.invokevirtual 143, 3) := dk_182 0 143 (dk_at dksX6_readsText_0 12 rfl rfl)
theorem dX6_readsText_15 : decode cX6_readsText 15 = .ok (.ireturn, 1) := dk_172 (dk_at dksX6_readsText_0 15 rfl rfl)
abbrev cX6_readsWays : ByteArray := prog_8_method_26_code
def yX6_readsWays : MethodName := ⟨RX6, "readsWays", "()I"⟩
def dkwX6_readsWays_5 : List UInt8 := [112, 7, 159, 0, 10, 42, 3, 181, 0, 127, 27, 172, 2, 172]
abbrev dktX6_readsWays_5 : List UInt8 := dkwX6_readsWays_5 ++ []
def dkwX6_readsWays_4 : List UInt8 := [160, 0, 7, 4, 167, 0, 4, 3, 96, 181, 0, 127, 132, 2, 1, 167, 255, 160, 27, 158, 0, 17, 27, 8]
abbrev dktX6_readsWays_4 : List UInt8 := dkwX6_readsWays_4 ++ dktX6_readsWays_5
def dkwX6_readsWays_3 : List UInt8 := [29, 7, 162, 0, 14, 42, 180, 0, 28, 21, 4, 29, 96, 21, 5, 79, 42, 89, 180, 0, 127, 29, 6]
abbrev dktX6_readsWays_3 : List UInt8 := dkwX6_readsWays_3 ++ dktX6_readsWays_4
def dkwX6_readsWays_2 : List UInt8 := [46, 167, 0, 4, 2, 184, 0, 130, 54, 5, 21, 5, 16, 247, 160, 0, 10, 42, 3, 181, 0, 127, 28, 172]
abbrev dktX6_readsWays_2 : List UInt8 := dkwX6_readsWays_2 ++ dktX6_readsWays_3
def dkwX6_readsWays_1 : List UInt8 := [28, 8, 108, 104, 54, 4, 29, 42, 180, 0, 22, 28, 46, 29, 4, 160, 0, 13, 42, 180, 0, 28, 21, 4]
abbrev dktX6_readsWays_1 : List UInt8 := dkwX6_readsWays_1 ++ dktX6_readsWays_2
def dkwX6_readsWays_0 : List UInt8 := [42, 3, 181, 0, 127, 42, 180, 0, 25, 3, 46, 60, 3, 61, 28, 27, 162, 0, 97, 28, 8, 112, 62, 7]
abbrev dktX6_readsWays_0 : List UInt8 := dkwX6_readsWays_0 ++ dktX6_readsWays_1
theorem dksX6_readsWays_0 : cX6_readsWays.data.toList.drop 0 = dktX6_readsWays_0 := by decide +kernel
theorem dksX6_readsWays_1 : cX6_readsWays.data.toList.drop 24 = dktX6_readsWays_1 := dk_seg dksX6_readsWays_0 24 rfl rfl
theorem dksX6_readsWays_2 : cX6_readsWays.data.toList.drop 48 = dktX6_readsWays_2 := dk_seg dksX6_readsWays_1 24 rfl rfl
theorem dksX6_readsWays_3 : cX6_readsWays.data.toList.drop 72 = dktX6_readsWays_3 := dk_seg dksX6_readsWays_2 24 rfl rfl
theorem dksX6_readsWays_4 : cX6_readsWays.data.toList.drop 95 = dktX6_readsWays_4 := dk_seg dksX6_readsWays_3 23 rfl rfl
theorem dksX6_readsWays_5 : cX6_readsWays.data.toList.drop 119 = dktX6_readsWays_5 := dk_seg dksX6_readsWays_4 24 rfl rfl
theorem dX6_readsWays_0 : decode cX6_readsWays 0 = .ok (.aload_n 0, 1) := dk_42 (dk_at dksX6_readsWays_0 0 rfl rfl)
theorem dX6_readsWays_1 : decode cX6_readsWays 1 = .ok (.iconst 0, 1) := dk_3 (dk_at dksX6_readsWays_0 1 rfl rfl)
theorem dX6_readsWays_2 : decode cX6_readsWays 2 = .ok (.putfield 127, 3) := dk_181 0 127 (dk_at dksX6_readsWays_0 2 rfl rfl)
theorem dX6_readsWays_5 : decode cX6_readsWays 5 = .ok (.aload_n 0, 1) := dk_42 (dk_at dksX6_readsWays_0 5 rfl rfl)
theorem dX6_readsWays_6 : decode cX6_readsWays 6 = .ok (.getfield 25, 3) := dk_180 0 25 (dk_at dksX6_readsWays_0 6 rfl rfl)
theorem dX6_readsWays_9 : decode cX6_readsWays 9 = .ok (.iconst 0, 1) := dk_3 (dk_at dksX6_readsWays_0 9 rfl rfl)
theorem dX6_readsWays_10 : decode cX6_readsWays 10 = .ok (.iaload, 1) := dk_46 (dk_at dksX6_readsWays_0 10 rfl rfl)
theorem dX6_readsWays_11 : decode cX6_readsWays 11 = .ok (.istore_n 1, 1) := dk_60 (dk_at dksX6_readsWays_0 11 rfl rfl)
theorem dX6_readsWays_12 : decode cX6_readsWays 12 = .ok (.iconst 0, 1) := dk_3 (dk_at dksX6_readsWays_0 12 rfl rfl)
theorem dX6_readsWays_13 : decode cX6_readsWays 13 = .ok (.istore_n 2, 1) := dk_61 (dk_at dksX6_readsWays_0 13 rfl rfl)
theorem dX6_readsWays_14 : decode cX6_readsWays 14 = .ok (.iload_n 2, 1) := dk_28 (dk_at dksX6_readsWays_0 14 rfl rfl)
theorem dX6_readsWays_15 : decode cX6_readsWays 15 = .ok (.iload_n 1, 1) := dk_27 (dk_at dksX6_readsWays_0 15 rfl rfl)
theorem dX6_readsWays_16 : decode cX6_readsWays 16 = .ok (.if_icmp .ge 97, 3) := dk_162 0 97 (dk_at dksX6_readsWays_0 16 rfl rfl)
theorem dX6_readsWays_19 : decode cX6_readsWays 19 = .ok (.iload_n 2, 1) := dk_28 (dk_at dksX6_readsWays_0 19 rfl rfl)
theorem dX6_readsWays_20 : decode cX6_readsWays 20 = .ok (.iconst 5, 1) := dk_8 (dk_at dksX6_readsWays_0 20 rfl rfl)
theorem dX6_readsWays_21 : decode cX6_readsWays 21 = .ok (.irem, 1) := dk_112 (dk_at dksX6_readsWays_0 21 rfl rfl)
theorem dX6_readsWays_22 : decode cX6_readsWays 22 = .ok (.istore_n 3, 1) := dk_62 (dk_at dksX6_readsWays_0 22 rfl rfl)
theorem dX6_readsWays_23 : decode cX6_readsWays 23 = .ok (.iconst 4, 1) := dk_7 (dk_at dksX6_readsWays_0 23 rfl rfl)
theorem dX6_readsWays_24 : decode cX6_readsWays 24 = .ok (.iload_n 2, 1) := dk_28 (dk_at dksX6_readsWays_1 0 rfl rfl)
theorem dX6_readsWays_25 : decode cX6_readsWays 25 = .ok (.iconst 5, 1) := dk_8 (dk_at dksX6_readsWays_1 1 rfl rfl)
theorem dX6_readsWays_26 : decode cX6_readsWays 26 = .ok (.idiv, 1) := dk_108 (dk_at dksX6_readsWays_1 2 rfl rfl)
theorem dX6_readsWays_27 : decode cX6_readsWays 27 = .ok (.imul, 1) := dk_104 (dk_at dksX6_readsWays_1 3 rfl rfl)
theorem dX6_readsWays_28 : decode cX6_readsWays 28 = .ok (.istore 4, 2) := dk_54 4 (dk_at dksX6_readsWays_1 4 rfl rfl)
theorem dX6_readsWays_30 : decode cX6_readsWays 30 = .ok (.iload_n 3, 1) := dk_29 (dk_at dksX6_readsWays_1 6 rfl rfl)
theorem dX6_readsWays_31 : decode cX6_readsWays 31 = .ok (.aload_n 0, 1) := dk_42 (dk_at dksX6_readsWays_1 7 rfl rfl)
theorem dX6_readsWays_32 : decode cX6_readsWays 32 = .ok (.getfield 22, 3) := dk_180 0 22 (dk_at dksX6_readsWays_1 8 rfl rfl)
theorem dX6_readsWays_35 : decode cX6_readsWays 35 = .ok (.iload_n 2, 1) := dk_28 (dk_at dksX6_readsWays_1 11 rfl rfl)
theorem dX6_readsWays_36 : decode cX6_readsWays 36 = .ok (.iaload, 1) := dk_46 (dk_at dksX6_readsWays_1 12 rfl rfl)
theorem dX6_readsWays_37 : decode cX6_readsWays 37 = .ok (.iload_n 3, 1) := dk_29 (dk_at dksX6_readsWays_1 13 rfl rfl)
theorem dX6_readsWays_38 : decode cX6_readsWays 38 = .ok (.iconst 1, 1) := dk_4 (dk_at dksX6_readsWays_1 14 rfl rfl)
theorem dX6_readsWays_39 : decode cX6_readsWays 39 = .ok (.if_icmp .ne 13, 3) := dk_160 0 13 (dk_at dksX6_readsWays_1 15 rfl rfl)
theorem dX6_readsWays_42 : decode cX6_readsWays 42 = .ok (.aload_n 0, 1) := dk_42 (dk_at dksX6_readsWays_1 18 rfl rfl)
theorem dX6_readsWays_43 : decode cX6_readsWays 43 = .ok (.getfield 28, 3) := dk_180 0 28 (dk_at dksX6_readsWays_1 19 rfl rfl)
theorem dX6_readsWays_46 : decode cX6_readsWays 46 = .ok (.iload 4, 2) := dk_21 4 (dk_at dksX6_readsWays_1 22 rfl rfl)
theorem dX6_readsWays_48 : decode cX6_readsWays 48 = .ok (.iaload, 1) := dk_46 (dk_at dksX6_readsWays_2 0 rfl rfl)
theorem dX6_readsWays_49 : decode cX6_readsWays 49 = .ok (.goto 4, 3) := dk_167 0 4 (dk_at dksX6_readsWays_2 1 rfl rfl)
theorem dX6_readsWays_52 : decode cX6_readsWays 52 = .ok (.iconst (-1), 1) := dk_2 (dk_at dksX6_readsWays_2 4 rfl rfl)
theorem dX6_readsWays_53 : decode cX6_readsWays 53 = .ok (.invokestatic 130, 3) := dk_184 0 130 (dk_at dksX6_readsWays_2 5 rfl rfl)
theorem dX6_readsWays_56 : decode cX6_readsWays 56 = .ok (.istore 5, 2) := dk_54 5 (dk_at dksX6_readsWays_2 8 rfl rfl)
theorem dX6_readsWays_58 : decode cX6_readsWays 58 = .ok (.iload 5, 2) := dk_21 5 (dk_at dksX6_readsWays_2 10 rfl rfl)
theorem dX6_readsWays_60 : decode cX6_readsWays 60 = .ok (.bipush (-9), 2) := dk_16 247 (dk_at dksX6_readsWays_2 12 rfl rfl)
theorem dX6_readsWays_62 : decode cX6_readsWays 62 = .ok (.if_icmp .ne 10, 3) := dk_160 0 10 (dk_at dksX6_readsWays_2 14 rfl rfl)
theorem dX6_readsWays_65 : decode cX6_readsWays 65 = .ok (.aload_n 0, 1) := dk_42 (dk_at dksX6_readsWays_2 17 rfl rfl)
theorem dX6_readsWays_66 : decode cX6_readsWays 66 = .ok (.iconst 0, 1) := dk_3 (dk_at dksX6_readsWays_2 18 rfl rfl)
theorem dX6_readsWays_67 : decode cX6_readsWays 67 = .ok (.putfield 127, 3) := dk_181 0 127 (dk_at dksX6_readsWays_2 19 rfl rfl)
theorem dX6_readsWays_70 : decode cX6_readsWays 70 = .ok (.iload_n 2, 1) := dk_28 (dk_at dksX6_readsWays_2 22 rfl rfl)
theorem dX6_readsWays_71 : decode cX6_readsWays 71 = .ok (.ireturn, 1) := dk_172 (dk_at dksX6_readsWays_2 23 rfl rfl)
theorem dX6_readsWays_72 : decode cX6_readsWays 72 = .ok (.iload_n 3, 1) := dk_29 (dk_at dksX6_readsWays_3 0 rfl rfl)
theorem dX6_readsWays_73 : decode cX6_readsWays 73 = .ok (.iconst 4, 1) := dk_7 (dk_at dksX6_readsWays_3 1 rfl rfl)
theorem dX6_readsWays_74 : decode cX6_readsWays 74 = .ok (.if_icmp .ge 14, 3) := dk_162 0 14 (dk_at dksX6_readsWays_3 2 rfl rfl)
theorem dX6_readsWays_77 : decode cX6_readsWays 77 = .ok (.aload_n 0, 1) := dk_42 (dk_at dksX6_readsWays_3 5 rfl rfl)
theorem dX6_readsWays_78 : decode cX6_readsWays 78 = .ok (.getfield 28, 3) := dk_180 0 28 (dk_at dksX6_readsWays_3 6 rfl rfl)
theorem dX6_readsWays_81 : decode cX6_readsWays 81 = .ok (.iload 4, 2) := dk_21 4 (dk_at dksX6_readsWays_3 9 rfl rfl)
theorem dX6_readsWays_83 : decode cX6_readsWays 83 = .ok (.iload_n 3, 1) := dk_29 (dk_at dksX6_readsWays_3 11 rfl rfl)
theorem dX6_readsWays_84 : decode cX6_readsWays 84 = .ok (.iadd, 1) := dk_96 (dk_at dksX6_readsWays_3 12 rfl rfl)
theorem dX6_readsWays_85 : decode cX6_readsWays 85 = .ok (.iload 5, 2) := dk_21 5 (dk_at dksX6_readsWays_3 13 rfl rfl)
theorem dX6_readsWays_87 : decode cX6_readsWays 87 = .ok (.iastore, 1) := dk_79 (dk_at dksX6_readsWays_3 15 rfl rfl)
theorem dX6_readsWays_88 : decode cX6_readsWays 88 = .ok (.aload_n 0, 1) := dk_42 (dk_at dksX6_readsWays_3 16 rfl rfl)
theorem dX6_readsWays_89 : decode cX6_readsWays 89 = .ok (.dup, 1) := dk_89 (dk_at dksX6_readsWays_3 17 rfl rfl)
theorem dX6_readsWays_90 : decode cX6_readsWays 90 = .ok (.getfield 127, 3) := dk_180 0 127 (dk_at dksX6_readsWays_3 18 rfl rfl)
theorem dX6_readsWays_93 : decode cX6_readsWays 93 = .ok (.iload_n 3, 1) := dk_29 (dk_at dksX6_readsWays_3 21 rfl rfl)
theorem dX6_readsWays_94 : decode cX6_readsWays 94 = .ok (.iconst 3, 1) := dk_6 (dk_at dksX6_readsWays_3 22 rfl rfl)
theorem dX6_readsWays_95 : decode cX6_readsWays 95 = .ok (.if_icmp .ne 7, 3) := dk_160 0 7 (dk_at dksX6_readsWays_4 0 rfl rfl)
theorem dX6_readsWays_98 : decode cX6_readsWays 98 = .ok (.iconst 1, 1) := dk_4 (dk_at dksX6_readsWays_4 3 rfl rfl)
theorem dX6_readsWays_99 : decode cX6_readsWays 99 = .ok (.goto 4, 3) := dk_167 0 4 (dk_at dksX6_readsWays_4 4 rfl rfl)
theorem dX6_readsWays_102 : decode cX6_readsWays 102 = .ok (.iconst 0, 1) := dk_3 (dk_at dksX6_readsWays_4 7 rfl rfl)
theorem dX6_readsWays_103 : decode cX6_readsWays 103 = .ok (.iadd, 1) := dk_96 (dk_at dksX6_readsWays_4 8 rfl rfl)
theorem dX6_readsWays_104 : decode cX6_readsWays 104 = .ok (.putfield 127, 3) := dk_181 0 127 (dk_at dksX6_readsWays_4 9 rfl rfl)
theorem dX6_readsWays_107 : decode cX6_readsWays 107 = .ok (.iinc 2 1, 3) := dk_132 2 1 (dk_at dksX6_readsWays_4 12 rfl rfl)
theorem dX6_readsWays_110 : decode cX6_readsWays 110 = .ok (.goto (-96), 3) := dk_167 255 160 (dk_at dksX6_readsWays_4 15 rfl rfl)
theorem dX6_readsWays_113 : decode cX6_readsWays 113 = .ok (.iload_n 1, 1) := dk_27 (dk_at dksX6_readsWays_4 18 rfl rfl)
theorem dX6_readsWays_114 : decode cX6_readsWays 114 = .ok (.ifCond .le 17, 3) := dk_158 0 17 (dk_at dksX6_readsWays_4 19 rfl rfl)
theorem dX6_readsWays_117 : decode cX6_readsWays 117 = .ok (.iload_n 1, 1) := dk_27 (dk_at dksX6_readsWays_4 22 rfl rfl)
theorem dX6_readsWays_118 : decode cX6_readsWays 118 = .ok (.iconst 5, 1) := dk_8 (dk_at dksX6_readsWays_4 23 rfl rfl)
theorem dX6_readsWays_119 : decode cX6_readsWays 119 = .ok (.irem, 1) := dk_112 (dk_at dksX6_readsWays_5 0 rfl rfl)
theorem dX6_readsWays_120 : decode cX6_readsWays 120 = .ok (.iconst 4, 1) := dk_7 (dk_at dksX6_readsWays_5 1 rfl rfl)
theorem dX6_readsWays_121 : decode cX6_readsWays 121 = .ok (.if_icmp .eq 10, 3) := dk_159 0 10 (dk_at dksX6_readsWays_5 2 rfl rfl)
theorem dX6_readsWays_124 : decode cX6_readsWays 124 = .ok (.aload_n 0, 1) := dk_42 (dk_at dksX6_readsWays_5 5 rfl rfl)
theorem dX6_readsWays_125 : decode cX6_readsWays 125 = .ok (.iconst 0, 1) := dk_3 (dk_at dksX6_readsWays_5 6 rfl rfl)
theorem dX6_readsWays_126 : decode cX6_readsWays 126 = .ok (.putfield 127, 3) := dk_181 0 127 (dk_at dksX6_readsWays_5 7 rfl rfl)
theorem dX6_readsWays_129 : decode cX6_readsWays 129 = .ok (.iload_n 1, 1) := dk_27 (dk_at dksX6_readsWays_5 10 rfl rfl)
theorem dX6_readsWays_130 : decode cX6_readsWays 130 = .ok (.ireturn, 1) := dk_172 (dk_at dksX6_readsWays_5 11 rfl rfl)
theorem dX6_readsWays_131 : decode cX6_readsWays 131 = .ok (.iconst (-1), 1) := dk_2 (dk_at dksX6_readsWays_5 12 rfl rfl)
theorem dX6_readsWays_132 : decode cX6_readsWays 132 = .ok (.ireturn, 1) := dk_172 (dk_at dksX6_readsWays_5 13 rfl rfl)
abbrev cX6_wayOf : ByteArray := prog_8_method_25_code
def yX6_wayOf : MethodName := ⟨RX6, "wayOf", "(III)I"⟩
def dkwX6_wayOf_5 : List UInt8 := [167, 0, 5, 16, 247, 172]
abbrev dktX6_wayOf_5 : List UInt8 := dkwX6_wayOf_5 ++ []
def dkwX6_wayOf_4 : List UInt8 := [167, 0, 15, 27, 16, 100, 160, 0, 7, 5, 167, 0, 5, 16, 247, 172, 27, 16, 59, 160, 0, 7, 3]
abbrev dktX6_wayOf_4 : List UInt8 := dkwX6_wayOf_4 ++ dktX6_wayOf_5
def dkwX6_wayOf_3 : List UInt8 := [4, 184, 0, 124, 172, 27, 16, 117, 160, 0, 7, 3, 167, 0, 25, 27, 16, 102, 160, 0, 7, 4]
abbrev dktX6_wayOf_3 : List UInt8 := dkwX6_wayOf_3 ++ dktX6_wayOf_4
def dkwX6_wayOf_2 : List UInt8 := [27, 184, 0, 121, 172, 27, 184, 0, 121, 28, 160, 0, 8, 16, 247, 167, 0, 7, 27, 184, 0, 121, 172, 27]
abbrev dktX6_wayOf_2 : List UInt8 := dkwX6_wayOf_2 ++ dktX6_wayOf_3
def dkwX6_wayOf_1 : List UInt8 := [170, 0, 0, 0, 0, 0, 93, 0, 0, 0, 0, 0, 0, 0, 3, 0, 0, 0, 31, 0, 0, 0, 36, 0, 0, 0, 54, 0, 0, 0, 60]
abbrev dktX6_wayOf_1 : List UInt8 := dkwX6_wayOf_1 ++ dktX6_wayOf_2
def dkwX6_wayOf_0 : List UInt8 := [26]
abbrev dktX6_wayOf_0 : List UInt8 := dkwX6_wayOf_0 ++ dktX6_wayOf_1
theorem dksX6_wayOf_0 : cX6_wayOf.data.toList.drop 0 = dktX6_wayOf_0 := by decide +kernel
theorem dksX6_wayOf_1 : cX6_wayOf.data.toList.drop 1 = dktX6_wayOf_1 := dk_seg dksX6_wayOf_0 1 rfl rfl
theorem dksX6_wayOf_2 : cX6_wayOf.data.toList.drop 32 = dktX6_wayOf_2 := dk_seg dksX6_wayOf_1 31 rfl rfl
theorem dksX6_wayOf_3 : cX6_wayOf.data.toList.drop 56 = dktX6_wayOf_3 := dk_seg dksX6_wayOf_2 24 rfl rfl
theorem dksX6_wayOf_4 : cX6_wayOf.data.toList.drop 78 = dktX6_wayOf_4 := dk_seg dksX6_wayOf_3 22 rfl rfl
theorem dksX6_wayOf_5 : cX6_wayOf.data.toList.drop 101 = dktX6_wayOf_5 := dk_seg dksX6_wayOf_4 23 rfl rfl
theorem dX6_wayOf_0 : decode cX6_wayOf 0 = .ok (.iload_n 0, 1) := dk_26 (dk_at dksX6_wayOf_0 0 rfl rfl)
theorem dX6_wayOf_1 : decode cX6_wayOf 1 = .ok (.tableswitch 93 0 3 #[31, 36, 54, 60], 31) := by decide +kernel
theorem dX6_wayOf_32 : decode cX6_wayOf 32 = .ok (.iload_n 1, 1) := dk_27 (dk_at dksX6_wayOf_2 0 rfl rfl)
theorem dX6_wayOf_33 : decode cX6_wayOf 33 = .ok (.invokestatic 121, 3) := dk_184 0 121 (dk_at dksX6_wayOf_2 1 rfl rfl)
theorem dX6_wayOf_36 : decode cX6_wayOf 36 = .ok (.ireturn, 1) := dk_172 (dk_at dksX6_wayOf_2 4 rfl rfl)
theorem dX6_wayOf_37 : decode cX6_wayOf 37 = .ok (.iload_n 1, 1) := dk_27 (dk_at dksX6_wayOf_2 5 rfl rfl)
theorem dX6_wayOf_38 : decode cX6_wayOf 38 = .ok (.invokestatic 121, 3) := dk_184 0 121 (dk_at dksX6_wayOf_2 6 rfl rfl)
theorem dX6_wayOf_41 : decode cX6_wayOf 41 = .ok (.iload_n 2, 1) := dk_28 (dk_at dksX6_wayOf_2 9 rfl rfl)
theorem dX6_wayOf_42 : decode cX6_wayOf 42 = .ok (.if_icmp .ne 8, 3) := dk_160 0 8 (dk_at dksX6_wayOf_2 10 rfl rfl)
theorem dX6_wayOf_45 : decode cX6_wayOf 45 = .ok (.bipush (-9), 2) := dk_16 247 (dk_at dksX6_wayOf_2 13 rfl rfl)
theorem dX6_wayOf_47 : decode cX6_wayOf 47 = .ok (.goto 7, 3) := dk_167 0 7 (dk_at dksX6_wayOf_2 15 rfl rfl)
theorem dX6_wayOf_50 : decode cX6_wayOf 50 = .ok (.iload_n 1, 1) := dk_27 (dk_at dksX6_wayOf_2 18 rfl rfl)
theorem dX6_wayOf_51 : decode cX6_wayOf 51 = .ok (.invokestatic 121, 3) := dk_184 0 121 (dk_at dksX6_wayOf_2 19 rfl rfl)
theorem dX6_wayOf_54 : decode cX6_wayOf 54 = .ok (.ireturn, 1) := dk_172 (dk_at dksX6_wayOf_2 22 rfl rfl)
theorem dX6_wayOf_55 : decode cX6_wayOf 55 = .ok (.iload_n 1, 1) := dk_27 (dk_at dksX6_wayOf_2 23 rfl rfl)
theorem dX6_wayOf_56 : decode cX6_wayOf 56 = .ok (.iconst 1, 1) := dk_4 (dk_at dksX6_wayOf_3 0 rfl rfl)
theorem dX6_wayOf_57 : decode cX6_wayOf 57 = .ok (.invokestatic 124, 3) := dk_184 0 124 (dk_at dksX6_wayOf_3 1 rfl rfl)
theorem dX6_wayOf_60 : decode cX6_wayOf 60 = .ok (.ireturn, 1) := dk_172 (dk_at dksX6_wayOf_3 4 rfl rfl)
theorem dX6_wayOf_61 : decode cX6_wayOf 61 = .ok (.iload_n 1, 1) := dk_27 (dk_at dksX6_wayOf_3 5 rfl rfl)
theorem dX6_wayOf_62 : decode cX6_wayOf 62 = .ok (.bipush 117, 2) := dk_16 117 (dk_at dksX6_wayOf_3 6 rfl rfl)
theorem dX6_wayOf_64 : decode cX6_wayOf 64 = .ok (.if_icmp .ne 7, 3) := dk_160 0 7 (dk_at dksX6_wayOf_3 8 rfl rfl)
theorem dX6_wayOf_67 : decode cX6_wayOf 67 = .ok (.iconst 0, 1) := dk_3 (dk_at dksX6_wayOf_3 11 rfl rfl)
theorem dX6_wayOf_68 : decode cX6_wayOf 68 = .ok (.goto 25, 3) := dk_167 0 25 (dk_at dksX6_wayOf_3 12 rfl rfl)
theorem dX6_wayOf_71 : decode cX6_wayOf 71 = .ok (.iload_n 1, 1) := dk_27 (dk_at dksX6_wayOf_3 15 rfl rfl)
theorem dX6_wayOf_72 : decode cX6_wayOf 72 = .ok (.bipush 102, 2) := dk_16 102 (dk_at dksX6_wayOf_3 16 rfl rfl)
theorem dX6_wayOf_74 : decode cX6_wayOf 74 = .ok (.if_icmp .ne 7, 3) := dk_160 0 7 (dk_at dksX6_wayOf_3 18 rfl rfl)
theorem dX6_wayOf_77 : decode cX6_wayOf 77 = .ok (.iconst 1, 1) := dk_4 (dk_at dksX6_wayOf_3 21 rfl rfl)
theorem dX6_wayOf_78 : decode cX6_wayOf 78 = .ok (.goto 15, 3) := dk_167 0 15 (dk_at dksX6_wayOf_4 0 rfl rfl)
theorem dX6_wayOf_81 : decode cX6_wayOf 81 = .ok (.iload_n 1, 1) := dk_27 (dk_at dksX6_wayOf_4 3 rfl rfl)
theorem dX6_wayOf_82 : decode cX6_wayOf 82 = .ok (.bipush 100, 2) := dk_16 100 (dk_at dksX6_wayOf_4 4 rfl rfl)
theorem dX6_wayOf_84 : decode cX6_wayOf 84 = .ok (.if_icmp .ne 7, 3) := dk_160 0 7 (dk_at dksX6_wayOf_4 6 rfl rfl)
theorem dX6_wayOf_87 : decode cX6_wayOf 87 = .ok (.iconst 2, 1) := dk_5 (dk_at dksX6_wayOf_4 9 rfl rfl)
theorem dX6_wayOf_88 : decode cX6_wayOf 88 = .ok (.goto 5, 3) := dk_167 0 5 (dk_at dksX6_wayOf_4 10 rfl rfl)
theorem dX6_wayOf_91 : decode cX6_wayOf 91 = .ok (.bipush (-9), 2) := dk_16 247 (dk_at dksX6_wayOf_4 13 rfl rfl)
theorem dX6_wayOf_93 : decode cX6_wayOf 93 = .ok (.ireturn, 1) := dk_172 (dk_at dksX6_wayOf_4 15 rfl rfl)
theorem dX6_wayOf_94 : decode cX6_wayOf 94 = .ok (.iload_n 1, 1) := dk_27 (dk_at dksX6_wayOf_4 16 rfl rfl)
theorem dX6_wayOf_95 : decode cX6_wayOf 95 = .ok (.bipush 59, 2) := dk_16 59 (dk_at dksX6_wayOf_4 17 rfl rfl)
theorem dX6_wayOf_97 : decode cX6_wayOf 97 = .ok (.if_icmp .ne 7, 3) := dk_160 0 7 (dk_at dksX6_wayOf_4 19 rfl rfl)
theorem dX6_wayOf_100 : decode cX6_wayOf 100 = .ok (.iconst 0, 1) := dk_3 (dk_at dksX6_wayOf_4 22 rfl rfl)
theorem dX6_wayOf_101 : decode cX6_wayOf 101 = .ok (.goto 5, 3) := dk_167 0 5 (dk_at dksX6_wayOf_5 0 rfl rfl)
theorem dX6_wayOf_104 : decode cX6_wayOf 104 = .ok (.bipush (-9), 2) := dk_16 247 (dk_at dksX6_wayOf_5 3 rfl rfl)
theorem dX6_wayOf_106 : decode cX6_wayOf 106 = .ok (.ireturn, 1) := dk_172 (dk_at dksX6_wayOf_5 5 rfl rfl)
abbrev cX6_placeOf : ByteArray := prog_8_method_23_code
def yX6_placeOf : MethodName := ⟨RX6, "placeOf", "(I)I"⟩
def dkwX6_placeOf_0 : List UInt8 := [26, 133, 20, 0, 115, 20, 0, 117, 184, 0, 81, 153, 0, 10, 26, 16, 97, 100, 167, 0, 5, 16, 247, 172]
abbrev dktX6_placeOf_0 : List UInt8 := dkwX6_placeOf_0 ++ []
theorem dksX6_placeOf_0 : cX6_placeOf.data.toList.drop 0 = dktX6_placeOf_0 := by decide +kernel
theorem dX6_placeOf_0 : decode cX6_placeOf 0 = .ok (.iload_n 0, 1) := dk_26 (dk_at dksX6_placeOf_0 0 rfl rfl)
theorem dX6_placeOf_1 : decode cX6_placeOf 1 = .ok (.i2l, 1) := dk_133 (dk_at dksX6_placeOf_0 1 rfl rfl)
theorem dX6_placeOf_2 : decode cX6_placeOf 2 = .ok (.ldc2_w 115, 3) := dk_20 0 115 (dk_at dksX6_placeOf_0 2 rfl rfl)
theorem dX6_placeOf_5 : decode cX6_placeOf 5 = .ok (.ldc2_w 117, 3) := dk_20 0 117 (dk_at dksX6_placeOf_0 5 rfl rfl)
theorem dX6_placeOf_8 : decode cX6_placeOf 8 = .ok (.invokestatic 81, 3) := dk_184 0 81 (dk_at dksX6_placeOf_0 8 rfl rfl)
theorem dX6_placeOf_11 : decode cX6_placeOf 11 = .ok (.ifCond .eq 10, 3) := dk_153 0 10 (dk_at dksX6_placeOf_0 11 rfl rfl)
theorem dX6_placeOf_14 : decode cX6_placeOf 14 = .ok (.iload_n 0, 1) := dk_26 (dk_at dksX6_placeOf_0 14 rfl rfl)
theorem dX6_placeOf_15 : decode cX6_placeOf 15 = .ok (.bipush 97, 2) := dk_16 97 (dk_at dksX6_placeOf_0 15 rfl rfl)
theorem dX6_placeOf_17 : decode cX6_placeOf 17 = .ok (.isub, 1) := dk_100 (dk_at dksX6_placeOf_0 17 rfl rfl)
theorem dX6_placeOf_18 : decode cX6_placeOf 18 = .ok (.goto 5, 3) := dk_167 0 5 (dk_at dksX6_placeOf_0 18 rfl rfl)
theorem dX6_placeOf_21 : decode cX6_placeOf 21 = .ok (.bipush (-9), 2) := dk_16 247 (dk_at dksX6_placeOf_0 21 rfl rfl)
theorem dX6_placeOf_23 : decode cX6_placeOf 23 = .ok (.ireturn, 1) := dk_172 (dk_at dksX6_placeOf_0 23 rfl rfl)
abbrev cX6_figureOf : ByteArray := prog_8_method_24_code
def yX6_figureOf : MethodName := ⟨RX6, "figureOf", "(II)I"⟩
def dkwX6_figureOf_1 : List UInt8 := [16, 247, 172]
abbrev dktX6_figureOf_1 : List UInt8 := dkwX6_figureOf_1 ++ []
def dkwX6_figureOf_0 : List UInt8 := [26, 133, 16, 48, 27, 96, 133, 20, 0, 119, 184, 0, 81, 153, 0, 10, 26, 16, 48, 100, 167, 0, 5]
abbrev dktX6_figureOf_0 : List UInt8 := dkwX6_figureOf_0 ++ dktX6_figureOf_1
theorem dksX6_figureOf_0 : cX6_figureOf.data.toList.drop 0 = dktX6_figureOf_0 := by decide +kernel
theorem dksX6_figureOf_1 : cX6_figureOf.data.toList.drop 23 = dktX6_figureOf_1 := dk_seg dksX6_figureOf_0 23 rfl rfl
theorem dX6_figureOf_0 : decode cX6_figureOf 0 = .ok (.iload_n 0, 1) := dk_26 (dk_at dksX6_figureOf_0 0 rfl rfl)
theorem dX6_figureOf_1 : decode cX6_figureOf 1 = .ok (.i2l, 1) := dk_133 (dk_at dksX6_figureOf_0 1 rfl rfl)
theorem dX6_figureOf_2 : decode cX6_figureOf 2 = .ok (.bipush 48, 2) := dk_16 48 (dk_at dksX6_figureOf_0 2 rfl rfl)
theorem dX6_figureOf_4 : decode cX6_figureOf 4 = .ok (.iload_n 1, 1) := dk_27 (dk_at dksX6_figureOf_0 4 rfl rfl)
theorem dX6_figureOf_5 : decode cX6_figureOf 5 = .ok (.iadd, 1) := dk_96 (dk_at dksX6_figureOf_0 5 rfl rfl)
theorem dX6_figureOf_6 : decode cX6_figureOf 6 = .ok (.i2l, 1) := dk_133 (dk_at dksX6_figureOf_0 6 rfl rfl)
theorem dX6_figureOf_7 : decode cX6_figureOf 7 = .ok (.ldc2_w 119, 3) := dk_20 0 119 (dk_at dksX6_figureOf_0 7 rfl rfl)
theorem dX6_figureOf_10 : decode cX6_figureOf 10 = .ok (.invokestatic 81, 3) := dk_184 0 81 (dk_at dksX6_figureOf_0 10 rfl rfl)
theorem dX6_figureOf_13 : decode cX6_figureOf 13 = .ok (.ifCond .eq 10, 3) := dk_153 0 10 (dk_at dksX6_figureOf_0 13 rfl rfl)
theorem dX6_figureOf_16 : decode cX6_figureOf 16 = .ok (.iload_n 0, 1) := dk_26 (dk_at dksX6_figureOf_0 16 rfl rfl)
theorem dX6_figureOf_17 : decode cX6_figureOf 17 = .ok (.bipush 48, 2) := dk_16 48 (dk_at dksX6_figureOf_0 17 rfl rfl)
theorem dX6_figureOf_19 : decode cX6_figureOf 19 = .ok (.isub, 1) := dk_100 (dk_at dksX6_figureOf_0 19 rfl rfl)
theorem dX6_figureOf_20 : decode cX6_figureOf 20 = .ok (.goto 5, 3) := dk_167 0 5 (dk_at dksX6_figureOf_0 20 rfl rfl)
theorem dX6_figureOf_23 : decode cX6_figureOf 23 = .ok (.bipush (-9), 2) := dk_16 247 (dk_at dksX6_figureOf_1 0 rfl rfl)
theorem dX6_figureOf_25 : decode cX6_figureOf 25 = .ok (.ireturn, 1) := dk_172 (dk_at dksX6_figureOf_1 2 rfl rfl)
abbrev cX6_readsCarters : ByteArray := prog_8_method_28_code
def yX6_readsCarters : MethodName := ⟨RX6, "readsCarters", "()I"⟩
def dkwX6_readsCarters_7 : List UInt8 := [159, 0, 10, 42, 3, 181, 0, 133, 27, 172, 2, 172]
abbrev dktX6_readsCarters_7 : List UInt8 := dkwX6_readsCarters_7 ++ []
def dkwX6_readsCarters_6 : List UInt8 := [180, 0, 133, 4, 96, 181, 0, 133, 132, 2, 1, 167, 255, 117, 27, 158, 0, 19, 27, 16, 7, 112, 16, 6]
abbrev dktX6_readsCarters_6 : List UInt8 := dkwX6_readsCarters_6 ++ dktX6_readsCarters_7
def dkwX6_readsCarters_5 : List UInt8 := [96, 79, 167, 0, 29, 29, 8, 160, 0, 24, 42, 180, 0, 31, 21, 5, 7, 96, 21, 4, 79, 42, 89]
abbrev dktX6_readsCarters_5 : List UInt8 := dkwX6_readsCarters_5 ++ dktX6_readsCarters_6
def dkwX6_readsCarters_4 : List UInt8 := [21, 4, 104, 79, 167, 0, 51, 29, 7, 160, 0, 20, 42, 180, 0, 31, 21, 5, 6, 96, 92, 46, 21, 4]
abbrev dktX6_readsCarters_4 : List UInt8 := dkwX6_readsCarters_4 ++ dktX6_readsCarters_5
def dkwX6_readsCarters_3 : List UInt8 := [29, 96, 21, 4, 79, 167, 0, 73, 29, 6, 160, 0, 20, 42, 180, 0, 31, 21, 5, 6, 96, 16, 10]
abbrev dktX6_readsCarters_3 : List UInt8 := dkwX6_readsCarters_3 ++ dktX6_readsCarters_4
def dkwX6_readsCarters_2 : List UInt8 := [181, 0, 133, 28, 172, 8, 28, 16, 7, 108, 104, 54, 5, 29, 6, 162, 0, 17, 42, 180, 0, 31, 21, 5]
abbrev dktX6_readsCarters_2 : List UInt8 := dkwX6_readsCarters_2 ++ dktX6_readsCarters_3
def dkwX6_readsCarters_1 : List UInt8 := [29, 42, 180, 0, 22, 16, 56, 28, 96, 46, 184, 0, 136, 54, 4, 21, 4, 16, 247, 160, 0, 10, 42, 3]
abbrev dktX6_readsCarters_1 : List UInt8 := dkwX6_readsCarters_1 ++ dktX6_readsCarters_2
def dkwX6_readsCarters_0 : List UInt8 := [42, 3, 181, 0, 133, 42, 180, 0, 25, 4, 46, 60, 3, 61, 28, 27, 162, 0, 140, 28, 16, 7, 112, 62]
abbrev dktX6_readsCarters_0 : List UInt8 := dkwX6_readsCarters_0 ++ dktX6_readsCarters_1
theorem dksX6_readsCarters_0 : cX6_readsCarters.data.toList.drop 0 = dktX6_readsCarters_0 := by decide +kernel
theorem dksX6_readsCarters_1 : cX6_readsCarters.data.toList.drop 24 = dktX6_readsCarters_1 := dk_seg dksX6_readsCarters_0 24 rfl rfl
theorem dksX6_readsCarters_2 : cX6_readsCarters.data.toList.drop 48 = dktX6_readsCarters_2 := dk_seg dksX6_readsCarters_1 24 rfl rfl
theorem dksX6_readsCarters_3 : cX6_readsCarters.data.toList.drop 72 = dktX6_readsCarters_3 := dk_seg dksX6_readsCarters_2 24 rfl rfl
theorem dksX6_readsCarters_4 : cX6_readsCarters.data.toList.drop 95 = dktX6_readsCarters_4 := dk_seg dksX6_readsCarters_3 23 rfl rfl
theorem dksX6_readsCarters_5 : cX6_readsCarters.data.toList.drop 119 = dktX6_readsCarters_5 := dk_seg dksX6_readsCarters_4 24 rfl rfl
theorem dksX6_readsCarters_6 : cX6_readsCarters.data.toList.drop 142 = dktX6_readsCarters_6 := dk_seg dksX6_readsCarters_5 23 rfl rfl
theorem dksX6_readsCarters_7 : cX6_readsCarters.data.toList.drop 166 = dktX6_readsCarters_7 := dk_seg dksX6_readsCarters_6 24 rfl rfl
theorem dX6_readsCarters_0 : decode cX6_readsCarters 0 = .ok (.aload_n 0, 1) := dk_42 (dk_at dksX6_readsCarters_0 0 rfl rfl)
theorem dX6_readsCarters_1 : decode cX6_readsCarters 1 = .ok (.iconst 0, 1) := dk_3 (dk_at dksX6_readsCarters_0 1 rfl rfl)
theorem dX6_readsCarters_2 : decode cX6_readsCarters 2 = .ok (.putfield 133, 3) := dk_181 0 133 (dk_at dksX6_readsCarters_0 2 rfl rfl)
theorem dX6_readsCarters_5 : decode cX6_readsCarters 5 = .ok (.aload_n 0, 1) := dk_42 (dk_at dksX6_readsCarters_0 5 rfl rfl)
theorem dX6_readsCarters_6 : decode cX6_readsCarters 6 = .ok (.getfield 25, 3) := dk_180 0 25 (dk_at dksX6_readsCarters_0 6 rfl rfl)
theorem dX6_readsCarters_9 : decode cX6_readsCarters 9 = .ok (.iconst 1, 1) := dk_4 (dk_at dksX6_readsCarters_0 9 rfl rfl)
theorem dX6_readsCarters_10 : decode cX6_readsCarters 10 = .ok (.iaload, 1) := dk_46 (dk_at dksX6_readsCarters_0 10 rfl rfl)
theorem dX6_readsCarters_11 : decode cX6_readsCarters 11 = .ok (.istore_n 1, 1) := dk_60 (dk_at dksX6_readsCarters_0 11 rfl rfl)
theorem dX6_readsCarters_12 : decode cX6_readsCarters 12 = .ok (.iconst 0, 1) := dk_3 (dk_at dksX6_readsCarters_0 12 rfl rfl)
theorem dX6_readsCarters_13 : decode cX6_readsCarters 13 = .ok (.istore_n 2, 1) := dk_61 (dk_at dksX6_readsCarters_0 13 rfl rfl)
theorem dX6_readsCarters_14 : decode cX6_readsCarters 14 = .ok (.iload_n 2, 1) := dk_28 (dk_at dksX6_readsCarters_0 14 rfl rfl)
theorem dX6_readsCarters_15 : decode cX6_readsCarters 15 = .ok (.iload_n 1, 1) := dk_27 (dk_at dksX6_readsCarters_0 15 rfl rfl)
theorem dX6_readsCarters_16 : decode cX6_readsCarters 16 = .ok (.if_icmp .ge 140, 3) := dk_162 0 140 (dk_at dksX6_readsCarters_0 16 rfl rfl)
theorem dX6_readsCarters_19 : decode cX6_readsCarters 19 = .ok (.iload_n 2, 1) := dk_28 (dk_at dksX6_readsCarters_0 19 rfl rfl)
theorem dX6_readsCarters_20 : decode cX6_readsCarters 20 = .ok (.bipush 7, 2) := dk_16 7 (dk_at dksX6_readsCarters_0 20 rfl rfl)
theorem dX6_readsCarters_22 : decode cX6_readsCarters 22 = .ok (.irem, 1) := dk_112 (dk_at dksX6_readsCarters_0 22 rfl rfl)
theorem dX6_readsCarters_23 : decode cX6_readsCarters 23 = .ok (.istore_n 3, 1) := dk_62 (dk_at dksX6_readsCarters_0 23 rfl rfl)
theorem dX6_readsCarters_24 : decode cX6_readsCarters 24 = .ok (.iload_n 3, 1) := dk_29 (dk_at dksX6_readsCarters_1 0 rfl rfl)
theorem dX6_readsCarters_25 : decode cX6_readsCarters 25 = .ok (.aload_n 0, 1) := dk_42 (dk_at dksX6_readsCarters_1 1 rfl rfl)
theorem dX6_readsCarters_26 : decode cX6_readsCarters 26 = .ok (.getfield 22, 3) := dk_180 0 22 (dk_at dksX6_readsCarters_1 2 rfl rfl)
theorem dX6_readsCarters_29 : decode cX6_readsCarters 29 = .ok (.bipush 56, 2) := dk_16 56 (dk_at dksX6_readsCarters_1 5 rfl rfl)
theorem dX6_readsCarters_31 : decode cX6_readsCarters 31 = .ok (.iload_n 2, 1) := dk_28 (dk_at dksX6_readsCarters_1 7 rfl rfl)
theorem dX6_readsCarters_32 : decode cX6_readsCarters 32 = .ok (.iadd, 1) := dk_96 (dk_at dksX6_readsCarters_1 8 rfl rfl)
theorem dX6_readsCarters_33 : decode cX6_readsCarters 33 = .ok (.iaload, 1) := dk_46 (dk_at dksX6_readsCarters_1 9 rfl rfl)
theorem dX6_readsCarters_34 : decode cX6_readsCarters 34 = .ok (.invokestatic 136, 3) := dk_184 0 136 (dk_at dksX6_readsCarters_1 10 rfl rfl)
theorem dX6_readsCarters_37 : decode cX6_readsCarters 37 = .ok (.istore 4, 2) := dk_54 4 (dk_at dksX6_readsCarters_1 13 rfl rfl)
theorem dX6_readsCarters_39 : decode cX6_readsCarters 39 = .ok (.iload 4, 2) := dk_21 4 (dk_at dksX6_readsCarters_1 15 rfl rfl)
theorem dX6_readsCarters_41 : decode cX6_readsCarters 41 = .ok (.bipush (-9), 2) := dk_16 247 (dk_at dksX6_readsCarters_1 17 rfl rfl)
theorem dX6_readsCarters_43 : decode cX6_readsCarters 43 = .ok (.if_icmp .ne 10, 3) := dk_160 0 10 (dk_at dksX6_readsCarters_1 19 rfl rfl)
theorem dX6_readsCarters_46 : decode cX6_readsCarters 46 = .ok (.aload_n 0, 1) := dk_42 (dk_at dksX6_readsCarters_1 22 rfl rfl)
theorem dX6_readsCarters_47 : decode cX6_readsCarters 47 = .ok (.iconst 0, 1) := dk_3 (dk_at dksX6_readsCarters_1 23 rfl rfl)
theorem dX6_readsCarters_48 : decode cX6_readsCarters 48 = .ok (.putfield 133, 3) := dk_181 0 133 (dk_at dksX6_readsCarters_2 0 rfl rfl)
theorem dX6_readsCarters_51 : decode cX6_readsCarters 51 = .ok (.iload_n 2, 1) := dk_28 (dk_at dksX6_readsCarters_2 3 rfl rfl)
theorem dX6_readsCarters_52 : decode cX6_readsCarters 52 = .ok (.ireturn, 1) := dk_172 (dk_at dksX6_readsCarters_2 4 rfl rfl)
theorem dX6_readsCarters_53 : decode cX6_readsCarters 53 = .ok (.iconst 5, 1) := dk_8 (dk_at dksX6_readsCarters_2 5 rfl rfl)
theorem dX6_readsCarters_54 : decode cX6_readsCarters 54 = .ok (.iload_n 2, 1) := dk_28 (dk_at dksX6_readsCarters_2 6 rfl rfl)
theorem dX6_readsCarters_55 : decode cX6_readsCarters 55 = .ok (.bipush 7, 2) := dk_16 7 (dk_at dksX6_readsCarters_2 7 rfl rfl)
theorem dX6_readsCarters_57 : decode cX6_readsCarters 57 = .ok (.idiv, 1) := dk_108 (dk_at dksX6_readsCarters_2 9 rfl rfl)
theorem dX6_readsCarters_58 : decode cX6_readsCarters 58 = .ok (.imul, 1) := dk_104 (dk_at dksX6_readsCarters_2 10 rfl rfl)
theorem dX6_readsCarters_59 : decode cX6_readsCarters 59 = .ok (.istore 5, 2) := dk_54 5 (dk_at dksX6_readsCarters_2 11 rfl rfl)
theorem dX6_readsCarters_61 : decode cX6_readsCarters 61 = .ok (.iload_n 3, 1) := dk_29 (dk_at dksX6_readsCarters_2 13 rfl rfl)
theorem dX6_readsCarters_62 : decode cX6_readsCarters 62 = .ok (.iconst 3, 1) := dk_6 (dk_at dksX6_readsCarters_2 14 rfl rfl)
theorem dX6_readsCarters_63 : decode cX6_readsCarters 63 = .ok (.if_icmp .ge 17, 3) := dk_162 0 17 (dk_at dksX6_readsCarters_2 15 rfl rfl)
theorem dX6_readsCarters_66 : decode cX6_readsCarters 66 = .ok (.aload_n 0, 1) := dk_42 (dk_at dksX6_readsCarters_2 18 rfl rfl)
theorem dX6_readsCarters_67 : decode cX6_readsCarters 67 = .ok (.getfield 31, 3) := dk_180 0 31 (dk_at dksX6_readsCarters_2 19 rfl rfl)
theorem dX6_readsCarters_70 : decode cX6_readsCarters 70 = .ok (.iload 5, 2) := dk_21 5 (dk_at dksX6_readsCarters_2 22 rfl rfl)
theorem dX6_readsCarters_72 : decode cX6_readsCarters 72 = .ok (.iload_n 3, 1) := dk_29 (dk_at dksX6_readsCarters_3 0 rfl rfl)
theorem dX6_readsCarters_73 : decode cX6_readsCarters 73 = .ok (.iadd, 1) := dk_96 (dk_at dksX6_readsCarters_3 1 rfl rfl)
theorem dX6_readsCarters_74 : decode cX6_readsCarters 74 = .ok (.iload 4, 2) := dk_21 4 (dk_at dksX6_readsCarters_3 2 rfl rfl)
theorem dX6_readsCarters_76 : decode cX6_readsCarters 76 = .ok (.iastore, 1) := dk_79 (dk_at dksX6_readsCarters_3 4 rfl rfl)
theorem dX6_readsCarters_77 : decode cX6_readsCarters 77 = .ok (.goto 73, 3) := dk_167 0 73 (dk_at dksX6_readsCarters_3 5 rfl rfl)
theorem dX6_readsCarters_80 : decode cX6_readsCarters 80 = .ok (.iload_n 3, 1) := dk_29 (dk_at dksX6_readsCarters_3 8 rfl rfl)
theorem dX6_readsCarters_81 : decode cX6_readsCarters 81 = .ok (.iconst 3, 1) := dk_6 (dk_at dksX6_readsCarters_3 9 rfl rfl)
theorem dX6_readsCarters_82 : decode cX6_readsCarters 82 = .ok (.if_icmp .ne 20, 3) := dk_160 0 20 (dk_at dksX6_readsCarters_3 10 rfl rfl)
theorem dX6_readsCarters_85 : decode cX6_readsCarters 85 = .ok (.aload_n 0, 1) := dk_42 (dk_at dksX6_readsCarters_3 13 rfl rfl)
theorem dX6_readsCarters_86 : decode cX6_readsCarters 86 = .ok (.getfield 31, 3) := dk_180 0 31 (dk_at dksX6_readsCarters_3 14 rfl rfl)
theorem dX6_readsCarters_89 : decode cX6_readsCarters 89 = .ok (.iload 5, 2) := dk_21 5 (dk_at dksX6_readsCarters_3 17 rfl rfl)
theorem dX6_readsCarters_91 : decode cX6_readsCarters 91 = .ok (.iconst 3, 1) := dk_6 (dk_at dksX6_readsCarters_3 19 rfl rfl)
theorem dX6_readsCarters_92 : decode cX6_readsCarters 92 = .ok (.iadd, 1) := dk_96 (dk_at dksX6_readsCarters_3 20 rfl rfl)
theorem dX6_readsCarters_93 : decode cX6_readsCarters 93 = .ok (.bipush 10, 2) := dk_16 10 (dk_at dksX6_readsCarters_3 21 rfl rfl)
theorem dX6_readsCarters_95 : decode cX6_readsCarters 95 = .ok (.iload 4, 2) := dk_21 4 (dk_at dksX6_readsCarters_4 0 rfl rfl)
theorem dX6_readsCarters_97 : decode cX6_readsCarters 97 = .ok (.imul, 1) := dk_104 (dk_at dksX6_readsCarters_4 2 rfl rfl)
theorem dX6_readsCarters_98 : decode cX6_readsCarters 98 = .ok (.iastore, 1) := dk_79 (dk_at dksX6_readsCarters_4 3 rfl rfl)
theorem dX6_readsCarters_99 : decode cX6_readsCarters 99 = .ok (.goto 51, 3) := dk_167 0 51 (dk_at dksX6_readsCarters_4 4 rfl rfl)
theorem dX6_readsCarters_102 : decode cX6_readsCarters 102 = .ok (.iload_n 3, 1) := dk_29 (dk_at dksX6_readsCarters_4 7 rfl rfl)
theorem dX6_readsCarters_103 : decode cX6_readsCarters 103 = .ok (.iconst 4, 1) := dk_7 (dk_at dksX6_readsCarters_4 8 rfl rfl)
theorem dX6_readsCarters_104 : decode cX6_readsCarters 104 = .ok (.if_icmp .ne 20, 3) := dk_160 0 20 (dk_at dksX6_readsCarters_4 9 rfl rfl)
theorem dX6_readsCarters_107 : decode cX6_readsCarters 107 = .ok (.aload_n 0, 1) := dk_42 (dk_at dksX6_readsCarters_4 12 rfl rfl)
theorem dX6_readsCarters_108 : decode cX6_readsCarters 108 = .ok (.getfield 31, 3) := dk_180 0 31 (dk_at dksX6_readsCarters_4 13 rfl rfl)
theorem dX6_readsCarters_111 : decode cX6_readsCarters 111 = .ok (.iload 5, 2) := dk_21 5 (dk_at dksX6_readsCarters_4 16 rfl rfl)
theorem dX6_readsCarters_113 : decode cX6_readsCarters 113 = .ok (.iconst 3, 1) := dk_6 (dk_at dksX6_readsCarters_4 18 rfl rfl)
theorem dX6_readsCarters_114 : decode cX6_readsCarters 114 = .ok (.iadd, 1) := dk_96 (dk_at dksX6_readsCarters_4 19 rfl rfl)
theorem dX6_readsCarters_115 : decode cX6_readsCarters 115 = .ok (.dup2, 1) := dk_92 (dk_at dksX6_readsCarters_4 20 rfl rfl)
theorem dX6_readsCarters_116 : decode cX6_readsCarters 116 = .ok (.iaload, 1) := dk_46 (dk_at dksX6_readsCarters_4 21 rfl rfl)
theorem dX6_readsCarters_117 : decode cX6_readsCarters 117 = .ok (.iload 4, 2) := dk_21 4 (dk_at dksX6_readsCarters_4 22 rfl rfl)
theorem dX6_readsCarters_119 : decode cX6_readsCarters 119 = .ok (.iadd, 1) := dk_96 (dk_at dksX6_readsCarters_5 0 rfl rfl)
theorem dX6_readsCarters_120 : decode cX6_readsCarters 120 = .ok (.iastore, 1) := dk_79 (dk_at dksX6_readsCarters_5 1 rfl rfl)
theorem dX6_readsCarters_121 : decode cX6_readsCarters 121 = .ok (.goto 29, 3) := dk_167 0 29 (dk_at dksX6_readsCarters_5 2 rfl rfl)
theorem dX6_readsCarters_124 : decode cX6_readsCarters 124 = .ok (.iload_n 3, 1) := dk_29 (dk_at dksX6_readsCarters_5 5 rfl rfl)
theorem dX6_readsCarters_125 : decode cX6_readsCarters 125 = .ok (.iconst 5, 1) := dk_8 (dk_at dksX6_readsCarters_5 6 rfl rfl)
theorem dX6_readsCarters_126 : decode cX6_readsCarters 126 = .ok (.if_icmp .ne 24, 3) := dk_160 0 24 (dk_at dksX6_readsCarters_5 7 rfl rfl)
theorem dX6_readsCarters_129 : decode cX6_readsCarters 129 = .ok (.aload_n 0, 1) := dk_42 (dk_at dksX6_readsCarters_5 10 rfl rfl)
theorem dX6_readsCarters_130 : decode cX6_readsCarters 130 = .ok (.getfield 31, 3) := dk_180 0 31 (dk_at dksX6_readsCarters_5 11 rfl rfl)
theorem dX6_readsCarters_133 : decode cX6_readsCarters 133 = .ok (.iload 5, 2) := dk_21 5 (dk_at dksX6_readsCarters_5 14 rfl rfl)
theorem dX6_readsCarters_135 : decode cX6_readsCarters 135 = .ok (.iconst 4, 1) := dk_7 (dk_at dksX6_readsCarters_5 16 rfl rfl)
theorem dX6_readsCarters_136 : decode cX6_readsCarters 136 = .ok (.iadd, 1) := dk_96 (dk_at dksX6_readsCarters_5 17 rfl rfl)
theorem dX6_readsCarters_137 : decode cX6_readsCarters 137 = .ok (.iload 4, 2) := dk_21 4 (dk_at dksX6_readsCarters_5 18 rfl rfl)
theorem dX6_readsCarters_139 : decode cX6_readsCarters 139 = .ok (.iastore, 1) := dk_79 (dk_at dksX6_readsCarters_5 20 rfl rfl)
theorem dX6_readsCarters_140 : decode cX6_readsCarters 140 = .ok (.aload_n 0, 1) := dk_42 (dk_at dksX6_readsCarters_5 21 rfl rfl)
theorem dX6_readsCarters_141 : decode cX6_readsCarters 141 = .ok (.dup, 1) := dk_89 (dk_at dksX6_readsCarters_5 22 rfl rfl)
theorem dX6_readsCarters_142 : decode cX6_readsCarters 142 = .ok (.getfield 133, 3) := dk_180 0 133 (dk_at dksX6_readsCarters_6 0 rfl rfl)
theorem dX6_readsCarters_145 : decode cX6_readsCarters 145 = .ok (.iconst 1, 1) := dk_4 (dk_at dksX6_readsCarters_6 3 rfl rfl)
theorem dX6_readsCarters_146 : decode cX6_readsCarters 146 = .ok (.iadd, 1) := dk_96 (dk_at dksX6_readsCarters_6 4 rfl rfl)
theorem dX6_readsCarters_147 : decode cX6_readsCarters 147 = .ok (.putfield 133, 3) := dk_181 0 133 (dk_at dksX6_readsCarters_6 5 rfl rfl)
theorem dX6_readsCarters_150 : decode cX6_readsCarters 150 = .ok (.iinc 2 1, 3) := dk_132 2 1 (dk_at dksX6_readsCarters_6 8 rfl rfl)
theorem dX6_readsCarters_153 : decode cX6_readsCarters 153 = .ok (.goto (-139), 3) := dk_167 255 117 (dk_at dksX6_readsCarters_6 11 rfl rfl)
theorem dX6_readsCarters_156 : decode cX6_readsCarters 156 = .ok (.iload_n 1, 1) := dk_27 (dk_at dksX6_readsCarters_6 14 rfl rfl)
theorem dX6_readsCarters_157 : decode cX6_readsCarters 157 = .ok (.ifCond .le 19, 3) := dk_158 0 19 (dk_at dksX6_readsCarters_6 15 rfl rfl)
theorem dX6_readsCarters_160 : decode cX6_readsCarters 160 = .ok (.iload_n 1, 1) := dk_27 (dk_at dksX6_readsCarters_6 18 rfl rfl)
theorem dX6_readsCarters_161 : decode cX6_readsCarters 161 = .ok (.bipush 7, 2) := dk_16 7 (dk_at dksX6_readsCarters_6 19 rfl rfl)
theorem dX6_readsCarters_163 : decode cX6_readsCarters 163 = .ok (.irem, 1) := dk_112 (dk_at dksX6_readsCarters_6 21 rfl rfl)
theorem dX6_readsCarters_164 : decode cX6_readsCarters 164 = .ok (.bipush 6, 2) := dk_16 6 (dk_at dksX6_readsCarters_6 22 rfl rfl)
theorem dX6_readsCarters_166 : decode cX6_readsCarters 166 = .ok (.if_icmp .eq 10, 3) := dk_159 0 10 (dk_at dksX6_readsCarters_7 0 rfl rfl)
theorem dX6_readsCarters_169 : decode cX6_readsCarters 169 = .ok (.aload_n 0, 1) := dk_42 (dk_at dksX6_readsCarters_7 3 rfl rfl)
theorem dX6_readsCarters_170 : decode cX6_readsCarters 170 = .ok (.iconst 0, 1) := dk_3 (dk_at dksX6_readsCarters_7 4 rfl rfl)
theorem dX6_readsCarters_171 : decode cX6_readsCarters 171 = .ok (.putfield 133, 3) := dk_181 0 133 (dk_at dksX6_readsCarters_7 5 rfl rfl)
theorem dX6_readsCarters_174 : decode cX6_readsCarters 174 = .ok (.iload_n 1, 1) := dk_27 (dk_at dksX6_readsCarters_7 8 rfl rfl)
theorem dX6_readsCarters_175 : decode cX6_readsCarters 175 = .ok (.ireturn, 1) := dk_172 (dk_at dksX6_readsCarters_7 9 rfl rfl)
theorem dX6_readsCarters_176 : decode cX6_readsCarters 176 = .ok (.iconst (-1), 1) := dk_2 (dk_at dksX6_readsCarters_7 10 rfl rfl)
theorem dX6_readsCarters_177 : decode cX6_readsCarters 177 = .ok (.ireturn, 1) := dk_172 (dk_at dksX6_readsCarters_7 11 rfl rfl)
abbrev cX6_carterOf : ByteArray := prog_8_method_27_code
def yX6_carterOf : MethodName := ⟨RX6, "carterOf", "(II)I"⟩
def dkwX6_carterOf_4 : List UInt8 := [16, 59, 160, 0, 7, 3, 167, 0, 5, 16, 247, 172]
abbrev dktX6_carterOf_4 : List UInt8 := dkwX6_carterOf_4 ++ []
def dkwX6_carterOf_3 : List UInt8 := [167, 0, 15, 27, 16, 114, 160, 0, 7, 5, 167, 0, 5, 16, 247, 172, 27, 3, 184, 0, 124, 172, 27]
abbrev dktX6_carterOf_3 : List UInt8 := dkwX6_carterOf_3 ++ dktX6_carterOf_4
def dkwX6_carterOf_2 : List UInt8 := [27, 184, 0, 121, 172, 27, 16, 111, 160, 0, 7, 3, 167, 0, 25, 27, 16, 99, 160, 0, 7, 4]
abbrev dktX6_carterOf_2 : List UInt8 := dkwX6_carterOf_2 ++ dktX6_carterOf_3
def dkwX6_carterOf_1 : List UInt8 := [170, 0, 0, 0, 0, 0, 83, 0, 0, 0, 0, 0, 0, 0, 5, 0, 0, 0, 39, 0, 0, 0, 39, 0, 0, 0, 44, 0, 0, 0, 77, 0, 0, 0, 77, 0, 0, 0, 77]
abbrev dktX6_carterOf_1 : List UInt8 := dkwX6_carterOf_1 ++ dktX6_carterOf_2
def dkwX6_carterOf_0 : List UInt8 := [26]
abbrev dktX6_carterOf_0 : List UInt8 := dkwX6_carterOf_0 ++ dktX6_carterOf_1
theorem dksX6_carterOf_0 : cX6_carterOf.data.toList.drop 0 = dktX6_carterOf_0 := by decide +kernel
theorem dksX6_carterOf_1 : cX6_carterOf.data.toList.drop 1 = dktX6_carterOf_1 := dk_seg dksX6_carterOf_0 1 rfl rfl
theorem dksX6_carterOf_2 : cX6_carterOf.data.toList.drop 40 = dktX6_carterOf_2 := dk_seg dksX6_carterOf_1 39 rfl rfl
theorem dksX6_carterOf_3 : cX6_carterOf.data.toList.drop 62 = dktX6_carterOf_3 := dk_seg dksX6_carterOf_2 22 rfl rfl
theorem dksX6_carterOf_4 : cX6_carterOf.data.toList.drop 85 = dktX6_carterOf_4 := dk_seg dksX6_carterOf_3 23 rfl rfl
theorem dX6_carterOf_0 : decode cX6_carterOf 0 = .ok (.iload_n 0, 1) := dk_26 (dk_at dksX6_carterOf_0 0 rfl rfl)
theorem dX6_carterOf_1 : decode cX6_carterOf 1 = .ok (.tableswitch 83 0 5 #[39, 39, 44, 77, 77, 77], 39) := by decide +kernel
theorem dX6_carterOf_40 : decode cX6_carterOf 40 = .ok (.iload_n 1, 1) := dk_27 (dk_at dksX6_carterOf_2 0 rfl rfl)
theorem dX6_carterOf_41 : decode cX6_carterOf 41 = .ok (.invokestatic 121, 3) := dk_184 0 121 (dk_at dksX6_carterOf_2 1 rfl rfl)
theorem dX6_carterOf_44 : decode cX6_carterOf 44 = .ok (.ireturn, 1) := dk_172 (dk_at dksX6_carterOf_2 4 rfl rfl)
theorem dX6_carterOf_45 : decode cX6_carterOf 45 = .ok (.iload_n 1, 1) := dk_27 (dk_at dksX6_carterOf_2 5 rfl rfl)
theorem dX6_carterOf_46 : decode cX6_carterOf 46 = .ok (.bipush 111, 2) := dk_16 111 (dk_at dksX6_carterOf_2 6 rfl rfl)
theorem dX6_carterOf_48 : decode cX6_carterOf 48 = .ok (.if_icmp .ne 7, 3) := dk_160 0 7 (dk_at dksX6_carterOf_2 8 rfl rfl)
theorem dX6_carterOf_51 : decode cX6_carterOf 51 = .ok (.iconst 0, 1) := dk_3 (dk_at dksX6_carterOf_2 11 rfl rfl)
theorem dX6_carterOf_52 : decode cX6_carterOf 52 = .ok (.goto 25, 3) := dk_167 0 25 (dk_at dksX6_carterOf_2 12 rfl rfl)
theorem dX6_carterOf_55 : decode cX6_carterOf 55 = .ok (.iload_n 1, 1) := dk_27 (dk_at dksX6_carterOf_2 15 rfl rfl)
theorem dX6_carterOf_56 : decode cX6_carterOf 56 = .ok (.bipush 99, 2) := dk_16 99 (dk_at dksX6_carterOf_2 16 rfl rfl)
theorem dX6_carterOf_58 : decode cX6_carterOf 58 = .ok (.if_icmp .ne 7, 3) := dk_160 0 7 (dk_at dksX6_carterOf_2 18 rfl rfl)
theorem dX6_carterOf_61 : decode cX6_carterOf 61 = .ok (.iconst 1, 1) := dk_4 (dk_at dksX6_carterOf_2 21 rfl rfl)
theorem dX6_carterOf_62 : decode cX6_carterOf 62 = .ok (.goto 15, 3) := dk_167 0 15 (dk_at dksX6_carterOf_3 0 rfl rfl)
theorem dX6_carterOf_65 : decode cX6_carterOf 65 = .ok (.iload_n 1, 1) := dk_27 (dk_at dksX6_carterOf_3 3 rfl rfl)
theorem dX6_carterOf_66 : decode cX6_carterOf 66 = .ok (.bipush 114, 2) := dk_16 114 (dk_at dksX6_carterOf_3 4 rfl rfl)
theorem dX6_carterOf_68 : decode cX6_carterOf 68 = .ok (.if_icmp .ne 7, 3) := dk_160 0 7 (dk_at dksX6_carterOf_3 6 rfl rfl)
theorem dX6_carterOf_71 : decode cX6_carterOf 71 = .ok (.iconst 2, 1) := dk_5 (dk_at dksX6_carterOf_3 9 rfl rfl)
theorem dX6_carterOf_72 : decode cX6_carterOf 72 = .ok (.goto 5, 3) := dk_167 0 5 (dk_at dksX6_carterOf_3 10 rfl rfl)
theorem dX6_carterOf_75 : decode cX6_carterOf 75 = .ok (.bipush (-9), 2) := dk_16 247 (dk_at dksX6_carterOf_3 13 rfl rfl)
theorem dX6_carterOf_77 : decode cX6_carterOf 77 = .ok (.ireturn, 1) := dk_172 (dk_at dksX6_carterOf_3 15 rfl rfl)
theorem dX6_carterOf_78 : decode cX6_carterOf 78 = .ok (.iload_n 1, 1) := dk_27 (dk_at dksX6_carterOf_3 16 rfl rfl)
theorem dX6_carterOf_79 : decode cX6_carterOf 79 = .ok (.iconst 0, 1) := dk_3 (dk_at dksX6_carterOf_3 17 rfl rfl)
theorem dX6_carterOf_80 : decode cX6_carterOf 80 = .ok (.invokestatic 124, 3) := dk_184 0 124 (dk_at dksX6_carterOf_3 18 rfl rfl)
theorem dX6_carterOf_83 : decode cX6_carterOf 83 = .ok (.ireturn, 1) := dk_172 (dk_at dksX6_carterOf_3 21 rfl rfl)
theorem dX6_carterOf_84 : decode cX6_carterOf 84 = .ok (.iload_n 1, 1) := dk_27 (dk_at dksX6_carterOf_3 22 rfl rfl)
theorem dX6_carterOf_85 : decode cX6_carterOf 85 = .ok (.bipush 59, 2) := dk_16 59 (dk_at dksX6_carterOf_4 0 rfl rfl)
theorem dX6_carterOf_87 : decode cX6_carterOf 87 = .ok (.if_icmp .ne 7, 3) := dk_160 0 7 (dk_at dksX6_carterOf_4 2 rfl rfl)
theorem dX6_carterOf_90 : decode cX6_carterOf 90 = .ok (.iconst 0, 1) := dk_3 (dk_at dksX6_carterOf_4 5 rfl rfl)
theorem dX6_carterOf_91 : decode cX6_carterOf 91 = .ok (.goto 5, 3) := dk_167 0 5 (dk_at dksX6_carterOf_4 6 rfl rfl)
theorem dX6_carterOf_94 : decode cX6_carterOf 94 = .ok (.bipush (-9), 2) := dk_16 247 (dk_at dksX6_carterOf_4 9 rfl rfl)
theorem dX6_carterOf_96 : decode cX6_carterOf 96 = .ok (.ireturn, 1) := dk_172 (dk_at dksX6_carterOf_4 11 rfl rfl)
abbrev cX6_way : ByteArray := prog_8_method_34_code
def yX6_way : MethodName := ⟨RX6, "way", "(II)I"⟩
def dkwX6_way_2 : List UInt8 := [172]
abbrev dktX6_way_2 : List UInt8 := dkwX6_way_2 ++ []
def dkwX6_way_1 : List UInt8 := [20, 0, 89, 184, 0, 81, 153, 0, 16, 42, 180, 0, 28, 7, 27, 104, 28, 96, 46, 167, 0, 5, 16, 254]
abbrev dktX6_way_1 : List UInt8 := dkwX6_way_1 ++ dktX6_way_2
def dkwX6_way_0 : List UInt8 := [42, 182, 0, 139, 87, 27, 133, 9, 42, 180, 0, 127, 4, 100, 133, 184, 0, 81, 153, 0, 28, 28, 133, 9]
abbrev dktX6_way_0 : List UInt8 := dkwX6_way_0 ++ dktX6_way_1
theorem dksX6_way_0 : cX6_way.data.toList.drop 0 = dktX6_way_0 := by decide +kernel
theorem dksX6_way_1 : cX6_way.data.toList.drop 24 = dktX6_way_1 := dk_seg dksX6_way_0 24 rfl rfl
theorem dksX6_way_2 : cX6_way.data.toList.drop 48 = dktX6_way_2 := dk_seg dksX6_way_1 24 rfl rfl
theorem dX6_way_0 : decode cX6_way 0 = .ok (.aload_n 0, 1) := dk_42 (dk_at dksX6_way_0 0 rfl rfl)
theorem dX6_way_1 : decode cX6_way 1 = .ok (.invokevirtual 139, 3) := dk_182 0 139 (dk_at dksX6_way_0 1 rfl rfl)
theorem dX6_way_4 : decode cX6_way 4 = .ok (.pop, 1) := dk_87 (dk_at dksX6_way_0 4 rfl rfl)
theorem dX6_way_5 : decode cX6_way 5 = .ok (.iload_n 1, 1) := dk_27 (dk_at dksX6_way_0 5 rfl rfl)
theorem dX6_way_6 : decode cX6_way 6 = .ok (.i2l, 1) := dk_133 (dk_at dksX6_way_0 6 rfl rfl)
theorem dX6_way_7 : decode cX6_way 7 = .ok (.lconst 0, 1) := dk_9 (dk_at dksX6_way_0 7 rfl rfl)
theorem dX6_way_8 : decode cX6_way 8 = .ok (.aload_n 0, 1) := dk_42 (dk_at dksX6_way_0 8 rfl rfl)
theorem dX6_way_9 : decode cX6_way 9 = .ok (.getfield 127, 3) := dk_180 0 127 (dk_at dksX6_way_0 9 rfl rfl)
theorem dX6_way_12 : decode cX6_way 12 = .ok (.iconst 1, 1) := dk_4 (dk_at dksX6_way_0 12 rfl rfl)
theorem dX6_way_13 : decode cX6_way 13 = .ok (.isub, 1) := dk_100 (dk_at dksX6_way_0 13 rfl rfl)
theorem dX6_way_14 : decode cX6_way 14 = .ok (.i2l, 1) := dk_133 (dk_at dksX6_way_0 14 rfl rfl)
theorem dX6_way_15 : decode cX6_way 15 = .ok (.invokestatic 81, 3) := dk_184 0 81 (dk_at dksX6_way_0 15 rfl rfl)
theorem dX6_way_18 : decode cX6_way 18 = .ok (.ifCond .eq 28, 3) := dk_153 0 28 (dk_at dksX6_way_0 18 rfl rfl)
theorem dX6_way_21 : decode cX6_way 21 = .ok (.iload_n 2, 1) := dk_28 (dk_at dksX6_way_0 21 rfl rfl)
theorem dX6_way_22 : decode cX6_way 22 = .ok (.i2l, 1) := dk_133 (dk_at dksX6_way_0 22 rfl rfl)
theorem dX6_way_23 : decode cX6_way 23 = .ok (.lconst 0, 1) := dk_9 (dk_at dksX6_way_0 23 rfl rfl)
theorem dX6_way_24 : decode cX6_way 24 = .ok (.ldc2_w 89, 3) := dk_20 0 89 (dk_at dksX6_way_1 0 rfl rfl)
theorem dX6_way_27 : decode cX6_way 27 = .ok (.invokestatic 81, 3) := dk_184 0 81 (dk_at dksX6_way_1 3 rfl rfl)
theorem dX6_way_30 : decode cX6_way 30 = .ok (.ifCond .eq 16, 3) := dk_153 0 16 (dk_at dksX6_way_1 6 rfl rfl)
theorem dX6_way_33 : decode cX6_way 33 = .ok (.aload_n 0, 1) := dk_42 (dk_at dksX6_way_1 9 rfl rfl)
theorem dX6_way_34 : decode cX6_way 34 = .ok (.getfield 28, 3) := dk_180 0 28 (dk_at dksX6_way_1 10 rfl rfl)
theorem dX6_way_37 : decode cX6_way 37 = .ok (.iconst 4, 1) := dk_7 (dk_at dksX6_way_1 13 rfl rfl)
theorem dX6_way_38 : decode cX6_way 38 = .ok (.iload_n 1, 1) := dk_27 (dk_at dksX6_way_1 14 rfl rfl)
theorem dX6_way_39 : decode cX6_way 39 = .ok (.imul, 1) := dk_104 (dk_at dksX6_way_1 15 rfl rfl)
theorem dX6_way_40 : decode cX6_way 40 = .ok (.iload_n 2, 1) := dk_28 (dk_at dksX6_way_1 16 rfl rfl)
theorem dX6_way_41 : decode cX6_way 41 = .ok (.iadd, 1) := dk_96 (dk_at dksX6_way_1 17 rfl rfl)
theorem dX6_way_42 : decode cX6_way 42 = .ok (.iaload, 1) := dk_46 (dk_at dksX6_way_1 18 rfl rfl)
theorem dX6_way_43 : decode cX6_way 43 = .ok (.goto 5, 3) := dk_167 0 5 (dk_at dksX6_way_1 19 rfl rfl)
theorem dX6_way_46 : decode cX6_way 46 = .ok (.bipush (-2), 2) := dk_16 254 (dk_at dksX6_way_1 22 rfl rfl)
theorem dX6_way_48 : decode cX6_way 48 = .ok (.ireturn, 1) := dk_172 (dk_at dksX6_way_2 0 rfl rfl)
abbrev cX6_carter : ByteArray := prog_8_method_35_code
def yX6_carter : MethodName := ⟨RX6, "carter", "(II)I"⟩
def dkwX6_carter_1 : List UInt8 := [153, 0, 16, 42, 180, 0, 31, 8, 27, 104, 28, 96, 46, 167, 0, 5, 16, 254, 172]
abbrev dktX6_carter_1 : List UInt8 := dkwX6_carter_1 ++ []
def dkwX6_carter_0 : List UInt8 := [42, 182, 0, 143, 87, 42, 27, 182, 0, 153, 153, 0, 28, 28, 133, 9, 20, 0, 156, 184, 0, 81]
abbrev dktX6_carter_0 : List UInt8 := dkwX6_carter_0 ++ dktX6_carter_1
theorem dksX6_carter_0 : cX6_carter.data.toList.drop 0 = dktX6_carter_0 := by decide +kernel
theorem dksX6_carter_1 : cX6_carter.data.toList.drop 22 = dktX6_carter_1 := dk_seg dksX6_carter_0 22 rfl rfl
theorem dX6_carter_0 : decode cX6_carter 0 = .ok (.aload_n 0, 1) := dk_42 (dk_at dksX6_carter_0 0 rfl rfl)
theorem dX6_carter_1 : decode cX6_carter 1 = .ok (.invokevirtual 143, 3) := dk_182 0 143 (dk_at dksX6_carter_0 1 rfl rfl)
theorem dX6_carter_4 : decode cX6_carter 4 = .ok (.pop, 1) := dk_87 (dk_at dksX6_carter_0 4 rfl rfl)
theorem dX6_carter_5 : decode cX6_carter 5 = .ok (.aload_n 0, 1) := dk_42 (dk_at dksX6_carter_0 5 rfl rfl)
theorem dX6_carter_6 : decode cX6_carter 6 = .ok (.iload_n 1, 1) := dk_27 (dk_at dksX6_carter_0 6 rfl rfl)
theorem dX6_carter_7 : decode cX6_carter 7 = .ok (.invokevirtual 153, 3) := dk_182 0 153 (dk_at dksX6_carter_0 7 rfl rfl)
theorem dX6_carter_10 : decode cX6_carter 10 = .ok (.ifCond .eq 28, 3) := dk_153 0 28 (dk_at dksX6_carter_0 10 rfl rfl)
theorem dX6_carter_13 : decode cX6_carter 13 = .ok (.iload_n 2, 1) := dk_28 (dk_at dksX6_carter_0 13 rfl rfl)
theorem dX6_carter_14 : decode cX6_carter 14 = .ok (.i2l, 1) := dk_133 (dk_at dksX6_carter_0 14 rfl rfl)
theorem dX6_carter_15 : decode cX6_carter 15 = .ok (.lconst 0, 1) := dk_9 (dk_at dksX6_carter_0 15 rfl rfl)
theorem dX6_carter_16 : decode cX6_carter 16 = .ok (.ldc2_w 156, 3) := dk_20 0 156 (dk_at dksX6_carter_0 16 rfl rfl)
theorem dX6_carter_19 : decode cX6_carter 19 = .ok (.invokestatic 81, 3) := dk_184 0 81 (dk_at dksX6_carter_0 19 rfl rfl)
theorem dX6_carter_22 : decode cX6_carter 22 = .ok (.ifCond .eq 16, 3) := dk_153 0 16 (dk_at dksX6_carter_1 0 rfl rfl)
theorem dX6_carter_25 : decode cX6_carter 25 = .ok (.aload_n 0, 1) := dk_42 (dk_at dksX6_carter_1 3 rfl rfl)
theorem dX6_carter_26 : decode cX6_carter 26 = .ok (.getfield 31, 3) := dk_180 0 31 (dk_at dksX6_carter_1 4 rfl rfl)
theorem dX6_carter_29 : decode cX6_carter 29 = .ok (.iconst 5, 1) := dk_8 (dk_at dksX6_carter_1 7 rfl rfl)
theorem dX6_carter_30 : decode cX6_carter 30 = .ok (.iload_n 1, 1) := dk_27 (dk_at dksX6_carter_1 8 rfl rfl)
theorem dX6_carter_31 : decode cX6_carter 31 = .ok (.imul, 1) := dk_104 (dk_at dksX6_carter_1 9 rfl rfl)
theorem dX6_carter_32 : decode cX6_carter 32 = .ok (.iload_n 2, 1) := dk_28 (dk_at dksX6_carter_1 10 rfl rfl)
theorem dX6_carter_33 : decode cX6_carter 33 = .ok (.iadd, 1) := dk_96 (dk_at dksX6_carter_1 11 rfl rfl)
theorem dX6_carter_34 : decode cX6_carter 34 = .ok (.iaload, 1) := dk_46 (dk_at dksX6_carter_1 12 rfl rfl)
theorem dX6_carter_35 : decode cX6_carter 35 = .ok (.goto 5, 3) := dk_167 0 5 (dk_at dksX6_carter_1 13 rfl rfl)
theorem dX6_carter_38 : decode cX6_carter 38 = .ok (.bipush (-2), 2) := dk_16 254 (dk_at dksX6_carter_1 16 rfl rfl)
theorem dX6_carter_40 : decode cX6_carter 40 = .ok (.ireturn, 1) := dk_172 (dk_at dksX6_carter_1 18 rfl rfl)
abbrev cX6_isCarter : ByteArray := prog_8_method_31_code
def yX6_isCarter : MethodName := ⟨RX6, "isCarter", "(I)Z"⟩
def dkwX6_isCarter_0 : List UInt8 := [27, 133, 9, 42, 180, 0, 133, 4, 100, 133, 184, 0, 81, 172]
abbrev dktX6_isCarter_0 : List UInt8 := dkwX6_isCarter_0 ++ []
theorem dksX6_isCarter_0 : cX6_isCarter.data.toList.drop 0 = dktX6_isCarter_0 := by decide +kernel
theorem dX6_isCarter_0 : decode cX6_isCarter 0 = .ok (.iload_n 1, 1) := dk_27 (dk_at dksX6_isCarter_0 0 rfl rfl)
theorem dX6_isCarter_1 : decode cX6_isCarter 1 = .ok (.i2l, 1) := dk_133 (dk_at dksX6_isCarter_0 1 rfl rfl)
theorem dX6_isCarter_2 : decode cX6_isCarter 2 = .ok (.lconst 0, 1) := dk_9 (dk_at dksX6_isCarter_0 2 rfl rfl)
theorem dX6_isCarter_3 : decode cX6_isCarter 3 = .ok (.aload_n 0, 1) := dk_42 (dk_at dksX6_isCarter_0 3 rfl rfl)
theorem dX6_isCarter_4 : decode cX6_isCarter 4 = .ok (.getfield 133, 3) := dk_180 0 133 (dk_at dksX6_isCarter_0 4 rfl rfl)
theorem dX6_isCarter_7 : decode cX6_isCarter 7 = .ok (.iconst 1, 1) := dk_4 (dk_at dksX6_isCarter_0 7 rfl rfl)
theorem dX6_isCarter_8 : decode cX6_isCarter 8 = .ok (.isub, 1) := dk_100 (dk_at dksX6_isCarter_0 8 rfl rfl)
theorem dX6_isCarter_9 : decode cX6_isCarter 9 = .ok (.i2l, 1) := dk_133 (dk_at dksX6_isCarter_0 9 rfl rfl)
theorem dX6_isCarter_10 : decode cX6_isCarter 10 = .ok (.invokestatic 81, 3) := dk_184 0 81 (dk_at dksX6_isCarter_0 10 rfl rfl)
theorem dX6_isCarter_13 : decode cX6_isCarter 13 = .ok (.ireturn, 1) := dk_172 (dk_at dksX6_isCarter_0 13 rfl rfl)
abbrev cX6_late : ByteArray := prog_8_method_36_code
def yX6_late : MethodName := ⟨RX6, "late", "(II)I"⟩
def dkwX6_late_1 : List UInt8 := [16, 254, 172, 42, 180, 0, 34, 27, 46, 62, 42, 180, 0, 34, 27, 28, 79, 29, 172]
abbrev dktX6_late_1 : List UInt8 := dkwX6_late_1 ++ []
def dkwX6_late_0 : List UInt8 := [27, 133, 9, 20, 0, 151, 184, 0, 81, 153, 0, 15, 28, 133, 9, 20, 0, 158, 184, 0, 81, 154, 0, 6]
abbrev dktX6_late_0 : List UInt8 := dkwX6_late_0 ++ dktX6_late_1
theorem dksX6_late_0 : cX6_late.data.toList.drop 0 = dktX6_late_0 := by decide +kernel
theorem dksX6_late_1 : cX6_late.data.toList.drop 24 = dktX6_late_1 := dk_seg dksX6_late_0 24 rfl rfl
theorem dX6_late_0 : decode cX6_late 0 = .ok (.iload_n 1, 1) := dk_27 (dk_at dksX6_late_0 0 rfl rfl)
theorem dX6_late_1 : decode cX6_late 1 = .ok (.i2l, 1) := dk_133 (dk_at dksX6_late_0 1 rfl rfl)
theorem dX6_late_2 : decode cX6_late 2 = .ok (.lconst 0, 1) := dk_9 (dk_at dksX6_late_0 2 rfl rfl)
theorem dX6_late_3 : decode cX6_late 3 = .ok (.ldc2_w 151, 3) := dk_20 0 151 (dk_at dksX6_late_0 3 rfl rfl)
theorem dX6_late_6 : decode cX6_late 6 = .ok (.invokestatic 81, 3) := dk_184 0 81 (dk_at dksX6_late_0 6 rfl rfl)
theorem dX6_late_9 : decode cX6_late 9 = .ok (.ifCond .eq 15, 3) := dk_153 0 15 (dk_at dksX6_late_0 9 rfl rfl)
theorem dX6_late_12 : decode cX6_late 12 = .ok (.iload_n 2, 1) := dk_28 (dk_at dksX6_late_0 12 rfl rfl)
theorem dX6_late_13 : decode cX6_late 13 = .ok (.i2l, 1) := dk_133 (dk_at dksX6_late_0 13 rfl rfl)
theorem dX6_late_14 : decode cX6_late 14 = .ok (.lconst 0, 1) := dk_9 (dk_at dksX6_late_0 14 rfl rfl)
theorem dX6_late_15 : decode cX6_late 15 = .ok (.ldc2_w 158, 3) := dk_20 0 158 (dk_at dksX6_late_0 15 rfl rfl)
theorem dX6_late_18 : decode cX6_late 18 = .ok (.invokestatic 81, 3) := dk_184 0 81 (dk_at dksX6_late_0 18 rfl rfl)
theorem dX6_late_21 : decode cX6_late 21 = .ok (.ifCond .ne 6, 3) := dk_154 0 6 (dk_at dksX6_late_0 21 rfl rfl)
theorem dX6_late_24 : decode cX6_late 24 = .ok (.bipush (-2), 2) := dk_16 254 (dk_at dksX6_late_1 0 rfl rfl)
theorem dX6_late_26 : decode cX6_late 26 = .ok (.ireturn, 1) := dk_172 (dk_at dksX6_late_1 2 rfl rfl)
theorem dX6_late_27 : decode cX6_late 27 = .ok (.aload_n 0, 1) := dk_42 (dk_at dksX6_late_1 3 rfl rfl)
theorem dX6_late_28 : decode cX6_late 28 = .ok (.getfield 34, 3) := dk_180 0 34 (dk_at dksX6_late_1 4 rfl rfl)
theorem dX6_late_31 : decode cX6_late 31 = .ok (.iload_n 1, 1) := dk_27 (dk_at dksX6_late_1 7 rfl rfl)
theorem dX6_late_32 : decode cX6_late 32 = .ok (.iaload, 1) := dk_46 (dk_at dksX6_late_1 8 rfl rfl)
theorem dX6_late_33 : decode cX6_late 33 = .ok (.istore_n 3, 1) := dk_62 (dk_at dksX6_late_1 9 rfl rfl)
theorem dX6_late_34 : decode cX6_late 34 = .ok (.aload_n 0, 1) := dk_42 (dk_at dksX6_late_1 10 rfl rfl)
theorem dX6_late_35 : decode cX6_late 35 = .ok (.getfield 34, 3) := dk_180 0 34 (dk_at dksX6_late_1 11 rfl rfl)
theorem dX6_late_38 : decode cX6_late 38 = .ok (.iload_n 1, 1) := dk_27 (dk_at dksX6_late_1 14 rfl rfl)
theorem dX6_late_39 : decode cX6_late 39 = .ok (.iload_n 2, 1) := dk_28 (dk_at dksX6_late_1 15 rfl rfl)
theorem dX6_late_40 : decode cX6_late 40 = .ok (.iastore, 1) := dk_79 (dk_at dksX6_late_1 16 rfl rfl)
theorem dX6_late_41 : decode cX6_late 41 = .ok (.iload_n 3, 1) := dk_29 (dk_at dksX6_late_1 17 rfl rfl)
theorem dX6_late_42 : decode cX6_late 42 = .ok (.ireturn, 1) := dk_172 (dk_at dksX6_late_1 18 rfl rfl)
abbrev cX6_answer : ByteArray := prog_8_method_37_code
def yX6_answer : MethodName := ⟨RX6, "answer", "(II)I"⟩
def dkwX6_answer_2 : List UInt8 := [180, 0, 166, 104, 4, 96, 28, 79, 42, 89, 180, 0, 166, 4, 96, 181, 0, 166, 42, 180, 0, 166, 172]
abbrev dktX6_answer_2 : List UInt8 := dkwX6_answer_2 ++ []
def dkwX6_answer_1 : List UInt8 := [160, 0, 6, 16, 252, 172, 42, 180, 0, 37, 5, 42, 180, 0, 166, 104, 27, 79, 42, 180, 0, 37, 5, 42]
abbrev dktX6_answer_1 : List UInt8 := dkwX6_answer_1 ++ dktX6_answer_2
def dkwX6_answer_0 : List UInt8 := [27, 184, 0, 160, 153, 0, 10, 28, 184, 0, 163, 154, 0, 6, 16, 254, 172, 42, 180, 0, 166, 16, 8]
abbrev dktX6_answer_0 : List UInt8 := dkwX6_answer_0 ++ dktX6_answer_1
theorem dksX6_answer_0 : cX6_answer.data.toList.drop 0 = dktX6_answer_0 := by decide +kernel
theorem dksX6_answer_1 : cX6_answer.data.toList.drop 23 = dktX6_answer_1 := dk_seg dksX6_answer_0 23 rfl rfl
theorem dksX6_answer_2 : cX6_answer.data.toList.drop 47 = dktX6_answer_2 := dk_seg dksX6_answer_1 24 rfl rfl
theorem dX6_answer_0 : decode cX6_answer 0 = .ok (.iload_n 1, 1) := dk_27 (dk_at dksX6_answer_0 0 rfl rfl)
theorem dX6_answer_1 : decode cX6_answer 1 = .ok (.invokestatic 160, 3) := dk_184 0 160 (dk_at dksX6_answer_0 1 rfl rfl)
theorem dX6_answer_4 : decode cX6_answer 4 = .ok (.ifCond .eq 10, 3) := dk_153 0 10 (dk_at dksX6_answer_0 4 rfl rfl)
theorem dX6_answer_7 : decode cX6_answer 7 = .ok (.iload_n 2, 1) := dk_28 (dk_at dksX6_answer_0 7 rfl rfl)
theorem dX6_answer_8 : decode cX6_answer 8 = .ok (.invokestatic 163, 3) := dk_184 0 163 (dk_at dksX6_answer_0 8 rfl rfl)
theorem dX6_answer_11 : decode cX6_answer 11 = .ok (.ifCond .ne 6, 3) := dk_154 0 6 (dk_at dksX6_answer_0 11 rfl rfl)
theorem dX6_answer_14 : decode cX6_answer 14 = .ok (.bipush (-2), 2) := dk_16 254 (dk_at dksX6_answer_0 14 rfl rfl)
theorem dX6_answer_16 : decode cX6_answer 16 = .ok (.ireturn, 1) := dk_172 (dk_at dksX6_answer_0 16 rfl rfl)
theorem dX6_answer_17 : decode cX6_answer 17 = .ok (.aload_n 0, 1) := dk_42 (dk_at dksX6_answer_0 17 rfl rfl)
theorem dX6_answer_18 : decode cX6_answer 18 = .ok (.getfield 166, 3) := dk_180 0 166 (dk_at dksX6_answer_0 18 rfl rfl)
theorem dX6_answer_21 : decode cX6_answer 21 = .ok (.bipush 8, 2) := dk_16 8 (dk_at dksX6_answer_0 21 rfl rfl)
theorem dX6_answer_23 : decode cX6_answer 23 = .ok (.if_icmp .ne 6, 3) := dk_160 0 6 (dk_at dksX6_answer_1 0 rfl rfl)
theorem dX6_answer_26 : decode cX6_answer 26 = .ok (.bipush (-4), 2) := dk_16 252 (dk_at dksX6_answer_1 3 rfl rfl)
theorem dX6_answer_28 : decode cX6_answer 28 = .ok (.ireturn, 1) := dk_172 (dk_at dksX6_answer_1 5 rfl rfl)
theorem dX6_answer_29 : decode cX6_answer 29 = .ok (.aload_n 0, 1) := dk_42 (dk_at dksX6_answer_1 6 rfl rfl)
theorem dX6_answer_30 : decode cX6_answer 30 = .ok (.getfield 37, 3) := dk_180 0 37 (dk_at dksX6_answer_1 7 rfl rfl)
theorem dX6_answer_33 : decode cX6_answer 33 = .ok (.iconst 2, 1) := dk_5 (dk_at dksX6_answer_1 10 rfl rfl)
theorem dX6_answer_34 : decode cX6_answer 34 = .ok (.aload_n 0, 1) := dk_42 (dk_at dksX6_answer_1 11 rfl rfl)
theorem dX6_answer_35 : decode cX6_answer 35 = .ok (.getfield 166, 3) := dk_180 0 166 (dk_at dksX6_answer_1 12 rfl rfl)
theorem dX6_answer_38 : decode cX6_answer 38 = .ok (.imul, 1) := dk_104 (dk_at dksX6_answer_1 15 rfl rfl)
theorem dX6_answer_39 : decode cX6_answer 39 = .ok (.iload_n 1, 1) := dk_27 (dk_at dksX6_answer_1 16 rfl rfl)
theorem dX6_answer_40 : decode cX6_answer 40 = .ok (.iastore, 1) := dk_79 (dk_at dksX6_answer_1 17 rfl rfl)
theorem dX6_answer_41 : decode cX6_answer 41 = .ok (.aload_n 0, 1) := dk_42 (dk_at dksX6_answer_1 18 rfl rfl)
theorem dX6_answer_42 : decode cX6_answer 42 = .ok (.getfield 37, 3) := dk_180 0 37 (dk_at dksX6_answer_1 19 rfl rfl)
theorem dX6_answer_45 : decode cX6_answer 45 = .ok (.iconst 2, 1) := dk_5 (dk_at dksX6_answer_1 22 rfl rfl)
theorem dX6_answer_46 : decode cX6_answer 46 = .ok (.aload_n 0, 1) := dk_42 (dk_at dksX6_answer_1 23 rfl rfl)
theorem dX6_answer_47 : decode cX6_answer 47 = .ok (.getfield 166, 3) := dk_180 0 166 (dk_at dksX6_answer_2 0 rfl rfl)
theorem dX6_answer_50 : decode cX6_answer 50 = .ok (.imul, 1) := dk_104 (dk_at dksX6_answer_2 3 rfl rfl)
theorem dX6_answer_51 : decode cX6_answer 51 = .ok (.iconst 1, 1) := dk_4 (dk_at dksX6_answer_2 4 rfl rfl)
theorem dX6_answer_52 : decode cX6_answer 52 = .ok (.iadd, 1) := dk_96 (dk_at dksX6_answer_2 5 rfl rfl)
theorem dX6_answer_53 : decode cX6_answer 53 = .ok (.iload_n 2, 1) := dk_28 (dk_at dksX6_answer_2 6 rfl rfl)
theorem dX6_answer_54 : decode cX6_answer 54 = .ok (.iastore, 1) := dk_79 (dk_at dksX6_answer_2 7 rfl rfl)
theorem dX6_answer_55 : decode cX6_answer 55 = .ok (.aload_n 0, 1) := dk_42 (dk_at dksX6_answer_2 8 rfl rfl)
theorem dX6_answer_56 : decode cX6_answer 56 = .ok (.dup, 1) := dk_89 (dk_at dksX6_answer_2 9 rfl rfl)
theorem dX6_answer_57 : decode cX6_answer 57 = .ok (.getfield 166, 3) := dk_180 0 166 (dk_at dksX6_answer_2 10 rfl rfl)
theorem dX6_answer_60 : decode cX6_answer 60 = .ok (.iconst 1, 1) := dk_4 (dk_at dksX6_answer_2 13 rfl rfl)
theorem dX6_answer_61 : decode cX6_answer 61 = .ok (.iadd, 1) := dk_96 (dk_at dksX6_answer_2 14 rfl rfl)
theorem dX6_answer_62 : decode cX6_answer 62 = .ok (.putfield 166, 3) := dk_181 0 166 (dk_at dksX6_answer_2 15 rfl rfl)
theorem dX6_answer_65 : decode cX6_answer 65 = .ok (.aload_n 0, 1) := dk_42 (dk_at dksX6_answer_2 18 rfl rfl)
theorem dX6_answer_66 : decode cX6_answer 66 = .ok (.getfield 166, 3) := dk_180 0 166 (dk_at dksX6_answer_2 19 rfl rfl)
theorem dX6_answer_69 : decode cX6_answer 69 = .ok (.ireturn, 1) := dk_172 (dk_at dksX6_answer_2 22 rfl rfl)
abbrev cX6_isHour : ByteArray := prog_8_method_32_code
def yX6_isHour : MethodName := ⟨RX6, "isHour", "(I)Z"⟩
def dkwX6_isHour_0 : List UInt8 := [26, 133, 9, 20, 0, 149, 184, 0, 81, 172]
abbrev dktX6_isHour_0 : List UInt8 := dkwX6_isHour_0 ++ []
theorem dksX6_isHour_0 : cX6_isHour.data.toList.drop 0 = dktX6_isHour_0 := by decide +kernel
theorem dX6_isHour_0 : decode cX6_isHour 0 = .ok (.iload_n 0, 1) := dk_26 (dk_at dksX6_isHour_0 0 rfl rfl)
theorem dX6_isHour_1 : decode cX6_isHour 1 = .ok (.i2l, 1) := dk_133 (dk_at dksX6_isHour_0 1 rfl rfl)
theorem dX6_isHour_2 : decode cX6_isHour 2 = .ok (.lconst 0, 1) := dk_9 (dk_at dksX6_isHour_0 2 rfl rfl)
theorem dX6_isHour_3 : decode cX6_isHour 3 = .ok (.ldc2_w 149, 3) := dk_20 0 149 (dk_at dksX6_isHour_0 3 rfl rfl)
theorem dX6_isHour_6 : decode cX6_isHour 6 = .ok (.invokestatic 81, 3) := dk_184 0 81 (dk_at dksX6_isHour_0 6 rfl rfl)
theorem dX6_isHour_9 : decode cX6_isHour 9 = .ok (.ireturn, 1) := dk_172 (dk_at dksX6_isHour_0 9 rfl rfl)
abbrev cX6_isPlace : ByteArray := prog_8_method_33_code
def yX6_isPlace : MethodName := ⟨RX6, "isPlace", "(I)Z"⟩
def dkwX6_isPlace_0 : List UInt8 := [26, 133, 9, 20, 0, 151, 184, 0, 81, 172]
abbrev dktX6_isPlace_0 : List UInt8 := dkwX6_isPlace_0 ++ []
theorem dksX6_isPlace_0 : cX6_isPlace.data.toList.drop 0 = dktX6_isPlace_0 := by decide +kernel
theorem dX6_isPlace_0 : decode cX6_isPlace 0 = .ok (.iload_n 0, 1) := dk_26 (dk_at dksX6_isPlace_0 0 rfl rfl)
theorem dX6_isPlace_1 : decode cX6_isPlace 1 = .ok (.i2l, 1) := dk_133 (dk_at dksX6_isPlace_0 1 rfl rfl)
theorem dX6_isPlace_2 : decode cX6_isPlace 2 = .ok (.lconst 0, 1) := dk_9 (dk_at dksX6_isPlace_0 2 rfl rfl)
theorem dX6_isPlace_3 : decode cX6_isPlace 3 = .ok (.ldc2_w 151, 3) := dk_20 0 151 (dk_at dksX6_isPlace_0 3 rfl rfl)
theorem dX6_isPlace_6 : decode cX6_isPlace 6 = .ok (.invokestatic 81, 3) := dk_184 0 81 (dk_at dksX6_isPlace_0 6 rfl rfl)
theorem dX6_isPlace_9 : decode cX6_isPlace 9 = .ok (.ireturn, 1) := dk_172 (dk_at dksX6_isPlace_0 9 rfl rfl)
abbrev cX6_back : ByteArray := prog_8_method_38_code
def yX6_back : MethodName := ⟨RX6, "back", "()I"⟩
def dkwX6_back_1 : List UInt8 := [172]
abbrev dktX6_back_1 : List UInt8 := dkwX6_back_1 ++ []
def dkwX6_back_0 : List UInt8 := [42, 180, 0, 166, 154, 0, 6, 16, 253, 172, 42, 89, 180, 0, 166, 4, 100, 181, 0, 166, 42, 180, 0, 166]
abbrev dktX6_back_0 : List UInt8 := dkwX6_back_0 ++ dktX6_back_1
theorem dksX6_back_0 : cX6_back.data.toList.drop 0 = dktX6_back_0 := by decide +kernel
theorem dksX6_back_1 : cX6_back.data.toList.drop 24 = dktX6_back_1 := dk_seg dksX6_back_0 24 rfl rfl
theorem dX6_back_0 : decode cX6_back 0 = .ok (.aload_n 0, 1) := dk_42 (dk_at dksX6_back_0 0 rfl rfl)
theorem dX6_back_1 : decode cX6_back 1 = .ok (.getfield 166, 3) := dk_180 0 166 (dk_at dksX6_back_0 1 rfl rfl)
theorem dX6_back_4 : decode cX6_back 4 = .ok (.ifCond .ne 6, 3) := dk_154 0 6 (dk_at dksX6_back_0 4 rfl rfl)
theorem dX6_back_7 : decode cX6_back 7 = .ok (.bipush (-3), 2) := dk_16 253 (dk_at dksX6_back_0 7 rfl rfl)
theorem dX6_back_9 : decode cX6_back 9 = .ok (.ireturn, 1) := dk_172 (dk_at dksX6_back_0 9 rfl rfl)
theorem dX6_back_10 : decode cX6_back 10 = .ok (.aload_n 0, 1) := dk_42 (dk_at dksX6_back_0 10 rfl rfl)
theorem dX6_back_11 : decode cX6_back 11 = .ok (.dup, 1) := dk_89 (dk_at dksX6_back_0 11 rfl rfl)
theorem dX6_back_12 : decode cX6_back 12 = .ok (.getfield 166, 3) := dk_180 0 166 (dk_at dksX6_back_0 12 rfl rfl)
theorem dX6_back_15 : decode cX6_back 15 = .ok (.iconst 1, 1) := dk_4 (dk_at dksX6_back_0 15 rfl rfl)
theorem dX6_back_16 : decode cX6_back 16 = .ok (.isub, 1) := dk_100 (dk_at dksX6_back_0 16 rfl rfl)
theorem dX6_back_17 : decode cX6_back 17 = .ok (.putfield 166, 3) := dk_181 0 166 (dk_at dksX6_back_0 17 rfl rfl)
theorem dX6_back_20 : decode cX6_back 20 = .ok (.aload_n 0, 1) := dk_42 (dk_at dksX6_back_0 20 rfl rfl)
theorem dX6_back_21 : decode cX6_back 21 = .ok (.getfield 166, 3) := dk_180 0 166 (dk_at dksX6_back_0 21 rfl rfl)
theorem dX6_back_24 : decode cX6_back 24 = .ok (.ireturn, 1) := dk_172 (dk_at dksX6_back_1 0 rfl rfl)
abbrev cX6_read : ByteArray := prog_8_method_39_code
def yX6_read : MethodName := ⟨RX6, "read", "(I)I"⟩
def dkwX6_read_4 : List UInt8 := [167, 0, 4, 3, 96, 61, 167, 255, 185, 28, 172]
abbrev dktX6_read_4 : List UInt8 := dkwX6_read_4 ++ []
def dkwX6_read_3 : List UInt8 := [96, 4, 96, 46, 182, 0, 169, 155, 0, 7, 4, 167, 0, 4, 3, 62, 28, 29, 153, 0, 7, 4]
abbrev dktX6_read_3 : List UInt8 := dkwX6_read_3 ++ dktX6_read_4
def dkwX6_read_2 : List UInt8 := [42, 180, 0, 16, 16, 60, 27, 104, 5, 28, 104, 96, 46, 42, 180, 0, 16, 16, 60, 27, 104, 5, 28, 104]
abbrev dktX6_read_2 : List UInt8 := dkwX6_read_2 ++ dktX6_read_3
def dkwX6_read_1 : List UInt8 := [172, 3, 61, 4, 62, 29, 153, 0, 73, 5, 28, 104, 5, 96, 42, 180, 0, 13, 27, 46, 163, 0, 59, 42]
abbrev dktX6_read_1 : List UInt8 := dkwX6_read_1 ++ dktX6_read_2
def dkwX6_read_0 : List UInt8 := [27, 184, 0, 91, 154, 0, 6, 16, 254, 172, 42, 180, 0, 7, 27, 46, 156, 0, 9, 42, 4, 182, 0, 97]
abbrev dktX6_read_0 : List UInt8 := dkwX6_read_0 ++ dktX6_read_1
theorem dksX6_read_0 : cX6_read.data.toList.drop 0 = dktX6_read_0 := by decide +kernel
theorem dksX6_read_1 : cX6_read.data.toList.drop 24 = dktX6_read_1 := dk_seg dksX6_read_0 24 rfl rfl
theorem dksX6_read_2 : cX6_read.data.toList.drop 48 = dktX6_read_2 := dk_seg dksX6_read_1 24 rfl rfl
theorem dksX6_read_3 : cX6_read.data.toList.drop 72 = dktX6_read_3 := dk_seg dksX6_read_2 24 rfl rfl
theorem dksX6_read_4 : cX6_read.data.toList.drop 94 = dktX6_read_4 := dk_seg dksX6_read_3 22 rfl rfl
theorem dX6_read_0 : decode cX6_read 0 = .ok (.iload_n 1, 1) := dk_27 (dk_at dksX6_read_0 0 rfl rfl)
theorem dX6_read_1 : decode cX6_read 1 = .ok (.invokestatic 91, 3) := dk_184 0 91 (dk_at dksX6_read_0 1 rfl rfl)
theorem dX6_read_4 : decode cX6_read 4 = .ok (.ifCond .ne 6, 3) := dk_154 0 6 (dk_at dksX6_read_0 4 rfl rfl)
theorem dX6_read_7 : decode cX6_read 7 = .ok (.bipush (-2), 2) := dk_16 254 (dk_at dksX6_read_0 7 rfl rfl)
theorem dX6_read_9 : decode cX6_read 9 = .ok (.ireturn, 1) := dk_172 (dk_at dksX6_read_0 9 rfl rfl)
theorem dX6_read_10 : decode cX6_read 10 = .ok (.aload_n 0, 1) := dk_42 (dk_at dksX6_read_0 10 rfl rfl)
theorem dX6_read_11 : decode cX6_read 11 = .ok (.getfield 7, 3) := dk_180 0 7 (dk_at dksX6_read_0 11 rfl rfl)
theorem dX6_read_14 : decode cX6_read 14 = .ok (.iload_n 1, 1) := dk_27 (dk_at dksX6_read_0 14 rfl rfl)
theorem dX6_read_15 : decode cX6_read 15 = .ok (.iaload, 1) := dk_46 (dk_at dksX6_read_0 15 rfl rfl)
theorem dX6_read_16 : decode cX6_read 16 = .ok (.ifCond .ge 9, 3) := dk_156 0 9 (dk_at dksX6_read_0 16 rfl rfl)
theorem dX6_read_19 : decode cX6_read 19 = .ok (.aload_n 0, 1) := dk_42 (dk_at dksX6_read_0 19 rfl rfl)
theorem dX6_read_20 : decode cX6_read 20 = .ok (.iconst 1, 1) := dk_4 (dk_at dksX6_read_0 20 rfl rfl)
theorem dX6_read_21 : decode cX6_read 21 = .ok (.invokevirtual 97, 3) := dk_182 0 97 (dk_at dksX6_read_0 21 rfl rfl)
theorem dX6_read_24 : decode cX6_read 24 = .ok (.ireturn, 1) := dk_172 (dk_at dksX6_read_1 0 rfl rfl)
theorem dX6_read_25 : decode cX6_read 25 = .ok (.iconst 0, 1) := dk_3 (dk_at dksX6_read_1 1 rfl rfl)
theorem dX6_read_26 : decode cX6_read 26 = .ok (.istore_n 2, 1) := dk_61 (dk_at dksX6_read_1 2 rfl rfl)
theorem dX6_read_27 : decode cX6_read 27 = .ok (.iconst 1, 1) := dk_4 (dk_at dksX6_read_1 3 rfl rfl)
theorem dX6_read_28 : decode cX6_read 28 = .ok (.istore_n 3, 1) := dk_62 (dk_at dksX6_read_1 4 rfl rfl)
theorem dX6_read_29 : decode cX6_read 29 = .ok (.iload_n 3, 1) := dk_29 (dk_at dksX6_read_1 5 rfl rfl)
theorem dX6_read_30 : decode cX6_read 30 = .ok (.ifCond .eq 73, 3) := dk_153 0 73 (dk_at dksX6_read_1 6 rfl rfl)
theorem dX6_read_33 : decode cX6_read 33 = .ok (.iconst 2, 1) := dk_5 (dk_at dksX6_read_1 9 rfl rfl)
theorem dX6_read_34 : decode cX6_read 34 = .ok (.iload_n 2, 1) := dk_28 (dk_at dksX6_read_1 10 rfl rfl)
theorem dX6_read_35 : decode cX6_read 35 = .ok (.imul, 1) := dk_104 (dk_at dksX6_read_1 11 rfl rfl)
theorem dX6_read_36 : decode cX6_read 36 = .ok (.iconst 2, 1) := dk_5 (dk_at dksX6_read_1 12 rfl rfl)
theorem dX6_read_37 : decode cX6_read 37 = .ok (.iadd, 1) := dk_96 (dk_at dksX6_read_1 13 rfl rfl)
theorem dX6_read_38 : decode cX6_read 38 = .ok (.aload_n 0, 1) := dk_42 (dk_at dksX6_read_1 14 rfl rfl)
theorem dX6_read_39 : decode cX6_read 39 = .ok (.getfield 13, 3) := dk_180 0 13 (dk_at dksX6_read_1 15 rfl rfl)
theorem dX6_read_42 : decode cX6_read 42 = .ok (.iload_n 1, 1) := dk_27 (dk_at dksX6_read_1 18 rfl rfl)
theorem dX6_read_43 : decode cX6_read 43 = .ok (.iaload, 1) := dk_46 (dk_at dksX6_read_1 19 rfl rfl)
theorem dX6_read_44 : decode cX6_read 44 = .ok (.if_icmp .gt 59, 3) := dk_163 0 59 (dk_at dksX6_read_1 20 rfl rfl)
theorem dX6_read_47 : decode cX6_read 47 = .ok (.aload_n 0, 1) := dk_42 (dk_at dksX6_read_1 23 rfl rfl)
theorem dX6_read_48 : decode cX6_read 48 = .ok (.aload_n 0, 1) := dk_42 (dk_at dksX6_read_2 0 rfl rfl)
theorem dX6_read_49 : decode cX6_read 49 = .ok (.getfield 16, 3) := dk_180 0 16 (dk_at dksX6_read_2 1 rfl rfl)
theorem dX6_read_52 : decode cX6_read 52 = .ok (.bipush 60, 2) := dk_16 60 (dk_at dksX6_read_2 4 rfl rfl)
theorem dX6_read_54 : decode cX6_read 54 = .ok (.iload_n 1, 1) := dk_27 (dk_at dksX6_read_2 6 rfl rfl)
theorem dX6_read_55 : decode cX6_read 55 = .ok (.imul, 1) := dk_104 (dk_at dksX6_read_2 7 rfl rfl)
theorem dX6_read_56 : decode cX6_read 56 = .ok (.iconst 2, 1) := dk_5 (dk_at dksX6_read_2 8 rfl rfl)
theorem dX6_read_57 : decode cX6_read 57 = .ok (.iload_n 2, 1) := dk_28 (dk_at dksX6_read_2 9 rfl rfl)
theorem dX6_read_58 : decode cX6_read 58 = .ok (.imul, 1) := dk_104 (dk_at dksX6_read_2 10 rfl rfl)
theorem dX6_read_59 : decode cX6_read 59 = .ok (.iadd, 1) := dk_96 (dk_at dksX6_read_2 11 rfl rfl)
theorem dX6_read_60 : decode cX6_read 60 = .ok (.iaload, 1) := dk_46 (dk_at dksX6_read_2 12 rfl rfl)
theorem dX6_read_61 : decode cX6_read 61 = .ok (.aload_n 0, 1) := dk_42 (dk_at dksX6_read_2 13 rfl rfl)
theorem dX6_read_62 : decode cX6_read 62 = .ok (.getfield 16, 3) := dk_180 0 16 (dk_at dksX6_read_2 14 rfl rfl)
theorem dX6_read_65 : decode cX6_read 65 = .ok (.bipush 60, 2) := dk_16 60 (dk_at dksX6_read_2 17 rfl rfl)
theorem dX6_read_67 : decode cX6_read 67 = .ok (.iload_n 1, 1) := dk_27 (dk_at dksX6_read_2 19 rfl rfl)
theorem dX6_read_68 : decode cX6_read 68 = .ok (.imul, 1) := dk_104 (dk_at dksX6_read_2 20 rfl rfl)
theorem dX6_read_69 : decode cX6_read 69 = .ok (.iconst 2, 1) := dk_5 (dk_at dksX6_read_2 21 rfl rfl)
theorem dX6_read_70 : decode cX6_read 70 = .ok (.iload_n 2, 1) := dk_28 (dk_at dksX6_read_2 22 rfl rfl)
theorem dX6_read_71 : decode cX6_read 71 = .ok (.imul, 1) := dk_104 (dk_at dksX6_read_2 23 rfl rfl)
theorem dX6_read_72 : decode cX6_read 72 = .ok (.iadd, 1) := dk_96 (dk_at dksX6_read_3 0 rfl rfl)
theorem dX6_read_73 : decode cX6_read 73 = .ok (.iconst 1, 1) := dk_4 (dk_at dksX6_read_3 1 rfl rfl)
theorem dX6_read_74 : decode cX6_read 74 = .ok (.iadd, 1) := dk_96 (dk_at dksX6_read_3 2 rfl rfl)
theorem dX6_read_75 : decode cX6_read 75 = .ok (.iaload, 1) := dk_46 (dk_at dksX6_read_3 3 rfl rfl)
theorem dX6_read_76 : decode cX6_read 76 = .ok (.invokevirtual 169, 3) := dk_182 0 169 (dk_at dksX6_read_3 4 rfl rfl)
theorem dX6_read_79 : decode cX6_read 79 = .ok (.ifCond .lt 7, 3) := dk_155 0 7 (dk_at dksX6_read_3 7 rfl rfl)
theorem dX6_read_82 : decode cX6_read 82 = .ok (.iconst 1, 1) := dk_4 (dk_at dksX6_read_3 10 rfl rfl)
theorem dX6_read_83 : decode cX6_read 83 = .ok (.goto 4, 3) := dk_167 0 4 (dk_at dksX6_read_3 11 rfl rfl)
theorem dX6_read_86 : decode cX6_read 86 = .ok (.iconst 0, 1) := dk_3 (dk_at dksX6_read_3 14 rfl rfl)
theorem dX6_read_87 : decode cX6_read 87 = .ok (.istore_n 3, 1) := dk_62 (dk_at dksX6_read_3 15 rfl rfl)
theorem dX6_read_88 : decode cX6_read 88 = .ok (.iload_n 2, 1) := dk_28 (dk_at dksX6_read_3 16 rfl rfl)
theorem dX6_read_89 : decode cX6_read 89 = .ok (.iload_n 3, 1) := dk_29 (dk_at dksX6_read_3 17 rfl rfl)
theorem dX6_read_90 : decode cX6_read 90 = .ok (.ifCond .eq 7, 3) := dk_153 0 7 (dk_at dksX6_read_3 18 rfl rfl)
theorem dX6_read_93 : decode cX6_read 93 = .ok (.iconst 1, 1) := dk_4 (dk_at dksX6_read_3 21 rfl rfl)
theorem dX6_read_94 : decode cX6_read 94 = .ok (.goto 4, 3) := dk_167 0 4 (dk_at dksX6_read_4 0 rfl rfl)
theorem dX6_read_97 : decode cX6_read 97 = .ok (.iconst 0, 1) := dk_3 (dk_at dksX6_read_4 3 rfl rfl)
theorem dX6_read_98 : decode cX6_read 98 = .ok (.iadd, 1) := dk_96 (dk_at dksX6_read_4 4 rfl rfl)
theorem dX6_read_99 : decode cX6_read 99 = .ok (.istore_n 2, 1) := dk_61 (dk_at dksX6_read_4 5 rfl rfl)
theorem dX6_read_100 : decode cX6_read 100 = .ok (.goto (-71), 3) := dk_167 255 185 (dk_at dksX6_read_4 6 rfl rfl)
theorem dX6_read_103 : decode cX6_read 103 = .ok (.iload_n 2, 1) := dk_28 (dk_at dksX6_read_4 9 rfl rfl)
theorem dX6_read_104 : decode cX6_read 104 = .ok (.ireturn, 1) := dk_172 (dk_at dksX6_read_4 10 rfl rfl)
abbrev cX6_at : ByteArray := prog_8_method_50_code
def yX6_at : MethodName := ⟨RX6, "at", "(III)I"⟩
def dkwX6_at_2 : List UInt8 := [167, 0, 5, 16, 254, 172]
abbrev dktX6_at_2 : List UInt8 := dkwX6_at_2 ++ []
def dkwX6_at_1 : List UInt8 := [20, 0, 89, 184, 0, 81, 153, 0, 21, 42, 180, 0, 64, 16, 32, 27, 104, 7, 28, 104, 96, 29, 96, 46]
abbrev dktX6_at_1 : List UInt8 := dkwX6_at_1 ++ dktX6_at_2
def dkwX6_at_0 : List UInt8 := [42, 182, 0, 218, 27, 184, 0, 160, 153, 0, 41, 42, 28, 182, 0, 153, 153, 0, 33, 29, 133, 9]
abbrev dktX6_at_0 : List UInt8 := dkwX6_at_0 ++ dktX6_at_1
theorem dksX6_at_0 : cX6_at.data.toList.drop 0 = dktX6_at_0 := by decide +kernel
theorem dksX6_at_1 : cX6_at.data.toList.drop 22 = dktX6_at_1 := dk_seg dksX6_at_0 22 rfl rfl
theorem dksX6_at_2 : cX6_at.data.toList.drop 46 = dktX6_at_2 := dk_seg dksX6_at_1 24 rfl rfl
theorem dX6_at_0 : decode cX6_at 0 = .ok (.aload_n 0, 1) := dk_42 (dk_at dksX6_at_0 0 rfl rfl)
theorem dX6_at_1 : decode cX6_at 1 = .ok (.invokevirtual 218, 3) := dk_182 0 218 (dk_at dksX6_at_0 1 rfl rfl)
theorem dX6_at_4 : decode cX6_at 4 = .ok (.iload_n 1, 1) := dk_27 (dk_at dksX6_at_0 4 rfl rfl)
theorem dX6_at_5 : decode cX6_at 5 = .ok (.invokestatic 160, 3) := dk_184 0 160 (dk_at dksX6_at_0 5 rfl rfl)
theorem dX6_at_8 : decode cX6_at 8 = .ok (.ifCond .eq 41, 3) := dk_153 0 41 (dk_at dksX6_at_0 8 rfl rfl)
theorem dX6_at_11 : decode cX6_at 11 = .ok (.aload_n 0, 1) := dk_42 (dk_at dksX6_at_0 11 rfl rfl)
theorem dX6_at_12 : decode cX6_at 12 = .ok (.iload_n 2, 1) := dk_28 (dk_at dksX6_at_0 12 rfl rfl)
theorem dX6_at_13 : decode cX6_at 13 = .ok (.invokevirtual 153, 3) := dk_182 0 153 (dk_at dksX6_at_0 13 rfl rfl)
theorem dX6_at_16 : decode cX6_at 16 = .ok (.ifCond .eq 33, 3) := dk_153 0 33 (dk_at dksX6_at_0 16 rfl rfl)
theorem dX6_at_19 : decode cX6_at 19 = .ok (.iload_n 3, 1) := dk_29 (dk_at dksX6_at_0 19 rfl rfl)
theorem dX6_at_20 : decode cX6_at 20 = .ok (.i2l, 1) := dk_133 (dk_at dksX6_at_0 20 rfl rfl)
theorem dX6_at_21 : decode cX6_at 21 = .ok (.lconst 0, 1) := dk_9 (dk_at dksX6_at_0 21 rfl rfl)
theorem dX6_at_22 : decode cX6_at 22 = .ok (.ldc2_w 89, 3) := dk_20 0 89 (dk_at dksX6_at_1 0 rfl rfl)
theorem dX6_at_25 : decode cX6_at 25 = .ok (.invokestatic 81, 3) := dk_184 0 81 (dk_at dksX6_at_1 3 rfl rfl)
theorem dX6_at_28 : decode cX6_at 28 = .ok (.ifCond .eq 21, 3) := dk_153 0 21 (dk_at dksX6_at_1 6 rfl rfl)
theorem dX6_at_31 : decode cX6_at 31 = .ok (.aload_n 0, 1) := dk_42 (dk_at dksX6_at_1 9 rfl rfl)
theorem dX6_at_32 : decode cX6_at 32 = .ok (.getfield 64, 3) := dk_180 0 64 (dk_at dksX6_at_1 10 rfl rfl)
theorem dX6_at_35 : decode cX6_at 35 = .ok (.bipush 32, 2) := dk_16 32 (dk_at dksX6_at_1 13 rfl rfl)
theorem dX6_at_37 : decode cX6_at 37 = .ok (.iload_n 1, 1) := dk_27 (dk_at dksX6_at_1 15 rfl rfl)
theorem dX6_at_38 : decode cX6_at 38 = .ok (.imul, 1) := dk_104 (dk_at dksX6_at_1 16 rfl rfl)
theorem dX6_at_39 : decode cX6_at 39 = .ok (.iconst 4, 1) := dk_7 (dk_at dksX6_at_1 17 rfl rfl)
theorem dX6_at_40 : decode cX6_at 40 = .ok (.iload_n 2, 1) := dk_28 (dk_at dksX6_at_1 18 rfl rfl)
theorem dX6_at_41 : decode cX6_at 41 = .ok (.imul, 1) := dk_104 (dk_at dksX6_at_1 19 rfl rfl)
theorem dX6_at_42 : decode cX6_at 42 = .ok (.iadd, 1) := dk_96 (dk_at dksX6_at_1 20 rfl rfl)
theorem dX6_at_43 : decode cX6_at 43 = .ok (.iload_n 3, 1) := dk_29 (dk_at dksX6_at_1 21 rfl rfl)
theorem dX6_at_44 : decode cX6_at 44 = .ok (.iadd, 1) := dk_96 (dk_at dksX6_at_1 22 rfl rfl)
theorem dX6_at_45 : decode cX6_at 45 = .ok (.iaload, 1) := dk_46 (dk_at dksX6_at_1 23 rfl rfl)
theorem dX6_at_46 : decode cX6_at 46 = .ok (.goto 5, 3) := dk_167 0 5 (dk_at dksX6_at_2 0 rfl rfl)
theorem dX6_at_49 : decode cX6_at 49 = .ok (.bipush (-2), 2) := dk_16 254 (dk_at dksX6_at_2 3 rfl rfl)
theorem dX6_at_51 : decode cX6_at 51 = .ok (.ireturn, 1) := dk_172 (dk_at dksX6_at_2 5 rfl rfl)
abbrev cX6_find : ByteArray := prog_8_method_49_code
def yX6_find : MethodName := ⟨RX6, "find", "()V"⟩
def dkwX6_find_0 : List UInt8 := [42, 182, 0, 139, 87, 42, 182, 0, 143, 87, 42, 182, 0, 212, 42, 182, 0, 215, 177]
abbrev dktX6_find_0 : List UInt8 := dkwX6_find_0 ++ []
theorem dksX6_find_0 : cX6_find.data.toList.drop 0 = dktX6_find_0 := by decide +kernel
theorem dX6_find_0 : decode cX6_find 0 = .ok (.aload_n 0, 1) := dk_42 (dk_at dksX6_find_0 0 rfl rfl)
theorem dX6_find_1 : decode cX6_find 1 = .ok (.invokevirtual 139, 3) := dk_182 0 139 (dk_at dksX6_find_0 1 rfl rfl)
theorem dX6_find_4 : decode cX6_find 4 = .ok (.pop, 1) := dk_87 (dk_at dksX6_find_0 4 rfl rfl)
theorem dX6_find_5 : decode cX6_find 5 = .ok (.aload_n 0, 1) := dk_42 (dk_at dksX6_find_0 5 rfl rfl)
theorem dX6_find_6 : decode cX6_find 6 = .ok (.invokevirtual 143, 3) := dk_182 0 143 (dk_at dksX6_find_0 6 rfl rfl)
theorem dX6_find_9 : decode cX6_find 9 = .ok (.pop, 1) := dk_87 (dk_at dksX6_find_0 9 rfl rfl)
theorem dX6_find_10 : decode cX6_find 10 = .ok (.aload_n 0, 1) := dk_42 (dk_at dksX6_find_0 10 rfl rfl)
theorem dX6_find_11 : decode cX6_find 11 = .ok (.invokevirtual 212, 3) := dk_182 0 212 (dk_at dksX6_find_0 11 rfl rfl)
theorem dX6_find_14 : decode cX6_find 14 = .ok (.aload_n 0, 1) := dk_42 (dk_at dksX6_find_0 14 rfl rfl)
theorem dX6_find_15 : decode cX6_find 15 = .ok (.invokevirtual 215, 3) := dk_182 0 215 (dk_at dksX6_find_0 15 rfl rfl)
theorem dX6_find_18 : decode cX6_find 18 = .ok (.return_, 1) := dk_177 (dk_at dksX6_find_0 18 rfl rfl)
abbrev cX6_maps : ByteArray := prog_8_method_40_code
def yX6_maps : MethodName := ⟨RX6, "maps", "()V"⟩
def dkwX6_maps_11 : List UInt8 := [184, 0, 171, 79, 132, 2, 1, 167, 255, 203, 132, 1, 1, 167, 255, 189, 177]
abbrev dktX6_maps_11 : List UInt8 := dkwX6_maps_11 ++ []
def dkwX6_maps_10 : List UInt8 := [27, 96, 46, 42, 180, 0, 43, 16, 8, 27, 104, 28, 16, 8, 112, 96, 46, 96, 42, 180, 0, 43, 28, 46]
abbrev dktX6_maps_10 : List UInt8 := dkwX6_maps_10 ++ dktX6_maps_11
def dkwX6_maps_9 : List UInt8 := [3, 61, 28, 16, 64, 162, 0, 53, 42, 180, 0, 43, 28, 42, 180, 0, 43, 16, 8, 28, 16, 8, 108, 104]
abbrev dktX6_maps_9 : List UInt8 := dkwX6_maps_9 ++ dktX6_maps_10
def dkwX6_maps_8 : List UInt8 := [167, 0, 9, 42, 180, 0, 40, 27, 46, 79, 132, 1, 1, 167, 255, 220, 3, 60, 27, 16, 8, 162, 0, 67]
abbrev dktX6_maps_8 : List UInt8 := dkwX6_maps_8 ++ dktX6_maps_9
def dkwX6_maps_7 : List UInt8 := [16, 64, 162, 0, 36, 42, 180, 0, 43, 27, 27, 16, 8, 108, 27, 16, 8, 112, 160, 0, 7, 3]
abbrev dktX6_maps_7 : List UInt8 := dkwX6_maps_7 ++ dktX6_maps_8
def dkwX6_maps_6 : List UInt8 := [180, 0, 40, 16, 8, 29, 104, 28, 96, 46, 184, 0, 171, 79, 132, 1, 1, 167, 255, 121, 3, 60, 27]
abbrev dktX6_maps_6 : List UInt8 := dkwX6_maps_6 ++ dktX6_maps_7
def dkwX6_maps_5 : List UInt8 := [16, 8, 28, 104, 29, 96, 46, 184, 0, 171, 79, 42, 180, 0, 40, 16, 8, 29, 104, 28, 96, 21, 5, 42]
abbrev dktX6_maps_5 : List UInt8 := dkwX6_maps_5 ++ dktX6_maps_6
def dkwX6_maps_4 : List UInt8 := [6, 96, 46, 96, 104, 54, 5, 42, 180, 0, 40, 16, 8, 28, 104, 29, 96, 21, 4, 42, 180, 0, 40]
abbrev dktX6_maps_4 : List UInt8 := dkwX6_maps_4 ++ dktX6_maps_5
def dkwX6_maps_3 : List UInt8 := [96, 46, 100, 104, 54, 4, 42, 180, 0, 28, 7, 27, 104, 5, 96, 46, 4, 42, 180, 0, 28, 7, 27, 104]
abbrev dktX6_maps_3 : List UInt8 := dkwX6_maps_3 ++ dktX6_maps_4
def dkwX6_maps_2 : List UInt8 := [104, 4, 96, 46, 62, 42, 180, 0, 28, 7, 27, 104, 5, 96, 46, 6, 42, 180, 0, 28, 7, 27, 104, 6]
abbrev dktX6_maps_2 : List UInt8 := dkwX6_maps_2 ++ dktX6_maps_3
def dkwX6_maps_1 : List UInt8 := [60, 27, 42, 180, 0, 127, 162, 0, 133, 42, 180, 0, 28, 7, 27, 104, 46, 61, 42, 180, 0, 28, 7, 27]
abbrev dktX6_maps_1 : List UInt8 := dkwX6_maps_1 ++ dktX6_maps_2
def dkwX6_maps_0 : List UInt8 := [3, 60, 27, 16, 64, 162, 0, 18, 42, 180, 0, 40, 27, 17, 39, 15, 79, 132, 1, 1, 167, 255, 238, 3]
abbrev dktX6_maps_0 : List UInt8 := dkwX6_maps_0 ++ dktX6_maps_1
theorem dksX6_maps_0 : cX6_maps.data.toList.drop 0 = dktX6_maps_0 := by decide +kernel
theorem dksX6_maps_1 : cX6_maps.data.toList.drop 24 = dktX6_maps_1 := dk_seg dksX6_maps_0 24 rfl rfl
theorem dksX6_maps_2 : cX6_maps.data.toList.drop 48 = dktX6_maps_2 := dk_seg dksX6_maps_1 24 rfl rfl
theorem dksX6_maps_3 : cX6_maps.data.toList.drop 72 = dktX6_maps_3 := dk_seg dksX6_maps_2 24 rfl rfl
theorem dksX6_maps_4 : cX6_maps.data.toList.drop 96 = dktX6_maps_4 := dk_seg dksX6_maps_3 24 rfl rfl
theorem dksX6_maps_5 : cX6_maps.data.toList.drop 119 = dktX6_maps_5 := dk_seg dksX6_maps_4 23 rfl rfl
theorem dksX6_maps_6 : cX6_maps.data.toList.drop 143 = dktX6_maps_6 := dk_seg dksX6_maps_5 24 rfl rfl
theorem dksX6_maps_7 : cX6_maps.data.toList.drop 166 = dktX6_maps_7 := dk_seg dksX6_maps_6 23 rfl rfl
theorem dksX6_maps_8 : cX6_maps.data.toList.drop 188 = dktX6_maps_8 := dk_seg dksX6_maps_7 22 rfl rfl
theorem dksX6_maps_9 : cX6_maps.data.toList.drop 212 = dktX6_maps_9 := dk_seg dksX6_maps_8 24 rfl rfl
theorem dksX6_maps_10 : cX6_maps.data.toList.drop 236 = dktX6_maps_10 := dk_seg dksX6_maps_9 24 rfl rfl
theorem dksX6_maps_11 : cX6_maps.data.toList.drop 260 = dktX6_maps_11 := dk_seg dksX6_maps_10 24 rfl rfl
theorem dX6_maps_0 : decode cX6_maps 0 = .ok (.iconst 0, 1) := dk_3 (dk_at dksX6_maps_0 0 rfl rfl)
theorem dX6_maps_1 : decode cX6_maps 1 = .ok (.istore_n 1, 1) := dk_60 (dk_at dksX6_maps_0 1 rfl rfl)
theorem dX6_maps_2 : decode cX6_maps 2 = .ok (.iload_n 1, 1) := dk_27 (dk_at dksX6_maps_0 2 rfl rfl)
theorem dX6_maps_3 : decode cX6_maps 3 = .ok (.bipush 64, 2) := dk_16 64 (dk_at dksX6_maps_0 3 rfl rfl)
theorem dX6_maps_5 : decode cX6_maps 5 = .ok (.if_icmp .ge 18, 3) := dk_162 0 18 (dk_at dksX6_maps_0 5 rfl rfl)
theorem dX6_maps_8 : decode cX6_maps 8 = .ok (.aload_n 0, 1) := dk_42 (dk_at dksX6_maps_0 8 rfl rfl)
theorem dX6_maps_9 : decode cX6_maps 9 = .ok (.getfield 40, 3) := dk_180 0 40 (dk_at dksX6_maps_0 9 rfl rfl)
theorem dX6_maps_12 : decode cX6_maps 12 = .ok (.iload_n 1, 1) := dk_27 (dk_at dksX6_maps_0 12 rfl rfl)
theorem dX6_maps_13 : decode cX6_maps 13 = .ok (.sipush 9999, 3) := dk_17 39 15 (dk_at dksX6_maps_0 13 rfl rfl)
theorem dX6_maps_16 : decode cX6_maps 16 = .ok (.iastore, 1) := dk_79 (dk_at dksX6_maps_0 16 rfl rfl)
theorem dX6_maps_17 : decode cX6_maps 17 = .ok (.iinc 1 1, 3) := dk_132 1 1 (dk_at dksX6_maps_0 17 rfl rfl)
theorem dX6_maps_20 : decode cX6_maps 20 = .ok (.goto (-18), 3) := dk_167 255 238 (dk_at dksX6_maps_0 20 rfl rfl)
theorem dX6_maps_23 : decode cX6_maps 23 = .ok (.iconst 0, 1) := dk_3 (dk_at dksX6_maps_0 23 rfl rfl)
theorem dX6_maps_24 : decode cX6_maps 24 = .ok (.istore_n 1, 1) := dk_60 (dk_at dksX6_maps_1 0 rfl rfl)
theorem dX6_maps_25 : decode cX6_maps 25 = .ok (.iload_n 1, 1) := dk_27 (dk_at dksX6_maps_1 1 rfl rfl)
theorem dX6_maps_26 : decode cX6_maps 26 = .ok (.aload_n 0, 1) := dk_42 (dk_at dksX6_maps_1 2 rfl rfl)
theorem dX6_maps_27 : decode cX6_maps 27 = .ok (.getfield 127, 3) := dk_180 0 127 (dk_at dksX6_maps_1 3 rfl rfl)
theorem dX6_maps_30 : decode cX6_maps 30 = .ok (.if_icmp .ge 133, 3) := dk_162 0 133 (dk_at dksX6_maps_1 6 rfl rfl)
theorem dX6_maps_33 : decode cX6_maps 33 = .ok (.aload_n 0, 1) := dk_42 (dk_at dksX6_maps_1 9 rfl rfl)
theorem dX6_maps_34 : decode cX6_maps 34 = .ok (.getfield 28, 3) := dk_180 0 28 (dk_at dksX6_maps_1 10 rfl rfl)
theorem dX6_maps_37 : decode cX6_maps 37 = .ok (.iconst 4, 1) := dk_7 (dk_at dksX6_maps_1 13 rfl rfl)
theorem dX6_maps_38 : decode cX6_maps 38 = .ok (.iload_n 1, 1) := dk_27 (dk_at dksX6_maps_1 14 rfl rfl)
theorem dX6_maps_39 : decode cX6_maps 39 = .ok (.imul, 1) := dk_104 (dk_at dksX6_maps_1 15 rfl rfl)
theorem dX6_maps_40 : decode cX6_maps 40 = .ok (.iaload, 1) := dk_46 (dk_at dksX6_maps_1 16 rfl rfl)
theorem dX6_maps_41 : decode cX6_maps 41 = .ok (.istore_n 2, 1) := dk_61 (dk_at dksX6_maps_1 17 rfl rfl)
theorem dX6_maps_42 : decode cX6_maps 42 = .ok (.aload_n 0, 1) := dk_42 (dk_at dksX6_maps_1 18 rfl rfl)
theorem dX6_maps_43 : decode cX6_maps 43 = .ok (.getfield 28, 3) := dk_180 0 28 (dk_at dksX6_maps_1 19 rfl rfl)
theorem dX6_maps_46 : decode cX6_maps 46 = .ok (.iconst 4, 1) := dk_7 (dk_at dksX6_maps_1 22 rfl rfl)
theorem dX6_maps_47 : decode cX6_maps 47 = .ok (.iload_n 1, 1) := dk_27 (dk_at dksX6_maps_1 23 rfl rfl)
theorem dX6_maps_48 : decode cX6_maps 48 = .ok (.imul, 1) := dk_104 (dk_at dksX6_maps_2 0 rfl rfl)
theorem dX6_maps_49 : decode cX6_maps 49 = .ok (.iconst 1, 1) := dk_4 (dk_at dksX6_maps_2 1 rfl rfl)
theorem dX6_maps_50 : decode cX6_maps 50 = .ok (.iadd, 1) := dk_96 (dk_at dksX6_maps_2 2 rfl rfl)
theorem dX6_maps_51 : decode cX6_maps 51 = .ok (.iaload, 1) := dk_46 (dk_at dksX6_maps_2 3 rfl rfl)
theorem dX6_maps_52 : decode cX6_maps 52 = .ok (.istore_n 3, 1) := dk_62 (dk_at dksX6_maps_2 4 rfl rfl)
theorem dX6_maps_53 : decode cX6_maps 53 = .ok (.aload_n 0, 1) := dk_42 (dk_at dksX6_maps_2 5 rfl rfl)
theorem dX6_maps_54 : decode cX6_maps 54 = .ok (.getfield 28, 3) := dk_180 0 28 (dk_at dksX6_maps_2 6 rfl rfl)
theorem dX6_maps_57 : decode cX6_maps 57 = .ok (.iconst 4, 1) := dk_7 (dk_at dksX6_maps_2 9 rfl rfl)
theorem dX6_maps_58 : decode cX6_maps 58 = .ok (.iload_n 1, 1) := dk_27 (dk_at dksX6_maps_2 10 rfl rfl)
theorem dX6_maps_59 : decode cX6_maps 59 = .ok (.imul, 1) := dk_104 (dk_at dksX6_maps_2 11 rfl rfl)
theorem dX6_maps_60 : decode cX6_maps 60 = .ok (.iconst 2, 1) := dk_5 (dk_at dksX6_maps_2 12 rfl rfl)
theorem dX6_maps_61 : decode cX6_maps 61 = .ok (.iadd, 1) := dk_96 (dk_at dksX6_maps_2 13 rfl rfl)
theorem dX6_maps_62 : decode cX6_maps 62 = .ok (.iaload, 1) := dk_46 (dk_at dksX6_maps_2 14 rfl rfl)
theorem dX6_maps_63 : decode cX6_maps 63 = .ok (.iconst 3, 1) := dk_6 (dk_at dksX6_maps_2 15 rfl rfl)
theorem dX6_maps_64 : decode cX6_maps 64 = .ok (.aload_n 0, 1) := dk_42 (dk_at dksX6_maps_2 16 rfl rfl)
theorem dX6_maps_65 : decode cX6_maps 65 = .ok (.getfield 28, 3) := dk_180 0 28 (dk_at dksX6_maps_2 17 rfl rfl)
theorem dX6_maps_68 : decode cX6_maps 68 = .ok (.iconst 4, 1) := dk_7 (dk_at dksX6_maps_2 20 rfl rfl)
theorem dX6_maps_69 : decode cX6_maps 69 = .ok (.iload_n 1, 1) := dk_27 (dk_at dksX6_maps_2 21 rfl rfl)
theorem dX6_maps_70 : decode cX6_maps 70 = .ok (.imul, 1) := dk_104 (dk_at dksX6_maps_2 22 rfl rfl)
theorem dX6_maps_71 : decode cX6_maps 71 = .ok (.iconst 3, 1) := dk_6 (dk_at dksX6_maps_2 23 rfl rfl)
theorem dX6_maps_72 : decode cX6_maps 72 = .ok (.iadd, 1) := dk_96 (dk_at dksX6_maps_3 0 rfl rfl)
theorem dX6_maps_73 : decode cX6_maps 73 = .ok (.iaload, 1) := dk_46 (dk_at dksX6_maps_3 1 rfl rfl)
theorem dX6_maps_74 : decode cX6_maps 74 = .ok (.isub, 1) := dk_100 (dk_at dksX6_maps_3 2 rfl rfl)
theorem dX6_maps_75 : decode cX6_maps 75 = .ok (.imul, 1) := dk_104 (dk_at dksX6_maps_3 3 rfl rfl)
theorem dX6_maps_76 : decode cX6_maps 76 = .ok (.istore 4, 2) := dk_54 4 (dk_at dksX6_maps_3 4 rfl rfl)
theorem dX6_maps_78 : decode cX6_maps 78 = .ok (.aload_n 0, 1) := dk_42 (dk_at dksX6_maps_3 6 rfl rfl)
theorem dX6_maps_79 : decode cX6_maps 79 = .ok (.getfield 28, 3) := dk_180 0 28 (dk_at dksX6_maps_3 7 rfl rfl)
theorem dX6_maps_82 : decode cX6_maps 82 = .ok (.iconst 4, 1) := dk_7 (dk_at dksX6_maps_3 10 rfl rfl)
theorem dX6_maps_83 : decode cX6_maps 83 = .ok (.iload_n 1, 1) := dk_27 (dk_at dksX6_maps_3 11 rfl rfl)
theorem dX6_maps_84 : decode cX6_maps 84 = .ok (.imul, 1) := dk_104 (dk_at dksX6_maps_3 12 rfl rfl)
theorem dX6_maps_85 : decode cX6_maps 85 = .ok (.iconst 2, 1) := dk_5 (dk_at dksX6_maps_3 13 rfl rfl)
theorem dX6_maps_86 : decode cX6_maps 86 = .ok (.iadd, 1) := dk_96 (dk_at dksX6_maps_3 14 rfl rfl)
theorem dX6_maps_87 : decode cX6_maps 87 = .ok (.iaload, 1) := dk_46 (dk_at dksX6_maps_3 15 rfl rfl)
theorem dX6_maps_88 : decode cX6_maps 88 = .ok (.iconst 1, 1) := dk_4 (dk_at dksX6_maps_3 16 rfl rfl)
theorem dX6_maps_89 : decode cX6_maps 89 = .ok (.aload_n 0, 1) := dk_42 (dk_at dksX6_maps_3 17 rfl rfl)
theorem dX6_maps_90 : decode cX6_maps 90 = .ok (.getfield 28, 3) := dk_180 0 28 (dk_at dksX6_maps_3 18 rfl rfl)
theorem dX6_maps_93 : decode cX6_maps 93 = .ok (.iconst 4, 1) := dk_7 (dk_at dksX6_maps_3 21 rfl rfl)
theorem dX6_maps_94 : decode cX6_maps 94 = .ok (.iload_n 1, 1) := dk_27 (dk_at dksX6_maps_3 22 rfl rfl)
theorem dX6_maps_95 : decode cX6_maps 95 = .ok (.imul, 1) := dk_104 (dk_at dksX6_maps_3 23 rfl rfl)
theorem dX6_maps_96 : decode cX6_maps 96 = .ok (.iconst 3, 1) := dk_6 (dk_at dksX6_maps_4 0 rfl rfl)
theorem dX6_maps_97 : decode cX6_maps 97 = .ok (.iadd, 1) := dk_96 (dk_at dksX6_maps_4 1 rfl rfl)
theorem dX6_maps_98 : decode cX6_maps 98 = .ok (.iaload, 1) := dk_46 (dk_at dksX6_maps_4 2 rfl rfl)
theorem dX6_maps_99 : decode cX6_maps 99 = .ok (.iadd, 1) := dk_96 (dk_at dksX6_maps_4 3 rfl rfl)
theorem dX6_maps_100 : decode cX6_maps 100 = .ok (.imul, 1) := dk_104 (dk_at dksX6_maps_4 4 rfl rfl)
theorem dX6_maps_101 : decode cX6_maps 101 = .ok (.istore 5, 2) := dk_54 5 (dk_at dksX6_maps_4 5 rfl rfl)
theorem dX6_maps_103 : decode cX6_maps 103 = .ok (.aload_n 0, 1) := dk_42 (dk_at dksX6_maps_4 7 rfl rfl)
theorem dX6_maps_104 : decode cX6_maps 104 = .ok (.getfield 40, 3) := dk_180 0 40 (dk_at dksX6_maps_4 8 rfl rfl)
theorem dX6_maps_107 : decode cX6_maps 107 = .ok (.bipush 8, 2) := dk_16 8 (dk_at dksX6_maps_4 11 rfl rfl)
theorem dX6_maps_109 : decode cX6_maps 109 = .ok (.iload_n 2, 1) := dk_28 (dk_at dksX6_maps_4 13 rfl rfl)
theorem dX6_maps_110 : decode cX6_maps 110 = .ok (.imul, 1) := dk_104 (dk_at dksX6_maps_4 14 rfl rfl)
theorem dX6_maps_111 : decode cX6_maps 111 = .ok (.iload_n 3, 1) := dk_29 (dk_at dksX6_maps_4 15 rfl rfl)
theorem dX6_maps_112 : decode cX6_maps 112 = .ok (.iadd, 1) := dk_96 (dk_at dksX6_maps_4 16 rfl rfl)
theorem dX6_maps_113 : decode cX6_maps 113 = .ok (.iload 4, 2) := dk_21 4 (dk_at dksX6_maps_4 17 rfl rfl)
theorem dX6_maps_115 : decode cX6_maps 115 = .ok (.aload_n 0, 1) := dk_42 (dk_at dksX6_maps_4 19 rfl rfl)
theorem dX6_maps_116 : decode cX6_maps 116 = .ok (.getfield 40, 3) := dk_180 0 40 (dk_at dksX6_maps_4 20 rfl rfl)
theorem dX6_maps_119 : decode cX6_maps 119 = .ok (.bipush 8, 2) := dk_16 8 (dk_at dksX6_maps_5 0 rfl rfl)
theorem dX6_maps_121 : decode cX6_maps 121 = .ok (.iload_n 2, 1) := dk_28 (dk_at dksX6_maps_5 2 rfl rfl)
theorem dX6_maps_122 : decode cX6_maps 122 = .ok (.imul, 1) := dk_104 (dk_at dksX6_maps_5 3 rfl rfl)
theorem dX6_maps_123 : decode cX6_maps 123 = .ok (.iload_n 3, 1) := dk_29 (dk_at dksX6_maps_5 4 rfl rfl)
theorem dX6_maps_124 : decode cX6_maps 124 = .ok (.iadd, 1) := dk_96 (dk_at dksX6_maps_5 5 rfl rfl)
theorem dX6_maps_125 : decode cX6_maps 125 = .ok (.iaload, 1) := dk_46 (dk_at dksX6_maps_5 6 rfl rfl)
theorem dX6_maps_126 : decode cX6_maps 126 = .ok (.invokestatic 171, 3) := dk_184 0 171 (dk_at dksX6_maps_5 7 rfl rfl)
theorem dX6_maps_129 : decode cX6_maps 129 = .ok (.iastore, 1) := dk_79 (dk_at dksX6_maps_5 10 rfl rfl)
theorem dX6_maps_130 : decode cX6_maps 130 = .ok (.aload_n 0, 1) := dk_42 (dk_at dksX6_maps_5 11 rfl rfl)
theorem dX6_maps_131 : decode cX6_maps 131 = .ok (.getfield 40, 3) := dk_180 0 40 (dk_at dksX6_maps_5 12 rfl rfl)
theorem dX6_maps_134 : decode cX6_maps 134 = .ok (.bipush 8, 2) := dk_16 8 (dk_at dksX6_maps_5 15 rfl rfl)
theorem dX6_maps_136 : decode cX6_maps 136 = .ok (.iload_n 3, 1) := dk_29 (dk_at dksX6_maps_5 17 rfl rfl)
theorem dX6_maps_137 : decode cX6_maps 137 = .ok (.imul, 1) := dk_104 (dk_at dksX6_maps_5 18 rfl rfl)
theorem dX6_maps_138 : decode cX6_maps 138 = .ok (.iload_n 2, 1) := dk_28 (dk_at dksX6_maps_5 19 rfl rfl)
theorem dX6_maps_139 : decode cX6_maps 139 = .ok (.iadd, 1) := dk_96 (dk_at dksX6_maps_5 20 rfl rfl)
theorem dX6_maps_140 : decode cX6_maps 140 = .ok (.iload 5, 2) := dk_21 5 (dk_at dksX6_maps_5 21 rfl rfl)
theorem dX6_maps_142 : decode cX6_maps 142 = .ok (.aload_n 0, 1) := dk_42 (dk_at dksX6_maps_5 23 rfl rfl)
theorem dX6_maps_143 : decode cX6_maps 143 = .ok (.getfield 40, 3) := dk_180 0 40 (dk_at dksX6_maps_6 0 rfl rfl)
theorem dX6_maps_146 : decode cX6_maps 146 = .ok (.bipush 8, 2) := dk_16 8 (dk_at dksX6_maps_6 3 rfl rfl)
theorem dX6_maps_148 : decode cX6_maps 148 = .ok (.iload_n 3, 1) := dk_29 (dk_at dksX6_maps_6 5 rfl rfl)
theorem dX6_maps_149 : decode cX6_maps 149 = .ok (.imul, 1) := dk_104 (dk_at dksX6_maps_6 6 rfl rfl)
theorem dX6_maps_150 : decode cX6_maps 150 = .ok (.iload_n 2, 1) := dk_28 (dk_at dksX6_maps_6 7 rfl rfl)
theorem dX6_maps_151 : decode cX6_maps 151 = .ok (.iadd, 1) := dk_96 (dk_at dksX6_maps_6 8 rfl rfl)
theorem dX6_maps_152 : decode cX6_maps 152 = .ok (.iaload, 1) := dk_46 (dk_at dksX6_maps_6 9 rfl rfl)
theorem dX6_maps_153 : decode cX6_maps 153 = .ok (.invokestatic 171, 3) := dk_184 0 171 (dk_at dksX6_maps_6 10 rfl rfl)
theorem dX6_maps_156 : decode cX6_maps 156 = .ok (.iastore, 1) := dk_79 (dk_at dksX6_maps_6 13 rfl rfl)
theorem dX6_maps_157 : decode cX6_maps 157 = .ok (.iinc 1 1, 3) := dk_132 1 1 (dk_at dksX6_maps_6 14 rfl rfl)
theorem dX6_maps_160 : decode cX6_maps 160 = .ok (.goto (-135), 3) := dk_167 255 121 (dk_at dksX6_maps_6 17 rfl rfl)
theorem dX6_maps_163 : decode cX6_maps 163 = .ok (.iconst 0, 1) := dk_3 (dk_at dksX6_maps_6 20 rfl rfl)
theorem dX6_maps_164 : decode cX6_maps 164 = .ok (.istore_n 1, 1) := dk_60 (dk_at dksX6_maps_6 21 rfl rfl)
theorem dX6_maps_165 : decode cX6_maps 165 = .ok (.iload_n 1, 1) := dk_27 (dk_at dksX6_maps_6 22 rfl rfl)
theorem dX6_maps_166 : decode cX6_maps 166 = .ok (.bipush 64, 2) := dk_16 64 (dk_at dksX6_maps_7 0 rfl rfl)
theorem dX6_maps_168 : decode cX6_maps 168 = .ok (.if_icmp .ge 36, 3) := dk_162 0 36 (dk_at dksX6_maps_7 2 rfl rfl)
theorem dX6_maps_171 : decode cX6_maps 171 = .ok (.aload_n 0, 1) := dk_42 (dk_at dksX6_maps_7 5 rfl rfl)
theorem dX6_maps_172 : decode cX6_maps 172 = .ok (.getfield 43, 3) := dk_180 0 43 (dk_at dksX6_maps_7 6 rfl rfl)
theorem dX6_maps_175 : decode cX6_maps 175 = .ok (.iload_n 1, 1) := dk_27 (dk_at dksX6_maps_7 9 rfl rfl)
theorem dX6_maps_176 : decode cX6_maps 176 = .ok (.iload_n 1, 1) := dk_27 (dk_at dksX6_maps_7 10 rfl rfl)
theorem dX6_maps_177 : decode cX6_maps 177 = .ok (.bipush 8, 2) := dk_16 8 (dk_at dksX6_maps_7 11 rfl rfl)
theorem dX6_maps_179 : decode cX6_maps 179 = .ok (.idiv, 1) := dk_108 (dk_at dksX6_maps_7 13 rfl rfl)
theorem dX6_maps_180 : decode cX6_maps 180 = .ok (.iload_n 1, 1) := dk_27 (dk_at dksX6_maps_7 14 rfl rfl)
theorem dX6_maps_181 : decode cX6_maps 181 = .ok (.bipush 8, 2) := dk_16 8 (dk_at dksX6_maps_7 15 rfl rfl)
theorem dX6_maps_183 : decode cX6_maps 183 = .ok (.irem, 1) := dk_112 (dk_at dksX6_maps_7 17 rfl rfl)
theorem dX6_maps_184 : decode cX6_maps 184 = .ok (.if_icmp .ne 7, 3) := dk_160 0 7 (dk_at dksX6_maps_7 18 rfl rfl)
theorem dX6_maps_187 : decode cX6_maps 187 = .ok (.iconst 0, 1) := dk_3 (dk_at dksX6_maps_7 21 rfl rfl)
theorem dX6_maps_188 : decode cX6_maps 188 = .ok (.goto 9, 3) := dk_167 0 9 (dk_at dksX6_maps_8 0 rfl rfl)
theorem dX6_maps_191 : decode cX6_maps 191 = .ok (.aload_n 0, 1) := dk_42 (dk_at dksX6_maps_8 3 rfl rfl)
theorem dX6_maps_192 : decode cX6_maps 192 = .ok (.getfield 40, 3) := dk_180 0 40 (dk_at dksX6_maps_8 4 rfl rfl)
theorem dX6_maps_195 : decode cX6_maps 195 = .ok (.iload_n 1, 1) := dk_27 (dk_at dksX6_maps_8 7 rfl rfl)
theorem dX6_maps_196 : decode cX6_maps 196 = .ok (.iaload, 1) := dk_46 (dk_at dksX6_maps_8 8 rfl rfl)
theorem dX6_maps_197 : decode cX6_maps 197 = .ok (.iastore, 1) := dk_79 (dk_at dksX6_maps_8 9 rfl rfl)
theorem dX6_maps_198 : decode cX6_maps 198 = .ok (.iinc 1 1, 3) := dk_132 1 1 (dk_at dksX6_maps_8 10 rfl rfl)
theorem dX6_maps_201 : decode cX6_maps 201 = .ok (.goto (-36), 3) := dk_167 255 220 (dk_at dksX6_maps_8 13 rfl rfl)
theorem dX6_maps_204 : decode cX6_maps 204 = .ok (.iconst 0, 1) := dk_3 (dk_at dksX6_maps_8 16 rfl rfl)
theorem dX6_maps_205 : decode cX6_maps 205 = .ok (.istore_n 1, 1) := dk_60 (dk_at dksX6_maps_8 17 rfl rfl)
theorem dX6_maps_206 : decode cX6_maps 206 = .ok (.iload_n 1, 1) := dk_27 (dk_at dksX6_maps_8 18 rfl rfl)
theorem dX6_maps_207 : decode cX6_maps 207 = .ok (.bipush 8, 2) := dk_16 8 (dk_at dksX6_maps_8 19 rfl rfl)
theorem dX6_maps_209 : decode cX6_maps 209 = .ok (.if_icmp .ge 67, 3) := dk_162 0 67 (dk_at dksX6_maps_8 21 rfl rfl)
theorem dX6_maps_212 : decode cX6_maps 212 = .ok (.iconst 0, 1) := dk_3 (dk_at dksX6_maps_9 0 rfl rfl)
theorem dX6_maps_213 : decode cX6_maps 213 = .ok (.istore_n 2, 1) := dk_61 (dk_at dksX6_maps_9 1 rfl rfl)
theorem dX6_maps_214 : decode cX6_maps 214 = .ok (.iload_n 2, 1) := dk_28 (dk_at dksX6_maps_9 2 rfl rfl)
theorem dX6_maps_215 : decode cX6_maps 215 = .ok (.bipush 64, 2) := dk_16 64 (dk_at dksX6_maps_9 3 rfl rfl)
theorem dX6_maps_217 : decode cX6_maps 217 = .ok (.if_icmp .ge 53, 3) := dk_162 0 53 (dk_at dksX6_maps_9 5 rfl rfl)
theorem dX6_maps_220 : decode cX6_maps 220 = .ok (.aload_n 0, 1) := dk_42 (dk_at dksX6_maps_9 8 rfl rfl)
theorem dX6_maps_221 : decode cX6_maps 221 = .ok (.getfield 43, 3) := dk_180 0 43 (dk_at dksX6_maps_9 9 rfl rfl)
theorem dX6_maps_224 : decode cX6_maps 224 = .ok (.iload_n 2, 1) := dk_28 (dk_at dksX6_maps_9 12 rfl rfl)
theorem dX6_maps_225 : decode cX6_maps 225 = .ok (.aload_n 0, 1) := dk_42 (dk_at dksX6_maps_9 13 rfl rfl)
theorem dX6_maps_226 : decode cX6_maps 226 = .ok (.getfield 43, 3) := dk_180 0 43 (dk_at dksX6_maps_9 14 rfl rfl)
theorem dX6_maps_229 : decode cX6_maps 229 = .ok (.bipush 8, 2) := dk_16 8 (dk_at dksX6_maps_9 17 rfl rfl)
theorem dX6_maps_231 : decode cX6_maps 231 = .ok (.iload_n 2, 1) := dk_28 (dk_at dksX6_maps_9 19 rfl rfl)
theorem dX6_maps_232 : decode cX6_maps 232 = .ok (.bipush 8, 2) := dk_16 8 (dk_at dksX6_maps_9 20 rfl rfl)
theorem dX6_maps_234 : decode cX6_maps 234 = .ok (.idiv, 1) := dk_108 (dk_at dksX6_maps_9 22 rfl rfl)
theorem dX6_maps_235 : decode cX6_maps 235 = .ok (.imul, 1) := dk_104 (dk_at dksX6_maps_9 23 rfl rfl)
theorem dX6_maps_236 : decode cX6_maps 236 = .ok (.iload_n 1, 1) := dk_27 (dk_at dksX6_maps_10 0 rfl rfl)
theorem dX6_maps_237 : decode cX6_maps 237 = .ok (.iadd, 1) := dk_96 (dk_at dksX6_maps_10 1 rfl rfl)
theorem dX6_maps_238 : decode cX6_maps 238 = .ok (.iaload, 1) := dk_46 (dk_at dksX6_maps_10 2 rfl rfl)
theorem dX6_maps_239 : decode cX6_maps 239 = .ok (.aload_n 0, 1) := dk_42 (dk_at dksX6_maps_10 3 rfl rfl)
theorem dX6_maps_240 : decode cX6_maps 240 = .ok (.getfield 43, 3) := dk_180 0 43 (dk_at dksX6_maps_10 4 rfl rfl)
theorem dX6_maps_243 : decode cX6_maps 243 = .ok (.bipush 8, 2) := dk_16 8 (dk_at dksX6_maps_10 7 rfl rfl)
theorem dX6_maps_245 : decode cX6_maps 245 = .ok (.iload_n 1, 1) := dk_27 (dk_at dksX6_maps_10 9 rfl rfl)
theorem dX6_maps_246 : decode cX6_maps 246 = .ok (.imul, 1) := dk_104 (dk_at dksX6_maps_10 10 rfl rfl)
theorem dX6_maps_247 : decode cX6_maps 247 = .ok (.iload_n 2, 1) := dk_28 (dk_at dksX6_maps_10 11 rfl rfl)
theorem dX6_maps_248 : decode cX6_maps 248 = .ok (.bipush 8, 2) := dk_16 8 (dk_at dksX6_maps_10 12 rfl rfl)
theorem dX6_maps_250 : decode cX6_maps 250 = .ok (.irem, 1) := dk_112 (dk_at dksX6_maps_10 14 rfl rfl)
theorem dX6_maps_251 : decode cX6_maps 251 = .ok (.iadd, 1) := dk_96 (dk_at dksX6_maps_10 15 rfl rfl)
theorem dX6_maps_252 : decode cX6_maps 252 = .ok (.iaload, 1) := dk_46 (dk_at dksX6_maps_10 16 rfl rfl)
theorem dX6_maps_253 : decode cX6_maps 253 = .ok (.iadd, 1) := dk_96 (dk_at dksX6_maps_10 17 rfl rfl)
theorem dX6_maps_254 : decode cX6_maps 254 = .ok (.aload_n 0, 1) := dk_42 (dk_at dksX6_maps_10 18 rfl rfl)
theorem dX6_maps_255 : decode cX6_maps 255 = .ok (.getfield 43, 3) := dk_180 0 43 (dk_at dksX6_maps_10 19 rfl rfl)
theorem dX6_maps_258 : decode cX6_maps 258 = .ok (.iload_n 2, 1) := dk_28 (dk_at dksX6_maps_10 22 rfl rfl)
theorem dX6_maps_259 : decode cX6_maps 259 = .ok (.iaload, 1) := dk_46 (dk_at dksX6_maps_10 23 rfl rfl)
theorem dX6_maps_260 : decode cX6_maps 260 = .ok (.invokestatic 171, 3) := dk_184 0 171 (dk_at dksX6_maps_11 0 rfl rfl)
theorem dX6_maps_263 : decode cX6_maps 263 = .ok (.iastore, 1) := dk_79 (dk_at dksX6_maps_11 3 rfl rfl)
theorem dX6_maps_264 : decode cX6_maps 264 = .ok (.iinc 2 1, 3) := dk_132 2 1 (dk_at dksX6_maps_11 4 rfl rfl)
theorem dX6_maps_267 : decode cX6_maps 267 = .ok (.goto (-53), 3) := dk_167 255 203 (dk_at dksX6_maps_11 7 rfl rfl)
theorem dX6_maps_270 : decode cX6_maps 270 = .ok (.iinc 1 1, 3) := dk_132 1 1 (dk_at dksX6_maps_11 10 rfl rfl)
theorem dX6_maps_273 : decode cX6_maps 273 = .ok (.goto (-67), 3) := dk_167 255 189 (dk_at dksX6_maps_11 13 rfl rfl)
theorem dX6_maps_276 : decode cX6_maps 276 = .ok (.return_, 1) := dk_177 (dk_at dksX6_maps_11 16 rfl rfl)
abbrev cX6_lesser : ByteArray := prog_8_method_8_code
def yX6_lesser : MethodName := ⟨RX6, "lesser", "(II)I"⟩
def dkwX6_lesser_0 : List UInt8 := [26, 27, 162, 0, 7, 26, 167, 0, 4, 27, 172]
abbrev dktX6_lesser_0 : List UInt8 := dkwX6_lesser_0 ++ []
theorem dksX6_lesser_0 : cX6_lesser.data.toList.drop 0 = dktX6_lesser_0 := by decide +kernel
theorem dX6_lesser_0 : decode cX6_lesser 0 = .ok (.iload_n 0, 1) := dk_26 (dk_at dksX6_lesser_0 0 rfl rfl)
theorem dX6_lesser_1 : decode cX6_lesser 1 = .ok (.iload_n 1, 1) := dk_27 (dk_at dksX6_lesser_0 1 rfl rfl)
theorem dX6_lesser_2 : decode cX6_lesser 2 = .ok (.if_icmp .ge 7, 3) := dk_162 0 7 (dk_at dksX6_lesser_0 2 rfl rfl)
theorem dX6_lesser_5 : decode cX6_lesser 5 = .ok (.iload_n 0, 1) := dk_26 (dk_at dksX6_lesser_0 5 rfl rfl)
theorem dX6_lesser_6 : decode cX6_lesser 6 = .ok (.goto 4, 3) := dk_167 0 4 (dk_at dksX6_lesser_0 6 rfl rfl)
theorem dX6_lesser_9 : decode cX6_lesser 9 = .ok (.iload_n 1, 1) := dk_27 (dk_at dksX6_lesser_0 9 rfl rfl)
theorem dX6_lesser_10 : decode cX6_lesser 10 = .ok (.ireturn, 1) := dk_172 (dk_at dksX6_lesser_0 10 rfl rfl)
abbrev cX6_lives : ByteArray := prog_8_method_48_code
def yX6_lives : MethodName := ⟨RX6, "lives", "()V"⟩
def dkwX6_lives_7 : List UInt8 := [167, 255, 205, 177]
abbrev dktX6_lives_7 : List UInt8 := dkwX6_lives_7 ++ []
def dkwX6_lives_6 : List UInt8 := [27, 160, 0, 9, 42, 28, 27, 182, 0, 205, 132, 2, 1, 167, 255, 229, 42, 27, 182, 0, 209, 132, 1, 1]
abbrev dktX6_lives_6 : List UInt8 := dkwX6_lives_6 ++ dktX6_lives_7
def dkwX6_lives_5 : List UInt8 := [162, 0, 51, 42, 27, 182, 0, 201, 3, 61, 28, 42, 180, 0, 133, 162, 0, 25, 42, 180, 0, 58, 28, 46]
abbrev dktX6_lives_5 : List UInt8 := dkwX6_lives_5 ++ dktX6_lives_6
def dkwX6_lives_4 : List UInt8 := [79, 132, 1, 1, 167, 255, 203, 42, 2, 181, 0, 195, 42, 2, 181, 0, 198, 3, 60, 27, 16, 40]
abbrev dktX6_lives_4 : List UInt8 := dkwX6_lives_4 ++ dktX6_lives_5
def dkwX6_lives_3 : List UInt8 := [180, 0, 55, 27, 42, 180, 0, 31, 8, 27, 104, 46, 79, 42, 180, 0, 58, 27, 42, 180, 0, 34, 27, 46]
abbrev dktX6_lives_3 : List UInt8 := dkwX6_lives_3 ++ dktX6_lives_4
def dkwX6_lives_2 : List UInt8 := [180, 0, 133, 162, 0, 51, 42, 180, 0, 52, 27, 42, 180, 0, 31, 8, 27, 104, 6, 96, 46, 79, 42]
abbrev dktX6_lives_2 : List UInt8 := dkwX6_lives_2 ++ dktX6_lives_3
def dkwX6_lives_1 : List UInt8 := [180, 0, 61, 27, 2, 79, 42, 180, 0, 70, 27, 3, 79, 132, 1, 1, 167, 255, 219, 3, 60, 27, 42]
abbrev dktX6_lives_1 : List UInt8 := dkwX6_lives_1 ++ dktX6_lives_2
def dkwX6_lives_0 : List UInt8 := [3, 60, 27, 16, 8, 162, 0, 37, 42, 180, 0, 46, 27, 3, 79, 42, 180, 0, 49, 27, 2, 79, 42]
abbrev dktX6_lives_0 : List UInt8 := dkwX6_lives_0 ++ dktX6_lives_1
theorem dksX6_lives_0 : cX6_lives.data.toList.drop 0 = dktX6_lives_0 := by decide +kernel
theorem dksX6_lives_1 : cX6_lives.data.toList.drop 23 = dktX6_lives_1 := dk_seg dksX6_lives_0 23 rfl rfl
theorem dksX6_lives_2 : cX6_lives.data.toList.drop 46 = dktX6_lives_2 := dk_seg dksX6_lives_1 23 rfl rfl
theorem dksX6_lives_3 : cX6_lives.data.toList.drop 69 = dktX6_lives_3 := dk_seg dksX6_lives_2 23 rfl rfl
theorem dksX6_lives_4 : cX6_lives.data.toList.drop 93 = dktX6_lives_4 := dk_seg dksX6_lives_3 24 rfl rfl
theorem dksX6_lives_5 : cX6_lives.data.toList.drop 115 = dktX6_lives_5 := dk_seg dksX6_lives_4 22 rfl rfl
theorem dksX6_lives_6 : cX6_lives.data.toList.drop 139 = dktX6_lives_6 := dk_seg dksX6_lives_5 24 rfl rfl
theorem dksX6_lives_7 : cX6_lives.data.toList.drop 163 = dktX6_lives_7 := dk_seg dksX6_lives_6 24 rfl rfl
theorem dX6_lives_0 : decode cX6_lives 0 = .ok (.iconst 0, 1) := dk_3 (dk_at dksX6_lives_0 0 rfl rfl)
theorem dX6_lives_1 : decode cX6_lives 1 = .ok (.istore_n 1, 1) := dk_60 (dk_at dksX6_lives_0 1 rfl rfl)
theorem dX6_lives_2 : decode cX6_lives 2 = .ok (.iload_n 1, 1) := dk_27 (dk_at dksX6_lives_0 2 rfl rfl)
theorem dX6_lives_3 : decode cX6_lives 3 = .ok (.bipush 8, 2) := dk_16 8 (dk_at dksX6_lives_0 3 rfl rfl)
theorem dX6_lives_5 : decode cX6_lives 5 = .ok (.if_icmp .ge 37, 3) := dk_162 0 37 (dk_at dksX6_lives_0 5 rfl rfl)
theorem dX6_lives_8 : decode cX6_lives 8 = .ok (.aload_n 0, 1) := dk_42 (dk_at dksX6_lives_0 8 rfl rfl)
theorem dX6_lives_9 : decode cX6_lives 9 = .ok (.getfield 46, 3) := dk_180 0 46 (dk_at dksX6_lives_0 9 rfl rfl)
theorem dX6_lives_12 : decode cX6_lives 12 = .ok (.iload_n 1, 1) := dk_27 (dk_at dksX6_lives_0 12 rfl rfl)
theorem dX6_lives_13 : decode cX6_lives 13 = .ok (.iconst 0, 1) := dk_3 (dk_at dksX6_lives_0 13 rfl rfl)
theorem dX6_lives_14 : decode cX6_lives 14 = .ok (.iastore, 1) := dk_79 (dk_at dksX6_lives_0 14 rfl rfl)
theorem dX6_lives_15 : decode cX6_lives 15 = .ok (.aload_n 0, 1) := dk_42 (dk_at dksX6_lives_0 15 rfl rfl)
theorem dX6_lives_16 : decode cX6_lives 16 = .ok (.getfield 49, 3) := dk_180 0 49 (dk_at dksX6_lives_0 16 rfl rfl)
theorem dX6_lives_19 : decode cX6_lives 19 = .ok (.iload_n 1, 1) := dk_27 (dk_at dksX6_lives_0 19 rfl rfl)
theorem dX6_lives_20 : decode cX6_lives 20 = .ok (.iconst (-1), 1) := dk_2 (dk_at dksX6_lives_0 20 rfl rfl)
theorem dX6_lives_21 : decode cX6_lives 21 = .ok (.iastore, 1) := dk_79 (dk_at dksX6_lives_0 21 rfl rfl)
theorem dX6_lives_22 : decode cX6_lives 22 = .ok (.aload_n 0, 1) := dk_42 (dk_at dksX6_lives_0 22 rfl rfl)
theorem dX6_lives_23 : decode cX6_lives 23 = .ok (.getfield 61, 3) := dk_180 0 61 (dk_at dksX6_lives_1 0 rfl rfl)
theorem dX6_lives_26 : decode cX6_lives 26 = .ok (.iload_n 1, 1) := dk_27 (dk_at dksX6_lives_1 3 rfl rfl)
theorem dX6_lives_27 : decode cX6_lives 27 = .ok (.iconst (-1), 1) := dk_2 (dk_at dksX6_lives_1 4 rfl rfl)
theorem dX6_lives_28 : decode cX6_lives 28 = .ok (.iastore, 1) := dk_79 (dk_at dksX6_lives_1 5 rfl rfl)
theorem dX6_lives_29 : decode cX6_lives 29 = .ok (.aload_n 0, 1) := dk_42 (dk_at dksX6_lives_1 6 rfl rfl)
theorem dX6_lives_30 : decode cX6_lives 30 = .ok (.getfield 70, 3) := dk_180 0 70 (dk_at dksX6_lives_1 7 rfl rfl)
theorem dX6_lives_33 : decode cX6_lives 33 = .ok (.iload_n 1, 1) := dk_27 (dk_at dksX6_lives_1 10 rfl rfl)
theorem dX6_lives_34 : decode cX6_lives 34 = .ok (.iconst 0, 1) := dk_3 (dk_at dksX6_lives_1 11 rfl rfl)
theorem dX6_lives_35 : decode cX6_lives 35 = .ok (.iastore, 1) := dk_79 (dk_at dksX6_lives_1 12 rfl rfl)
theorem dX6_lives_36 : decode cX6_lives 36 = .ok (.iinc 1 1, 3) := dk_132 1 1 (dk_at dksX6_lives_1 13 rfl rfl)
theorem dX6_lives_39 : decode cX6_lives 39 = .ok (.goto (-37), 3) := dk_167 255 219 (dk_at dksX6_lives_1 16 rfl rfl)
theorem dX6_lives_42 : decode cX6_lives 42 = .ok (.iconst 0, 1) := dk_3 (dk_at dksX6_lives_1 19 rfl rfl)
theorem dX6_lives_43 : decode cX6_lives 43 = .ok (.istore_n 1, 1) := dk_60 (dk_at dksX6_lives_1 20 rfl rfl)
theorem dX6_lives_44 : decode cX6_lives 44 = .ok (.iload_n 1, 1) := dk_27 (dk_at dksX6_lives_1 21 rfl rfl)
theorem dX6_lives_45 : decode cX6_lives 45 = .ok (.aload_n 0, 1) := dk_42 (dk_at dksX6_lives_1 22 rfl rfl)
theorem dX6_lives_46 : decode cX6_lives 46 = .ok (.getfield 133, 3) := dk_180 0 133 (dk_at dksX6_lives_2 0 rfl rfl)
theorem dX6_lives_49 : decode cX6_lives 49 = .ok (.if_icmp .ge 51, 3) := dk_162 0 51 (dk_at dksX6_lives_2 3 rfl rfl)
theorem dX6_lives_52 : decode cX6_lives 52 = .ok (.aload_n 0, 1) := dk_42 (dk_at dksX6_lives_2 6 rfl rfl)
theorem dX6_lives_53 : decode cX6_lives 53 = .ok (.getfield 52, 3) := dk_180 0 52 (dk_at dksX6_lives_2 7 rfl rfl)
theorem dX6_lives_56 : decode cX6_lives 56 = .ok (.iload_n 1, 1) := dk_27 (dk_at dksX6_lives_2 10 rfl rfl)
theorem dX6_lives_57 : decode cX6_lives 57 = .ok (.aload_n 0, 1) := dk_42 (dk_at dksX6_lives_2 11 rfl rfl)
theorem dX6_lives_58 : decode cX6_lives 58 = .ok (.getfield 31, 3) := dk_180 0 31 (dk_at dksX6_lives_2 12 rfl rfl)
theorem dX6_lives_61 : decode cX6_lives 61 = .ok (.iconst 5, 1) := dk_8 (dk_at dksX6_lives_2 15 rfl rfl)
theorem dX6_lives_62 : decode cX6_lives 62 = .ok (.iload_n 1, 1) := dk_27 (dk_at dksX6_lives_2 16 rfl rfl)
theorem dX6_lives_63 : decode cX6_lives 63 = .ok (.imul, 1) := dk_104 (dk_at dksX6_lives_2 17 rfl rfl)
theorem dX6_lives_64 : decode cX6_lives 64 = .ok (.iconst 3, 1) := dk_6 (dk_at dksX6_lives_2 18 rfl rfl)
theorem dX6_lives_65 : decode cX6_lives 65 = .ok (.iadd, 1) := dk_96 (dk_at dksX6_lives_2 19 rfl rfl)
theorem dX6_lives_66 : decode cX6_lives 66 = .ok (.iaload, 1) := dk_46 (dk_at dksX6_lives_2 20 rfl rfl)
theorem dX6_lives_67 : decode cX6_lives 67 = .ok (.iastore, 1) := dk_79 (dk_at dksX6_lives_2 21 rfl rfl)
theorem dX6_lives_68 : decode cX6_lives 68 = .ok (.aload_n 0, 1) := dk_42 (dk_at dksX6_lives_2 22 rfl rfl)
theorem dX6_lives_69 : decode cX6_lives 69 = .ok (.getfield 55, 3) := dk_180 0 55 (dk_at dksX6_lives_3 0 rfl rfl)
theorem dX6_lives_72 : decode cX6_lives 72 = .ok (.iload_n 1, 1) := dk_27 (dk_at dksX6_lives_3 3 rfl rfl)
theorem dX6_lives_73 : decode cX6_lives 73 = .ok (.aload_n 0, 1) := dk_42 (dk_at dksX6_lives_3 4 rfl rfl)
theorem dX6_lives_74 : decode cX6_lives 74 = .ok (.getfield 31, 3) := dk_180 0 31 (dk_at dksX6_lives_3 5 rfl rfl)
theorem dX6_lives_77 : decode cX6_lives 77 = .ok (.iconst 5, 1) := dk_8 (dk_at dksX6_lives_3 8 rfl rfl)
theorem dX6_lives_78 : decode cX6_lives 78 = .ok (.iload_n 1, 1) := dk_27 (dk_at dksX6_lives_3 9 rfl rfl)
theorem dX6_lives_79 : decode cX6_lives 79 = .ok (.imul, 1) := dk_104 (dk_at dksX6_lives_3 10 rfl rfl)
theorem dX6_lives_80 : decode cX6_lives 80 = .ok (.iaload, 1) := dk_46 (dk_at dksX6_lives_3 11 rfl rfl)
theorem dX6_lives_81 : decode cX6_lives 81 = .ok (.iastore, 1) := dk_79 (dk_at dksX6_lives_3 12 rfl rfl)
theorem dX6_lives_82 : decode cX6_lives 82 = .ok (.aload_n 0, 1) := dk_42 (dk_at dksX6_lives_3 13 rfl rfl)
theorem dX6_lives_83 : decode cX6_lives 83 = .ok (.getfield 58, 3) := dk_180 0 58 (dk_at dksX6_lives_3 14 rfl rfl)
theorem dX6_lives_86 : decode cX6_lives 86 = .ok (.iload_n 1, 1) := dk_27 (dk_at dksX6_lives_3 17 rfl rfl)
theorem dX6_lives_87 : decode cX6_lives 87 = .ok (.aload_n 0, 1) := dk_42 (dk_at dksX6_lives_3 18 rfl rfl)
theorem dX6_lives_88 : decode cX6_lives 88 = .ok (.getfield 34, 3) := dk_180 0 34 (dk_at dksX6_lives_3 19 rfl rfl)
theorem dX6_lives_91 : decode cX6_lives 91 = .ok (.iload_n 1, 1) := dk_27 (dk_at dksX6_lives_3 22 rfl rfl)
theorem dX6_lives_92 : decode cX6_lives 92 = .ok (.iaload, 1) := dk_46 (dk_at dksX6_lives_3 23 rfl rfl)
theorem dX6_lives_93 : decode cX6_lives 93 = .ok (.iastore, 1) := dk_79 (dk_at dksX6_lives_4 0 rfl rfl)
theorem dX6_lives_94 : decode cX6_lives 94 = .ok (.iinc 1 1, 3) := dk_132 1 1 (dk_at dksX6_lives_4 1 rfl rfl)
theorem dX6_lives_97 : decode cX6_lives 97 = .ok (.goto (-53), 3) := dk_167 255 203 (dk_at dksX6_lives_4 4 rfl rfl)
theorem dX6_lives_100 : decode cX6_lives 100 = .ok (.aload_n 0, 1) := dk_42 (dk_at dksX6_lives_4 7 rfl rfl)
theorem dX6_lives_101 : decode cX6_lives 101 = .ok (.iconst (-1), 1) := dk_2 (dk_at dksX6_lives_4 8 rfl rfl)
theorem dX6_lives_102 : decode cX6_lives 102 = .ok (.putfield 195, 3) := dk_181 0 195 (dk_at dksX6_lives_4 9 rfl rfl)
theorem dX6_lives_105 : decode cX6_lives 105 = .ok (.aload_n 0, 1) := dk_42 (dk_at dksX6_lives_4 12 rfl rfl)
theorem dX6_lives_106 : decode cX6_lives 106 = .ok (.iconst (-1), 1) := dk_2 (dk_at dksX6_lives_4 13 rfl rfl)
theorem dX6_lives_107 : decode cX6_lives 107 = .ok (.putfield 198, 3) := dk_181 0 198 (dk_at dksX6_lives_4 14 rfl rfl)
theorem dX6_lives_110 : decode cX6_lives 110 = .ok (.iconst 0, 1) := dk_3 (dk_at dksX6_lives_4 17 rfl rfl)
theorem dX6_lives_111 : decode cX6_lives 111 = .ok (.istore_n 1, 1) := dk_60 (dk_at dksX6_lives_4 18 rfl rfl)
theorem dX6_lives_112 : decode cX6_lives 112 = .ok (.iload_n 1, 1) := dk_27 (dk_at dksX6_lives_4 19 rfl rfl)
theorem dX6_lives_113 : decode cX6_lives 113 = .ok (.bipush 40, 2) := dk_16 40 (dk_at dksX6_lives_4 20 rfl rfl)
theorem dX6_lives_115 : decode cX6_lives 115 = .ok (.if_icmp .ge 51, 3) := dk_162 0 51 (dk_at dksX6_lives_5 0 rfl rfl)
theorem dX6_lives_118 : decode cX6_lives 118 = .ok (.aload_n 0, 1) := dk_42 (dk_at dksX6_lives_5 3 rfl rfl)
theorem dX6_lives_119 : decode cX6_lives 119 = .ok (.iload_n 1, 1) := dk_27 (dk_at dksX6_lives_5 4 rfl rfl)
theorem dX6_lives_120 : decode cX6_lives 120 = .ok (.invokevirtual 201, 3) := dk_182 0 201 (dk_at dksX6_lives_5 5 rfl rfl)
theorem dX6_lives_123 : decode cX6_lives 123 = .ok (.iconst 0, 1) := dk_3 (dk_at dksX6_lives_5 8 rfl rfl)
theorem dX6_lives_124 : decode cX6_lives 124 = .ok (.istore_n 2, 1) := dk_61 (dk_at dksX6_lives_5 9 rfl rfl)
theorem dX6_lives_125 : decode cX6_lives 125 = .ok (.iload_n 2, 1) := dk_28 (dk_at dksX6_lives_5 10 rfl rfl)
theorem dX6_lives_126 : decode cX6_lives 126 = .ok (.aload_n 0, 1) := dk_42 (dk_at dksX6_lives_5 11 rfl rfl)
theorem dX6_lives_127 : decode cX6_lives 127 = .ok (.getfield 133, 3) := dk_180 0 133 (dk_at dksX6_lives_5 12 rfl rfl)
theorem dX6_lives_130 : decode cX6_lives 130 = .ok (.if_icmp .ge 25, 3) := dk_162 0 25 (dk_at dksX6_lives_5 15 rfl rfl)
theorem dX6_lives_133 : decode cX6_lives 133 = .ok (.aload_n 0, 1) := dk_42 (dk_at dksX6_lives_5 18 rfl rfl)
theorem dX6_lives_134 : decode cX6_lives 134 = .ok (.getfield 58, 3) := dk_180 0 58 (dk_at dksX6_lives_5 19 rfl rfl)
theorem dX6_lives_137 : decode cX6_lives 137 = .ok (.iload_n 2, 1) := dk_28 (dk_at dksX6_lives_5 22 rfl rfl)
theorem dX6_lives_138 : decode cX6_lives 138 = .ok (.iaload, 1) := dk_46 (dk_at dksX6_lives_5 23 rfl rfl)
theorem dX6_lives_139 : decode cX6_lives 139 = .ok (.iload_n 1, 1) := dk_27 (dk_at dksX6_lives_6 0 rfl rfl)
theorem dX6_lives_140 : decode cX6_lives 140 = .ok (.if_icmp .ne 9, 3) := dk_160 0 9 (dk_at dksX6_lives_6 1 rfl rfl)
theorem dX6_lives_143 : decode cX6_lives 143 = .ok (.aload_n 0, 1) := dk_42 (dk_at dksX6_lives_6 4 rfl rfl)
theorem dX6_lives_144 : decode cX6_lives 144 = .ok (.iload_n 2, 1) := dk_28 (dk_at dksX6_lives_6 5 rfl rfl)
theorem dX6_lives_145 : decode cX6_lives 145 = .ok (.iload_n 1, 1) := dk_27 (dk_at dksX6_lives_6 6 rfl rfl)
theorem dX6_lives_146 : decode cX6_lives 146 = .ok (.invokevirtual 205, 3) := dk_182 0 205 (dk_at dksX6_lives_6 7 rfl rfl)
theorem dX6_lives_149 : decode cX6_lives 149 = .ok (.iinc 2 1, 3) := dk_132 2 1 (dk_at dksX6_lives_6 10 rfl rfl)
theorem dX6_lives_152 : decode cX6_lives 152 = .ok (.goto (-27), 3) := dk_167 255 229 (dk_at dksX6_lives_6 13 rfl rfl)
theorem dX6_lives_155 : decode cX6_lives 155 = .ok (.aload_n 0, 1) := dk_42 (dk_at dksX6_lives_6 16 rfl rfl)
theorem dX6_lives_156 : decode cX6_lives 156 = .ok (.iload_n 1, 1) := dk_27 (dk_at dksX6_lives_6 17 rfl rfl)
theorem dX6_lives_157 : decode cX6_lives 157 = .ok (.invokevirtual 209, 3) := dk_182 0 209 (dk_at dksX6_lives_6 18 rfl rfl)
theorem dX6_lives_160 : decode cX6_lives 160 = .ok (.iinc 1 1, 3) := dk_132 1 1 (dk_at dksX6_lives_6 21 rfl rfl)
theorem dX6_lives_163 : decode cX6_lives 163 = .ok (.goto (-51), 3) := dk_167 255 205 (dk_at dksX6_lives_7 0 rfl rfl)
theorem dX6_lives_166 : decode cX6_lives 166 = .ok (.return_, 1) := dk_177 (dk_at dksX6_lives_7 3 rfl rfl)
abbrev cX6_gathers : ByteArray := prog_8_method_46_code
def yX6_gathers : MethodName := ⟨RX6, "gathers", "(I)V"⟩
def dkwX6_gathers_7 : List UInt8 := [180, 0, 198, 181, 0, 198, 132, 2, 255, 167, 255, 185, 177]
abbrev dktX6_gathers_7 : List UInt8 := dkwX6_gathers_7 ++ []
def dkwX6_gathers_6 : List UInt8 := [153, 0, 7, 27, 167, 0, 7, 42, 180, 0, 195, 181, 0, 195, 42, 29, 153, 0, 7, 28, 167, 0, 7, 42]
abbrev dktX6_gathers_6 : List UInt8 := dkwX6_gathers_6 ++ dktX6_gathers_7
def dkwX6_gathers_5 : List UInt8 := [180, 0, 195, 2, 159, 0, 11, 42, 180, 0, 195, 27, 160, 0, 7, 4, 167, 0, 4, 3, 62, 42, 29]
abbrev dktX6_gathers_5 : List UInt8 := dkwX6_gathers_5 ++ dktX6_gathers_6
def dkwX6_gathers_4 : List UInt8 := [132, 2, 1, 167, 255, 183, 16, 7, 61, 28, 155, 0, 73, 42, 180, 0, 67, 28, 46, 4, 164, 0, 23, 42]
abbrev dktX6_gathers_4 : List UInt8 := dkwX6_gathers_4 ++ dktX6_gathers_5
def dkwX6_gathers_3 : List UInt8 := [180, 0, 49, 28, 46, 2, 159, 0, 18, 42, 180, 0, 67, 42, 180, 0, 49, 28, 46, 92, 46, 4, 96, 79]
abbrev dktX6_gathers_3 : List UInt8 := dkwX6_gathers_3 ++ dktX6_gathers_4
def dkwX6_gathers_2 : List UInt8 := [180, 0, 55, 28, 46, 79, 42, 180, 0, 70, 42, 180, 0, 49, 28, 46, 92, 46, 4, 96, 79, 42]
abbrev dktX6_gathers_2 : List UInt8 := dkwX6_gathers_2 ++ dktX6_gathers_3
def dkwX6_gathers_1 : List UInt8 := [42, 180, 0, 133, 162, 0, 71, 42, 180, 0, 58, 28, 46, 27, 160, 0, 30, 42, 180, 0, 49, 28, 42]
abbrev dktX6_gathers_1 : List UInt8 := dkwX6_gathers_1 ++ dktX6_gathers_2
def dkwX6_gathers_0 : List UInt8 := [3, 61, 28, 16, 8, 162, 0, 16, 42, 180, 0, 67, 28, 3, 79, 132, 2, 1, 167, 255, 240, 3, 61, 28]
abbrev dktX6_gathers_0 : List UInt8 := dkwX6_gathers_0 ++ dktX6_gathers_1
theorem dksX6_gathers_0 : cX6_gathers.data.toList.drop 0 = dktX6_gathers_0 := by decide +kernel
theorem dksX6_gathers_1 : cX6_gathers.data.toList.drop 24 = dktX6_gathers_1 := dk_seg dksX6_gathers_0 24 rfl rfl
theorem dksX6_gathers_2 : cX6_gathers.data.toList.drop 47 = dktX6_gathers_2 := dk_seg dksX6_gathers_1 23 rfl rfl
theorem dksX6_gathers_3 : cX6_gathers.data.toList.drop 69 = dktX6_gathers_3 := dk_seg dksX6_gathers_2 22 rfl rfl
theorem dksX6_gathers_4 : cX6_gathers.data.toList.drop 93 = dktX6_gathers_4 := dk_seg dksX6_gathers_3 24 rfl rfl
theorem dksX6_gathers_5 : cX6_gathers.data.toList.drop 117 = dktX6_gathers_5 := dk_seg dksX6_gathers_4 24 rfl rfl
theorem dksX6_gathers_6 : cX6_gathers.data.toList.drop 140 = dktX6_gathers_6 := dk_seg dksX6_gathers_5 23 rfl rfl
theorem dksX6_gathers_7 : cX6_gathers.data.toList.drop 164 = dktX6_gathers_7 := dk_seg dksX6_gathers_6 24 rfl rfl
theorem dX6_gathers_0 : decode cX6_gathers 0 = .ok (.iconst 0, 1) := dk_3 (dk_at dksX6_gathers_0 0 rfl rfl)
theorem dX6_gathers_1 : decode cX6_gathers 1 = .ok (.istore_n 2, 1) := dk_61 (dk_at dksX6_gathers_0 1 rfl rfl)
theorem dX6_gathers_2 : decode cX6_gathers 2 = .ok (.iload_n 2, 1) := dk_28 (dk_at dksX6_gathers_0 2 rfl rfl)
theorem dX6_gathers_3 : decode cX6_gathers 3 = .ok (.bipush 8, 2) := dk_16 8 (dk_at dksX6_gathers_0 3 rfl rfl)
theorem dX6_gathers_5 : decode cX6_gathers 5 = .ok (.if_icmp .ge 16, 3) := dk_162 0 16 (dk_at dksX6_gathers_0 5 rfl rfl)
theorem dX6_gathers_8 : decode cX6_gathers 8 = .ok (.aload_n 0, 1) := dk_42 (dk_at dksX6_gathers_0 8 rfl rfl)
theorem dX6_gathers_9 : decode cX6_gathers 9 = .ok (.getfield 67, 3) := dk_180 0 67 (dk_at dksX6_gathers_0 9 rfl rfl)
theorem dX6_gathers_12 : decode cX6_gathers 12 = .ok (.iload_n 2, 1) := dk_28 (dk_at dksX6_gathers_0 12 rfl rfl)
theorem dX6_gathers_13 : decode cX6_gathers 13 = .ok (.iconst 0, 1) := dk_3 (dk_at dksX6_gathers_0 13 rfl rfl)
theorem dX6_gathers_14 : decode cX6_gathers 14 = .ok (.iastore, 1) := dk_79 (dk_at dksX6_gathers_0 14 rfl rfl)
theorem dX6_gathers_15 : decode cX6_gathers 15 = .ok (.iinc 2 1, 3) := dk_132 2 1 (dk_at dksX6_gathers_0 15 rfl rfl)
theorem dX6_gathers_18 : decode cX6_gathers 18 = .ok (.goto (-16), 3) := dk_167 255 240 (dk_at dksX6_gathers_0 18 rfl rfl)
theorem dX6_gathers_21 : decode cX6_gathers 21 = .ok (.iconst 0, 1) := dk_3 (dk_at dksX6_gathers_0 21 rfl rfl)
theorem dX6_gathers_22 : decode cX6_gathers 22 = .ok (.istore_n 2, 1) := dk_61 (dk_at dksX6_gathers_0 22 rfl rfl)
theorem dX6_gathers_23 : decode cX6_gathers 23 = .ok (.iload_n 2, 1) := dk_28 (dk_at dksX6_gathers_0 23 rfl rfl)
theorem dX6_gathers_24 : decode cX6_gathers 24 = .ok (.aload_n 0, 1) := dk_42 (dk_at dksX6_gathers_1 0 rfl rfl)
theorem dX6_gathers_25 : decode cX6_gathers 25 = .ok (.getfield 133, 3) := dk_180 0 133 (dk_at dksX6_gathers_1 1 rfl rfl)
theorem dX6_gathers_28 : decode cX6_gathers 28 = .ok (.if_icmp .ge 71, 3) := dk_162 0 71 (dk_at dksX6_gathers_1 4 rfl rfl)
theorem dX6_gathers_31 : decode cX6_gathers 31 = .ok (.aload_n 0, 1) := dk_42 (dk_at dksX6_gathers_1 7 rfl rfl)
theorem dX6_gathers_32 : decode cX6_gathers 32 = .ok (.getfield 58, 3) := dk_180 0 58 (dk_at dksX6_gathers_1 8 rfl rfl)
theorem dX6_gathers_35 : decode cX6_gathers 35 = .ok (.iload_n 2, 1) := dk_28 (dk_at dksX6_gathers_1 11 rfl rfl)
theorem dX6_gathers_36 : decode cX6_gathers 36 = .ok (.iaload, 1) := dk_46 (dk_at dksX6_gathers_1 12 rfl rfl)
theorem dX6_gathers_37 : decode cX6_gathers 37 = .ok (.iload_n 1, 1) := dk_27 (dk_at dksX6_gathers_1 13 rfl rfl)
theorem dX6_gathers_38 : decode cX6_gathers 38 = .ok (.if_icmp .ne 30, 3) := dk_160 0 30 (dk_at dksX6_gathers_1 14 rfl rfl)
theorem dX6_gathers_41 : decode cX6_gathers 41 = .ok (.aload_n 0, 1) := dk_42 (dk_at dksX6_gathers_1 17 rfl rfl)
theorem dX6_gathers_42 : decode cX6_gathers 42 = .ok (.getfield 49, 3) := dk_180 0 49 (dk_at dksX6_gathers_1 18 rfl rfl)
theorem dX6_gathers_45 : decode cX6_gathers 45 = .ok (.iload_n 2, 1) := dk_28 (dk_at dksX6_gathers_1 21 rfl rfl)
theorem dX6_gathers_46 : decode cX6_gathers 46 = .ok (.aload_n 0, 1) := dk_42 (dk_at dksX6_gathers_1 22 rfl rfl)
theorem dX6_gathers_47 : decode cX6_gathers 47 = .ok (.getfield 55, 3) := dk_180 0 55 (dk_at dksX6_gathers_2 0 rfl rfl)
theorem dX6_gathers_50 : decode cX6_gathers 50 = .ok (.iload_n 2, 1) := dk_28 (dk_at dksX6_gathers_2 3 rfl rfl)
theorem dX6_gathers_51 : decode cX6_gathers 51 = .ok (.iaload, 1) := dk_46 (dk_at dksX6_gathers_2 4 rfl rfl)
theorem dX6_gathers_52 : decode cX6_gathers 52 = .ok (.iastore, 1) := dk_79 (dk_at dksX6_gathers_2 5 rfl rfl)
theorem dX6_gathers_53 : decode cX6_gathers 53 = .ok (.aload_n 0, 1) := dk_42 (dk_at dksX6_gathers_2 6 rfl rfl)
theorem dX6_gathers_54 : decode cX6_gathers 54 = .ok (.getfield 70, 3) := dk_180 0 70 (dk_at dksX6_gathers_2 7 rfl rfl)
theorem dX6_gathers_57 : decode cX6_gathers 57 = .ok (.aload_n 0, 1) := dk_42 (dk_at dksX6_gathers_2 10 rfl rfl)
theorem dX6_gathers_58 : decode cX6_gathers 58 = .ok (.getfield 49, 3) := dk_180 0 49 (dk_at dksX6_gathers_2 11 rfl rfl)
theorem dX6_gathers_61 : decode cX6_gathers 61 = .ok (.iload_n 2, 1) := dk_28 (dk_at dksX6_gathers_2 14 rfl rfl)
theorem dX6_gathers_62 : decode cX6_gathers 62 = .ok (.iaload, 1) := dk_46 (dk_at dksX6_gathers_2 15 rfl rfl)
theorem dX6_gathers_63 : decode cX6_gathers 63 = .ok (.dup2, 1) := dk_92 (dk_at dksX6_gathers_2 16 rfl rfl)
theorem dX6_gathers_64 : decode cX6_gathers 64 = .ok (.iaload, 1) := dk_46 (dk_at dksX6_gathers_2 17 rfl rfl)
theorem dX6_gathers_65 : decode cX6_gathers 65 = .ok (.iconst 1, 1) := dk_4 (dk_at dksX6_gathers_2 18 rfl rfl)
theorem dX6_gathers_66 : decode cX6_gathers 66 = .ok (.iadd, 1) := dk_96 (dk_at dksX6_gathers_2 19 rfl rfl)
theorem dX6_gathers_67 : decode cX6_gathers 67 = .ok (.iastore, 1) := dk_79 (dk_at dksX6_gathers_2 20 rfl rfl)
theorem dX6_gathers_68 : decode cX6_gathers 68 = .ok (.aload_n 0, 1) := dk_42 (dk_at dksX6_gathers_2 21 rfl rfl)
theorem dX6_gathers_69 : decode cX6_gathers 69 = .ok (.getfield 49, 3) := dk_180 0 49 (dk_at dksX6_gathers_3 0 rfl rfl)
theorem dX6_gathers_72 : decode cX6_gathers 72 = .ok (.iload_n 2, 1) := dk_28 (dk_at dksX6_gathers_3 3 rfl rfl)
theorem dX6_gathers_73 : decode cX6_gathers 73 = .ok (.iaload, 1) := dk_46 (dk_at dksX6_gathers_3 4 rfl rfl)
theorem dX6_gathers_74 : decode cX6_gathers 74 = .ok (.iconst (-1), 1) := dk_2 (dk_at dksX6_gathers_3 5 rfl rfl)
theorem dX6_gathers_75 : decode cX6_gathers 75 = .ok (.if_icmp .eq 18, 3) := dk_159 0 18 (dk_at dksX6_gathers_3 6 rfl rfl)
theorem dX6_gathers_78 : decode cX6_gathers 78 = .ok (.aload_n 0, 1) := dk_42 (dk_at dksX6_gathers_3 9 rfl rfl)
theorem dX6_gathers_79 : decode cX6_gathers 79 = .ok (.getfield 67, 3) := dk_180 0 67 (dk_at dksX6_gathers_3 10 rfl rfl)
theorem dX6_gathers_82 : decode cX6_gathers 82 = .ok (.aload_n 0, 1) := dk_42 (dk_at dksX6_gathers_3 13 rfl rfl)
theorem dX6_gathers_83 : decode cX6_gathers 83 = .ok (.getfield 49, 3) := dk_180 0 49 (dk_at dksX6_gathers_3 14 rfl rfl)
theorem dX6_gathers_86 : decode cX6_gathers 86 = .ok (.iload_n 2, 1) := dk_28 (dk_at dksX6_gathers_3 17 rfl rfl)
theorem dX6_gathers_87 : decode cX6_gathers 87 = .ok (.iaload, 1) := dk_46 (dk_at dksX6_gathers_3 18 rfl rfl)
theorem dX6_gathers_88 : decode cX6_gathers 88 = .ok (.dup2, 1) := dk_92 (dk_at dksX6_gathers_3 19 rfl rfl)
theorem dX6_gathers_89 : decode cX6_gathers 89 = .ok (.iaload, 1) := dk_46 (dk_at dksX6_gathers_3 20 rfl rfl)
theorem dX6_gathers_90 : decode cX6_gathers 90 = .ok (.iconst 1, 1) := dk_4 (dk_at dksX6_gathers_3 21 rfl rfl)
theorem dX6_gathers_91 : decode cX6_gathers 91 = .ok (.iadd, 1) := dk_96 (dk_at dksX6_gathers_3 22 rfl rfl)
theorem dX6_gathers_92 : decode cX6_gathers 92 = .ok (.iastore, 1) := dk_79 (dk_at dksX6_gathers_3 23 rfl rfl)
theorem dX6_gathers_93 : decode cX6_gathers 93 = .ok (.iinc 2 1, 3) := dk_132 2 1 (dk_at dksX6_gathers_4 0 rfl rfl)
theorem dX6_gathers_96 : decode cX6_gathers 96 = .ok (.goto (-73), 3) := dk_167 255 183 (dk_at dksX6_gathers_4 3 rfl rfl)
theorem dX6_gathers_99 : decode cX6_gathers 99 = .ok (.bipush 7, 2) := dk_16 7 (dk_at dksX6_gathers_4 6 rfl rfl)
theorem dX6_gathers_101 : decode cX6_gathers 101 = .ok (.istore_n 2, 1) := dk_61 (dk_at dksX6_gathers_4 8 rfl rfl)
theorem dX6_gathers_102 : decode cX6_gathers 102 = .ok (.iload_n 2, 1) := dk_28 (dk_at dksX6_gathers_4 9 rfl rfl)
theorem dX6_gathers_103 : decode cX6_gathers 103 = .ok (.ifCond .lt 73, 3) := dk_155 0 73 (dk_at dksX6_gathers_4 10 rfl rfl)
theorem dX6_gathers_106 : decode cX6_gathers 106 = .ok (.aload_n 0, 1) := dk_42 (dk_at dksX6_gathers_4 13 rfl rfl)
theorem dX6_gathers_107 : decode cX6_gathers 107 = .ok (.getfield 67, 3) := dk_180 0 67 (dk_at dksX6_gathers_4 14 rfl rfl)
theorem dX6_gathers_110 : decode cX6_gathers 110 = .ok (.iload_n 2, 1) := dk_28 (dk_at dksX6_gathers_4 17 rfl rfl)
theorem dX6_gathers_111 : decode cX6_gathers 111 = .ok (.iaload, 1) := dk_46 (dk_at dksX6_gathers_4 18 rfl rfl)
theorem dX6_gathers_112 : decode cX6_gathers 112 = .ok (.iconst 1, 1) := dk_4 (dk_at dksX6_gathers_4 19 rfl rfl)
theorem dX6_gathers_113 : decode cX6_gathers 113 = .ok (.if_icmp .le 23, 3) := dk_164 0 23 (dk_at dksX6_gathers_4 20 rfl rfl)
theorem dX6_gathers_116 : decode cX6_gathers 116 = .ok (.aload_n 0, 1) := dk_42 (dk_at dksX6_gathers_4 23 rfl rfl)
theorem dX6_gathers_117 : decode cX6_gathers 117 = .ok (.getfield 195, 3) := dk_180 0 195 (dk_at dksX6_gathers_5 0 rfl rfl)
theorem dX6_gathers_120 : decode cX6_gathers 120 = .ok (.iconst (-1), 1) := dk_2 (dk_at dksX6_gathers_5 3 rfl rfl)
theorem dX6_gathers_121 : decode cX6_gathers 121 = .ok (.if_icmp .eq 11, 3) := dk_159 0 11 (dk_at dksX6_gathers_5 4 rfl rfl)
theorem dX6_gathers_124 : decode cX6_gathers 124 = .ok (.aload_n 0, 1) := dk_42 (dk_at dksX6_gathers_5 7 rfl rfl)
theorem dX6_gathers_125 : decode cX6_gathers 125 = .ok (.getfield 195, 3) := dk_180 0 195 (dk_at dksX6_gathers_5 8 rfl rfl)
theorem dX6_gathers_128 : decode cX6_gathers 128 = .ok (.iload_n 1, 1) := dk_27 (dk_at dksX6_gathers_5 11 rfl rfl)
theorem dX6_gathers_129 : decode cX6_gathers 129 = .ok (.if_icmp .ne 7, 3) := dk_160 0 7 (dk_at dksX6_gathers_5 12 rfl rfl)
theorem dX6_gathers_132 : decode cX6_gathers 132 = .ok (.iconst 1, 1) := dk_4 (dk_at dksX6_gathers_5 15 rfl rfl)
theorem dX6_gathers_133 : decode cX6_gathers 133 = .ok (.goto 4, 3) := dk_167 0 4 (dk_at dksX6_gathers_5 16 rfl rfl)
theorem dX6_gathers_136 : decode cX6_gathers 136 = .ok (.iconst 0, 1) := dk_3 (dk_at dksX6_gathers_5 19 rfl rfl)
theorem dX6_gathers_137 : decode cX6_gathers 137 = .ok (.istore_n 3, 1) := dk_62 (dk_at dksX6_gathers_5 20 rfl rfl)
theorem dX6_gathers_138 : decode cX6_gathers 138 = .ok (.aload_n 0, 1) := dk_42 (dk_at dksX6_gathers_5 21 rfl rfl)
theorem dX6_gathers_139 : decode cX6_gathers 139 = .ok (.iload_n 3, 1) := dk_29 (dk_at dksX6_gathers_5 22 rfl rfl)
theorem dX6_gathers_140 : decode cX6_gathers 140 = .ok (.ifCond .eq 7, 3) := dk_153 0 7 (dk_at dksX6_gathers_6 0 rfl rfl)
theorem dX6_gathers_143 : decode cX6_gathers 143 = .ok (.iload_n 1, 1) := dk_27 (dk_at dksX6_gathers_6 3 rfl rfl)
theorem dX6_gathers_144 : decode cX6_gathers 144 = .ok (.goto 7, 3) := dk_167 0 7 (dk_at dksX6_gathers_6 4 rfl rfl)
theorem dX6_gathers_147 : decode cX6_gathers 147 = .ok (.aload_n 0, 1) := dk_42 (dk_at dksX6_gathers_6 7 rfl rfl)
theorem dX6_gathers_148 : decode cX6_gathers 148 = .ok (.getfield 195, 3) := dk_180 0 195 (dk_at dksX6_gathers_6 8 rfl rfl)
theorem dX6_gathers_151 : decode cX6_gathers 151 = .ok (.putfield 195, 3) := dk_181 0 195 (dk_at dksX6_gathers_6 11 rfl rfl)
theorem dX6_gathers_154 : decode cX6_gathers 154 = .ok (.aload_n 0, 1) := dk_42 (dk_at dksX6_gathers_6 14 rfl rfl)
theorem dX6_gathers_155 : decode cX6_gathers 155 = .ok (.iload_n 3, 1) := dk_29 (dk_at dksX6_gathers_6 15 rfl rfl)
theorem dX6_gathers_156 : decode cX6_gathers 156 = .ok (.ifCond .eq 7, 3) := dk_153 0 7 (dk_at dksX6_gathers_6 16 rfl rfl)
theorem dX6_gathers_159 : decode cX6_gathers 159 = .ok (.iload_n 2, 1) := dk_28 (dk_at dksX6_gathers_6 19 rfl rfl)
theorem dX6_gathers_160 : decode cX6_gathers 160 = .ok (.goto 7, 3) := dk_167 0 7 (dk_at dksX6_gathers_6 20 rfl rfl)
theorem dX6_gathers_163 : decode cX6_gathers 163 = .ok (.aload_n 0, 1) := dk_42 (dk_at dksX6_gathers_6 23 rfl rfl)
theorem dX6_gathers_164 : decode cX6_gathers 164 = .ok (.getfield 198, 3) := dk_180 0 198 (dk_at dksX6_gathers_7 0 rfl rfl)
theorem dX6_gathers_167 : decode cX6_gathers 167 = .ok (.putfield 198, 3) := dk_181 0 198 (dk_at dksX6_gathers_7 3 rfl rfl)
theorem dX6_gathers_170 : decode cX6_gathers 170 = .ok (.iinc 2 (-1), 3) := dk_132 2 255 (dk_at dksX6_gathers_7 6 rfl rfl)
theorem dX6_gathers_173 : decode cX6_gathers 173 = .ok (.goto (-71), 3) := dk_167 255 185 (dk_at dksX6_gathers_7 9 rfl rfl)
theorem dX6_gathers_176 : decode cX6_gathers 176 = .ok (.return_, 1) := dk_177 (dk_at dksX6_gathers_7 12 rfl rfl)
abbrev cX6_goesOn : ByteArray := prog_8_method_45_code
def yX6_goesOn : MethodName := ⟨RX6, "goesOn", "(II)V"⟩
def dkwX6_goesOn_8 : List UInt8 := [96, 46, 96, 79, 177]
abbrev dktX6_goesOn_8 : List UInt8 := dkwX6_goesOn_8 ++ []
def dkwX6_goesOn_7 : List UInt8 := [42, 180, 0, 55, 27, 21, 5, 79, 42, 180, 0, 58, 27, 28, 42, 180, 0, 40, 16, 8, 29, 104, 21, 5]
abbrev dktX6_goesOn_7 : List UInt8 := dkwX6_goesOn_7 ++ dktX6_goesOn_8
def dkwX6_goesOn_6 : List UInt8 := [180, 0, 52, 27, 92, 46, 21, 6, 100, 79, 42, 180, 0, 46, 27, 4, 79, 42, 180, 0, 49, 27, 2, 79]
abbrev dktX6_goesOn_6 : List UInt8 := dkwX6_goesOn_6 ++ dktX6_goesOn_7
def dkwX6_goesOn_5 : List UInt8 := [42, 180, 0, 52, 27, 46, 21, 6, 162, 0, 13, 42, 27, 28, 7, 182, 0, 184, 167, 0, 56, 42]
abbrev dktX6_goesOn_5 : List UInt8 := dkwX6_goesOn_5 ++ dktX6_goesOn_6
def dkwX6_goesOn_4 : List UInt8 := [180, 0, 40, 16, 8, 29, 104, 21, 5, 96, 46, 42, 180, 0, 31, 8, 27, 104, 7, 96, 46, 96, 54, 6]
abbrev dktX6_goesOn_4 : List UInt8 := dkwX6_goesOn_4 ++ dktX6_goesOn_5
def dkwX6_goesOn_3 : List UInt8 := [161, 0, 13, 42, 27, 28, 8, 182, 0, 184, 167, 0, 111, 42, 29, 21, 4, 182, 0, 192, 54, 5, 42]
abbrev dktX6_goesOn_3 : List UInt8 := dkwX6_goesOn_3 ++ dktX6_goesOn_4
def dkwX6_goesOn_2 : List UInt8 := [27, 28, 6, 182, 0, 184, 167, 0, 139, 42, 180, 0, 43, 16, 8, 29, 104, 21, 4, 96, 46, 17, 39, 15]
abbrev dktX6_goesOn_2 : List UInt8 := dkwX6_goesOn_2 ++ dktX6_goesOn_3
def dkwX6_goesOn_1 : List UInt8 := [160, 0, 13, 42, 27, 28, 5, 182, 0, 184, 167, 0, 159, 42, 27, 28, 29, 182, 0, 188, 153, 0, 13, 42]
abbrev dktX6_goesOn_1 : List UInt8 := dkwX6_goesOn_1 ++ dktX6_goesOn_2
def dkwX6_goesOn_0 : List UInt8 := [42, 180, 0, 49, 27, 46, 62, 42, 180, 0, 31, 8, 27, 104, 4, 96, 46, 54, 4, 29, 21, 4]
abbrev dktX6_goesOn_0 : List UInt8 := dkwX6_goesOn_0 ++ dktX6_goesOn_1
theorem dksX6_goesOn_0 : cX6_goesOn.data.toList.drop 0 = dktX6_goesOn_0 := by decide +kernel
theorem dksX6_goesOn_1 : cX6_goesOn.data.toList.drop 22 = dktX6_goesOn_1 := dk_seg dksX6_goesOn_0 22 rfl rfl
theorem dksX6_goesOn_2 : cX6_goesOn.data.toList.drop 46 = dktX6_goesOn_2 := dk_seg dksX6_goesOn_1 24 rfl rfl
theorem dksX6_goesOn_3 : cX6_goesOn.data.toList.drop 70 = dktX6_goesOn_3 := dk_seg dksX6_goesOn_2 24 rfl rfl
theorem dksX6_goesOn_4 : cX6_goesOn.data.toList.drop 93 = dktX6_goesOn_4 := dk_seg dksX6_goesOn_3 23 rfl rfl
theorem dksX6_goesOn_5 : cX6_goesOn.data.toList.drop 117 = dktX6_goesOn_5 := dk_seg dksX6_goesOn_4 24 rfl rfl
theorem dksX6_goesOn_6 : cX6_goesOn.data.toList.drop 139 = dktX6_goesOn_6 := dk_seg dksX6_goesOn_5 22 rfl rfl
theorem dksX6_goesOn_7 : cX6_goesOn.data.toList.drop 163 = dktX6_goesOn_7 := dk_seg dksX6_goesOn_6 24 rfl rfl
theorem dksX6_goesOn_8 : cX6_goesOn.data.toList.drop 187 = dktX6_goesOn_8 := dk_seg dksX6_goesOn_7 24 rfl rfl
theorem dX6_goesOn_0 : decode cX6_goesOn 0 = .ok (.aload_n 0, 1) := dk_42 (dk_at dksX6_goesOn_0 0 rfl rfl)
theorem dX6_goesOn_1 : decode cX6_goesOn 1 = .ok (.getfield 49, 3) := dk_180 0 49 (dk_at dksX6_goesOn_0 1 rfl rfl)
theorem dX6_goesOn_4 : decode cX6_goesOn 4 = .ok (.iload_n 1, 1) := dk_27 (dk_at dksX6_goesOn_0 4 rfl rfl)
theorem dX6_goesOn_5 : decode cX6_goesOn 5 = .ok (.iaload, 1) := dk_46 (dk_at dksX6_goesOn_0 5 rfl rfl)
theorem dX6_goesOn_6 : decode cX6_goesOn 6 = .ok (.istore_n 3, 1) := dk_62 (dk_at dksX6_goesOn_0 6 rfl rfl)
theorem dX6_goesOn_7 : decode cX6_goesOn 7 = .ok (.aload_n 0, 1) := dk_42 (dk_at dksX6_goesOn_0 7 rfl rfl)
theorem dX6_goesOn_8 : decode cX6_goesOn 8 = .ok (.getfield 31, 3) := dk_180 0 31 (dk_at dksX6_goesOn_0 8 rfl rfl)
theorem dX6_goesOn_11 : decode cX6_goesOn 11 = .ok (.iconst 5, 1) := dk_8 (dk_at dksX6_goesOn_0 11 rfl rfl)
theorem dX6_goesOn_12 : decode cX6_goesOn 12 = .ok (.iload_n 1, 1) := dk_27 (dk_at dksX6_goesOn_0 12 rfl rfl)
theorem dX6_goesOn_13 : decode cX6_goesOn 13 = .ok (.imul, 1) := dk_104 (dk_at dksX6_goesOn_0 13 rfl rfl)
theorem dX6_goesOn_14 : decode cX6_goesOn 14 = .ok (.iconst 1, 1) := dk_4 (dk_at dksX6_goesOn_0 14 rfl rfl)
theorem dX6_goesOn_15 : decode cX6_goesOn 15 = .ok (.iadd, 1) := dk_96 (dk_at dksX6_goesOn_0 15 rfl rfl)
theorem dX6_goesOn_16 : decode cX6_goesOn 16 = .ok (.iaload, 1) := dk_46 (dk_at dksX6_goesOn_0 16 rfl rfl)
theorem dX6_goesOn_17 : decode cX6_goesOn 17 = .ok (.istore 4, 2) := dk_54 4 (dk_at dksX6_goesOn_0 17 rfl rfl)
theorem dX6_goesOn_19 : decode cX6_goesOn 19 = .ok (.iload_n 3, 1) := dk_29 (dk_at dksX6_goesOn_0 19 rfl rfl)
theorem dX6_goesOn_20 : decode cX6_goesOn 20 = .ok (.iload 4, 2) := dk_21 4 (dk_at dksX6_goesOn_0 20 rfl rfl)
theorem dX6_goesOn_22 : decode cX6_goesOn 22 = .ok (.if_icmp .ne 13, 3) := dk_160 0 13 (dk_at dksX6_goesOn_1 0 rfl rfl)
theorem dX6_goesOn_25 : decode cX6_goesOn 25 = .ok (.aload_n 0, 1) := dk_42 (dk_at dksX6_goesOn_1 3 rfl rfl)
theorem dX6_goesOn_26 : decode cX6_goesOn 26 = .ok (.iload_n 1, 1) := dk_27 (dk_at dksX6_goesOn_1 4 rfl rfl)
theorem dX6_goesOn_27 : decode cX6_goesOn 27 = .ok (.iload_n 2, 1) := dk_28 (dk_at dksX6_goesOn_1 5 rfl rfl)
theorem dX6_goesOn_28 : decode cX6_goesOn 28 = .ok (.iconst 2, 1) := dk_5 (dk_at dksX6_goesOn_1 6 rfl rfl)
theorem dX6_goesOn_29 : decode cX6_goesOn 29 = .ok (.invokevirtual 184, 3) := dk_182 0 184 (dk_at dksX6_goesOn_1 7 rfl rfl)
theorem dX6_goesOn_32 : decode cX6_goesOn 32 = .ok (.goto 159, 3) := dk_167 0 159 (dk_at dksX6_goesOn_1 10 rfl rfl)
theorem dX6_goesOn_35 : decode cX6_goesOn 35 = .ok (.aload_n 0, 1) := dk_42 (dk_at dksX6_goesOn_1 13 rfl rfl)
theorem dX6_goesOn_36 : decode cX6_goesOn 36 = .ok (.iload_n 1, 1) := dk_27 (dk_at dksX6_goesOn_1 14 rfl rfl)
theorem dX6_goesOn_37 : decode cX6_goesOn 37 = .ok (.iload_n 2, 1) := dk_28 (dk_at dksX6_goesOn_1 15 rfl rfl)
theorem dX6_goesOn_38 : decode cX6_goesOn 38 = .ok (.iload_n 3, 1) := dk_29 (dk_at dksX6_goesOn_1 16 rfl rfl)
theorem dX6_goesOn_39 : decode cX6_goesOn 39 = .ok (.invokevirtual 188, 3) := dk_182 0 188 (dk_at dksX6_goesOn_1 17 rfl rfl)
theorem dX6_goesOn_42 : decode cX6_goesOn 42 = .ok (.ifCond .eq 13, 3) := dk_153 0 13 (dk_at dksX6_goesOn_1 20 rfl rfl)
theorem dX6_goesOn_45 : decode cX6_goesOn 45 = .ok (.aload_n 0, 1) := dk_42 (dk_at dksX6_goesOn_1 23 rfl rfl)
theorem dX6_goesOn_46 : decode cX6_goesOn 46 = .ok (.iload_n 1, 1) := dk_27 (dk_at dksX6_goesOn_2 0 rfl rfl)
theorem dX6_goesOn_47 : decode cX6_goesOn 47 = .ok (.iload_n 2, 1) := dk_28 (dk_at dksX6_goesOn_2 1 rfl rfl)
theorem dX6_goesOn_48 : decode cX6_goesOn 48 = .ok (.iconst 3, 1) := dk_6 (dk_at dksX6_goesOn_2 2 rfl rfl)
theorem dX6_goesOn_49 : decode cX6_goesOn 49 = .ok (.invokevirtual 184, 3) := dk_182 0 184 (dk_at dksX6_goesOn_2 3 rfl rfl)
theorem dX6_goesOn_52 : decode cX6_goesOn 52 = .ok (.goto 139, 3) := dk_167 0 139 (dk_at dksX6_goesOn_2 6 rfl rfl)
theorem dX6_goesOn_55 : decode cX6_goesOn 55 = .ok (.aload_n 0, 1) := dk_42 (dk_at dksX6_goesOn_2 9 rfl rfl)
theorem dX6_goesOn_56 : decode cX6_goesOn 56 = .ok (.getfield 43, 3) := dk_180 0 43 (dk_at dksX6_goesOn_2 10 rfl rfl)
theorem dX6_goesOn_59 : decode cX6_goesOn 59 = .ok (.bipush 8, 2) := dk_16 8 (dk_at dksX6_goesOn_2 13 rfl rfl)
theorem dX6_goesOn_61 : decode cX6_goesOn 61 = .ok (.iload_n 3, 1) := dk_29 (dk_at dksX6_goesOn_2 15 rfl rfl)
theorem dX6_goesOn_62 : decode cX6_goesOn 62 = .ok (.imul, 1) := dk_104 (dk_at dksX6_goesOn_2 16 rfl rfl)
theorem dX6_goesOn_63 : decode cX6_goesOn 63 = .ok (.iload 4, 2) := dk_21 4 (dk_at dksX6_goesOn_2 17 rfl rfl)
theorem dX6_goesOn_65 : decode cX6_goesOn 65 = .ok (.iadd, 1) := dk_96 (dk_at dksX6_goesOn_2 19 rfl rfl)
theorem dX6_goesOn_66 : decode cX6_goesOn 66 = .ok (.iaload, 1) := dk_46 (dk_at dksX6_goesOn_2 20 rfl rfl)
theorem dX6_goesOn_67 : decode cX6_goesOn 67 = .ok (.sipush 9999, 3) := dk_17 39 15 (dk_at dksX6_goesOn_2 21 rfl rfl)
theorem dX6_goesOn_70 : decode cX6_goesOn 70 = .ok (.if_icmp .lt 13, 3) := dk_161 0 13 (dk_at dksX6_goesOn_3 0 rfl rfl)
theorem dX6_goesOn_73 : decode cX6_goesOn 73 = .ok (.aload_n 0, 1) := dk_42 (dk_at dksX6_goesOn_3 3 rfl rfl)
theorem dX6_goesOn_74 : decode cX6_goesOn 74 = .ok (.iload_n 1, 1) := dk_27 (dk_at dksX6_goesOn_3 4 rfl rfl)
theorem dX6_goesOn_75 : decode cX6_goesOn 75 = .ok (.iload_n 2, 1) := dk_28 (dk_at dksX6_goesOn_3 5 rfl rfl)
theorem dX6_goesOn_76 : decode cX6_goesOn 76 = .ok (.iconst 5, 1) := dk_8 (dk_at dksX6_goesOn_3 6 rfl rfl)
theorem dX6_goesOn_77 : decode cX6_goesOn 77 = .ok (.invokevirtual 184, 3) := dk_182 0 184 (dk_at dksX6_goesOn_3 7 rfl rfl)
theorem dX6_goesOn_80 : decode cX6_goesOn 80 = .ok (.goto 111, 3) := dk_167 0 111 (dk_at dksX6_goesOn_3 10 rfl rfl)
theorem dX6_goesOn_83 : decode cX6_goesOn 83 = .ok (.aload_n 0, 1) := dk_42 (dk_at dksX6_goesOn_3 13 rfl rfl)
theorem dX6_goesOn_84 : decode cX6_goesOn 84 = .ok (.iload_n 3, 1) := dk_29 (dk_at dksX6_goesOn_3 14 rfl rfl)
theorem dX6_goesOn_85 : decode cX6_goesOn 85 = .ok (.iload 4, 2) := dk_21 4 (dk_at dksX6_goesOn_3 15 rfl rfl)
theorem dX6_goesOn_87 : decode cX6_goesOn 87 = .ok (.invokevirtual 192, 3) := dk_182 0 192 (dk_at dksX6_goesOn_3 17 rfl rfl)
theorem dX6_goesOn_90 : decode cX6_goesOn 90 = .ok (.istore 5, 2) := dk_54 5 (dk_at dksX6_goesOn_3 20 rfl rfl)
theorem dX6_goesOn_92 : decode cX6_goesOn 92 = .ok (.aload_n 0, 1) := dk_42 (dk_at dksX6_goesOn_3 22 rfl rfl)
theorem dX6_goesOn_93 : decode cX6_goesOn 93 = .ok (.getfield 40, 3) := dk_180 0 40 (dk_at dksX6_goesOn_4 0 rfl rfl)
theorem dX6_goesOn_96 : decode cX6_goesOn 96 = .ok (.bipush 8, 2) := dk_16 8 (dk_at dksX6_goesOn_4 3 rfl rfl)
theorem dX6_goesOn_98 : decode cX6_goesOn 98 = .ok (.iload_n 3, 1) := dk_29 (dk_at dksX6_goesOn_4 5 rfl rfl)
theorem dX6_goesOn_99 : decode cX6_goesOn 99 = .ok (.imul, 1) := dk_104 (dk_at dksX6_goesOn_4 6 rfl rfl)
theorem dX6_goesOn_100 : decode cX6_goesOn 100 = .ok (.iload 5, 2) := dk_21 5 (dk_at dksX6_goesOn_4 7 rfl rfl)
theorem dX6_goesOn_102 : decode cX6_goesOn 102 = .ok (.iadd, 1) := dk_96 (dk_at dksX6_goesOn_4 9 rfl rfl)
theorem dX6_goesOn_103 : decode cX6_goesOn 103 = .ok (.iaload, 1) := dk_46 (dk_at dksX6_goesOn_4 10 rfl rfl)
theorem dX6_goesOn_104 : decode cX6_goesOn 104 = .ok (.aload_n 0, 1) := dk_42 (dk_at dksX6_goesOn_4 11 rfl rfl)
theorem dX6_goesOn_105 : decode cX6_goesOn 105 = .ok (.getfield 31, 3) := dk_180 0 31 (dk_at dksX6_goesOn_4 12 rfl rfl)
theorem dX6_goesOn_108 : decode cX6_goesOn 108 = .ok (.iconst 5, 1) := dk_8 (dk_at dksX6_goesOn_4 15 rfl rfl)
theorem dX6_goesOn_109 : decode cX6_goesOn 109 = .ok (.iload_n 1, 1) := dk_27 (dk_at dksX6_goesOn_4 16 rfl rfl)
theorem dX6_goesOn_110 : decode cX6_goesOn 110 = .ok (.imul, 1) := dk_104 (dk_at dksX6_goesOn_4 17 rfl rfl)
theorem dX6_goesOn_111 : decode cX6_goesOn 111 = .ok (.iconst 4, 1) := dk_7 (dk_at dksX6_goesOn_4 18 rfl rfl)
theorem dX6_goesOn_112 : decode cX6_goesOn 112 = .ok (.iadd, 1) := dk_96 (dk_at dksX6_goesOn_4 19 rfl rfl)
theorem dX6_goesOn_113 : decode cX6_goesOn 113 = .ok (.iaload, 1) := dk_46 (dk_at dksX6_goesOn_4 20 rfl rfl)
theorem dX6_goesOn_114 : decode cX6_goesOn 114 = .ok (.iadd, 1) := dk_96 (dk_at dksX6_goesOn_4 21 rfl rfl)
theorem dX6_goesOn_115 : decode cX6_goesOn 115 = .ok (.istore 6, 2) := dk_54 6 (dk_at dksX6_goesOn_4 22 rfl rfl)
theorem dX6_goesOn_117 : decode cX6_goesOn 117 = .ok (.aload_n 0, 1) := dk_42 (dk_at dksX6_goesOn_5 0 rfl rfl)
theorem dX6_goesOn_118 : decode cX6_goesOn 118 = .ok (.getfield 52, 3) := dk_180 0 52 (dk_at dksX6_goesOn_5 1 rfl rfl)
theorem dX6_goesOn_121 : decode cX6_goesOn 121 = .ok (.iload_n 1, 1) := dk_27 (dk_at dksX6_goesOn_5 4 rfl rfl)
theorem dX6_goesOn_122 : decode cX6_goesOn 122 = .ok (.iaload, 1) := dk_46 (dk_at dksX6_goesOn_5 5 rfl rfl)
theorem dX6_goesOn_123 : decode cX6_goesOn 123 = .ok (.iload 6, 2) := dk_21 6 (dk_at dksX6_goesOn_5 6 rfl rfl)
theorem dX6_goesOn_125 : decode cX6_goesOn 125 = .ok (.if_icmp .ge 13, 3) := dk_162 0 13 (dk_at dksX6_goesOn_5 8 rfl rfl)
theorem dX6_goesOn_128 : decode cX6_goesOn 128 = .ok (.aload_n 0, 1) := dk_42 (dk_at dksX6_goesOn_5 11 rfl rfl)
theorem dX6_goesOn_129 : decode cX6_goesOn 129 = .ok (.iload_n 1, 1) := dk_27 (dk_at dksX6_goesOn_5 12 rfl rfl)
theorem dX6_goesOn_130 : decode cX6_goesOn 130 = .ok (.iload_n 2, 1) := dk_28 (dk_at dksX6_goesOn_5 13 rfl rfl)
theorem dX6_goesOn_131 : decode cX6_goesOn 131 = .ok (.iconst 4, 1) := dk_7 (dk_at dksX6_goesOn_5 14 rfl rfl)
theorem dX6_goesOn_132 : decode cX6_goesOn 132 = .ok (.invokevirtual 184, 3) := dk_182 0 184 (dk_at dksX6_goesOn_5 15 rfl rfl)
theorem dX6_goesOn_135 : decode cX6_goesOn 135 = .ok (.goto 56, 3) := dk_167 0 56 (dk_at dksX6_goesOn_5 18 rfl rfl)
theorem dX6_goesOn_138 : decode cX6_goesOn 138 = .ok (.aload_n 0, 1) := dk_42 (dk_at dksX6_goesOn_5 21 rfl rfl)
theorem dX6_goesOn_139 : decode cX6_goesOn 139 = .ok (.getfield 52, 3) := dk_180 0 52 (dk_at dksX6_goesOn_6 0 rfl rfl)
theorem dX6_goesOn_142 : decode cX6_goesOn 142 = .ok (.iload_n 1, 1) := dk_27 (dk_at dksX6_goesOn_6 3 rfl rfl)
theorem dX6_goesOn_143 : decode cX6_goesOn 143 = .ok (.dup2, 1) := dk_92 (dk_at dksX6_goesOn_6 4 rfl rfl)
theorem dX6_goesOn_144 : decode cX6_goesOn 144 = .ok (.iaload, 1) := dk_46 (dk_at dksX6_goesOn_6 5 rfl rfl)
theorem dX6_goesOn_145 : decode cX6_goesOn 145 = .ok (.iload 6, 2) := dk_21 6 (dk_at dksX6_goesOn_6 6 rfl rfl)
theorem dX6_goesOn_147 : decode cX6_goesOn 147 = .ok (.isub, 1) := dk_100 (dk_at dksX6_goesOn_6 8 rfl rfl)
theorem dX6_goesOn_148 : decode cX6_goesOn 148 = .ok (.iastore, 1) := dk_79 (dk_at dksX6_goesOn_6 9 rfl rfl)
theorem dX6_goesOn_149 : decode cX6_goesOn 149 = .ok (.aload_n 0, 1) := dk_42 (dk_at dksX6_goesOn_6 10 rfl rfl)
theorem dX6_goesOn_150 : decode cX6_goesOn 150 = .ok (.getfield 46, 3) := dk_180 0 46 (dk_at dksX6_goesOn_6 11 rfl rfl)
theorem dX6_goesOn_153 : decode cX6_goesOn 153 = .ok (.iload_n 1, 1) := dk_27 (dk_at dksX6_goesOn_6 14 rfl rfl)
theorem dX6_goesOn_154 : decode cX6_goesOn 154 = .ok (.iconst 1, 1) := dk_4 (dk_at dksX6_goesOn_6 15 rfl rfl)
theorem dX6_goesOn_155 : decode cX6_goesOn 155 = .ok (.iastore, 1) := dk_79 (dk_at dksX6_goesOn_6 16 rfl rfl)
theorem dX6_goesOn_156 : decode cX6_goesOn 156 = .ok (.aload_n 0, 1) := dk_42 (dk_at dksX6_goesOn_6 17 rfl rfl)
theorem dX6_goesOn_157 : decode cX6_goesOn 157 = .ok (.getfield 49, 3) := dk_180 0 49 (dk_at dksX6_goesOn_6 18 rfl rfl)
theorem dX6_goesOn_160 : decode cX6_goesOn 160 = .ok (.iload_n 1, 1) := dk_27 (dk_at dksX6_goesOn_6 21 rfl rfl)
theorem dX6_goesOn_161 : decode cX6_goesOn 161 = .ok (.iconst (-1), 1) := dk_2 (dk_at dksX6_goesOn_6 22 rfl rfl)
theorem dX6_goesOn_162 : decode cX6_goesOn 162 = .ok (.iastore, 1) := dk_79 (dk_at dksX6_goesOn_6 23 rfl rfl)
theorem dX6_goesOn_163 : decode cX6_goesOn 163 = .ok (.aload_n 0, 1) := dk_42 (dk_at dksX6_goesOn_7 0 rfl rfl)
theorem dX6_goesOn_164 : decode cX6_goesOn 164 = .ok (.getfield 55, 3) := dk_180 0 55 (dk_at dksX6_goesOn_7 1 rfl rfl)
theorem dX6_goesOn_167 : decode cX6_goesOn 167 = .ok (.iload_n 1, 1) := dk_27 (dk_at dksX6_goesOn_7 4 rfl rfl)
theorem dX6_goesOn_168 : decode cX6_goesOn 168 = .ok (.iload 5, 2) := dk_21 5 (dk_at dksX6_goesOn_7 5 rfl rfl)
theorem dX6_goesOn_170 : decode cX6_goesOn 170 = .ok (.iastore, 1) := dk_79 (dk_at dksX6_goesOn_7 7 rfl rfl)
theorem dX6_goesOn_171 : decode cX6_goesOn 171 = .ok (.aload_n 0, 1) := dk_42 (dk_at dksX6_goesOn_7 8 rfl rfl)
theorem dX6_goesOn_172 : decode cX6_goesOn 172 = .ok (.getfield 58, 3) := dk_180 0 58 (dk_at dksX6_goesOn_7 9 rfl rfl)
theorem dX6_goesOn_175 : decode cX6_goesOn 175 = .ok (.iload_n 1, 1) := dk_27 (dk_at dksX6_goesOn_7 12 rfl rfl)
theorem dX6_goesOn_176 : decode cX6_goesOn 176 = .ok (.iload_n 2, 1) := dk_28 (dk_at dksX6_goesOn_7 13 rfl rfl)
theorem dX6_goesOn_177 : decode cX6_goesOn 177 = .ok (.aload_n 0, 1) := dk_42 (dk_at dksX6_goesOn_7 14 rfl rfl)
theorem dX6_goesOn_178 : decode cX6_goesOn 178 = .ok (.getfield 40, 3) := dk_180 0 40 (dk_at dksX6_goesOn_7 15 rfl rfl)
theorem dX6_goesOn_181 : decode cX6_goesOn 181 = .ok (.bipush 8, 2) := dk_16 8 (dk_at dksX6_goesOn_7 18 rfl rfl)
theorem dX6_goesOn_183 : decode cX6_goesOn 183 = .ok (.iload_n 3, 1) := dk_29 (dk_at dksX6_goesOn_7 20 rfl rfl)
theorem dX6_goesOn_184 : decode cX6_goesOn 184 = .ok (.imul, 1) := dk_104 (dk_at dksX6_goesOn_7 21 rfl rfl)
theorem dX6_goesOn_185 : decode cX6_goesOn 185 = .ok (.iload 5, 2) := dk_21 5 (dk_at dksX6_goesOn_7 22 rfl rfl)
theorem dX6_goesOn_187 : decode cX6_goesOn 187 = .ok (.iadd, 1) := dk_96 (dk_at dksX6_goesOn_8 0 rfl rfl)
theorem dX6_goesOn_188 : decode cX6_goesOn 188 = .ok (.iaload, 1) := dk_46 (dk_at dksX6_goesOn_8 1 rfl rfl)
theorem dX6_goesOn_189 : decode cX6_goesOn 189 = .ok (.iadd, 1) := dk_96 (dk_at dksX6_goesOn_8 2 rfl rfl)
theorem dX6_goesOn_190 : decode cX6_goesOn 190 = .ok (.iastore, 1) := dk_79 (dk_at dksX6_goesOn_8 3 rfl rfl)
theorem dX6_goesOn_191 : decode cX6_goesOn 191 = .ok (.return_, 1) := dk_177 (dk_at dksX6_goesOn_8 4 rfl rfl)
abbrev cX6_stays : ByteArray := prog_8_method_44_code
def yX6_stays : MethodName := ⟨RX6, "stays", "(III)V"⟩
def dkwX6_stays_0 : List UInt8 := [42, 180, 0, 46, 27, 29, 79, 42, 180, 0, 61, 27, 28, 79, 42, 180, 0, 55, 27, 2, 79, 177]
abbrev dktX6_stays_0 : List UInt8 := dkwX6_stays_0 ++ []
theorem dksX6_stays_0 : cX6_stays.data.toList.drop 0 = dktX6_stays_0 := by decide +kernel
theorem dX6_stays_0 : decode cX6_stays 0 = .ok (.aload_n 0, 1) := dk_42 (dk_at dksX6_stays_0 0 rfl rfl)
theorem dX6_stays_1 : decode cX6_stays 1 = .ok (.getfield 46, 3) := dk_180 0 46 (dk_at dksX6_stays_0 1 rfl rfl)
theorem dX6_stays_4 : decode cX6_stays 4 = .ok (.iload_n 1, 1) := dk_27 (dk_at dksX6_stays_0 4 rfl rfl)
theorem dX6_stays_5 : decode cX6_stays 5 = .ok (.iload_n 3, 1) := dk_29 (dk_at dksX6_stays_0 5 rfl rfl)
theorem dX6_stays_6 : decode cX6_stays 6 = .ok (.iastore, 1) := dk_79 (dk_at dksX6_stays_0 6 rfl rfl)
theorem dX6_stays_7 : decode cX6_stays 7 = .ok (.aload_n 0, 1) := dk_42 (dk_at dksX6_stays_0 7 rfl rfl)
theorem dX6_stays_8 : decode cX6_stays 8 = .ok (.getfield 61, 3) := dk_180 0 61 (dk_at dksX6_stays_0 8 rfl rfl)
theorem dX6_stays_11 : decode cX6_stays 11 = .ok (.iload_n 1, 1) := dk_27 (dk_at dksX6_stays_0 11 rfl rfl)
theorem dX6_stays_12 : decode cX6_stays 12 = .ok (.iload_n 2, 1) := dk_28 (dk_at dksX6_stays_0 12 rfl rfl)
theorem dX6_stays_13 : decode cX6_stays 13 = .ok (.iastore, 1) := dk_79 (dk_at dksX6_stays_0 13 rfl rfl)
theorem dX6_stays_14 : decode cX6_stays 14 = .ok (.aload_n 0, 1) := dk_42 (dk_at dksX6_stays_0 14 rfl rfl)
theorem dX6_stays_15 : decode cX6_stays 15 = .ok (.getfield 55, 3) := dk_180 0 55 (dk_at dksX6_stays_0 15 rfl rfl)
theorem dX6_stays_18 : decode cX6_stays 18 = .ok (.iload_n 1, 1) := dk_27 (dk_at dksX6_stays_0 18 rfl rfl)
theorem dX6_stays_19 : decode cX6_stays 19 = .ok (.iconst (-1), 1) := dk_2 (dk_at dksX6_stays_0 19 rfl rfl)
theorem dX6_stays_20 : decode cX6_stays 20 = .ok (.iastore, 1) := dk_79 (dk_at dksX6_stays_0 20 rfl rfl)
theorem dX6_stays_21 : decode cX6_stays 21 = .ok (.return_, 1) := dk_177 (dk_at dksX6_stays_0 21 rfl rfl)
abbrev cX6_isTold : ByteArray := prog_8_method_43_code
def yX6_isTold : MethodName := ⟨RX6, "isTold", "(III)Z"⟩
def dkwX6_isTold_2 : List UInt8 := [172]
abbrev dktX6_isTold_2 : List UInt8 := dkwX6_isTold_2 ++ []
def dkwX6_isTold_1 : List UInt8 := [154, 0, 19, 21, 4, 4, 160, 0, 17, 42, 180, 0, 67, 29, 46, 4, 164, 0, 7, 4, 167, 0, 4, 3]
abbrev dktX6_isTold_1 : List UInt8 := dkwX6_isTold_1 ++ dktX6_isTold_2
def dkwX6_isTold_0 : List UInt8 := [42, 180, 0, 31, 8, 27, 104, 5, 96, 46, 54, 4, 21, 4, 5, 162, 0, 32, 42, 28, 29, 182, 0, 181]
abbrev dktX6_isTold_0 : List UInt8 := dkwX6_isTold_0 ++ dktX6_isTold_1
theorem dksX6_isTold_0 : cX6_isTold.data.toList.drop 0 = dktX6_isTold_0 := by decide +kernel
theorem dksX6_isTold_1 : cX6_isTold.data.toList.drop 24 = dktX6_isTold_1 := dk_seg dksX6_isTold_0 24 rfl rfl
theorem dksX6_isTold_2 : cX6_isTold.data.toList.drop 48 = dktX6_isTold_2 := dk_seg dksX6_isTold_1 24 rfl rfl
theorem dX6_isTold_0 : decode cX6_isTold 0 = .ok (.aload_n 0, 1) := dk_42 (dk_at dksX6_isTold_0 0 rfl rfl)
theorem dX6_isTold_1 : decode cX6_isTold 1 = .ok (.getfield 31, 3) := dk_180 0 31 (dk_at dksX6_isTold_0 1 rfl rfl)
theorem dX6_isTold_4 : decode cX6_isTold 4 = .ok (.iconst 5, 1) := dk_8 (dk_at dksX6_isTold_0 4 rfl rfl)
theorem dX6_isTold_5 : decode cX6_isTold 5 = .ok (.iload_n 1, 1) := dk_27 (dk_at dksX6_isTold_0 5 rfl rfl)
theorem dX6_isTold_6 : decode cX6_isTold 6 = .ok (.imul, 1) := dk_104 (dk_at dksX6_isTold_0 6 rfl rfl)
theorem dX6_isTold_7 : decode cX6_isTold 7 = .ok (.iconst 2, 1) := dk_5 (dk_at dksX6_isTold_0 7 rfl rfl)
theorem dX6_isTold_8 : decode cX6_isTold 8 = .ok (.iadd, 1) := dk_96 (dk_at dksX6_isTold_0 8 rfl rfl)
theorem dX6_isTold_9 : decode cX6_isTold 9 = .ok (.iaload, 1) := dk_46 (dk_at dksX6_isTold_0 9 rfl rfl)
theorem dX6_isTold_10 : decode cX6_isTold 10 = .ok (.istore 4, 2) := dk_54 4 (dk_at dksX6_isTold_0 10 rfl rfl)
theorem dX6_isTold_12 : decode cX6_isTold 12 = .ok (.iload 4, 2) := dk_21 4 (dk_at dksX6_isTold_0 12 rfl rfl)
theorem dX6_isTold_14 : decode cX6_isTold 14 = .ok (.iconst 2, 1) := dk_5 (dk_at dksX6_isTold_0 14 rfl rfl)
theorem dX6_isTold_15 : decode cX6_isTold 15 = .ok (.if_icmp .ge 32, 3) := dk_162 0 32 (dk_at dksX6_isTold_0 15 rfl rfl)
theorem dX6_isTold_18 : decode cX6_isTold 18 = .ok (.aload_n 0, 1) := dk_42 (dk_at dksX6_isTold_0 18 rfl rfl)
theorem dX6_isTold_19 : decode cX6_isTold 19 = .ok (.iload_n 2, 1) := dk_28 (dk_at dksX6_isTold_0 19 rfl rfl)
theorem dX6_isTold_20 : decode cX6_isTold 20 = .ok (.iload_n 3, 1) := dk_29 (dk_at dksX6_isTold_0 20 rfl rfl)
theorem dX6_isTold_21 : decode cX6_isTold 21 = .ok (.invokevirtual 181, 3) := dk_182 0 181 (dk_at dksX6_isTold_0 21 rfl rfl)
theorem dX6_isTold_24 : decode cX6_isTold 24 = .ok (.ifCond .ne 19, 3) := dk_154 0 19 (dk_at dksX6_isTold_1 0 rfl rfl)
theorem dX6_isTold_27 : decode cX6_isTold 27 = .ok (.iload 4, 2) := dk_21 4 (dk_at dksX6_isTold_1 3 rfl rfl)
theorem dX6_isTold_29 : decode cX6_isTold 29 = .ok (.iconst 1, 1) := dk_4 (dk_at dksX6_isTold_1 5 rfl rfl)
theorem dX6_isTold_30 : decode cX6_isTold 30 = .ok (.if_icmp .ne 17, 3) := dk_160 0 17 (dk_at dksX6_isTold_1 6 rfl rfl)
theorem dX6_isTold_33 : decode cX6_isTold 33 = .ok (.aload_n 0, 1) := dk_42 (dk_at dksX6_isTold_1 9 rfl rfl)
theorem dX6_isTold_34 : decode cX6_isTold 34 = .ok (.getfield 67, 3) := dk_180 0 67 (dk_at dksX6_isTold_1 10 rfl rfl)
theorem dX6_isTold_37 : decode cX6_isTold 37 = .ok (.iload_n 3, 1) := dk_29 (dk_at dksX6_isTold_1 13 rfl rfl)
theorem dX6_isTold_38 : decode cX6_isTold 38 = .ok (.iaload, 1) := dk_46 (dk_at dksX6_isTold_1 14 rfl rfl)
theorem dX6_isTold_39 : decode cX6_isTold 39 = .ok (.iconst 1, 1) := dk_4 (dk_at dksX6_isTold_1 15 rfl rfl)
theorem dX6_isTold_40 : decode cX6_isTold 40 = .ok (.if_icmp .le 7, 3) := dk_164 0 7 (dk_at dksX6_isTold_1 16 rfl rfl)
theorem dX6_isTold_43 : decode cX6_isTold 43 = .ok (.iconst 1, 1) := dk_4 (dk_at dksX6_isTold_1 19 rfl rfl)
theorem dX6_isTold_44 : decode cX6_isTold 44 = .ok (.goto 4, 3) := dk_167 0 4 (dk_at dksX6_isTold_1 20 rfl rfl)
theorem dX6_isTold_47 : decode cX6_isTold 47 = .ok (.iconst 0, 1) := dk_3 (dk_at dksX6_isTold_1 23 rfl rfl)
theorem dX6_isTold_48 : decode cX6_isTold 48 = .ok (.ireturn, 1) := dk_172 (dk_at dksX6_isTold_2 0 rfl rfl)
abbrev cX6_isAnswer : ByteArray := prog_8_method_42_code
def yX6_isAnswer : MethodName := ⟨RX6, "isAnswer", "(II)Z"⟩
def dkwX6_isAnswer_3 : List UInt8 := [172]
abbrev dktX6_isAnswer_3 : List UInt8 := dkwX6_isAnswer_3 ++ []
def dkwX6_isAnswer_2 : List UInt8 := [180, 0, 174, 21, 4, 184, 0, 177, 154, 0, 7, 4, 167, 0, 4, 3, 62, 132, 4, 1, 167, 255, 194, 29]
abbrev dktX6_isAnswer_2 : List UInt8 := dkwX6_isAnswer_2 ++ dktX6_isAnswer_3
def dkwX6_isAnswer_1 : List UInt8 := [21, 4, 104, 46, 27, 160, 0, 34, 42, 180, 0, 37, 5, 21, 4, 104, 4, 96, 46, 28, 160, 0, 19, 42]
abbrev dktX6_isAnswer_1 : List UInt8 := dkwX6_isAnswer_1 ++ dktX6_isAnswer_2
def dkwX6_isAnswer_0 : List UInt8 := [3, 62, 3, 54, 4, 21, 4, 42, 180, 0, 166, 162, 0, 59, 29, 154, 0, 43, 42, 180, 0, 37, 5]
abbrev dktX6_isAnswer_0 : List UInt8 := dkwX6_isAnswer_0 ++ dktX6_isAnswer_1
theorem dksX6_isAnswer_0 : cX6_isAnswer.data.toList.drop 0 = dktX6_isAnswer_0 := by decide +kernel
theorem dksX6_isAnswer_1 : cX6_isAnswer.data.toList.drop 23 = dktX6_isAnswer_1 := dk_seg dksX6_isAnswer_0 23 rfl rfl
theorem dksX6_isAnswer_2 : cX6_isAnswer.data.toList.drop 47 = dktX6_isAnswer_2 := dk_seg dksX6_isAnswer_1 24 rfl rfl
theorem dksX6_isAnswer_3 : cX6_isAnswer.data.toList.drop 71 = dktX6_isAnswer_3 := dk_seg dksX6_isAnswer_2 24 rfl rfl
theorem dX6_isAnswer_0 : decode cX6_isAnswer 0 = .ok (.iconst 0, 1) := dk_3 (dk_at dksX6_isAnswer_0 0 rfl rfl)
theorem dX6_isAnswer_1 : decode cX6_isAnswer 1 = .ok (.istore_n 3, 1) := dk_62 (dk_at dksX6_isAnswer_0 1 rfl rfl)
theorem dX6_isAnswer_2 : decode cX6_isAnswer 2 = .ok (.iconst 0, 1) := dk_3 (dk_at dksX6_isAnswer_0 2 rfl rfl)
theorem dX6_isAnswer_3 : decode cX6_isAnswer 3 = .ok (.istore 4, 2) := dk_54 4 (dk_at dksX6_isAnswer_0 3 rfl rfl)
theorem dX6_isAnswer_5 : decode cX6_isAnswer 5 = .ok (.iload 4, 2) := dk_21 4 (dk_at dksX6_isAnswer_0 5 rfl rfl)
theorem dX6_isAnswer_7 : decode cX6_isAnswer 7 = .ok (.aload_n 0, 1) := dk_42 (dk_at dksX6_isAnswer_0 7 rfl rfl)
theorem dX6_isAnswer_8 : decode cX6_isAnswer 8 = .ok (.getfield 166, 3) := dk_180 0 166 (dk_at dksX6_isAnswer_0 8 rfl rfl)
theorem dX6_isAnswer_11 : decode cX6_isAnswer 11 = .ok (.if_icmp .ge 59, 3) := dk_162 0 59 (dk_at dksX6_isAnswer_0 11 rfl rfl)
theorem dX6_isAnswer_14 : decode cX6_isAnswer 14 = .ok (.iload_n 3, 1) := dk_29 (dk_at dksX6_isAnswer_0 14 rfl rfl)
theorem dX6_isAnswer_15 : decode cX6_isAnswer 15 = .ok (.ifCond .ne 43, 3) := dk_154 0 43 (dk_at dksX6_isAnswer_0 15 rfl rfl)
theorem dX6_isAnswer_18 : decode cX6_isAnswer 18 = .ok (.aload_n 0, 1) := dk_42 (dk_at dksX6_isAnswer_0 18 rfl rfl)
theorem dX6_isAnswer_19 : decode cX6_isAnswer 19 = .ok (.getfield 37, 3) := dk_180 0 37 (dk_at dksX6_isAnswer_0 19 rfl rfl)
theorem dX6_isAnswer_22 : decode cX6_isAnswer 22 = .ok (.iconst 2, 1) := dk_5 (dk_at dksX6_isAnswer_0 22 rfl rfl)
theorem dX6_isAnswer_23 : decode cX6_isAnswer 23 = .ok (.iload 4, 2) := dk_21 4 (dk_at dksX6_isAnswer_1 0 rfl rfl)
theorem dX6_isAnswer_25 : decode cX6_isAnswer 25 = .ok (.imul, 1) := dk_104 (dk_at dksX6_isAnswer_1 2 rfl rfl)
theorem dX6_isAnswer_26 : decode cX6_isAnswer 26 = .ok (.iaload, 1) := dk_46 (dk_at dksX6_isAnswer_1 3 rfl rfl)
theorem dX6_isAnswer_27 : decode cX6_isAnswer 27 = .ok (.iload_n 1, 1) := dk_27 (dk_at dksX6_isAnswer_1 4 rfl rfl)
theorem dX6_isAnswer_28 : decode cX6_isAnswer 28 = .ok (.if_icmp .ne 34, 3) := dk_160 0 34 (dk_at dksX6_isAnswer_1 5 rfl rfl)
theorem dX6_isAnswer_31 : decode cX6_isAnswer 31 = .ok (.aload_n 0, 1) := dk_42 (dk_at dksX6_isAnswer_1 8 rfl rfl)
theorem dX6_isAnswer_32 : decode cX6_isAnswer 32 = .ok (.getfield 37, 3) := dk_180 0 37 (dk_at dksX6_isAnswer_1 9 rfl rfl)
theorem dX6_isAnswer_35 : decode cX6_isAnswer 35 = .ok (.iconst 2, 1) := dk_5 (dk_at dksX6_isAnswer_1 12 rfl rfl)
theorem dX6_isAnswer_36 : decode cX6_isAnswer 36 = .ok (.iload 4, 2) := dk_21 4 (dk_at dksX6_isAnswer_1 13 rfl rfl)
theorem dX6_isAnswer_38 : decode cX6_isAnswer 38 = .ok (.imul, 1) := dk_104 (dk_at dksX6_isAnswer_1 15 rfl rfl)
theorem dX6_isAnswer_39 : decode cX6_isAnswer 39 = .ok (.iconst 1, 1) := dk_4 (dk_at dksX6_isAnswer_1 16 rfl rfl)
theorem dX6_isAnswer_40 : decode cX6_isAnswer 40 = .ok (.iadd, 1) := dk_96 (dk_at dksX6_isAnswer_1 17 rfl rfl)
theorem dX6_isAnswer_41 : decode cX6_isAnswer 41 = .ok (.iaload, 1) := dk_46 (dk_at dksX6_isAnswer_1 18 rfl rfl)
theorem dX6_isAnswer_42 : decode cX6_isAnswer 42 = .ok (.iload_n 2, 1) := dk_28 (dk_at dksX6_isAnswer_1 19 rfl rfl)
theorem dX6_isAnswer_43 : decode cX6_isAnswer 43 = .ok (.if_icmp .ne 19, 3) := dk_160 0 19 (dk_at dksX6_isAnswer_1 20 rfl rfl)
theorem dX6_isAnswer_46 : decode cX6_isAnswer 46 = .ok (.aload_n 0, 1) := dk_42 (dk_at dksX6_isAnswer_1 23 rfl rfl)
theorem dX6_isAnswer_47 : decode cX6_isAnswer 47 = .ok (.getfield 174, 3) := dk_180 0 174 (dk_at dksX6_isAnswer_2 0 rfl rfl)
theorem dX6_isAnswer_50 : decode cX6_isAnswer 50 = .ok (.iload 4, 2) := dk_21 4 (dk_at dksX6_isAnswer_2 3 rfl rfl)
theorem dX6_isAnswer_52 : decode cX6_isAnswer 52 = .ok (.invokestatic 177, 3) := dk_184 0 177 (dk_at dksX6_isAnswer_2 5 rfl rfl)
theorem dX6_isAnswer_55 : decode cX6_isAnswer 55 = .ok (.ifCond .ne 7, 3) := dk_154 0 7 (dk_at dksX6_isAnswer_2 8 rfl rfl)
theorem dX6_isAnswer_58 : decode cX6_isAnswer 58 = .ok (.iconst 1, 1) := dk_4 (dk_at dksX6_isAnswer_2 11 rfl rfl)
theorem dX6_isAnswer_59 : decode cX6_isAnswer 59 = .ok (.goto 4, 3) := dk_167 0 4 (dk_at dksX6_isAnswer_2 12 rfl rfl)
theorem dX6_isAnswer_62 : decode cX6_isAnswer 62 = .ok (.iconst 0, 1) := dk_3 (dk_at dksX6_isAnswer_2 15 rfl rfl)
theorem dX6_isAnswer_63 : decode cX6_isAnswer 63 = .ok (.istore_n 3, 1) := dk_62 (dk_at dksX6_isAnswer_2 16 rfl rfl)
theorem dX6_isAnswer_64 : decode cX6_isAnswer 64 = .ok (.iinc 4 1, 3) := dk_132 4 1 (dk_at dksX6_isAnswer_2 17 rfl rfl)
theorem dX6_isAnswer_67 : decode cX6_isAnswer 67 = .ok (.goto (-62), 3) := dk_167 255 194 (dk_at dksX6_isAnswer_2 20 rfl rfl)
theorem dX6_isAnswer_70 : decode cX6_isAnswer 70 = .ok (.iload_n 3, 1) := dk_29 (dk_at dksX6_isAnswer_2 23 rfl rfl)
theorem dX6_isAnswer_71 : decode cX6_isAnswer 71 = .ok (.ireturn, 1) := dk_172 (dk_at dksX6_isAnswer_3 0 rfl rfl)
abbrev cX6_isIn : ByteArray := prog_8_method_6_code
def yX6_isIn : MethodName := ⟨RX6, "isIn", "(II)Z"⟩
def dkwX6_isIn_0 : List UInt8 := [26, 27, 122, 4, 126, 4, 160, 0, 7, 4, 167, 0, 4, 3, 172]
abbrev dktX6_isIn_0 : List UInt8 := dkwX6_isIn_0 ++ []
theorem dksX6_isIn_0 : cX6_isIn.data.toList.drop 0 = dktX6_isIn_0 := by decide +kernel
theorem dX6_isIn_0 : decode cX6_isIn 0 = .ok (.iload_n 0, 1) := dk_26 (dk_at dksX6_isIn_0 0 rfl rfl)
theorem dX6_isIn_1 : decode cX6_isIn 1 = .ok (.iload_n 1, 1) := dk_27 (dk_at dksX6_isIn_0 1 rfl rfl)
theorem dX6_isIn_2 : decode cX6_isIn 2 = .ok (.ishr, 1) := dk_122 (dk_at dksX6_isIn_0 2 rfl rfl)
theorem dX6_isIn_3 : decode cX6_isIn 3 = .ok (.iconst 1, 1) := dk_4 (dk_at dksX6_isIn_0 3 rfl rfl)
theorem dX6_isIn_4 : decode cX6_isIn 4 = .ok (.iand, 1) := dk_126 (dk_at dksX6_isIn_0 4 rfl rfl)
theorem dX6_isIn_5 : decode cX6_isIn 5 = .ok (.iconst 1, 1) := dk_4 (dk_at dksX6_isIn_0 5 rfl rfl)
theorem dX6_isIn_6 : decode cX6_isIn 6 = .ok (.if_icmp .ne 7, 3) := dk_160 0 7 (dk_at dksX6_isIn_0 6 rfl rfl)
theorem dX6_isIn_9 : decode cX6_isIn 9 = .ok (.iconst 1, 1) := dk_4 (dk_at dksX6_isIn_0 9 rfl rfl)
theorem dX6_isIn_10 : decode cX6_isIn 10 = .ok (.goto 4, 3) := dk_167 0 4 (dk_at dksX6_isIn_0 10 rfl rfl)
theorem dX6_isIn_13 : decode cX6_isIn 13 = .ok (.iconst 0, 1) := dk_3 (dk_at dksX6_isIn_0 13 rfl rfl)
theorem dX6_isIn_14 : decode cX6_isIn 14 = .ok (.ireturn, 1) := dk_172 (dk_at dksX6_isIn_0 14 rfl rfl)
abbrev cX6_next : ByteArray := prog_8_method_41_code
def yX6_next : MethodName := ⟨RX6, "next", "(II)I"⟩
def dkwX6_next_3 : List UInt8 := [2, 172]
abbrev dktX6_next_3 : List UInt8 := dkwX6_next_3 ++ []
def dkwX6_next_2 : List UInt8 := [46, 96, 42, 180, 0, 43, 16, 8, 27, 104, 28, 96, 46, 160, 0, 5, 29, 172, 132, 3, 1, 167, 255, 191]
abbrev dktX6_next_2 : List UInt8 := dkwX6_next_2 ++ dktX6_next_3
def dkwX6_next_1 : List UInt8 := [162, 0, 42, 42, 180, 0, 40, 16, 8, 27, 104, 29, 96, 46, 42, 180, 0, 43, 16, 8, 29, 104, 28, 96]
abbrev dktX6_next_1 : List UInt8 := dkwX6_next_1 ++ dktX6_next_2
def dkwX6_next_0 : List UInt8 := [3, 62, 29, 16, 8, 162, 0, 65, 42, 180, 0, 40, 16, 8, 27, 104, 29, 96, 46, 17, 39, 15]
abbrev dktX6_next_0 : List UInt8 := dkwX6_next_0 ++ dktX6_next_1
theorem dksX6_next_0 : cX6_next.data.toList.drop 0 = dktX6_next_0 := by decide +kernel
theorem dksX6_next_1 : cX6_next.data.toList.drop 22 = dktX6_next_1 := dk_seg dksX6_next_0 22 rfl rfl
theorem dksX6_next_2 : cX6_next.data.toList.drop 46 = dktX6_next_2 := dk_seg dksX6_next_1 24 rfl rfl
theorem dksX6_next_3 : cX6_next.data.toList.drop 70 = dktX6_next_3 := dk_seg dksX6_next_2 24 rfl rfl
theorem dX6_next_0 : decode cX6_next 0 = .ok (.iconst 0, 1) := dk_3 (dk_at dksX6_next_0 0 rfl rfl)
theorem dX6_next_1 : decode cX6_next 1 = .ok (.istore_n 3, 1) := dk_62 (dk_at dksX6_next_0 1 rfl rfl)
theorem dX6_next_2 : decode cX6_next 2 = .ok (.iload_n 3, 1) := dk_29 (dk_at dksX6_next_0 2 rfl rfl)
theorem dX6_next_3 : decode cX6_next 3 = .ok (.bipush 8, 2) := dk_16 8 (dk_at dksX6_next_0 3 rfl rfl)
theorem dX6_next_5 : decode cX6_next 5 = .ok (.if_icmp .ge 65, 3) := dk_162 0 65 (dk_at dksX6_next_0 5 rfl rfl)
theorem dX6_next_8 : decode cX6_next 8 = .ok (.aload_n 0, 1) := dk_42 (dk_at dksX6_next_0 8 rfl rfl)
theorem dX6_next_9 : decode cX6_next 9 = .ok (.getfield 40, 3) := dk_180 0 40 (dk_at dksX6_next_0 9 rfl rfl)
theorem dX6_next_12 : decode cX6_next 12 = .ok (.bipush 8, 2) := dk_16 8 (dk_at dksX6_next_0 12 rfl rfl)
theorem dX6_next_14 : decode cX6_next 14 = .ok (.iload_n 1, 1) := dk_27 (dk_at dksX6_next_0 14 rfl rfl)
theorem dX6_next_15 : decode cX6_next 15 = .ok (.imul, 1) := dk_104 (dk_at dksX6_next_0 15 rfl rfl)
theorem dX6_next_16 : decode cX6_next 16 = .ok (.iload_n 3, 1) := dk_29 (dk_at dksX6_next_0 16 rfl rfl)
theorem dX6_next_17 : decode cX6_next 17 = .ok (.iadd, 1) := dk_96 (dk_at dksX6_next_0 17 rfl rfl)
theorem dX6_next_18 : decode cX6_next 18 = .ok (.iaload, 1) := dk_46 (dk_at dksX6_next_0 18 rfl rfl)
theorem dX6_next_19 : decode cX6_next 19 = .ok (.sipush 9999, 3) := dk_17 39 15 (dk_at dksX6_next_0 19 rfl rfl)
theorem dX6_next_22 : decode cX6_next 22 = .ok (.if_icmp .ge 42, 3) := dk_162 0 42 (dk_at dksX6_next_1 0 rfl rfl)
theorem dX6_next_25 : decode cX6_next 25 = .ok (.aload_n 0, 1) := dk_42 (dk_at dksX6_next_1 3 rfl rfl)
theorem dX6_next_26 : decode cX6_next 26 = .ok (.getfield 40, 3) := dk_180 0 40 (dk_at dksX6_next_1 4 rfl rfl)
theorem dX6_next_29 : decode cX6_next 29 = .ok (.bipush 8, 2) := dk_16 8 (dk_at dksX6_next_1 7 rfl rfl)
theorem dX6_next_31 : decode cX6_next 31 = .ok (.iload_n 1, 1) := dk_27 (dk_at dksX6_next_1 9 rfl rfl)
theorem dX6_next_32 : decode cX6_next 32 = .ok (.imul, 1) := dk_104 (dk_at dksX6_next_1 10 rfl rfl)
theorem dX6_next_33 : decode cX6_next 33 = .ok (.iload_n 3, 1) := dk_29 (dk_at dksX6_next_1 11 rfl rfl)
theorem dX6_next_34 : decode cX6_next 34 = .ok (.iadd, 1) := dk_96 (dk_at dksX6_next_1 12 rfl rfl)
theorem dX6_next_35 : decode cX6_next 35 = .ok (.iaload, 1) := dk_46 (dk_at dksX6_next_1 13 rfl rfl)
theorem dX6_next_36 : decode cX6_next 36 = .ok (.aload_n 0, 1) := dk_42 (dk_at dksX6_next_1 14 rfl rfl)
theorem dX6_next_37 : decode cX6_next 37 = .ok (.getfield 43, 3) := dk_180 0 43 (dk_at dksX6_next_1 15 rfl rfl)
theorem dX6_next_40 : decode cX6_next 40 = .ok (.bipush 8, 2) := dk_16 8 (dk_at dksX6_next_1 18 rfl rfl)
theorem dX6_next_42 : decode cX6_next 42 = .ok (.iload_n 3, 1) := dk_29 (dk_at dksX6_next_1 20 rfl rfl)
theorem dX6_next_43 : decode cX6_next 43 = .ok (.imul, 1) := dk_104 (dk_at dksX6_next_1 21 rfl rfl)
theorem dX6_next_44 : decode cX6_next 44 = .ok (.iload_n 2, 1) := dk_28 (dk_at dksX6_next_1 22 rfl rfl)
theorem dX6_next_45 : decode cX6_next 45 = .ok (.iadd, 1) := dk_96 (dk_at dksX6_next_1 23 rfl rfl)
theorem dX6_next_46 : decode cX6_next 46 = .ok (.iaload, 1) := dk_46 (dk_at dksX6_next_2 0 rfl rfl)
theorem dX6_next_47 : decode cX6_next 47 = .ok (.iadd, 1) := dk_96 (dk_at dksX6_next_2 1 rfl rfl)
theorem dX6_next_48 : decode cX6_next 48 = .ok (.aload_n 0, 1) := dk_42 (dk_at dksX6_next_2 2 rfl rfl)
theorem dX6_next_49 : decode cX6_next 49 = .ok (.getfield 43, 3) := dk_180 0 43 (dk_at dksX6_next_2 3 rfl rfl)
theorem dX6_next_52 : decode cX6_next 52 = .ok (.bipush 8, 2) := dk_16 8 (dk_at dksX6_next_2 6 rfl rfl)
theorem dX6_next_54 : decode cX6_next 54 = .ok (.iload_n 1, 1) := dk_27 (dk_at dksX6_next_2 8 rfl rfl)
theorem dX6_next_55 : decode cX6_next 55 = .ok (.imul, 1) := dk_104 (dk_at dksX6_next_2 9 rfl rfl)
theorem dX6_next_56 : decode cX6_next 56 = .ok (.iload_n 2, 1) := dk_28 (dk_at dksX6_next_2 10 rfl rfl)
theorem dX6_next_57 : decode cX6_next 57 = .ok (.iadd, 1) := dk_96 (dk_at dksX6_next_2 11 rfl rfl)
theorem dX6_next_58 : decode cX6_next 58 = .ok (.iaload, 1) := dk_46 (dk_at dksX6_next_2 12 rfl rfl)
theorem dX6_next_59 : decode cX6_next 59 = .ok (.if_icmp .ne 5, 3) := dk_160 0 5 (dk_at dksX6_next_2 13 rfl rfl)
theorem dX6_next_62 : decode cX6_next 62 = .ok (.iload_n 3, 1) := dk_29 (dk_at dksX6_next_2 16 rfl rfl)
theorem dX6_next_63 : decode cX6_next 63 = .ok (.ireturn, 1) := dk_172 (dk_at dksX6_next_2 17 rfl rfl)
theorem dX6_next_64 : decode cX6_next 64 = .ok (.iinc 3 1, 3) := dk_132 3 1 (dk_at dksX6_next_2 18 rfl rfl)
theorem dX6_next_67 : decode cX6_next 67 = .ok (.goto (-65), 3) := dk_167 255 191 (dk_at dksX6_next_2 21 rfl rfl)
theorem dX6_next_70 : decode cX6_next 70 = .ok (.iconst (-1), 1) := dk_2 (dk_at dksX6_next_3 0 rfl rfl)
theorem dX6_next_71 : decode cX6_next 71 = .ok (.ireturn, 1) := dk_172 (dk_at dksX6_next_3 1 rfl rfl)
abbrev cX6_keeps : ByteArray := prog_8_method_47_code
def yX6_keeps : MethodName := ⟨RX6, "keeps", "(I)V"⟩
def dkwX6_keeps_4 : List UInt8 := [42, 180, 0, 55, 28, 46, 167, 0, 4, 2, 79, 132, 2, 1, 167, 255, 149, 177]
abbrev dktX6_keeps_4 : List UInt8 := dkwX6_keeps_4 ++ []
def dkwX6_keeps_3 : List UInt8 := [42, 180, 0, 64, 16, 32, 27, 104, 7, 28, 104, 96, 6, 96, 42, 180, 0, 46, 28, 46, 4, 160, 0, 12]
abbrev dktX6_keeps_3 : List UInt8 := dkwX6_keeps_3 ++ dktX6_keeps_4
def dkwX6_keeps_2 : List UInt8 := [28, 46, 79, 42, 180, 0, 64, 16, 32, 27, 104, 7, 28, 104, 96, 5, 96, 42, 180, 0, 52, 28, 46, 79]
abbrev dktX6_keeps_2 : List UInt8 := dkwX6_keeps_2 ++ dktX6_keeps_3
def dkwX6_keeps_1 : List UInt8 := [180, 0, 46, 28, 46, 79, 42, 180, 0, 64, 16, 32, 27, 104, 7, 28, 104, 96, 4, 96, 42, 180, 0, 49]
abbrev dktX6_keeps_1 : List UInt8 := dkwX6_keeps_1 ++ dktX6_keeps_2
def dkwX6_keeps_0 : List UInt8 := [3, 61, 28, 42, 180, 0, 133, 162, 0, 105, 42, 180, 0, 64, 16, 32, 27, 104, 7, 28, 104, 96, 42]
abbrev dktX6_keeps_0 : List UInt8 := dkwX6_keeps_0 ++ dktX6_keeps_1
theorem dksX6_keeps_0 : cX6_keeps.data.toList.drop 0 = dktX6_keeps_0 := by decide +kernel
theorem dksX6_keeps_1 : cX6_keeps.data.toList.drop 23 = dktX6_keeps_1 := dk_seg dksX6_keeps_0 23 rfl rfl
theorem dksX6_keeps_2 : cX6_keeps.data.toList.drop 47 = dktX6_keeps_2 := dk_seg dksX6_keeps_1 24 rfl rfl
theorem dksX6_keeps_3 : cX6_keeps.data.toList.drop 71 = dktX6_keeps_3 := dk_seg dksX6_keeps_2 24 rfl rfl
theorem dksX6_keeps_4 : cX6_keeps.data.toList.drop 95 = dktX6_keeps_4 := dk_seg dksX6_keeps_3 24 rfl rfl
theorem dX6_keeps_0 : decode cX6_keeps 0 = .ok (.iconst 0, 1) := dk_3 (dk_at dksX6_keeps_0 0 rfl rfl)
theorem dX6_keeps_1 : decode cX6_keeps 1 = .ok (.istore_n 2, 1) := dk_61 (dk_at dksX6_keeps_0 1 rfl rfl)
theorem dX6_keeps_2 : decode cX6_keeps 2 = .ok (.iload_n 2, 1) := dk_28 (dk_at dksX6_keeps_0 2 rfl rfl)
theorem dX6_keeps_3 : decode cX6_keeps 3 = .ok (.aload_n 0, 1) := dk_42 (dk_at dksX6_keeps_0 3 rfl rfl)
theorem dX6_keeps_4 : decode cX6_keeps 4 = .ok (.getfield 133, 3) := dk_180 0 133 (dk_at dksX6_keeps_0 4 rfl rfl)
theorem dX6_keeps_7 : decode cX6_keeps 7 = .ok (.if_icmp .ge 105, 3) := dk_162 0 105 (dk_at dksX6_keeps_0 7 rfl rfl)
theorem dX6_keeps_10 : decode cX6_keeps 10 = .ok (.aload_n 0, 1) := dk_42 (dk_at dksX6_keeps_0 10 rfl rfl)
theorem dX6_keeps_11 : decode cX6_keeps 11 = .ok (.getfield 64, 3) := dk_180 0 64 (dk_at dksX6_keeps_0 11 rfl rfl)
theorem dX6_keeps_14 : decode cX6_keeps 14 = .ok (.bipush 32, 2) := dk_16 32 (dk_at dksX6_keeps_0 14 rfl rfl)
theorem dX6_keeps_16 : decode cX6_keeps 16 = .ok (.iload_n 1, 1) := dk_27 (dk_at dksX6_keeps_0 16 rfl rfl)
theorem dX6_keeps_17 : decode cX6_keeps 17 = .ok (.imul, 1) := dk_104 (dk_at dksX6_keeps_0 17 rfl rfl)
theorem dX6_keeps_18 : decode cX6_keeps 18 = .ok (.iconst 4, 1) := dk_7 (dk_at dksX6_keeps_0 18 rfl rfl)
theorem dX6_keeps_19 : decode cX6_keeps 19 = .ok (.iload_n 2, 1) := dk_28 (dk_at dksX6_keeps_0 19 rfl rfl)
theorem dX6_keeps_20 : decode cX6_keeps 20 = .ok (.imul, 1) := dk_104 (dk_at dksX6_keeps_0 20 rfl rfl)
theorem dX6_keeps_21 : decode cX6_keeps 21 = .ok (.iadd, 1) := dk_96 (dk_at dksX6_keeps_0 21 rfl rfl)
theorem dX6_keeps_22 : decode cX6_keeps 22 = .ok (.aload_n 0, 1) := dk_42 (dk_at dksX6_keeps_0 22 rfl rfl)
theorem dX6_keeps_23 : decode cX6_keeps 23 = .ok (.getfield 46, 3) := dk_180 0 46 (dk_at dksX6_keeps_1 0 rfl rfl)
theorem dX6_keeps_26 : decode cX6_keeps 26 = .ok (.iload_n 2, 1) := dk_28 (dk_at dksX6_keeps_1 3 rfl rfl)
theorem dX6_keeps_27 : decode cX6_keeps 27 = .ok (.iaload, 1) := dk_46 (dk_at dksX6_keeps_1 4 rfl rfl)
theorem dX6_keeps_28 : decode cX6_keeps 28 = .ok (.iastore, 1) := dk_79 (dk_at dksX6_keeps_1 5 rfl rfl)
theorem dX6_keeps_29 : decode cX6_keeps 29 = .ok (.aload_n 0, 1) := dk_42 (dk_at dksX6_keeps_1 6 rfl rfl)
theorem dX6_keeps_30 : decode cX6_keeps 30 = .ok (.getfield 64, 3) := dk_180 0 64 (dk_at dksX6_keeps_1 7 rfl rfl)
theorem dX6_keeps_33 : decode cX6_keeps 33 = .ok (.bipush 32, 2) := dk_16 32 (dk_at dksX6_keeps_1 10 rfl rfl)
theorem dX6_keeps_35 : decode cX6_keeps 35 = .ok (.iload_n 1, 1) := dk_27 (dk_at dksX6_keeps_1 12 rfl rfl)
theorem dX6_keeps_36 : decode cX6_keeps 36 = .ok (.imul, 1) := dk_104 (dk_at dksX6_keeps_1 13 rfl rfl)
theorem dX6_keeps_37 : decode cX6_keeps 37 = .ok (.iconst 4, 1) := dk_7 (dk_at dksX6_keeps_1 14 rfl rfl)
theorem dX6_keeps_38 : decode cX6_keeps 38 = .ok (.iload_n 2, 1) := dk_28 (dk_at dksX6_keeps_1 15 rfl rfl)
theorem dX6_keeps_39 : decode cX6_keeps 39 = .ok (.imul, 1) := dk_104 (dk_at dksX6_keeps_1 16 rfl rfl)
theorem dX6_keeps_40 : decode cX6_keeps 40 = .ok (.iadd, 1) := dk_96 (dk_at dksX6_keeps_1 17 rfl rfl)
theorem dX6_keeps_41 : decode cX6_keeps 41 = .ok (.iconst 1, 1) := dk_4 (dk_at dksX6_keeps_1 18 rfl rfl)
theorem dX6_keeps_42 : decode cX6_keeps 42 = .ok (.iadd, 1) := dk_96 (dk_at dksX6_keeps_1 19 rfl rfl)
theorem dX6_keeps_43 : decode cX6_keeps 43 = .ok (.aload_n 0, 1) := dk_42 (dk_at dksX6_keeps_1 20 rfl rfl)
theorem dX6_keeps_44 : decode cX6_keeps 44 = .ok (.getfield 49, 3) := dk_180 0 49 (dk_at dksX6_keeps_1 21 rfl rfl)
theorem dX6_keeps_47 : decode cX6_keeps 47 = .ok (.iload_n 2, 1) := dk_28 (dk_at dksX6_keeps_2 0 rfl rfl)
theorem dX6_keeps_48 : decode cX6_keeps 48 = .ok (.iaload, 1) := dk_46 (dk_at dksX6_keeps_2 1 rfl rfl)
theorem dX6_keeps_49 : decode cX6_keeps 49 = .ok (.iastore, 1) := dk_79 (dk_at dksX6_keeps_2 2 rfl rfl)
theorem dX6_keeps_50 : decode cX6_keeps 50 = .ok (.aload_n 0, 1) := dk_42 (dk_at dksX6_keeps_2 3 rfl rfl)
theorem dX6_keeps_51 : decode cX6_keeps 51 = .ok (.getfield 64, 3) := dk_180 0 64 (dk_at dksX6_keeps_2 4 rfl rfl)
theorem dX6_keeps_54 : decode cX6_keeps 54 = .ok (.bipush 32, 2) := dk_16 32 (dk_at dksX6_keeps_2 7 rfl rfl)
theorem dX6_keeps_56 : decode cX6_keeps 56 = .ok (.iload_n 1, 1) := dk_27 (dk_at dksX6_keeps_2 9 rfl rfl)
theorem dX6_keeps_57 : decode cX6_keeps 57 = .ok (.imul, 1) := dk_104 (dk_at dksX6_keeps_2 10 rfl rfl)
theorem dX6_keeps_58 : decode cX6_keeps 58 = .ok (.iconst 4, 1) := dk_7 (dk_at dksX6_keeps_2 11 rfl rfl)
theorem dX6_keeps_59 : decode cX6_keeps 59 = .ok (.iload_n 2, 1) := dk_28 (dk_at dksX6_keeps_2 12 rfl rfl)
theorem dX6_keeps_60 : decode cX6_keeps 60 = .ok (.imul, 1) := dk_104 (dk_at dksX6_keeps_2 13 rfl rfl)
theorem dX6_keeps_61 : decode cX6_keeps 61 = .ok (.iadd, 1) := dk_96 (dk_at dksX6_keeps_2 14 rfl rfl)
theorem dX6_keeps_62 : decode cX6_keeps 62 = .ok (.iconst 2, 1) := dk_5 (dk_at dksX6_keeps_2 15 rfl rfl)
theorem dX6_keeps_63 : decode cX6_keeps 63 = .ok (.iadd, 1) := dk_96 (dk_at dksX6_keeps_2 16 rfl rfl)
theorem dX6_keeps_64 : decode cX6_keeps 64 = .ok (.aload_n 0, 1) := dk_42 (dk_at dksX6_keeps_2 17 rfl rfl)
theorem dX6_keeps_65 : decode cX6_keeps 65 = .ok (.getfield 52, 3) := dk_180 0 52 (dk_at dksX6_keeps_2 18 rfl rfl)
theorem dX6_keeps_68 : decode cX6_keeps 68 = .ok (.iload_n 2, 1) := dk_28 (dk_at dksX6_keeps_2 21 rfl rfl)
theorem dX6_keeps_69 : decode cX6_keeps 69 = .ok (.iaload, 1) := dk_46 (dk_at dksX6_keeps_2 22 rfl rfl)
theorem dX6_keeps_70 : decode cX6_keeps 70 = .ok (.iastore, 1) := dk_79 (dk_at dksX6_keeps_2 23 rfl rfl)
theorem dX6_keeps_71 : decode cX6_keeps 71 = .ok (.aload_n 0, 1) := dk_42 (dk_at dksX6_keeps_3 0 rfl rfl)
theorem dX6_keeps_72 : decode cX6_keeps 72 = .ok (.getfield 64, 3) := dk_180 0 64 (dk_at dksX6_keeps_3 1 rfl rfl)
theorem dX6_keeps_75 : decode cX6_keeps 75 = .ok (.bipush 32, 2) := dk_16 32 (dk_at dksX6_keeps_3 4 rfl rfl)
theorem dX6_keeps_77 : decode cX6_keeps 77 = .ok (.iload_n 1, 1) := dk_27 (dk_at dksX6_keeps_3 6 rfl rfl)
theorem dX6_keeps_78 : decode cX6_keeps 78 = .ok (.imul, 1) := dk_104 (dk_at dksX6_keeps_3 7 rfl rfl)
theorem dX6_keeps_79 : decode cX6_keeps 79 = .ok (.iconst 4, 1) := dk_7 (dk_at dksX6_keeps_3 8 rfl rfl)
theorem dX6_keeps_80 : decode cX6_keeps 80 = .ok (.iload_n 2, 1) := dk_28 (dk_at dksX6_keeps_3 9 rfl rfl)
theorem dX6_keeps_81 : decode cX6_keeps 81 = .ok (.imul, 1) := dk_104 (dk_at dksX6_keeps_3 10 rfl rfl)
theorem dX6_keeps_82 : decode cX6_keeps 82 = .ok (.iadd, 1) := dk_96 (dk_at dksX6_keeps_3 11 rfl rfl)
theorem dX6_keeps_83 : decode cX6_keeps 83 = .ok (.iconst 3, 1) := dk_6 (dk_at dksX6_keeps_3 12 rfl rfl)
theorem dX6_keeps_84 : decode cX6_keeps 84 = .ok (.iadd, 1) := dk_96 (dk_at dksX6_keeps_3 13 rfl rfl)
theorem dX6_keeps_85 : decode cX6_keeps 85 = .ok (.aload_n 0, 1) := dk_42 (dk_at dksX6_keeps_3 14 rfl rfl)
theorem dX6_keeps_86 : decode cX6_keeps 86 = .ok (.getfield 46, 3) := dk_180 0 46 (dk_at dksX6_keeps_3 15 rfl rfl)
theorem dX6_keeps_89 : decode cX6_keeps 89 = .ok (.iload_n 2, 1) := dk_28 (dk_at dksX6_keeps_3 18 rfl rfl)
theorem dX6_keeps_90 : decode cX6_keeps 90 = .ok (.iaload, 1) := dk_46 (dk_at dksX6_keeps_3 19 rfl rfl)
theorem dX6_keeps_91 : decode cX6_keeps 91 = .ok (.iconst 1, 1) := dk_4 (dk_at dksX6_keeps_3 20 rfl rfl)
theorem dX6_keeps_92 : decode cX6_keeps 92 = .ok (.if_icmp .ne 12, 3) := dk_160 0 12 (dk_at dksX6_keeps_3 21 rfl rfl)
theorem dX6_keeps_95 : decode cX6_keeps 95 = .ok (.aload_n 0, 1) := dk_42 (dk_at dksX6_keeps_4 0 rfl rfl)
theorem dX6_keeps_96 : decode cX6_keeps 96 = .ok (.getfield 55, 3) := dk_180 0 55 (dk_at dksX6_keeps_4 1 rfl rfl)
theorem dX6_keeps_99 : decode cX6_keeps 99 = .ok (.iload_n 2, 1) := dk_28 (dk_at dksX6_keeps_4 4 rfl rfl)
theorem dX6_keeps_100 : decode cX6_keeps 100 = .ok (.iaload, 1) := dk_46 (dk_at dksX6_keeps_4 5 rfl rfl)
theorem dX6_keeps_101 : decode cX6_keeps 101 = .ok (.goto 4, 3) := dk_167 0 4 (dk_at dksX6_keeps_4 6 rfl rfl)
theorem dX6_keeps_104 : decode cX6_keeps 104 = .ok (.iconst (-1), 1) := dk_2 (dk_at dksX6_keeps_4 9 rfl rfl)
theorem dX6_keeps_105 : decode cX6_keeps 105 = .ok (.iastore, 1) := dk_79 (dk_at dksX6_keeps_4 10 rfl rfl)
theorem dX6_keeps_106 : decode cX6_keeps 106 = .ok (.iinc 2 1, 3) := dk_132 2 1 (dk_at dksX6_keeps_4 11 rfl rfl)
theorem dX6_keeps_109 : decode cX6_keeps 109 = .ok (.goto (-107), 3) := dk_167 255 149 (dk_at dksX6_keeps_4 14 rfl rfl)
theorem dX6_keeps_112 : decode cX6_keeps 112 = .ok (.return_, 1) := dk_177 (dk_at dksX6_keeps_4 17 rfl rfl)
abbrev cX6_ends : ByteArray := prog_8_method_51_code
def yX6_ends : MethodName := ⟨RX6, "ends", "(I)I"⟩
def dkwX6_ends_0 : List UInt8 := [42, 182, 0, 218, 42, 27, 182, 0, 153, 153, 0, 12, 42, 180, 0, 61, 27, 46, 167, 0, 5, 16, 254, 172]
abbrev dktX6_ends_0 : List UInt8 := dkwX6_ends_0 ++ []
theorem dksX6_ends_0 : cX6_ends.data.toList.drop 0 = dktX6_ends_0 := by decide +kernel
theorem dX6_ends_0 : decode cX6_ends 0 = .ok (.aload_n 0, 1) := dk_42 (dk_at dksX6_ends_0 0 rfl rfl)
theorem dX6_ends_1 : decode cX6_ends 1 = .ok (.invokevirtual 218, 3) := dk_182 0 218 (dk_at dksX6_ends_0 1 rfl rfl)
theorem dX6_ends_4 : decode cX6_ends 4 = .ok (.aload_n 0, 1) := dk_42 (dk_at dksX6_ends_0 4 rfl rfl)
theorem dX6_ends_5 : decode cX6_ends 5 = .ok (.iload_n 1, 1) := dk_27 (dk_at dksX6_ends_0 5 rfl rfl)
theorem dX6_ends_6 : decode cX6_ends 6 = .ok (.invokevirtual 153, 3) := dk_182 0 153 (dk_at dksX6_ends_0 6 rfl rfl)
theorem dX6_ends_9 : decode cX6_ends 9 = .ok (.ifCond .eq 12, 3) := dk_153 0 12 (dk_at dksX6_ends_0 9 rfl rfl)
theorem dX6_ends_12 : decode cX6_ends 12 = .ok (.aload_n 0, 1) := dk_42 (dk_at dksX6_ends_0 12 rfl rfl)
theorem dX6_ends_13 : decode cX6_ends 13 = .ok (.getfield 61, 3) := dk_180 0 61 (dk_at dksX6_ends_0 13 rfl rfl)
theorem dX6_ends_16 : decode cX6_ends 16 = .ok (.iload_n 1, 1) := dk_27 (dk_at dksX6_ends_0 16 rfl rfl)
theorem dX6_ends_17 : decode cX6_ends 17 = .ok (.iaload, 1) := dk_46 (dk_at dksX6_ends_0 17 rfl rfl)
theorem dX6_ends_18 : decode cX6_ends 18 = .ok (.goto 5, 3) := dk_167 0 5 (dk_at dksX6_ends_0 18 rfl rfl)
theorem dX6_ends_21 : decode cX6_ends 21 = .ok (.bipush (-2), 2) := dk_16 254 (dk_at dksX6_ends_0 21 rfl rfl)
theorem dX6_ends_23 : decode cX6_ends 23 = .ok (.ireturn, 1) := dk_172 (dk_at dksX6_ends_0 23 rfl rfl)
abbrev cX6_far : ByteArray := prog_8_method_53_code
def yX6_far : MethodName := ⟨RX6, "far", "(II)I"⟩
def dkwX6_far_1 : List UInt8 := [167, 0, 5, 16, 254, 172]
abbrev dktX6_far_1 : List UInt8 := dkwX6_far_1 ++ []
def dkwX6_far_0 : List UInt8 := [42, 182, 0, 218, 27, 184, 0, 163, 153, 0, 19, 28, 184, 0, 163, 153, 0, 12, 42, 27, 28, 182, 0, 221]
abbrev dktX6_far_0 : List UInt8 := dkwX6_far_0 ++ dktX6_far_1
theorem dksX6_far_0 : cX6_far.data.toList.drop 0 = dktX6_far_0 := by decide +kernel
theorem dksX6_far_1 : cX6_far.data.toList.drop 24 = dktX6_far_1 := dk_seg dksX6_far_0 24 rfl rfl
theorem dX6_far_0 : decode cX6_far 0 = .ok (.aload_n 0, 1) := dk_42 (dk_at dksX6_far_0 0 rfl rfl)
theorem dX6_far_1 : decode cX6_far 1 = .ok (.invokevirtual 218, 3) := dk_182 0 218 (dk_at dksX6_far_0 1 rfl rfl)
theorem dX6_far_4 : decode cX6_far 4 = .ok (.iload_n 1, 1) := dk_27 (dk_at dksX6_far_0 4 rfl rfl)
theorem dX6_far_5 : decode cX6_far 5 = .ok (.invokestatic 163, 3) := dk_184 0 163 (dk_at dksX6_far_0 5 rfl rfl)
theorem dX6_far_8 : decode cX6_far 8 = .ok (.ifCond .eq 19, 3) := dk_153 0 19 (dk_at dksX6_far_0 8 rfl rfl)
theorem dX6_far_11 : decode cX6_far 11 = .ok (.iload_n 2, 1) := dk_28 (dk_at dksX6_far_0 11 rfl rfl)
theorem dX6_far_12 : decode cX6_far 12 = .ok (.invokestatic 163, 3) := dk_184 0 163 (dk_at dksX6_far_0 12 rfl rfl)
theorem dX6_far_15 : decode cX6_far 15 = .ok (.ifCond .eq 12, 3) := dk_153 0 12 (dk_at dksX6_far_0 15 rfl rfl)
theorem dX6_far_18 : decode cX6_far 18 = .ok (.aload_n 0, 1) := dk_42 (dk_at dksX6_far_0 18 rfl rfl)
theorem dX6_far_19 : decode cX6_far 19 = .ok (.iload_n 1, 1) := dk_27 (dk_at dksX6_far_0 19 rfl rfl)
theorem dX6_far_20 : decode cX6_far 20 = .ok (.iload_n 2, 1) := dk_28 (dk_at dksX6_far_0 20 rfl rfl)
theorem dX6_far_21 : decode cX6_far 21 = .ok (.invokevirtual 221, 3) := dk_182 0 221 (dk_at dksX6_far_0 21 rfl rfl)
theorem dX6_far_24 : decode cX6_far 24 = .ok (.goto 5, 3) := dk_167 0 5 (dk_at dksX6_far_1 0 rfl rfl)
theorem dX6_far_27 : decode cX6_far 27 = .ok (.bipush (-2), 2) := dk_16 254 (dk_at dksX6_far_1 3 rfl rfl)
theorem dX6_far_29 : decode cX6_far 29 = .ok (.ireturn, 1) := dk_172 (dk_at dksX6_far_1 5 rfl rfl)
abbrev cX6_farBy : ByteArray := prog_8_method_52_code
def yX6_farBy : MethodName := ⟨RX6, "farBy", "(II)I"⟩
def dkwX6_farBy_1 : List UInt8 := [104, 28, 96, 46, 167, 0, 4, 2, 172]
abbrev dktX6_farBy_1 : List UInt8 := dkwX6_farBy_1 ++ []
def dkwX6_farBy_0 : List UInt8 := [42, 180, 0, 43, 16, 8, 27, 104, 28, 96, 46, 17, 39, 15, 162, 0, 17, 42, 180, 0, 43, 16, 8, 27]
abbrev dktX6_farBy_0 : List UInt8 := dkwX6_farBy_0 ++ dktX6_farBy_1
theorem dksX6_farBy_0 : cX6_farBy.data.toList.drop 0 = dktX6_farBy_0 := by decide +kernel
theorem dksX6_farBy_1 : cX6_farBy.data.toList.drop 24 = dktX6_farBy_1 := dk_seg dksX6_farBy_0 24 rfl rfl
theorem dX6_farBy_0 : decode cX6_farBy 0 = .ok (.aload_n 0, 1) := dk_42 (dk_at dksX6_farBy_0 0 rfl rfl)
theorem dX6_farBy_1 : decode cX6_farBy 1 = .ok (.getfield 43, 3) := dk_180 0 43 (dk_at dksX6_farBy_0 1 rfl rfl)
theorem dX6_farBy_4 : decode cX6_farBy 4 = .ok (.bipush 8, 2) := dk_16 8 (dk_at dksX6_farBy_0 4 rfl rfl)
theorem dX6_farBy_6 : decode cX6_farBy 6 = .ok (.iload_n 1, 1) := dk_27 (dk_at dksX6_farBy_0 6 rfl rfl)
theorem dX6_farBy_7 : decode cX6_farBy 7 = .ok (.imul, 1) := dk_104 (dk_at dksX6_farBy_0 7 rfl rfl)
theorem dX6_farBy_8 : decode cX6_farBy 8 = .ok (.iload_n 2, 1) := dk_28 (dk_at dksX6_farBy_0 8 rfl rfl)
theorem dX6_farBy_9 : decode cX6_farBy 9 = .ok (.iadd, 1) := dk_96 (dk_at dksX6_farBy_0 9 rfl rfl)
theorem dX6_farBy_10 : decode cX6_farBy 10 = .ok (.iaload, 1) := dk_46 (dk_at dksX6_farBy_0 10 rfl rfl)
theorem dX6_farBy_11 : decode cX6_farBy 11 = .ok (.sipush 9999, 3) := dk_17 39 15 (dk_at dksX6_farBy_0 11 rfl rfl)
theorem dX6_farBy_14 : decode cX6_farBy 14 = .ok (.if_icmp .ge 17, 3) := dk_162 0 17 (dk_at dksX6_farBy_0 14 rfl rfl)
theorem dX6_farBy_17 : decode cX6_farBy 17 = .ok (.aload_n 0, 1) := dk_42 (dk_at dksX6_farBy_0 17 rfl rfl)
theorem dX6_farBy_18 : decode cX6_farBy 18 = .ok (.getfield 43, 3) := dk_180 0 43 (dk_at dksX6_farBy_0 18 rfl rfl)
theorem dX6_farBy_21 : decode cX6_farBy 21 = .ok (.bipush 8, 2) := dk_16 8 (dk_at dksX6_farBy_0 21 rfl rfl)
theorem dX6_farBy_23 : decode cX6_farBy 23 = .ok (.iload_n 1, 1) := dk_27 (dk_at dksX6_farBy_0 23 rfl rfl)
theorem dX6_farBy_24 : decode cX6_farBy 24 = .ok (.imul, 1) := dk_104 (dk_at dksX6_farBy_1 0 rfl rfl)
theorem dX6_farBy_25 : decode cX6_farBy 25 = .ok (.iload_n 2, 1) := dk_28 (dk_at dksX6_farBy_1 1 rfl rfl)
theorem dX6_farBy_26 : decode cX6_farBy 26 = .ok (.iadd, 1) := dk_96 (dk_at dksX6_farBy_1 2 rfl rfl)
theorem dX6_farBy_27 : decode cX6_farBy 27 = .ok (.iaload, 1) := dk_46 (dk_at dksX6_farBy_1 3 rfl rfl)
theorem dX6_farBy_28 : decode cX6_farBy 28 = .ok (.goto 4, 3) := dk_167 0 4 (dk_at dksX6_farBy_1 4 rfl rfl)
theorem dX6_farBy_31 : decode cX6_farBy 31 = .ok (.iconst (-1), 1) := dk_2 (dk_at dksX6_farBy_1 7 rfl rfl)
theorem dX6_farBy_32 : decode cX6_farBy 32 = .ok (.ireturn, 1) := dk_172 (dk_at dksX6_farBy_1 8 rfl rfl)
abbrev cX6_who : ByteArray := prog_8_method_55_code
def yX6_who : MethodName := ⟨RX6, "who", "(I)I"⟩
def dkwX6_who_1 : List UInt8 := [167, 0, 5, 16, 254, 172]
abbrev dktX6_who_1 : List UInt8 := dkwX6_who_1 ++ []
def dkwX6_who_0 : List UInt8 := [42, 182, 0, 218, 27, 133, 20, 0, 95, 20, 0, 224, 184, 0, 81, 153, 0, 11, 42, 27, 182, 0, 226]
abbrev dktX6_who_0 : List UInt8 := dkwX6_who_0 ++ dktX6_who_1
theorem dksX6_who_0 : cX6_who.data.toList.drop 0 = dktX6_who_0 := by decide +kernel
theorem dksX6_who_1 : cX6_who.data.toList.drop 23 = dktX6_who_1 := dk_seg dksX6_who_0 23 rfl rfl
theorem dX6_who_0 : decode cX6_who 0 = .ok (.aload_n 0, 1) := dk_42 (dk_at dksX6_who_0 0 rfl rfl)
theorem dX6_who_1 : decode cX6_who 1 = .ok (.invokevirtual 218, 3) := dk_182 0 218 (dk_at dksX6_who_0 1 rfl rfl)
theorem dX6_who_4 : decode cX6_who 4 = .ok (.iload_n 1, 1) := dk_27 (dk_at dksX6_who_0 4 rfl rfl)
theorem dX6_who_5 : decode cX6_who 5 = .ok (.i2l, 1) := dk_133 (dk_at dksX6_who_0 5 rfl rfl)
theorem dX6_who_6 : decode cX6_who 6 = .ok (.ldc2_w 95, 3) := dk_20 0 95 (dk_at dksX6_who_0 6 rfl rfl)
theorem dX6_who_9 : decode cX6_who 9 = .ok (.ldc2_w 224, 3) := dk_20 0 224 (dk_at dksX6_who_0 9 rfl rfl)
theorem dX6_who_12 : decode cX6_who 12 = .ok (.invokestatic 81, 3) := dk_184 0 81 (dk_at dksX6_who_0 12 rfl rfl)
theorem dX6_who_15 : decode cX6_who 15 = .ok (.ifCond .eq 11, 3) := dk_153 0 11 (dk_at dksX6_who_0 15 rfl rfl)
theorem dX6_who_18 : decode cX6_who 18 = .ok (.aload_n 0, 1) := dk_42 (dk_at dksX6_who_0 18 rfl rfl)
theorem dX6_who_19 : decode cX6_who 19 = .ok (.iload_n 1, 1) := dk_27 (dk_at dksX6_who_0 19 rfl rfl)
theorem dX6_who_20 : decode cX6_who 20 = .ok (.invokevirtual 226, 3) := dk_182 0 226 (dk_at dksX6_who_0 20 rfl rfl)
theorem dX6_who_23 : decode cX6_who 23 = .ok (.goto 5, 3) := dk_167 0 5 (dk_at dksX6_who_1 0 rfl rfl)
theorem dX6_who_26 : decode cX6_who 26 = .ok (.bipush (-2), 2) := dk_16 254 (dk_at dksX6_who_1 3 rfl rfl)
theorem dX6_who_28 : decode cX6_who 28 = .ok (.ireturn, 1) := dk_172 (dk_at dksX6_who_1 5 rfl rfl)
abbrev cX6_whoBy : ByteArray := prog_8_method_54_code
def yX6_whoBy : MethodName := ⟨RX6, "whoBy", "(I)I"⟩
def dkwX6_whoBy_1 : List UInt8 := [29, 120, 167, 0, 4, 3, 128, 61, 132, 3, 1, 167, 255, 225, 28, 172]
abbrev dktX6_whoBy_1 : List UInt8 := dkwX6_whoBy_1 ++ []
def dkwX6_whoBy_0 : List UInt8 := [3, 61, 3, 62, 29, 42, 180, 0, 133, 162, 0, 29, 28, 42, 180, 0, 46, 29, 46, 27, 160, 0, 9, 4]
abbrev dktX6_whoBy_0 : List UInt8 := dkwX6_whoBy_0 ++ dktX6_whoBy_1
theorem dksX6_whoBy_0 : cX6_whoBy.data.toList.drop 0 = dktX6_whoBy_0 := by decide +kernel
theorem dksX6_whoBy_1 : cX6_whoBy.data.toList.drop 24 = dktX6_whoBy_1 := dk_seg dksX6_whoBy_0 24 rfl rfl
theorem dX6_whoBy_0 : decode cX6_whoBy 0 = .ok (.iconst 0, 1) := dk_3 (dk_at dksX6_whoBy_0 0 rfl rfl)
theorem dX6_whoBy_1 : decode cX6_whoBy 1 = .ok (.istore_n 2, 1) := dk_61 (dk_at dksX6_whoBy_0 1 rfl rfl)
theorem dX6_whoBy_2 : decode cX6_whoBy 2 = .ok (.iconst 0, 1) := dk_3 (dk_at dksX6_whoBy_0 2 rfl rfl)
theorem dX6_whoBy_3 : decode cX6_whoBy 3 = .ok (.istore_n 3, 1) := dk_62 (dk_at dksX6_whoBy_0 3 rfl rfl)
theorem dX6_whoBy_4 : decode cX6_whoBy 4 = .ok (.iload_n 3, 1) := dk_29 (dk_at dksX6_whoBy_0 4 rfl rfl)
theorem dX6_whoBy_5 : decode cX6_whoBy 5 = .ok (.aload_n 0, 1) := dk_42 (dk_at dksX6_whoBy_0 5 rfl rfl)
theorem dX6_whoBy_6 : decode cX6_whoBy 6 = .ok (.getfield 133, 3) := dk_180 0 133 (dk_at dksX6_whoBy_0 6 rfl rfl)
theorem dX6_whoBy_9 : decode cX6_whoBy 9 = .ok (.if_icmp .ge 29, 3) := dk_162 0 29 (dk_at dksX6_whoBy_0 9 rfl rfl)
theorem dX6_whoBy_12 : decode cX6_whoBy 12 = .ok (.iload_n 2, 1) := dk_28 (dk_at dksX6_whoBy_0 12 rfl rfl)
theorem dX6_whoBy_13 : decode cX6_whoBy 13 = .ok (.aload_n 0, 1) := dk_42 (dk_at dksX6_whoBy_0 13 rfl rfl)
theorem dX6_whoBy_14 : decode cX6_whoBy 14 = .ok (.getfield 46, 3) := dk_180 0 46 (dk_at dksX6_whoBy_0 14 rfl rfl)
theorem dX6_whoBy_17 : decode cX6_whoBy 17 = .ok (.iload_n 3, 1) := dk_29 (dk_at dksX6_whoBy_0 17 rfl rfl)
theorem dX6_whoBy_18 : decode cX6_whoBy 18 = .ok (.iaload, 1) := dk_46 (dk_at dksX6_whoBy_0 18 rfl rfl)
theorem dX6_whoBy_19 : decode cX6_whoBy 19 = .ok (.iload_n 1, 1) := dk_27 (dk_at dksX6_whoBy_0 19 rfl rfl)
theorem dX6_whoBy_20 : decode cX6_whoBy 20 = .ok (.if_icmp .ne 9, 3) := dk_160 0 9 (dk_at dksX6_whoBy_0 20 rfl rfl)
theorem dX6_whoBy_23 : decode cX6_whoBy 23 = .ok (.iconst 1, 1) := dk_4 (dk_at dksX6_whoBy_0 23 rfl rfl)
theorem dX6_whoBy_24 : decode cX6_whoBy 24 = .ok (.iload_n 3, 1) := dk_29 (dk_at dksX6_whoBy_1 0 rfl rfl)
theorem dX6_whoBy_25 : decode cX6_whoBy 25 = .ok (.ishl, 1) := dk_120 (dk_at dksX6_whoBy_1 1 rfl rfl)
theorem dX6_whoBy_26 : decode cX6_whoBy 26 = .ok (.goto 4, 3) := dk_167 0 4 (dk_at dksX6_whoBy_1 2 rfl rfl)
theorem dX6_whoBy_29 : decode cX6_whoBy 29 = .ok (.iconst 0, 1) := dk_3 (dk_at dksX6_whoBy_1 5 rfl rfl)
theorem dX6_whoBy_30 : decode cX6_whoBy 30 = .ok (.ior, 1) := dk_128 (dk_at dksX6_whoBy_1 6 rfl rfl)
theorem dX6_whoBy_31 : decode cX6_whoBy 31 = .ok (.istore_n 2, 1) := dk_61 (dk_at dksX6_whoBy_1 7 rfl rfl)
theorem dX6_whoBy_32 : decode cX6_whoBy 32 = .ok (.iinc 3 1, 3) := dk_132 3 1 (dk_at dksX6_whoBy_1 8 rfl rfl)
theorem dX6_whoBy_35 : decode cX6_whoBy 35 = .ok (.goto (-31), 3) := dk_167 255 225 (dk_at dksX6_whoBy_1 11 rfl rfl)
theorem dX6_whoBy_38 : decode cX6_whoBy 38 = .ok (.iload_n 2, 1) := dk_28 (dk_at dksX6_whoBy_1 14 rfl rfl)
theorem dX6_whoBy_39 : decode cX6_whoBy 39 = .ok (.ireturn, 1) := dk_172 (dk_at dksX6_whoBy_1 15 rfl rfl)
abbrev cX6_met : ByteArray := prog_8_method_56_code
def yX6_met : MethodName := ⟨RX6, "met", "(I)I"⟩
def dkwX6_met_1 : List UInt8 := [167, 0, 7, 42, 180, 0, 198, 172]
abbrev dktX6_met_1 : List UInt8 := dkwX6_met_1 ++ []
def dkwX6_met_0 : List UInt8 := [42, 182, 0, 218, 27, 184, 0, 110, 154, 0, 8, 16, 254, 167, 0, 18, 27, 154, 0, 10, 42, 180, 0, 195]
abbrev dktX6_met_0 : List UInt8 := dkwX6_met_0 ++ dktX6_met_1
theorem dksX6_met_0 : cX6_met.data.toList.drop 0 = dktX6_met_0 := by decide +kernel
theorem dksX6_met_1 : cX6_met.data.toList.drop 24 = dktX6_met_1 := dk_seg dksX6_met_0 24 rfl rfl
theorem dX6_met_0 : decode cX6_met 0 = .ok (.aload_n 0, 1) := dk_42 (dk_at dksX6_met_0 0 rfl rfl)
theorem dX6_met_1 : decode cX6_met 1 = .ok (.invokevirtual 218, 3) := dk_182 0 218 (dk_at dksX6_met_0 1 rfl rfl)
theorem dX6_met_4 : decode cX6_met 4 = .ok (.iload_n 1, 1) := dk_27 (dk_at dksX6_met_0 4 rfl rfl)
theorem dX6_met_5 : decode cX6_met 5 = .ok (.invokestatic 110, 3) := dk_184 0 110 (dk_at dksX6_met_0 5 rfl rfl)
theorem dX6_met_8 : decode cX6_met 8 = .ok (.ifCond .ne 8, 3) := dk_154 0 8 (dk_at dksX6_met_0 8 rfl rfl)
theorem dX6_met_11 : decode cX6_met 11 = .ok (.bipush (-2), 2) := dk_16 254 (dk_at dksX6_met_0 11 rfl rfl)
theorem dX6_met_13 : decode cX6_met 13 = .ok (.goto 18, 3) := dk_167 0 18 (dk_at dksX6_met_0 13 rfl rfl)
theorem dX6_met_16 : decode cX6_met 16 = .ok (.iload_n 1, 1) := dk_27 (dk_at dksX6_met_0 16 rfl rfl)
theorem dX6_met_17 : decode cX6_met 17 = .ok (.ifCond .ne 10, 3) := dk_154 0 10 (dk_at dksX6_met_0 17 rfl rfl)
theorem dX6_met_20 : decode cX6_met 20 = .ok (.aload_n 0, 1) := dk_42 (dk_at dksX6_met_0 20 rfl rfl)
theorem dX6_met_21 : decode cX6_met 21 = .ok (.getfield 195, 3) := dk_180 0 195 (dk_at dksX6_met_0 21 rfl rfl)
theorem dX6_met_24 : decode cX6_met 24 = .ok (.goto 7, 3) := dk_167 0 7 (dk_at dksX6_met_1 0 rfl rfl)
theorem dX6_met_27 : decode cX6_met 27 = .ok (.aload_n 0, 1) := dk_42 (dk_at dksX6_met_1 3 rfl rfl)
theorem dX6_met_28 : decode cX6_met 28 = .ok (.getfield 198, 3) := dk_180 0 198 (dk_at dksX6_met_1 4 rfl rfl)
theorem dX6_met_31 : decode cX6_met 31 = .ok (.ireturn, 1) := dk_172 (dk_at dksX6_met_1 7 rfl rfl)
abbrev cX6_busiest : ByteArray := prog_8_method_58_code
def yX6_busiest : MethodName := ⟨RX6, "busiest", "()I"⟩
def dkwX6_busiest_0 : List UInt8 := [42, 182, 0, 218, 42, 182, 0, 232, 172]
abbrev dktX6_busiest_0 : List UInt8 := dkwX6_busiest_0 ++ []
theorem dksX6_busiest_0 : cX6_busiest.data.toList.drop 0 = dktX6_busiest_0 := by decide +kernel
theorem dX6_busiest_0 : decode cX6_busiest 0 = .ok (.aload_n 0, 1) := dk_42 (dk_at dksX6_busiest_0 0 rfl rfl)
theorem dX6_busiest_1 : decode cX6_busiest 1 = .ok (.invokevirtual 218, 3) := dk_182 0 218 (dk_at dksX6_busiest_0 1 rfl rfl)
theorem dX6_busiest_4 : decode cX6_busiest 4 = .ok (.aload_n 0, 1) := dk_42 (dk_at dksX6_busiest_0 4 rfl rfl)
theorem dX6_busiest_5 : decode cX6_busiest 5 = .ok (.invokevirtual 232, 3) := dk_182 0 232 (dk_at dksX6_busiest_0 5 rfl rfl)
theorem dX6_busiest_8 : decode cX6_busiest 8 = .ok (.ireturn, 1) := dk_172 (dk_at dksX6_busiest_0 8 rfl rfl)
abbrev cX6_busiestNow : ByteArray := prog_8_method_57_code
def yX6_busiestNow : MethodName := ⟨RX6, "busiestNow", "()I"⟩
def dkwX6_busiestNow_1 : List UInt8 := [167, 0, 4, 27, 60, 42, 180, 0, 70, 29, 46, 28, 184, 0, 229, 61, 132, 3, 1, 167, 255, 220, 27, 172]
abbrev dktX6_busiestNow_1 : List UInt8 := dkwX6_busiestNow_1 ++ []
def dkwX6_busiestNow_0 : List UInt8 := [2, 60, 3, 61, 3, 62, 29, 16, 8, 162, 0, 36, 42, 180, 0, 70, 29, 46, 28, 164, 0, 7, 29]
abbrev dktX6_busiestNow_0 : List UInt8 := dkwX6_busiestNow_0 ++ dktX6_busiestNow_1
theorem dksX6_busiestNow_0 : cX6_busiestNow.data.toList.drop 0 = dktX6_busiestNow_0 := by decide +kernel
theorem dksX6_busiestNow_1 : cX6_busiestNow.data.toList.drop 23 = dktX6_busiestNow_1 := dk_seg dksX6_busiestNow_0 23 rfl rfl
theorem dX6_busiestNow_0 : decode cX6_busiestNow 0 = .ok (.iconst (-1), 1) := dk_2 (dk_at dksX6_busiestNow_0 0 rfl rfl)
theorem dX6_busiestNow_1 : decode cX6_busiestNow 1 = .ok (.istore_n 1, 1) := dk_60 (dk_at dksX6_busiestNow_0 1 rfl rfl)
theorem dX6_busiestNow_2 : decode cX6_busiestNow 2 = .ok (.iconst 0, 1) := dk_3 (dk_at dksX6_busiestNow_0 2 rfl rfl)
theorem dX6_busiestNow_3 : decode cX6_busiestNow 3 = .ok (.istore_n 2, 1) := dk_61 (dk_at dksX6_busiestNow_0 3 rfl rfl)
theorem dX6_busiestNow_4 : decode cX6_busiestNow 4 = .ok (.iconst 0, 1) := dk_3 (dk_at dksX6_busiestNow_0 4 rfl rfl)
theorem dX6_busiestNow_5 : decode cX6_busiestNow 5 = .ok (.istore_n 3, 1) := dk_62 (dk_at dksX6_busiestNow_0 5 rfl rfl)
theorem dX6_busiestNow_6 : decode cX6_busiestNow 6 = .ok (.iload_n 3, 1) := dk_29 (dk_at dksX6_busiestNow_0 6 rfl rfl)
theorem dX6_busiestNow_7 : decode cX6_busiestNow 7 = .ok (.bipush 8, 2) := dk_16 8 (dk_at dksX6_busiestNow_0 7 rfl rfl)
theorem dX6_busiestNow_9 : decode cX6_busiestNow 9 = .ok (.if_icmp .ge 36, 3) := dk_162 0 36 (dk_at dksX6_busiestNow_0 9 rfl rfl)
theorem dX6_busiestNow_12 : decode cX6_busiestNow 12 = .ok (.aload_n 0, 1) := dk_42 (dk_at dksX6_busiestNow_0 12 rfl rfl)
theorem dX6_busiestNow_13 : decode cX6_busiestNow 13 = .ok (.getfield 70, 3) := dk_180 0 70 (dk_at dksX6_busiestNow_0 13 rfl rfl)
theorem dX6_busiestNow_16 : decode cX6_busiestNow 16 = .ok (.iload_n 3, 1) := dk_29 (dk_at dksX6_busiestNow_0 16 rfl rfl)
theorem dX6_busiestNow_17 : decode cX6_busiestNow 17 = .ok (.iaload, 1) := dk_46 (dk_at dksX6_busiestNow_0 17 rfl rfl)
theorem dX6_busiestNow_18 : decode cX6_busiestNow 18 = .ok (.iload_n 2, 1) := dk_28 (dk_at dksX6_busiestNow_0 18 rfl rfl)
theorem dX6_busiestNow_19 : decode cX6_busiestNow 19 = .ok (.if_icmp .le 7, 3) := dk_164 0 7 (dk_at dksX6_busiestNow_0 19 rfl rfl)
theorem dX6_busiestNow_22 : decode cX6_busiestNow 22 = .ok (.iload_n 3, 1) := dk_29 (dk_at dksX6_busiestNow_0 22 rfl rfl)
theorem dX6_busiestNow_23 : decode cX6_busiestNow 23 = .ok (.goto 4, 3) := dk_167 0 4 (dk_at dksX6_busiestNow_1 0 rfl rfl)
theorem dX6_busiestNow_26 : decode cX6_busiestNow 26 = .ok (.iload_n 1, 1) := dk_27 (dk_at dksX6_busiestNow_1 3 rfl rfl)
theorem dX6_busiestNow_27 : decode cX6_busiestNow 27 = .ok (.istore_n 1, 1) := dk_60 (dk_at dksX6_busiestNow_1 4 rfl rfl)
theorem dX6_busiestNow_28 : decode cX6_busiestNow 28 = .ok (.aload_n 0, 1) := dk_42 (dk_at dksX6_busiestNow_1 5 rfl rfl)
theorem dX6_busiestNow_29 : decode cX6_busiestNow 29 = .ok (.getfield 70, 3) := dk_180 0 70 (dk_at dksX6_busiestNow_1 6 rfl rfl)
theorem dX6_busiestNow_32 : decode cX6_busiestNow 32 = .ok (.iload_n 3, 1) := dk_29 (dk_at dksX6_busiestNow_1 9 rfl rfl)
theorem dX6_busiestNow_33 : decode cX6_busiestNow 33 = .ok (.iaload, 1) := dk_46 (dk_at dksX6_busiestNow_1 10 rfl rfl)
theorem dX6_busiestNow_34 : decode cX6_busiestNow 34 = .ok (.iload_n 2, 1) := dk_28 (dk_at dksX6_busiestNow_1 11 rfl rfl)
theorem dX6_busiestNow_35 : decode cX6_busiestNow 35 = .ok (.invokestatic 229, 3) := dk_184 0 229 (dk_at dksX6_busiestNow_1 12 rfl rfl)
theorem dX6_busiestNow_38 : decode cX6_busiestNow 38 = .ok (.istore_n 2, 1) := dk_61 (dk_at dksX6_busiestNow_1 15 rfl rfl)
theorem dX6_busiestNow_39 : decode cX6_busiestNow 39 = .ok (.iinc 3 1, 3) := dk_132 3 1 (dk_at dksX6_busiestNow_1 16 rfl rfl)
theorem dX6_busiestNow_42 : decode cX6_busiestNow 42 = .ok (.goto (-36), 3) := dk_167 255 220 (dk_at dksX6_busiestNow_1 19 rfl rfl)
theorem dX6_busiestNow_45 : decode cX6_busiestNow 45 = .ok (.iload_n 1, 1) := dk_27 (dk_at dksX6_busiestNow_1 22 rfl rfl)
theorem dX6_busiestNow_46 : decode cX6_busiestNow 46 = .ok (.ireturn, 1) := dk_172 (dk_at dksX6_busiestNow_1 23 rfl rfl)
abbrev cX6_greater : ByteArray := prog_8_method_9_code
def yX6_greater : MethodName := ⟨RX6, "greater", "(II)I"⟩
def dkwX6_greater_0 : List UInt8 := [26, 27, 164, 0, 7, 26, 167, 0, 4, 27, 172]
abbrev dktX6_greater_0 : List UInt8 := dkwX6_greater_0 ++ []
theorem dksX6_greater_0 : cX6_greater.data.toList.drop 0 = dktX6_greater_0 := by decide +kernel
theorem dX6_greater_0 : decode cX6_greater 0 = .ok (.iload_n 0, 1) := dk_26 (dk_at dksX6_greater_0 0 rfl rfl)
theorem dX6_greater_1 : decode cX6_greater 1 = .ok (.iload_n 1, 1) := dk_27 (dk_at dksX6_greater_0 1 rfl rfl)
theorem dX6_greater_2 : decode cX6_greater 2 = .ok (.if_icmp .le 7, 3) := dk_164 0 7 (dk_at dksX6_greater_0 2 rfl rfl)
theorem dX6_greater_5 : decode cX6_greater 5 = .ok (.iload_n 0, 1) := dk_26 (dk_at dksX6_greater_0 5 rfl rfl)
theorem dX6_greater_6 : decode cX6_greater 6 = .ok (.goto 4, 3) := dk_167 0 4 (dk_at dksX6_greater_0 6 rfl rfl)
theorem dX6_greater_9 : decode cX6_greater 9 = .ok (.iload_n 1, 1) := dk_27 (dk_at dksX6_greater_0 9 rfl rfl)
theorem dX6_greater_10 : decode cX6_greater 10 = .ok (.ireturn, 1) := dk_172 (dk_at dksX6_greater_0 10 rfl rfl)
abbrev cX6_needs : ByteArray := prog_8_method_61_code
def yX6_needs : MethodName := ⟨RX6, "needs", "(I)I"⟩
def dkwX6_needs_0 : List UInt8 := [42, 182, 0, 218, 42, 27, 182, 0, 153, 153, 0, 11, 42, 27, 182, 0, 238, 167, 0, 5, 16, 254, 172]
abbrev dktX6_needs_0 : List UInt8 := dkwX6_needs_0 ++ []
theorem dksX6_needs_0 : cX6_needs.data.toList.drop 0 = dktX6_needs_0 := by decide +kernel
theorem dX6_needs_0 : decode cX6_needs 0 = .ok (.aload_n 0, 1) := dk_42 (dk_at dksX6_needs_0 0 rfl rfl)
theorem dX6_needs_1 : decode cX6_needs 1 = .ok (.invokevirtual 218, 3) := dk_182 0 218 (dk_at dksX6_needs_0 1 rfl rfl)
theorem dX6_needs_4 : decode cX6_needs 4 = .ok (.aload_n 0, 1) := dk_42 (dk_at dksX6_needs_0 4 rfl rfl)
theorem dX6_needs_5 : decode cX6_needs 5 = .ok (.iload_n 1, 1) := dk_27 (dk_at dksX6_needs_0 5 rfl rfl)
theorem dX6_needs_6 : decode cX6_needs 6 = .ok (.invokevirtual 153, 3) := dk_182 0 153 (dk_at dksX6_needs_0 6 rfl rfl)
theorem dX6_needs_9 : decode cX6_needs 9 = .ok (.ifCond .eq 11, 3) := dk_153 0 11 (dk_at dksX6_needs_0 9 rfl rfl)
theorem dX6_needs_12 : decode cX6_needs 12 = .ok (.aload_n 0, 1) := dk_42 (dk_at dksX6_needs_0 12 rfl rfl)
theorem dX6_needs_13 : decode cX6_needs 13 = .ok (.iload_n 1, 1) := dk_27 (dk_at dksX6_needs_0 13 rfl rfl)
theorem dX6_needs_14 : decode cX6_needs 14 = .ok (.invokevirtual 238, 3) := dk_182 0 238 (dk_at dksX6_needs_0 14 rfl rfl)
theorem dX6_needs_17 : decode cX6_needs 17 = .ok (.goto 5, 3) := dk_167 0 5 (dk_at dksX6_needs_0 17 rfl rfl)
theorem dX6_needs_20 : decode cX6_needs 20 = .ok (.bipush (-2), 2) := dk_16 254 (dk_at dksX6_needs_0 20 rfl rfl)
theorem dX6_needs_22 : decode cX6_needs 22 = .ok (.ireturn, 1) := dk_172 (dk_at dksX6_needs_0 22 rfl rfl)
abbrev cX6_needsOf : ByteArray := prog_8_method_60_code
def yX6_needsOf : MethodName := ⟨RX6, "needsOf", "(I)I"⟩
def dkwX6_needsOf_3 : List UInt8 := [96, 28, 79, 29, 172]
abbrev dktX6_needsOf_3 : List UInt8 := dkwX6_needsOf_3 ++ []
def dkwX6_needsOf_2 : List UInt8 := [160, 0, 8, 21, 4, 167, 0, 4, 29, 62, 132, 4, 255, 167, 255, 215, 42, 180, 0, 31, 8, 27, 104, 6]
abbrev dktX6_needsOf_2 : List UInt8 := dkwX6_needsOf_2 ++ dktX6_needsOf_3
def dkwX6_needsOf_1 : List UInt8 := [180, 0, 31, 8, 27, 104, 6, 96, 21, 4, 79, 42, 182, 0, 215, 42, 180, 0, 46, 27, 46, 5]
abbrev dktX6_needsOf_1 : List UInt8 := dkwX6_needsOf_1 ++ dktX6_needsOf_2
def dkwX6_needsOf_0 : List UInt8 := [42, 180, 0, 31, 8, 27, 104, 6, 96, 46, 61, 2, 62, 16, 99, 54, 4, 21, 4, 155, 0, 42, 42]
abbrev dktX6_needsOf_0 : List UInt8 := dkwX6_needsOf_0 ++ dktX6_needsOf_1
theorem dksX6_needsOf_0 : cX6_needsOf.data.toList.drop 0 = dktX6_needsOf_0 := by decide +kernel
theorem dksX6_needsOf_1 : cX6_needsOf.data.toList.drop 23 = dktX6_needsOf_1 := dk_seg dksX6_needsOf_0 23 rfl rfl
theorem dksX6_needsOf_2 : cX6_needsOf.data.toList.drop 45 = dktX6_needsOf_2 := dk_seg dksX6_needsOf_1 22 rfl rfl
theorem dksX6_needsOf_3 : cX6_needsOf.data.toList.drop 69 = dktX6_needsOf_3 := dk_seg dksX6_needsOf_2 24 rfl rfl
theorem dX6_needsOf_0 : decode cX6_needsOf 0 = .ok (.aload_n 0, 1) := dk_42 (dk_at dksX6_needsOf_0 0 rfl rfl)
theorem dX6_needsOf_1 : decode cX6_needsOf 1 = .ok (.getfield 31, 3) := dk_180 0 31 (dk_at dksX6_needsOf_0 1 rfl rfl)
theorem dX6_needsOf_4 : decode cX6_needsOf 4 = .ok (.iconst 5, 1) := dk_8 (dk_at dksX6_needsOf_0 4 rfl rfl)
theorem dX6_needsOf_5 : decode cX6_needsOf 5 = .ok (.iload_n 1, 1) := dk_27 (dk_at dksX6_needsOf_0 5 rfl rfl)
theorem dX6_needsOf_6 : decode cX6_needsOf 6 = .ok (.imul, 1) := dk_104 (dk_at dksX6_needsOf_0 6 rfl rfl)
theorem dX6_needsOf_7 : decode cX6_needsOf 7 = .ok (.iconst 3, 1) := dk_6 (dk_at dksX6_needsOf_0 7 rfl rfl)
theorem dX6_needsOf_8 : decode cX6_needsOf 8 = .ok (.iadd, 1) := dk_96 (dk_at dksX6_needsOf_0 8 rfl rfl)
theorem dX6_needsOf_9 : decode cX6_needsOf 9 = .ok (.iaload, 1) := dk_46 (dk_at dksX6_needsOf_0 9 rfl rfl)
theorem dX6_needsOf_10 : decode cX6_needsOf 10 = .ok (.istore_n 2, 1) := dk_61 (dk_at dksX6_needsOf_0 10 rfl rfl)
theorem dX6_needsOf_11 : decode cX6_needsOf 11 = .ok (.iconst (-1), 1) := dk_2 (dk_at dksX6_needsOf_0 11 rfl rfl)
theorem dX6_needsOf_12 : decode cX6_needsOf 12 = .ok (.istore_n 3, 1) := dk_62 (dk_at dksX6_needsOf_0 12 rfl rfl)
theorem dX6_needsOf_13 : decode cX6_needsOf 13 = .ok (.bipush 99, 2) := dk_16 99 (dk_at dksX6_needsOf_0 13 rfl rfl)
theorem dX6_needsOf_15 : decode cX6_needsOf 15 = .ok (.istore 4, 2) := dk_54 4 (dk_at dksX6_needsOf_0 15 rfl rfl)
theorem dX6_needsOf_17 : decode cX6_needsOf 17 = .ok (.iload 4, 2) := dk_21 4 (dk_at dksX6_needsOf_0 17 rfl rfl)
theorem dX6_needsOf_19 : decode cX6_needsOf 19 = .ok (.ifCond .lt 42, 3) := dk_155 0 42 (dk_at dksX6_needsOf_0 19 rfl rfl)
theorem dX6_needsOf_22 : decode cX6_needsOf 22 = .ok (.aload_n 0, 1) := dk_42 (dk_at dksX6_needsOf_0 22 rfl rfl)
theorem dX6_needsOf_23 : decode cX6_needsOf 23 = .ok (.getfield 31, 3) := dk_180 0 31 (dk_at dksX6_needsOf_1 0 rfl rfl)
theorem dX6_needsOf_26 : decode cX6_needsOf 26 = .ok (.iconst 5, 1) := dk_8 (dk_at dksX6_needsOf_1 3 rfl rfl)
theorem dX6_needsOf_27 : decode cX6_needsOf 27 = .ok (.iload_n 1, 1) := dk_27 (dk_at dksX6_needsOf_1 4 rfl rfl)
theorem dX6_needsOf_28 : decode cX6_needsOf 28 = .ok (.imul, 1) := dk_104 (dk_at dksX6_needsOf_1 5 rfl rfl)
theorem dX6_needsOf_29 : decode cX6_needsOf 29 = .ok (.iconst 3, 1) := dk_6 (dk_at dksX6_needsOf_1 6 rfl rfl)
theorem dX6_needsOf_30 : decode cX6_needsOf 30 = .ok (.iadd, 1) := dk_96 (dk_at dksX6_needsOf_1 7 rfl rfl)
theorem dX6_needsOf_31 : decode cX6_needsOf 31 = .ok (.iload 4, 2) := dk_21 4 (dk_at dksX6_needsOf_1 8 rfl rfl)
theorem dX6_needsOf_33 : decode cX6_needsOf 33 = .ok (.iastore, 1) := dk_79 (dk_at dksX6_needsOf_1 10 rfl rfl)
theorem dX6_needsOf_34 : decode cX6_needsOf 34 = .ok (.aload_n 0, 1) := dk_42 (dk_at dksX6_needsOf_1 11 rfl rfl)
theorem dX6_needsOf_35 : decode cX6_needsOf 35 = .ok (.invokevirtual 215, 3) := dk_182 0 215 (dk_at dksX6_needsOf_1 12 rfl rfl)
theorem dX6_needsOf_38 : decode cX6_needsOf 38 = .ok (.aload_n 0, 1) := dk_42 (dk_at dksX6_needsOf_1 15 rfl rfl)
theorem dX6_needsOf_39 : decode cX6_needsOf 39 = .ok (.getfield 46, 3) := dk_180 0 46 (dk_at dksX6_needsOf_1 16 rfl rfl)
theorem dX6_needsOf_42 : decode cX6_needsOf 42 = .ok (.iload_n 1, 1) := dk_27 (dk_at dksX6_needsOf_1 19 rfl rfl)
theorem dX6_needsOf_43 : decode cX6_needsOf 43 = .ok (.iaload, 1) := dk_46 (dk_at dksX6_needsOf_1 20 rfl rfl)
theorem dX6_needsOf_44 : decode cX6_needsOf 44 = .ok (.iconst 2, 1) := dk_5 (dk_at dksX6_needsOf_1 21 rfl rfl)
theorem dX6_needsOf_45 : decode cX6_needsOf 45 = .ok (.if_icmp .ne 8, 3) := dk_160 0 8 (dk_at dksX6_needsOf_2 0 rfl rfl)
theorem dX6_needsOf_48 : decode cX6_needsOf 48 = .ok (.iload 4, 2) := dk_21 4 (dk_at dksX6_needsOf_2 3 rfl rfl)
theorem dX6_needsOf_50 : decode cX6_needsOf 50 = .ok (.goto 4, 3) := dk_167 0 4 (dk_at dksX6_needsOf_2 5 rfl rfl)
theorem dX6_needsOf_53 : decode cX6_needsOf 53 = .ok (.iload_n 3, 1) := dk_29 (dk_at dksX6_needsOf_2 8 rfl rfl)
theorem dX6_needsOf_54 : decode cX6_needsOf 54 = .ok (.istore_n 3, 1) := dk_62 (dk_at dksX6_needsOf_2 9 rfl rfl)
theorem dX6_needsOf_55 : decode cX6_needsOf 55 = .ok (.iinc 4 (-1), 3) := dk_132 4 255 (dk_at dksX6_needsOf_2 10 rfl rfl)
theorem dX6_needsOf_58 : decode cX6_needsOf 58 = .ok (.goto (-41), 3) := dk_167 255 215 (dk_at dksX6_needsOf_2 13 rfl rfl)
theorem dX6_needsOf_61 : decode cX6_needsOf 61 = .ok (.aload_n 0, 1) := dk_42 (dk_at dksX6_needsOf_2 16 rfl rfl)
theorem dX6_needsOf_62 : decode cX6_needsOf 62 = .ok (.getfield 31, 3) := dk_180 0 31 (dk_at dksX6_needsOf_2 17 rfl rfl)
theorem dX6_needsOf_65 : decode cX6_needsOf 65 = .ok (.iconst 5, 1) := dk_8 (dk_at dksX6_needsOf_2 20 rfl rfl)
theorem dX6_needsOf_66 : decode cX6_needsOf 66 = .ok (.iload_n 1, 1) := dk_27 (dk_at dksX6_needsOf_2 21 rfl rfl)
theorem dX6_needsOf_67 : decode cX6_needsOf 67 = .ok (.imul, 1) := dk_104 (dk_at dksX6_needsOf_2 22 rfl rfl)
theorem dX6_needsOf_68 : decode cX6_needsOf 68 = .ok (.iconst 3, 1) := dk_6 (dk_at dksX6_needsOf_2 23 rfl rfl)
theorem dX6_needsOf_69 : decode cX6_needsOf 69 = .ok (.iadd, 1) := dk_96 (dk_at dksX6_needsOf_3 0 rfl rfl)
theorem dX6_needsOf_70 : decode cX6_needsOf 70 = .ok (.iload_n 2, 1) := dk_28 (dk_at dksX6_needsOf_3 1 rfl rfl)
theorem dX6_needsOf_71 : decode cX6_needsOf 71 = .ok (.iastore, 1) := dk_79 (dk_at dksX6_needsOf_3 2 rfl rfl)
theorem dX6_needsOf_72 : decode cX6_needsOf 72 = .ok (.iload_n 3, 1) := dk_29 (dk_at dksX6_needsOf_3 3 rfl rfl)
theorem dX6_needsOf_73 : decode cX6_needsOf 73 = .ok (.ireturn, 1) := dk_172 (dk_at dksX6_needsOf_3 4 rfl rfl)
abbrev cX6_lend : ByteArray := prog_8_method_64_code
def yX6_lend : MethodName := ⟨RX6, "lend", "(I)I"⟩
def dkwX6_lend_1 : List UInt8 := [16, 254, 172]
abbrev dktX6_lend_1 : List UInt8 := dkwX6_lend_1 ++ []
def dkwX6_lend_0 : List UInt8 := [42, 182, 0, 218, 27, 133, 9, 20, 0, 95, 184, 0, 81, 153, 0, 11, 42, 27, 182, 0, 247, 167, 0, 5]
abbrev dktX6_lend_0 : List UInt8 := dkwX6_lend_0 ++ dktX6_lend_1
theorem dksX6_lend_0 : cX6_lend.data.toList.drop 0 = dktX6_lend_0 := by decide +kernel
theorem dksX6_lend_1 : cX6_lend.data.toList.drop 24 = dktX6_lend_1 := dk_seg dksX6_lend_0 24 rfl rfl
theorem dX6_lend_0 : decode cX6_lend 0 = .ok (.aload_n 0, 1) := dk_42 (dk_at dksX6_lend_0 0 rfl rfl)
theorem dX6_lend_1 : decode cX6_lend 1 = .ok (.invokevirtual 218, 3) := dk_182 0 218 (dk_at dksX6_lend_0 1 rfl rfl)
theorem dX6_lend_4 : decode cX6_lend 4 = .ok (.iload_n 1, 1) := dk_27 (dk_at dksX6_lend_0 4 rfl rfl)
theorem dX6_lend_5 : decode cX6_lend 5 = .ok (.i2l, 1) := dk_133 (dk_at dksX6_lend_0 5 rfl rfl)
theorem dX6_lend_6 : decode cX6_lend 6 = .ok (.lconst 0, 1) := dk_9 (dk_at dksX6_lend_0 6 rfl rfl)
theorem dX6_lend_7 : decode cX6_lend 7 = .ok (.ldc2_w 95, 3) := dk_20 0 95 (dk_at dksX6_lend_0 7 rfl rfl)
theorem dX6_lend_10 : decode cX6_lend 10 = .ok (.invokestatic 81, 3) := dk_184 0 81 (dk_at dksX6_lend_0 10 rfl rfl)
theorem dX6_lend_13 : decode cX6_lend 13 = .ok (.ifCond .eq 11, 3) := dk_153 0 11 (dk_at dksX6_lend_0 13 rfl rfl)
theorem dX6_lend_16 : decode cX6_lend 16 = .ok (.aload_n 0, 1) := dk_42 (dk_at dksX6_lend_0 16 rfl rfl)
theorem dX6_lend_17 : decode cX6_lend 17 = .ok (.iload_n 1, 1) := dk_27 (dk_at dksX6_lend_0 17 rfl rfl)
theorem dX6_lend_18 : decode cX6_lend 18 = .ok (.invokevirtual 247, 3) := dk_182 0 247 (dk_at dksX6_lend_0 18 rfl rfl)
theorem dX6_lend_21 : decode cX6_lend 21 = .ok (.goto 5, 3) := dk_167 0 5 (dk_at dksX6_lend_0 21 rfl rfl)
theorem dX6_lend_24 : decode cX6_lend 24 = .ok (.bipush (-2), 2) := dk_16 254 (dk_at dksX6_lend_1 0 rfl rfl)
theorem dX6_lend_26 : decode cX6_lend 26 = .ok (.ireturn, 1) := dk_172 (dk_at dksX6_lend_1 2 rfl rfl)
abbrev cX6_lendBy : ByteArray := prog_8_method_63_code
def yX6_lendBy : MethodName := ⟨RX6, "lendBy", "(I)I"⟩
def dkwX6_lendBy_5 : List UInt8 := [4, 160, 0, 10, 28, 16, 8, 112, 167, 0, 4, 29, 172]
abbrev dktX6_lendBy_5 : List UInt8 := dkwX6_lendBy_5 ++ []
def dkwX6_lendBy_4 : List UInt8 := [167, 255, 170, 28, 2, 160, 0, 7, 2, 167, 0, 27, 27, 154, 0, 10, 28, 16, 8, 108, 167, 0, 16, 27]
abbrev dktX6_lendBy_4 : List UInt8 := dkwX6_lendBy_4 ++ dktX6_lendBy_5
def dkwX6_lendBy_3 : List UInt8 := [167, 0, 4, 28, 61, 21, 7, 29, 184, 0, 229, 62, 42, 21, 5, 21, 6, 182, 0, 241, 132, 4, 1]
abbrev dktX6_lendBy_3 : List UInt8 := dkwX6_lendBy_3 ++ dktX6_lendBy_4
def dkwX6_lendBy_2 : List UInt8 := [21, 6, 182, 0, 241, 42, 182, 0, 215, 42, 182, 0, 244, 54, 7, 21, 7, 29, 164, 0, 8, 21, 4]
abbrev dktX6_lendBy_2 : List UInt8 := dkwX6_lendBy_2 ++ dktX6_lendBy_3
def dkwX6_lendBy_1 : List UInt8 := [16, 8, 112, 54, 6, 21, 5, 21, 6, 162, 0, 58, 21, 6, 42, 180, 0, 133, 162, 0, 49, 42, 21, 5]
abbrev dktX6_lendBy_1 : List UInt8 := dkwX6_lendBy_1 ++ dktX6_lendBy_2
def dkwX6_lendBy_0 : List UInt8 := [2, 61, 2, 62, 3, 54, 4, 21, 4, 16, 64, 162, 0, 85, 21, 4, 16, 8, 108, 54, 5, 21, 4]
abbrev dktX6_lendBy_0 : List UInt8 := dkwX6_lendBy_0 ++ dktX6_lendBy_1
theorem dksX6_lendBy_0 : cX6_lendBy.data.toList.drop 0 = dktX6_lendBy_0 := by decide +kernel
theorem dksX6_lendBy_1 : cX6_lendBy.data.toList.drop 23 = dktX6_lendBy_1 := dk_seg dksX6_lendBy_0 23 rfl rfl
theorem dksX6_lendBy_2 : cX6_lendBy.data.toList.drop 47 = dktX6_lendBy_2 := dk_seg dksX6_lendBy_1 24 rfl rfl
theorem dksX6_lendBy_3 : cX6_lendBy.data.toList.drop 70 = dktX6_lendBy_3 := dk_seg dksX6_lendBy_2 23 rfl rfl
theorem dksX6_lendBy_4 : cX6_lendBy.data.toList.drop 93 = dktX6_lendBy_4 := dk_seg dksX6_lendBy_3 23 rfl rfl
theorem dksX6_lendBy_5 : cX6_lendBy.data.toList.drop 117 = dktX6_lendBy_5 := dk_seg dksX6_lendBy_4 24 rfl rfl
theorem dX6_lendBy_0 : decode cX6_lendBy 0 = .ok (.iconst (-1), 1) := dk_2 (dk_at dksX6_lendBy_0 0 rfl rfl)
theorem dX6_lendBy_1 : decode cX6_lendBy 1 = .ok (.istore_n 2, 1) := dk_61 (dk_at dksX6_lendBy_0 1 rfl rfl)
theorem dX6_lendBy_2 : decode cX6_lendBy 2 = .ok (.iconst (-1), 1) := dk_2 (dk_at dksX6_lendBy_0 2 rfl rfl)
theorem dX6_lendBy_3 : decode cX6_lendBy 3 = .ok (.istore_n 3, 1) := dk_62 (dk_at dksX6_lendBy_0 3 rfl rfl)
theorem dX6_lendBy_4 : decode cX6_lendBy 4 = .ok (.iconst 0, 1) := dk_3 (dk_at dksX6_lendBy_0 4 rfl rfl)
theorem dX6_lendBy_5 : decode cX6_lendBy 5 = .ok (.istore 4, 2) := dk_54 4 (dk_at dksX6_lendBy_0 5 rfl rfl)
theorem dX6_lendBy_7 : decode cX6_lendBy 7 = .ok (.iload 4, 2) := dk_21 4 (dk_at dksX6_lendBy_0 7 rfl rfl)
theorem dX6_lendBy_9 : decode cX6_lendBy 9 = .ok (.bipush 64, 2) := dk_16 64 (dk_at dksX6_lendBy_0 9 rfl rfl)
theorem dX6_lendBy_11 : decode cX6_lendBy 11 = .ok (.if_icmp .ge 85, 3) := dk_162 0 85 (dk_at dksX6_lendBy_0 11 rfl rfl)
theorem dX6_lendBy_14 : decode cX6_lendBy 14 = .ok (.iload 4, 2) := dk_21 4 (dk_at dksX6_lendBy_0 14 rfl rfl)
theorem dX6_lendBy_16 : decode cX6_lendBy 16 = .ok (.bipush 8, 2) := dk_16 8 (dk_at dksX6_lendBy_0 16 rfl rfl)
theorem dX6_lendBy_18 : decode cX6_lendBy 18 = .ok (.idiv, 1) := dk_108 (dk_at dksX6_lendBy_0 18 rfl rfl)
theorem dX6_lendBy_19 : decode cX6_lendBy 19 = .ok (.istore 5, 2) := dk_54 5 (dk_at dksX6_lendBy_0 19 rfl rfl)
theorem dX6_lendBy_21 : decode cX6_lendBy 21 = .ok (.iload 4, 2) := dk_21 4 (dk_at dksX6_lendBy_0 21 rfl rfl)
theorem dX6_lendBy_23 : decode cX6_lendBy 23 = .ok (.bipush 8, 2) := dk_16 8 (dk_at dksX6_lendBy_1 0 rfl rfl)
theorem dX6_lendBy_25 : decode cX6_lendBy 25 = .ok (.irem, 1) := dk_112 (dk_at dksX6_lendBy_1 2 rfl rfl)
theorem dX6_lendBy_26 : decode cX6_lendBy 26 = .ok (.istore 6, 2) := dk_54 6 (dk_at dksX6_lendBy_1 3 rfl rfl)
theorem dX6_lendBy_28 : decode cX6_lendBy 28 = .ok (.iload 5, 2) := dk_21 5 (dk_at dksX6_lendBy_1 5 rfl rfl)
theorem dX6_lendBy_30 : decode cX6_lendBy 30 = .ok (.iload 6, 2) := dk_21 6 (dk_at dksX6_lendBy_1 7 rfl rfl)
theorem dX6_lendBy_32 : decode cX6_lendBy 32 = .ok (.if_icmp .ge 58, 3) := dk_162 0 58 (dk_at dksX6_lendBy_1 9 rfl rfl)
theorem dX6_lendBy_35 : decode cX6_lendBy 35 = .ok (.iload 6, 2) := dk_21 6 (dk_at dksX6_lendBy_1 12 rfl rfl)
theorem dX6_lendBy_37 : decode cX6_lendBy 37 = .ok (.aload_n 0, 1) := dk_42 (dk_at dksX6_lendBy_1 14 rfl rfl)
theorem dX6_lendBy_38 : decode cX6_lendBy 38 = .ok (.getfield 133, 3) := dk_180 0 133 (dk_at dksX6_lendBy_1 15 rfl rfl)
theorem dX6_lendBy_41 : decode cX6_lendBy 41 = .ok (.if_icmp .ge 49, 3) := dk_162 0 49 (dk_at dksX6_lendBy_1 18 rfl rfl)
theorem dX6_lendBy_44 : decode cX6_lendBy 44 = .ok (.aload_n 0, 1) := dk_42 (dk_at dksX6_lendBy_1 21 rfl rfl)
theorem dX6_lendBy_45 : decode cX6_lendBy 45 = .ok (.iload 5, 2) := dk_21 5 (dk_at dksX6_lendBy_1 22 rfl rfl)
theorem dX6_lendBy_47 : decode cX6_lendBy 47 = .ok (.iload 6, 2) := dk_21 6 (dk_at dksX6_lendBy_2 0 rfl rfl)
theorem dX6_lendBy_49 : decode cX6_lendBy 49 = .ok (.invokevirtual 241, 3) := dk_182 0 241 (dk_at dksX6_lendBy_2 2 rfl rfl)
theorem dX6_lendBy_52 : decode cX6_lendBy 52 = .ok (.aload_n 0, 1) := dk_42 (dk_at dksX6_lendBy_2 5 rfl rfl)
theorem dX6_lendBy_53 : decode cX6_lendBy 53 = .ok (.invokevirtual 215, 3) := dk_182 0 215 (dk_at dksX6_lendBy_2 6 rfl rfl)
theorem dX6_lendBy_56 : decode cX6_lendBy 56 = .ok (.aload_n 0, 1) := dk_42 (dk_at dksX6_lendBy_2 9 rfl rfl)
theorem dX6_lendBy_57 : decode cX6_lendBy 57 = .ok (.invokevirtual 244, 3) := dk_182 0 244 (dk_at dksX6_lendBy_2 10 rfl rfl)
theorem dX6_lendBy_60 : decode cX6_lendBy 60 = .ok (.istore 7, 2) := dk_54 7 (dk_at dksX6_lendBy_2 13 rfl rfl)
theorem dX6_lendBy_62 : decode cX6_lendBy 62 = .ok (.iload 7, 2) := dk_21 7 (dk_at dksX6_lendBy_2 15 rfl rfl)
theorem dX6_lendBy_64 : decode cX6_lendBy 64 = .ok (.iload_n 3, 1) := dk_29 (dk_at dksX6_lendBy_2 17 rfl rfl)
theorem dX6_lendBy_65 : decode cX6_lendBy 65 = .ok (.if_icmp .le 8, 3) := dk_164 0 8 (dk_at dksX6_lendBy_2 18 rfl rfl)
theorem dX6_lendBy_68 : decode cX6_lendBy 68 = .ok (.iload 4, 2) := dk_21 4 (dk_at dksX6_lendBy_2 21 rfl rfl)
theorem dX6_lendBy_70 : decode cX6_lendBy 70 = .ok (.goto 4, 3) := dk_167 0 4 (dk_at dksX6_lendBy_3 0 rfl rfl)
theorem dX6_lendBy_73 : decode cX6_lendBy 73 = .ok (.iload_n 2, 1) := dk_28 (dk_at dksX6_lendBy_3 3 rfl rfl)
theorem dX6_lendBy_74 : decode cX6_lendBy 74 = .ok (.istore_n 2, 1) := dk_61 (dk_at dksX6_lendBy_3 4 rfl rfl)
theorem dX6_lendBy_75 : decode cX6_lendBy 75 = .ok (.iload 7, 2) := dk_21 7 (dk_at dksX6_lendBy_3 5 rfl rfl)
theorem dX6_lendBy_77 : decode cX6_lendBy 77 = .ok (.iload_n 3, 1) := dk_29 (dk_at dksX6_lendBy_3 7 rfl rfl)
theorem dX6_lendBy_78 : decode cX6_lendBy 78 = .ok (.invokestatic 229, 3) := dk_184 0 229 (dk_at dksX6_lendBy_3 8 rfl rfl)
theorem dX6_lendBy_81 : decode cX6_lendBy 81 = .ok (.istore_n 3, 1) := dk_62 (dk_at dksX6_lendBy_3 11 rfl rfl)
theorem dX6_lendBy_82 : decode cX6_lendBy 82 = .ok (.aload_n 0, 1) := dk_42 (dk_at dksX6_lendBy_3 12 rfl rfl)
theorem dX6_lendBy_83 : decode cX6_lendBy 83 = .ok (.iload 5, 2) := dk_21 5 (dk_at dksX6_lendBy_3 13 rfl rfl)
theorem dX6_lendBy_85 : decode cX6_lendBy 85 = .ok (.iload 6, 2) := dk_21 6 (dk_at dksX6_lendBy_3 15 rfl rfl)
theorem dX6_lendBy_87 : decode cX6_lendBy 87 = .ok (.invokevirtual 241, 3) := dk_182 0 241 (dk_at dksX6_lendBy_3 17 rfl rfl)
theorem dX6_lendBy_90 : decode cX6_lendBy 90 = .ok (.iinc 4 1, 3) := dk_132 4 1 (dk_at dksX6_lendBy_3 20 rfl rfl)
theorem dX6_lendBy_93 : decode cX6_lendBy 93 = .ok (.goto (-86), 3) := dk_167 255 170 (dk_at dksX6_lendBy_4 0 rfl rfl)
theorem dX6_lendBy_96 : decode cX6_lendBy 96 = .ok (.iload_n 2, 1) := dk_28 (dk_at dksX6_lendBy_4 3 rfl rfl)
theorem dX6_lendBy_97 : decode cX6_lendBy 97 = .ok (.iconst (-1), 1) := dk_2 (dk_at dksX6_lendBy_4 4 rfl rfl)
theorem dX6_lendBy_98 : decode cX6_lendBy 98 = .ok (.if_icmp .ne 7, 3) := dk_160 0 7 (dk_at dksX6_lendBy_4 5 rfl rfl)
theorem dX6_lendBy_101 : decode cX6_lendBy 101 = .ok (.iconst (-1), 1) := dk_2 (dk_at dksX6_lendBy_4 8 rfl rfl)
theorem dX6_lendBy_102 : decode cX6_lendBy 102 = .ok (.goto 27, 3) := dk_167 0 27 (dk_at dksX6_lendBy_4 9 rfl rfl)
theorem dX6_lendBy_105 : decode cX6_lendBy 105 = .ok (.iload_n 1, 1) := dk_27 (dk_at dksX6_lendBy_4 12 rfl rfl)
theorem dX6_lendBy_106 : decode cX6_lendBy 106 = .ok (.ifCond .ne 10, 3) := dk_154 0 10 (dk_at dksX6_lendBy_4 13 rfl rfl)
theorem dX6_lendBy_109 : decode cX6_lendBy 109 = .ok (.iload_n 2, 1) := dk_28 (dk_at dksX6_lendBy_4 16 rfl rfl)
theorem dX6_lendBy_110 : decode cX6_lendBy 110 = .ok (.bipush 8, 2) := dk_16 8 (dk_at dksX6_lendBy_4 17 rfl rfl)
theorem dX6_lendBy_112 : decode cX6_lendBy 112 = .ok (.idiv, 1) := dk_108 (dk_at dksX6_lendBy_4 19 rfl rfl)
theorem dX6_lendBy_113 : decode cX6_lendBy 113 = .ok (.goto 16, 3) := dk_167 0 16 (dk_at dksX6_lendBy_4 20 rfl rfl)
theorem dX6_lendBy_116 : decode cX6_lendBy 116 = .ok (.iload_n 1, 1) := dk_27 (dk_at dksX6_lendBy_4 23 rfl rfl)
theorem dX6_lendBy_117 : decode cX6_lendBy 117 = .ok (.iconst 1, 1) := dk_4 (dk_at dksX6_lendBy_5 0 rfl rfl)
theorem dX6_lendBy_118 : decode cX6_lendBy 118 = .ok (.if_icmp .ne 10, 3) := dk_160 0 10 (dk_at dksX6_lendBy_5 1 rfl rfl)
theorem dX6_lendBy_121 : decode cX6_lendBy 121 = .ok (.iload_n 2, 1) := dk_28 (dk_at dksX6_lendBy_5 4 rfl rfl)
theorem dX6_lendBy_122 : decode cX6_lendBy 122 = .ok (.bipush 8, 2) := dk_16 8 (dk_at dksX6_lendBy_5 5 rfl rfl)
theorem dX6_lendBy_124 : decode cX6_lendBy 124 = .ok (.irem, 1) := dk_112 (dk_at dksX6_lendBy_5 7 rfl rfl)
theorem dX6_lendBy_125 : decode cX6_lendBy 125 = .ok (.goto 4, 3) := dk_167 0 4 (dk_at dksX6_lendBy_5 8 rfl rfl)
theorem dX6_lendBy_128 : decode cX6_lendBy 128 = .ok (.iload_n 3, 1) := dk_29 (dk_at dksX6_lendBy_5 11 rfl rfl)
theorem dX6_lendBy_129 : decode cX6_lendBy 129 = .ok (.ireturn, 1) := dk_172 (dk_at dksX6_lendBy_5 12 rfl rfl)
abbrev cX6_lends : ByteArray := prog_8_method_62_code
def yX6_lends : MethodName := ⟨RX6, "lends", "(II)V"⟩
def dkwX6_lends_2 : List UInt8 := [21, 4, 79, 132, 3, 1, 167, 255, 204, 177]
abbrev dktX6_lends_2 : List UInt8 := dkwX6_lends_2 ++ []
def dkwX6_lends_1 : List UInt8 := [27, 104, 29, 96, 42, 180, 0, 31, 8, 28, 104, 29, 96, 46, 79, 42, 180, 0, 31, 8, 28, 104, 29, 96]
abbrev dktX6_lends_1 : List UInt8 := dkwX6_lends_1 ++ dktX6_lends_2
def dkwX6_lends_0 : List UInt8 := [5, 62, 29, 7, 162, 0, 53, 42, 180, 0, 31, 8, 27, 104, 29, 96, 46, 54, 4, 42, 180, 0, 31, 8]
abbrev dktX6_lends_0 : List UInt8 := dkwX6_lends_0 ++ dktX6_lends_1
theorem dksX6_lends_0 : cX6_lends.data.toList.drop 0 = dktX6_lends_0 := by decide +kernel
theorem dksX6_lends_1 : cX6_lends.data.toList.drop 24 = dktX6_lends_1 := dk_seg dksX6_lends_0 24 rfl rfl
theorem dksX6_lends_2 : cX6_lends.data.toList.drop 48 = dktX6_lends_2 := dk_seg dksX6_lends_1 24 rfl rfl
theorem dX6_lends_0 : decode cX6_lends 0 = .ok (.iconst 2, 1) := dk_5 (dk_at dksX6_lends_0 0 rfl rfl)
theorem dX6_lends_1 : decode cX6_lends 1 = .ok (.istore_n 3, 1) := dk_62 (dk_at dksX6_lends_0 1 rfl rfl)
theorem dX6_lends_2 : decode cX6_lends 2 = .ok (.iload_n 3, 1) := dk_29 (dk_at dksX6_lends_0 2 rfl rfl)
theorem dX6_lends_3 : decode cX6_lends 3 = .ok (.iconst 4, 1) := dk_7 (dk_at dksX6_lends_0 3 rfl rfl)
theorem dX6_lends_4 : decode cX6_lends 4 = .ok (.if_icmp .ge 53, 3) := dk_162 0 53 (dk_at dksX6_lends_0 4 rfl rfl)
theorem dX6_lends_7 : decode cX6_lends 7 = .ok (.aload_n 0, 1) := dk_42 (dk_at dksX6_lends_0 7 rfl rfl)
theorem dX6_lends_8 : decode cX6_lends 8 = .ok (.getfield 31, 3) := dk_180 0 31 (dk_at dksX6_lends_0 8 rfl rfl)
theorem dX6_lends_11 : decode cX6_lends 11 = .ok (.iconst 5, 1) := dk_8 (dk_at dksX6_lends_0 11 rfl rfl)
theorem dX6_lends_12 : decode cX6_lends 12 = .ok (.iload_n 1, 1) := dk_27 (dk_at dksX6_lends_0 12 rfl rfl)
theorem dX6_lends_13 : decode cX6_lends 13 = .ok (.imul, 1) := dk_104 (dk_at dksX6_lends_0 13 rfl rfl)
theorem dX6_lends_14 : decode cX6_lends 14 = .ok (.iload_n 3, 1) := dk_29 (dk_at dksX6_lends_0 14 rfl rfl)
theorem dX6_lends_15 : decode cX6_lends 15 = .ok (.iadd, 1) := dk_96 (dk_at dksX6_lends_0 15 rfl rfl)
theorem dX6_lends_16 : decode cX6_lends 16 = .ok (.iaload, 1) := dk_46 (dk_at dksX6_lends_0 16 rfl rfl)
theorem dX6_lends_17 : decode cX6_lends 17 = .ok (.istore 4, 2) := dk_54 4 (dk_at dksX6_lends_0 17 rfl rfl)
theorem dX6_lends_19 : decode cX6_lends 19 = .ok (.aload_n 0, 1) := dk_42 (dk_at dksX6_lends_0 19 rfl rfl)
theorem dX6_lends_20 : decode cX6_lends 20 = .ok (.getfield 31, 3) := dk_180 0 31 (dk_at dksX6_lends_0 20 rfl rfl)
theorem dX6_lends_23 : decode cX6_lends 23 = .ok (.iconst 5, 1) := dk_8 (dk_at dksX6_lends_0 23 rfl rfl)
theorem dX6_lends_24 : decode cX6_lends 24 = .ok (.iload_n 1, 1) := dk_27 (dk_at dksX6_lends_1 0 rfl rfl)
theorem dX6_lends_25 : decode cX6_lends 25 = .ok (.imul, 1) := dk_104 (dk_at dksX6_lends_1 1 rfl rfl)
theorem dX6_lends_26 : decode cX6_lends 26 = .ok (.iload_n 3, 1) := dk_29 (dk_at dksX6_lends_1 2 rfl rfl)
theorem dX6_lends_27 : decode cX6_lends 27 = .ok (.iadd, 1) := dk_96 (dk_at dksX6_lends_1 3 rfl rfl)
theorem dX6_lends_28 : decode cX6_lends 28 = .ok (.aload_n 0, 1) := dk_42 (dk_at dksX6_lends_1 4 rfl rfl)
theorem dX6_lends_29 : decode cX6_lends 29 = .ok (.getfield 31, 3) := dk_180 0 31 (dk_at dksX6_lends_1 5 rfl rfl)
theorem dX6_lends_32 : decode cX6_lends 32 = .ok (.iconst 5, 1) := dk_8 (dk_at dksX6_lends_1 8 rfl rfl)
theorem dX6_lends_33 : decode cX6_lends 33 = .ok (.iload_n 2, 1) := dk_28 (dk_at dksX6_lends_1 9 rfl rfl)
theorem dX6_lends_34 : decode cX6_lends 34 = .ok (.imul, 1) := dk_104 (dk_at dksX6_lends_1 10 rfl rfl)
theorem dX6_lends_35 : decode cX6_lends 35 = .ok (.iload_n 3, 1) := dk_29 (dk_at dksX6_lends_1 11 rfl rfl)
theorem dX6_lends_36 : decode cX6_lends 36 = .ok (.iadd, 1) := dk_96 (dk_at dksX6_lends_1 12 rfl rfl)
theorem dX6_lends_37 : decode cX6_lends 37 = .ok (.iaload, 1) := dk_46 (dk_at dksX6_lends_1 13 rfl rfl)
theorem dX6_lends_38 : decode cX6_lends 38 = .ok (.iastore, 1) := dk_79 (dk_at dksX6_lends_1 14 rfl rfl)
theorem dX6_lends_39 : decode cX6_lends 39 = .ok (.aload_n 0, 1) := dk_42 (dk_at dksX6_lends_1 15 rfl rfl)
theorem dX6_lends_40 : decode cX6_lends 40 = .ok (.getfield 31, 3) := dk_180 0 31 (dk_at dksX6_lends_1 16 rfl rfl)
theorem dX6_lends_43 : decode cX6_lends 43 = .ok (.iconst 5, 1) := dk_8 (dk_at dksX6_lends_1 19 rfl rfl)
theorem dX6_lends_44 : decode cX6_lends 44 = .ok (.iload_n 2, 1) := dk_28 (dk_at dksX6_lends_1 20 rfl rfl)
theorem dX6_lends_45 : decode cX6_lends 45 = .ok (.imul, 1) := dk_104 (dk_at dksX6_lends_1 21 rfl rfl)
theorem dX6_lends_46 : decode cX6_lends 46 = .ok (.iload_n 3, 1) := dk_29 (dk_at dksX6_lends_1 22 rfl rfl)
theorem dX6_lends_47 : decode cX6_lends 47 = .ok (.iadd, 1) := dk_96 (dk_at dksX6_lends_1 23 rfl rfl)
theorem dX6_lends_48 : decode cX6_lends 48 = .ok (.iload 4, 2) := dk_21 4 (dk_at dksX6_lends_2 0 rfl rfl)
theorem dX6_lends_50 : decode cX6_lends 50 = .ok (.iastore, 1) := dk_79 (dk_at dksX6_lends_2 2 rfl rfl)
theorem dX6_lends_51 : decode cX6_lends 51 = .ok (.iinc 3 1, 3) := dk_132 3 1 (dk_at dksX6_lends_2 3 rfl rfl)
theorem dX6_lends_54 : decode cX6_lends 54 = .ok (.goto (-52), 3) := dk_167 255 204 (dk_at dksX6_lends_2 6 rfl rfl)
theorem dX6_lends_57 : decode cX6_lends 57 = .ok (.return_, 1) := dk_177 (dk_at dksX6_lends_2 9 rfl rfl)
abbrev cX6_comers : ByteArray := prog_8_method_59_code
def yX6_comers : MethodName := ⟨RX6, "comers", "()I"⟩
def dkwX6_comers_0 : List UInt8 := [42, 5, 182, 0, 226, 184, 0, 235, 172]
abbrev dktX6_comers_0 : List UInt8 := dkwX6_comers_0 ++ []
theorem dksX6_comers_0 : cX6_comers.data.toList.drop 0 = dktX6_comers_0 := by decide +kernel
theorem dX6_comers_0 : decode cX6_comers 0 = .ok (.aload_n 0, 1) := dk_42 (dk_at dksX6_comers_0 0 rfl rfl)
theorem dX6_comers_1 : decode cX6_comers 1 = .ok (.iconst 2, 1) := dk_5 (dk_at dksX6_comers_0 1 rfl rfl)
theorem dX6_comers_2 : decode cX6_comers 2 = .ok (.invokevirtual 226, 3) := dk_182 0 226 (dk_at dksX6_comers_0 2 rfl rfl)
theorem dX6_comers_5 : decode cX6_comers 5 = .ok (.invokestatic 235, 3) := dk_184 0 235 (dk_at dksX6_comers_0 5 rfl rfl)
theorem dX6_comers_8 : decode cX6_comers 8 = .ok (.ireturn, 1) := dk_172 (dk_at dksX6_comers_0 8 rfl rfl)
abbrev cX6_ones : ByteArray := prog_8_method_7_code
def yX6_ones : MethodName := ⟨RX6, "ones", "(I)I"⟩
def dkwX6_ones_0 : List UInt8 := [3, 60, 26, 61, 28, 153, 0, 15, 132, 1, 1, 28, 28, 4, 100, 126, 61, 167, 255, 243, 27, 172]
abbrev dktX6_ones_0 : List UInt8 := dkwX6_ones_0 ++ []
theorem dksX6_ones_0 : cX6_ones.data.toList.drop 0 = dktX6_ones_0 := by decide +kernel
theorem dX6_ones_0 : decode cX6_ones 0 = .ok (.iconst 0, 1) := dk_3 (dk_at dksX6_ones_0 0 rfl rfl)
theorem dX6_ones_1 : decode cX6_ones 1 = .ok (.istore_n 1, 1) := dk_60 (dk_at dksX6_ones_0 1 rfl rfl)
theorem dX6_ones_2 : decode cX6_ones 2 = .ok (.iload_n 0, 1) := dk_26 (dk_at dksX6_ones_0 2 rfl rfl)
theorem dX6_ones_3 : decode cX6_ones 3 = .ok (.istore_n 2, 1) := dk_61 (dk_at dksX6_ones_0 3 rfl rfl)
theorem dX6_ones_4 : decode cX6_ones 4 = .ok (.iload_n 2, 1) := dk_28 (dk_at dksX6_ones_0 4 rfl rfl)
theorem dX6_ones_5 : decode cX6_ones 5 = .ok (.ifCond .eq 15, 3) := dk_153 0 15 (dk_at dksX6_ones_0 5 rfl rfl)
theorem dX6_ones_8 : decode cX6_ones 8 = .ok (.iinc 1 1, 3) := dk_132 1 1 (dk_at dksX6_ones_0 8 rfl rfl)
theorem dX6_ones_11 : decode cX6_ones 11 = .ok (.iload_n 2, 1) := dk_28 (dk_at dksX6_ones_0 11 rfl rfl)
theorem dX6_ones_12 : decode cX6_ones 12 = .ok (.iload_n 2, 1) := dk_28 (dk_at dksX6_ones_0 12 rfl rfl)
theorem dX6_ones_13 : decode cX6_ones 13 = .ok (.iconst 1, 1) := dk_4 (dk_at dksX6_ones_0 13 rfl rfl)
theorem dX6_ones_14 : decode cX6_ones 14 = .ok (.isub, 1) := dk_100 (dk_at dksX6_ones_0 14 rfl rfl)
theorem dX6_ones_15 : decode cX6_ones 15 = .ok (.iand, 1) := dk_126 (dk_at dksX6_ones_0 15 rfl rfl)
theorem dX6_ones_16 : decode cX6_ones 16 = .ok (.istore_n 2, 1) := dk_61 (dk_at dksX6_ones_0 16 rfl rfl)
theorem dX6_ones_17 : decode cX6_ones 17 = .ok (.goto (-13), 3) := dk_167 255 243 (dk_at dksX6_ones_0 17 rfl rfl)
theorem dX6_ones_20 : decode cX6_ones 20 = .ok (.iload_n 1, 1) := dk_27 (dk_at dksX6_ones_0 20 rfl rfl)
theorem dX6_ones_21 : decode cX6_ones 21 = .ok (.ireturn, 1) := dk_172 (dk_at dksX6_ones_0 21 rfl rfl)
abbrev cX6_delay : ByteArray := prog_8_method_66_code
def yX6_delay : MethodName := ⟨RX6, "delay", "(II)I"⟩
def dkwX6_delay_1 : List UInt8 := [182, 0, 250, 167, 0, 5, 16, 254, 172]
abbrev dktX6_delay_1 : List UInt8 := dkwX6_delay_1 ++ []
def dkwX6_delay_0 : List UInt8 := [42, 182, 0, 218, 42, 27, 182, 0, 153, 153, 0, 19, 28, 184, 0, 110, 153, 0, 12, 42, 27, 28]
abbrev dktX6_delay_0 : List UInt8 := dkwX6_delay_0 ++ dktX6_delay_1
theorem dksX6_delay_0 : cX6_delay.data.toList.drop 0 = dktX6_delay_0 := by decide +kernel
theorem dksX6_delay_1 : cX6_delay.data.toList.drop 22 = dktX6_delay_1 := dk_seg dksX6_delay_0 22 rfl rfl
theorem dX6_delay_0 : decode cX6_delay 0 = .ok (.aload_n 0, 1) := dk_42 (dk_at dksX6_delay_0 0 rfl rfl)
theorem dX6_delay_1 : decode cX6_delay 1 = .ok (.invokevirtual 218, 3) := dk_182 0 218 (dk_at dksX6_delay_0 1 rfl rfl)
theorem dX6_delay_4 : decode cX6_delay 4 = .ok (.aload_n 0, 1) := dk_42 (dk_at dksX6_delay_0 4 rfl rfl)
theorem dX6_delay_5 : decode cX6_delay 5 = .ok (.iload_n 1, 1) := dk_27 (dk_at dksX6_delay_0 5 rfl rfl)
theorem dX6_delay_6 : decode cX6_delay 6 = .ok (.invokevirtual 153, 3) := dk_182 0 153 (dk_at dksX6_delay_0 6 rfl rfl)
theorem dX6_delay_9 : decode cX6_delay 9 = .ok (.ifCond .eq 19, 3) := dk_153 0 19 (dk_at dksX6_delay_0 9 rfl rfl)
theorem dX6_delay_12 : decode cX6_delay 12 = .ok (.iload_n 2, 1) := dk_28 (dk_at dksX6_delay_0 12 rfl rfl)
theorem dX6_delay_13 : decode cX6_delay 13 = .ok (.invokestatic 110, 3) := dk_184 0 110 (dk_at dksX6_delay_0 13 rfl rfl)
theorem dX6_delay_16 : decode cX6_delay 16 = .ok (.ifCond .eq 12, 3) := dk_153 0 12 (dk_at dksX6_delay_0 16 rfl rfl)
theorem dX6_delay_19 : decode cX6_delay 19 = .ok (.aload_n 0, 1) := dk_42 (dk_at dksX6_delay_0 19 rfl rfl)
theorem dX6_delay_20 : decode cX6_delay 20 = .ok (.iload_n 1, 1) := dk_27 (dk_at dksX6_delay_0 20 rfl rfl)
theorem dX6_delay_21 : decode cX6_delay 21 = .ok (.iload_n 2, 1) := dk_28 (dk_at dksX6_delay_0 21 rfl rfl)
theorem dX6_delay_22 : decode cX6_delay 22 = .ok (.invokevirtual 250, 3) := dk_182 0 250 (dk_at dksX6_delay_1 0 rfl rfl)
theorem dX6_delay_25 : decode cX6_delay 25 = .ok (.goto 5, 3) := dk_167 0 5 (dk_at dksX6_delay_1 3 rfl rfl)
theorem dX6_delay_28 : decode cX6_delay 28 = .ok (.bipush (-2), 2) := dk_16 254 (dk_at dksX6_delay_1 6 rfl rfl)
theorem dX6_delay_30 : decode cX6_delay 30 = .ok (.ireturn, 1) := dk_172 (dk_at dksX6_delay_1 8 rfl rfl)
abbrev cX6_delayOf : ByteArray := prog_8_method_65_code
def yX6_delayOf : MethodName := ⟨RX6, "delayOf", "(II)I"⟩
def dkwX6_delayOf_3 : List UInt8 := [42, 180, 0, 34, 27, 29, 79, 28, 154, 0, 8, 21, 4, 167, 0, 5, 21, 5, 172]
abbrev dktX6_delayOf_3 : List UInt8 := dkwX6_delayOf_3 ++ []
def dkwX6_delayOf_2 : List UInt8 := [21, 6, 167, 0, 5, 21, 4, 54, 4, 21, 7, 21, 5, 184, 0, 229, 54, 5, 132, 6, 1, 167, 255, 203]
abbrev dktX6_delayOf_2 : List UInt8 := dkwX6_delayOf_2 ++ dktX6_delayOf_3
def dkwX6_delayOf_1 : List UInt8 := [180, 0, 34, 27, 21, 6, 79, 42, 182, 0, 215, 42, 182, 0, 244, 54, 7, 21, 7, 21, 5, 164, 0, 8]
abbrev dktX6_delayOf_1 : List UInt8 := dkwX6_delayOf_1 ++ dktX6_delayOf_2
def dkwX6_delayOf_0 : List UInt8 := [42, 180, 0, 34, 27, 46, 62, 2, 54, 4, 2, 54, 5, 3, 54, 6, 21, 6, 16, 10, 162, 0, 52, 42]
abbrev dktX6_delayOf_0 : List UInt8 := dkwX6_delayOf_0 ++ dktX6_delayOf_1
theorem dksX6_delayOf_0 : cX6_delayOf.data.toList.drop 0 = dktX6_delayOf_0 := by decide +kernel
theorem dksX6_delayOf_1 : cX6_delayOf.data.toList.drop 24 = dktX6_delayOf_1 := dk_seg dksX6_delayOf_0 24 rfl rfl
theorem dksX6_delayOf_2 : cX6_delayOf.data.toList.drop 48 = dktX6_delayOf_2 := dk_seg dksX6_delayOf_1 24 rfl rfl
theorem dksX6_delayOf_3 : cX6_delayOf.data.toList.drop 72 = dktX6_delayOf_3 := dk_seg dksX6_delayOf_2 24 rfl rfl
theorem dX6_delayOf_0 : decode cX6_delayOf 0 = .ok (.aload_n 0, 1) := dk_42 (dk_at dksX6_delayOf_0 0 rfl rfl)
theorem dX6_delayOf_1 : decode cX6_delayOf 1 = .ok (.getfield 34, 3) := dk_180 0 34 (dk_at dksX6_delayOf_0 1 rfl rfl)
theorem dX6_delayOf_4 : decode cX6_delayOf 4 = .ok (.iload_n 1, 1) := dk_27 (dk_at dksX6_delayOf_0 4 rfl rfl)
theorem dX6_delayOf_5 : decode cX6_delayOf 5 = .ok (.iaload, 1) := dk_46 (dk_at dksX6_delayOf_0 5 rfl rfl)
theorem dX6_delayOf_6 : decode cX6_delayOf 6 = .ok (.istore_n 3, 1) := dk_62 (dk_at dksX6_delayOf_0 6 rfl rfl)
theorem dX6_delayOf_7 : decode cX6_delayOf 7 = .ok (.iconst (-1), 1) := dk_2 (dk_at dksX6_delayOf_0 7 rfl rfl)
theorem dX6_delayOf_8 : decode cX6_delayOf 8 = .ok (.istore 4, 2) := dk_54 4 (dk_at dksX6_delayOf_0 8 rfl rfl)
theorem dX6_delayOf_10 : decode cX6_delayOf 10 = .ok (.iconst (-1), 1) := dk_2 (dk_at dksX6_delayOf_0 10 rfl rfl)
theorem dX6_delayOf_11 : decode cX6_delayOf 11 = .ok (.istore 5, 2) := dk_54 5 (dk_at dksX6_delayOf_0 11 rfl rfl)
theorem dX6_delayOf_13 : decode cX6_delayOf 13 = .ok (.iconst 0, 1) := dk_3 (dk_at dksX6_delayOf_0 13 rfl rfl)
theorem dX6_delayOf_14 : decode cX6_delayOf 14 = .ok (.istore 6, 2) := dk_54 6 (dk_at dksX6_delayOf_0 14 rfl rfl)
theorem dX6_delayOf_16 : decode cX6_delayOf 16 = .ok (.iload 6, 2) := dk_21 6 (dk_at dksX6_delayOf_0 16 rfl rfl)
theorem dX6_delayOf_18 : decode cX6_delayOf 18 = .ok (.bipush 10, 2) := dk_16 10 (dk_at dksX6_delayOf_0 18 rfl rfl)
theorem dX6_delayOf_20 : decode cX6_delayOf 20 = .ok (.if_icmp .ge 52, 3) := dk_162 0 52 (dk_at dksX6_delayOf_0 20 rfl rfl)
theorem dX6_delayOf_23 : decode cX6_delayOf 23 = .ok (.aload_n 0, 1) := dk_42 (dk_at dksX6_delayOf_0 23 rfl rfl)
theorem dX6_delayOf_24 : decode cX6_delayOf 24 = .ok (.getfield 34, 3) := dk_180 0 34 (dk_at dksX6_delayOf_1 0 rfl rfl)
theorem dX6_delayOf_27 : decode cX6_delayOf 27 = .ok (.iload_n 1, 1) := dk_27 (dk_at dksX6_delayOf_1 3 rfl rfl)
theorem dX6_delayOf_28 : decode cX6_delayOf 28 = .ok (.iload 6, 2) := dk_21 6 (dk_at dksX6_delayOf_1 4 rfl rfl)
theorem dX6_delayOf_30 : decode cX6_delayOf 30 = .ok (.iastore, 1) := dk_79 (dk_at dksX6_delayOf_1 6 rfl rfl)
theorem dX6_delayOf_31 : decode cX6_delayOf 31 = .ok (.aload_n 0, 1) := dk_42 (dk_at dksX6_delayOf_1 7 rfl rfl)
theorem dX6_delayOf_32 : decode cX6_delayOf 32 = .ok (.invokevirtual 215, 3) := dk_182 0 215 (dk_at dksX6_delayOf_1 8 rfl rfl)
theorem dX6_delayOf_35 : decode cX6_delayOf 35 = .ok (.aload_n 0, 1) := dk_42 (dk_at dksX6_delayOf_1 11 rfl rfl)
theorem dX6_delayOf_36 : decode cX6_delayOf 36 = .ok (.invokevirtual 244, 3) := dk_182 0 244 (dk_at dksX6_delayOf_1 12 rfl rfl)
theorem dX6_delayOf_39 : decode cX6_delayOf 39 = .ok (.istore 7, 2) := dk_54 7 (dk_at dksX6_delayOf_1 15 rfl rfl)
theorem dX6_delayOf_41 : decode cX6_delayOf 41 = .ok (.iload 7, 2) := dk_21 7 (dk_at dksX6_delayOf_1 17 rfl rfl)
theorem dX6_delayOf_43 : decode cX6_delayOf 43 = .ok (.iload 5, 2) := dk_21 5 (dk_at dksX6_delayOf_1 19 rfl rfl)
theorem dX6_delayOf_45 : decode cX6_delayOf 45 = .ok (.if_icmp .le 8, 3) := dk_164 0 8 (dk_at dksX6_delayOf_1 21 rfl rfl)
theorem dX6_delayOf_48 : decode cX6_delayOf 48 = .ok (.iload 6, 2) := dk_21 6 (dk_at dksX6_delayOf_2 0 rfl rfl)
theorem dX6_delayOf_50 : decode cX6_delayOf 50 = .ok (.goto 5, 3) := dk_167 0 5 (dk_at dksX6_delayOf_2 2 rfl rfl)
theorem dX6_delayOf_53 : decode cX6_delayOf 53 = .ok (.iload 4, 2) := dk_21 4 (dk_at dksX6_delayOf_2 5 rfl rfl)
theorem dX6_delayOf_55 : decode cX6_delayOf 55 = .ok (.istore 4, 2) := dk_54 4 (dk_at dksX6_delayOf_2 7 rfl rfl)
theorem dX6_delayOf_57 : decode cX6_delayOf 57 = .ok (.iload 7, 2) := dk_21 7 (dk_at dksX6_delayOf_2 9 rfl rfl)
theorem dX6_delayOf_59 : decode cX6_delayOf 59 = .ok (.iload 5, 2) := dk_21 5 (dk_at dksX6_delayOf_2 11 rfl rfl)
theorem dX6_delayOf_61 : decode cX6_delayOf 61 = .ok (.invokestatic 229, 3) := dk_184 0 229 (dk_at dksX6_delayOf_2 13 rfl rfl)
theorem dX6_delayOf_64 : decode cX6_delayOf 64 = .ok (.istore 5, 2) := dk_54 5 (dk_at dksX6_delayOf_2 16 rfl rfl)
theorem dX6_delayOf_66 : decode cX6_delayOf 66 = .ok (.iinc 6 1, 3) := dk_132 6 1 (dk_at dksX6_delayOf_2 18 rfl rfl)
theorem dX6_delayOf_69 : decode cX6_delayOf 69 = .ok (.goto (-53), 3) := dk_167 255 203 (dk_at dksX6_delayOf_2 21 rfl rfl)
theorem dX6_delayOf_72 : decode cX6_delayOf 72 = .ok (.aload_n 0, 1) := dk_42 (dk_at dksX6_delayOf_3 0 rfl rfl)
theorem dX6_delayOf_73 : decode cX6_delayOf 73 = .ok (.getfield 34, 3) := dk_180 0 34 (dk_at dksX6_delayOf_3 1 rfl rfl)
theorem dX6_delayOf_76 : decode cX6_delayOf 76 = .ok (.iload_n 1, 1) := dk_27 (dk_at dksX6_delayOf_3 4 rfl rfl)
theorem dX6_delayOf_77 : decode cX6_delayOf 77 = .ok (.iload_n 3, 1) := dk_29 (dk_at dksX6_delayOf_3 5 rfl rfl)
theorem dX6_delayOf_78 : decode cX6_delayOf 78 = .ok (.iastore, 1) := dk_79 (dk_at dksX6_delayOf_3 6 rfl rfl)
theorem dX6_delayOf_79 : decode cX6_delayOf 79 = .ok (.iload_n 2, 1) := dk_28 (dk_at dksX6_delayOf_3 7 rfl rfl)
theorem dX6_delayOf_80 : decode cX6_delayOf 80 = .ok (.ifCond .ne 8, 3) := dk_154 0 8 (dk_at dksX6_delayOf_3 8 rfl rfl)
theorem dX6_delayOf_83 : decode cX6_delayOf 83 = .ok (.iload 4, 2) := dk_21 4 (dk_at dksX6_delayOf_3 11 rfl rfl)
theorem dX6_delayOf_85 : decode cX6_delayOf 85 = .ok (.goto 5, 3) := dk_167 0 5 (dk_at dksX6_delayOf_3 13 rfl rfl)
theorem dX6_delayOf_88 : decode cX6_delayOf 88 = .ok (.iload 5, 2) := dk_21 5 (dk_at dksX6_delayOf_3 16 rfl rfl)
theorem dX6_delayOf_90 : decode cX6_delayOf 90 = .ok (.ireturn, 1) := dk_172 (dk_at dksX6_delayOf_3 18 rfl rfl)
abbrev cX6_level : ByteArray := prog_8_method_68_code
def yX6_level : MethodName := ⟨RX6, "level", "(I)I"⟩
def dkwX6_level_0 : List UInt8 := [42, 182, 0, 218, 27, 184, 0, 110, 153, 0, 11, 42, 27, 182, 0, 253, 167, 0, 5, 16, 254, 172]
abbrev dktX6_level_0 : List UInt8 := dkwX6_level_0 ++ []
theorem dksX6_level_0 : cX6_level.data.toList.drop 0 = dktX6_level_0 := by decide +kernel
theorem dX6_level_0 : decode cX6_level 0 = .ok (.aload_n 0, 1) := dk_42 (dk_at dksX6_level_0 0 rfl rfl)
theorem dX6_level_1 : decode cX6_level 1 = .ok (.invokevirtual 218, 3) := dk_182 0 218 (dk_at dksX6_level_0 1 rfl rfl)
theorem dX6_level_4 : decode cX6_level 4 = .ok (.iload_n 1, 1) := dk_27 (dk_at dksX6_level_0 4 rfl rfl)
theorem dX6_level_5 : decode cX6_level 5 = .ok (.invokestatic 110, 3) := dk_184 0 110 (dk_at dksX6_level_0 5 rfl rfl)
theorem dX6_level_8 : decode cX6_level 8 = .ok (.ifCond .eq 11, 3) := dk_153 0 11 (dk_at dksX6_level_0 8 rfl rfl)
theorem dX6_level_11 : decode cX6_level 11 = .ok (.aload_n 0, 1) := dk_42 (dk_at dksX6_level_0 11 rfl rfl)
theorem dX6_level_12 : decode cX6_level 12 = .ok (.iload_n 1, 1) := dk_27 (dk_at dksX6_level_0 12 rfl rfl)
theorem dX6_level_13 : decode cX6_level 13 = .ok (.invokevirtual 253, 3) := dk_182 0 253 (dk_at dksX6_level_0 13 rfl rfl)
theorem dX6_level_16 : decode cX6_level 16 = .ok (.goto 5, 3) := dk_167 0 5 (dk_at dksX6_level_0 16 rfl rfl)
theorem dX6_level_19 : decode cX6_level 19 = .ok (.bipush (-2), 2) := dk_16 254 (dk_at dksX6_level_0 19 rfl rfl)
theorem dX6_level_21 : decode cX6_level 21 = .ok (.ireturn, 1) := dk_172 (dk_at dksX6_level_0 21 rfl rfl)
abbrev cX6_levelBy : ByteArray := prog_8_method_67_code
def yX6_levelBy : MethodName := ⟨RX6, "levelBy", "(I)I"⟩
def dkwX6_levelBy_4 : List UInt8 := [42, 182, 0, 212, 27, 154, 0, 7, 28, 167, 0, 4, 29, 172]
abbrev dktX6_levelBy_4 : List UInt8 := dkwX6_levelBy_4 ++ []
def dkwX6_levelBy_3 : List UInt8 := [29, 184, 0, 229, 62, 42, 180, 0, 28, 7, 21, 4, 104, 6, 96, 21, 5, 79, 132, 4, 1, 167, 255, 172]
abbrev dktX6_levelBy_3 : List UInt8 := dkwX6_levelBy_3 ++ dktX6_levelBy_4
def dkwX6_levelBy_2 : List UInt8 := [182, 0, 215, 42, 182, 0, 244, 54, 6, 21, 6, 29, 164, 0, 8, 21, 4, 167, 0, 4, 28, 61, 21, 6]
abbrev dktX6_levelBy_2 : List UInt8 := dkwX6_levelBy_2 ++ dktX6_levelBy_3
def dkwX6_levelBy_1 : List UInt8 := [6, 96, 46, 54, 5, 42, 180, 0, 28, 7, 21, 4, 104, 6, 96, 4, 79, 42, 182, 0, 212, 42]
abbrev dktX6_levelBy_1 : List UInt8 := dkwX6_levelBy_1 ++ dktX6_levelBy_2
def dkwX6_levelBy_0 : List UInt8 := [2, 61, 2, 62, 3, 54, 4, 21, 4, 42, 180, 0, 127, 162, 0, 81, 42, 180, 0, 28, 7, 21, 4, 104]
abbrev dktX6_levelBy_0 : List UInt8 := dkwX6_levelBy_0 ++ dktX6_levelBy_1
theorem dksX6_levelBy_0 : cX6_levelBy.data.toList.drop 0 = dktX6_levelBy_0 := by decide +kernel
theorem dksX6_levelBy_1 : cX6_levelBy.data.toList.drop 24 = dktX6_levelBy_1 := dk_seg dksX6_levelBy_0 24 rfl rfl
theorem dksX6_levelBy_2 : cX6_levelBy.data.toList.drop 46 = dktX6_levelBy_2 := dk_seg dksX6_levelBy_1 22 rfl rfl
theorem dksX6_levelBy_3 : cX6_levelBy.data.toList.drop 70 = dktX6_levelBy_3 := dk_seg dksX6_levelBy_2 24 rfl rfl
theorem dksX6_levelBy_4 : cX6_levelBy.data.toList.drop 94 = dktX6_levelBy_4 := dk_seg dksX6_levelBy_3 24 rfl rfl
theorem dX6_levelBy_0 : decode cX6_levelBy 0 = .ok (.iconst (-1), 1) := dk_2 (dk_at dksX6_levelBy_0 0 rfl rfl)
theorem dX6_levelBy_1 : decode cX6_levelBy 1 = .ok (.istore_n 2, 1) := dk_61 (dk_at dksX6_levelBy_0 1 rfl rfl)
theorem dX6_levelBy_2 : decode cX6_levelBy 2 = .ok (.iconst (-1), 1) := dk_2 (dk_at dksX6_levelBy_0 2 rfl rfl)
theorem dX6_levelBy_3 : decode cX6_levelBy 3 = .ok (.istore_n 3, 1) := dk_62 (dk_at dksX6_levelBy_0 3 rfl rfl)
theorem dX6_levelBy_4 : decode cX6_levelBy 4 = .ok (.iconst 0, 1) := dk_3 (dk_at dksX6_levelBy_0 4 rfl rfl)
theorem dX6_levelBy_5 : decode cX6_levelBy 5 = .ok (.istore 4, 2) := dk_54 4 (dk_at dksX6_levelBy_0 5 rfl rfl)
theorem dX6_levelBy_7 : decode cX6_levelBy 7 = .ok (.iload 4, 2) := dk_21 4 (dk_at dksX6_levelBy_0 7 rfl rfl)
theorem dX6_levelBy_9 : decode cX6_levelBy 9 = .ok (.aload_n 0, 1) := dk_42 (dk_at dksX6_levelBy_0 9 rfl rfl)
theorem dX6_levelBy_10 : decode cX6_levelBy 10 = .ok (.getfield 127, 3) := dk_180 0 127 (dk_at dksX6_levelBy_0 10 rfl rfl)
theorem dX6_levelBy_13 : decode cX6_levelBy 13 = .ok (.if_icmp .ge 81, 3) := dk_162 0 81 (dk_at dksX6_levelBy_0 13 rfl rfl)
theorem dX6_levelBy_16 : decode cX6_levelBy 16 = .ok (.aload_n 0, 1) := dk_42 (dk_at dksX6_levelBy_0 16 rfl rfl)
theorem dX6_levelBy_17 : decode cX6_levelBy 17 = .ok (.getfield 28, 3) := dk_180 0 28 (dk_at dksX6_levelBy_0 17 rfl rfl)
theorem dX6_levelBy_20 : decode cX6_levelBy 20 = .ok (.iconst 4, 1) := dk_7 (dk_at dksX6_levelBy_0 20 rfl rfl)
theorem dX6_levelBy_21 : decode cX6_levelBy 21 = .ok (.iload 4, 2) := dk_21 4 (dk_at dksX6_levelBy_0 21 rfl rfl)
theorem dX6_levelBy_23 : decode cX6_levelBy 23 = .ok (.imul, 1) := dk_104 (dk_at dksX6_levelBy_0 23 rfl rfl)
theorem dX6_levelBy_24 : decode cX6_levelBy 24 = .ok (.iconst 3, 1) := dk_6 (dk_at dksX6_levelBy_1 0 rfl rfl)
theorem dX6_levelBy_25 : decode cX6_levelBy 25 = .ok (.iadd, 1) := dk_96 (dk_at dksX6_levelBy_1 1 rfl rfl)
theorem dX6_levelBy_26 : decode cX6_levelBy 26 = .ok (.iaload, 1) := dk_46 (dk_at dksX6_levelBy_1 2 rfl rfl)
theorem dX6_levelBy_27 : decode cX6_levelBy 27 = .ok (.istore 5, 2) := dk_54 5 (dk_at dksX6_levelBy_1 3 rfl rfl)
theorem dX6_levelBy_29 : decode cX6_levelBy 29 = .ok (.aload_n 0, 1) := dk_42 (dk_at dksX6_levelBy_1 5 rfl rfl)
theorem dX6_levelBy_30 : decode cX6_levelBy 30 = .ok (.getfield 28, 3) := dk_180 0 28 (dk_at dksX6_levelBy_1 6 rfl rfl)
theorem dX6_levelBy_33 : decode cX6_levelBy 33 = .ok (.iconst 4, 1) := dk_7 (dk_at dksX6_levelBy_1 9 rfl rfl)
theorem dX6_levelBy_34 : decode cX6_levelBy 34 = .ok (.iload 4, 2) := dk_21 4 (dk_at dksX6_levelBy_1 10 rfl rfl)
theorem dX6_levelBy_36 : decode cX6_levelBy 36 = .ok (.imul, 1) := dk_104 (dk_at dksX6_levelBy_1 12 rfl rfl)
theorem dX6_levelBy_37 : decode cX6_levelBy 37 = .ok (.iconst 3, 1) := dk_6 (dk_at dksX6_levelBy_1 13 rfl rfl)
theorem dX6_levelBy_38 : decode cX6_levelBy 38 = .ok (.iadd, 1) := dk_96 (dk_at dksX6_levelBy_1 14 rfl rfl)
theorem dX6_levelBy_39 : decode cX6_levelBy 39 = .ok (.iconst 1, 1) := dk_4 (dk_at dksX6_levelBy_1 15 rfl rfl)
theorem dX6_levelBy_40 : decode cX6_levelBy 40 = .ok (.iastore, 1) := dk_79 (dk_at dksX6_levelBy_1 16 rfl rfl)
theorem dX6_levelBy_41 : decode cX6_levelBy 41 = .ok (.aload_n 0, 1) := dk_42 (dk_at dksX6_levelBy_1 17 rfl rfl)
theorem dX6_levelBy_42 : decode cX6_levelBy 42 = .ok (.invokevirtual 212, 3) := dk_182 0 212 (dk_at dksX6_levelBy_1 18 rfl rfl)
theorem dX6_levelBy_45 : decode cX6_levelBy 45 = .ok (.aload_n 0, 1) := dk_42 (dk_at dksX6_levelBy_1 21 rfl rfl)
theorem dX6_levelBy_46 : decode cX6_levelBy 46 = .ok (.invokevirtual 215, 3) := dk_182 0 215 (dk_at dksX6_levelBy_2 0 rfl rfl)
theorem dX6_levelBy_49 : decode cX6_levelBy 49 = .ok (.aload_n 0, 1) := dk_42 (dk_at dksX6_levelBy_2 3 rfl rfl)
theorem dX6_levelBy_50 : decode cX6_levelBy 50 = .ok (.invokevirtual 244, 3) := dk_182 0 244 (dk_at dksX6_levelBy_2 4 rfl rfl)
theorem dX6_levelBy_53 : decode cX6_levelBy 53 = .ok (.istore 6, 2) := dk_54 6 (dk_at dksX6_levelBy_2 7 rfl rfl)
theorem dX6_levelBy_55 : decode cX6_levelBy 55 = .ok (.iload 6, 2) := dk_21 6 (dk_at dksX6_levelBy_2 9 rfl rfl)
theorem dX6_levelBy_57 : decode cX6_levelBy 57 = .ok (.iload_n 3, 1) := dk_29 (dk_at dksX6_levelBy_2 11 rfl rfl)
theorem dX6_levelBy_58 : decode cX6_levelBy 58 = .ok (.if_icmp .le 8, 3) := dk_164 0 8 (dk_at dksX6_levelBy_2 12 rfl rfl)
theorem dX6_levelBy_61 : decode cX6_levelBy 61 = .ok (.iload 4, 2) := dk_21 4 (dk_at dksX6_levelBy_2 15 rfl rfl)
theorem dX6_levelBy_63 : decode cX6_levelBy 63 = .ok (.goto 4, 3) := dk_167 0 4 (dk_at dksX6_levelBy_2 17 rfl rfl)
theorem dX6_levelBy_66 : decode cX6_levelBy 66 = .ok (.iload_n 2, 1) := dk_28 (dk_at dksX6_levelBy_2 20 rfl rfl)
theorem dX6_levelBy_67 : decode cX6_levelBy 67 = .ok (.istore_n 2, 1) := dk_61 (dk_at dksX6_levelBy_2 21 rfl rfl)
theorem dX6_levelBy_68 : decode cX6_levelBy 68 = .ok (.iload 6, 2) := dk_21 6 (dk_at dksX6_levelBy_2 22 rfl rfl)
theorem dX6_levelBy_70 : decode cX6_levelBy 70 = .ok (.iload_n 3, 1) := dk_29 (dk_at dksX6_levelBy_3 0 rfl rfl)
theorem dX6_levelBy_71 : decode cX6_levelBy 71 = .ok (.invokestatic 229, 3) := dk_184 0 229 (dk_at dksX6_levelBy_3 1 rfl rfl)
theorem dX6_levelBy_74 : decode cX6_levelBy 74 = .ok (.istore_n 3, 1) := dk_62 (dk_at dksX6_levelBy_3 4 rfl rfl)
theorem dX6_levelBy_75 : decode cX6_levelBy 75 = .ok (.aload_n 0, 1) := dk_42 (dk_at dksX6_levelBy_3 5 rfl rfl)
theorem dX6_levelBy_76 : decode cX6_levelBy 76 = .ok (.getfield 28, 3) := dk_180 0 28 (dk_at dksX6_levelBy_3 6 rfl rfl)
theorem dX6_levelBy_79 : decode cX6_levelBy 79 = .ok (.iconst 4, 1) := dk_7 (dk_at dksX6_levelBy_3 9 rfl rfl)
theorem dX6_levelBy_80 : decode cX6_levelBy 80 = .ok (.iload 4, 2) := dk_21 4 (dk_at dksX6_levelBy_3 10 rfl rfl)
theorem dX6_levelBy_82 : decode cX6_levelBy 82 = .ok (.imul, 1) := dk_104 (dk_at dksX6_levelBy_3 12 rfl rfl)
theorem dX6_levelBy_83 : decode cX6_levelBy 83 = .ok (.iconst 3, 1) := dk_6 (dk_at dksX6_levelBy_3 13 rfl rfl)
theorem dX6_levelBy_84 : decode cX6_levelBy 84 = .ok (.iadd, 1) := dk_96 (dk_at dksX6_levelBy_3 14 rfl rfl)
theorem dX6_levelBy_85 : decode cX6_levelBy 85 = .ok (.iload 5, 2) := dk_21 5 (dk_at dksX6_levelBy_3 15 rfl rfl)
theorem dX6_levelBy_87 : decode cX6_levelBy 87 = .ok (.iastore, 1) := dk_79 (dk_at dksX6_levelBy_3 17 rfl rfl)
theorem dX6_levelBy_88 : decode cX6_levelBy 88 = .ok (.iinc 4 1, 3) := dk_132 4 1 (dk_at dksX6_levelBy_3 18 rfl rfl)
theorem dX6_levelBy_91 : decode cX6_levelBy 91 = .ok (.goto (-84), 3) := dk_167 255 172 (dk_at dksX6_levelBy_3 21 rfl rfl)
theorem dX6_levelBy_94 : decode cX6_levelBy 94 = .ok (.aload_n 0, 1) := dk_42 (dk_at dksX6_levelBy_4 0 rfl rfl)
theorem dX6_levelBy_95 : decode cX6_levelBy 95 = .ok (.invokevirtual 212, 3) := dk_182 0 212 (dk_at dksX6_levelBy_4 1 rfl rfl)
theorem dX6_levelBy_98 : decode cX6_levelBy 98 = .ok (.iload_n 1, 1) := dk_27 (dk_at dksX6_levelBy_4 4 rfl rfl)
theorem dX6_levelBy_99 : decode cX6_levelBy 99 = .ok (.ifCond .ne 7, 3) := dk_154 0 7 (dk_at dksX6_levelBy_4 5 rfl rfl)
theorem dX6_levelBy_102 : decode cX6_levelBy 102 = .ok (.iload_n 2, 1) := dk_28 (dk_at dksX6_levelBy_4 8 rfl rfl)
theorem dX6_levelBy_103 : decode cX6_levelBy 103 = .ok (.goto 4, 3) := dk_167 0 4 (dk_at dksX6_levelBy_4 9 rfl rfl)
theorem dX6_levelBy_106 : decode cX6_levelBy 106 = .ok (.iload_n 3, 1) := dk_29 (dk_at dksX6_levelBy_4 12 rfl rfl)
theorem dX6_levelBy_107 : decode cX6_levelBy 107 = .ok (.ireturn, 1) := dk_172 (dk_at dksX6_levelBy_4 13 rfl rfl)
abbrev cX6_seen : ByteArray := prog_8_method_69_code
def yX6_seen : MethodName := ⟨RX6, "seen", "(III)I"⟩
def dkwX6_seen_4 : List UInt8 := [181, 1, 2, 42, 180, 1, 2, 172]
abbrev dktX6_seen_4 : List UInt8 := dkwX6_seen_4 ++ []
def dkwX6_seen_3 : List UInt8 := [28, 79, 42, 180, 0, 73, 6, 42, 180, 1, 2, 104, 5, 96, 29, 79, 42, 89, 180, 1, 2, 4, 96]
abbrev dktX6_seen_3 : List UInt8 := dkwX6_seen_3 ++ dktX6_seen_4
def dkwX6_seen_2 : List UInt8 := [42, 180, 0, 73, 6, 42, 180, 1, 2, 104, 27, 79, 42, 180, 0, 73, 6, 42, 180, 1, 2, 104, 4, 96]
abbrev dktX6_seen_2 : List UInt8 := dkwX6_seen_2 ++ dktX6_seen_3
def dkwX6_seen_1 : List UInt8 := [20, 1, 0, 184, 0, 81, 154, 0, 6, 16, 254, 172, 42, 180, 1, 2, 16, 8, 160, 0, 6, 16, 252, 172]
abbrev dktX6_seen_1 : List UInt8 := dkwX6_seen_1 ++ dktX6_seen_2
def dkwX6_seen_0 : List UInt8 := [27, 184, 0, 160, 153, 0, 27, 28, 133, 9, 20, 0, 151, 184, 0, 81, 153, 0, 15, 29, 133, 9]
abbrev dktX6_seen_0 : List UInt8 := dkwX6_seen_0 ++ dktX6_seen_1
theorem dksX6_seen_0 : cX6_seen.data.toList.drop 0 = dktX6_seen_0 := by decide +kernel
theorem dksX6_seen_1 : cX6_seen.data.toList.drop 22 = dktX6_seen_1 := dk_seg dksX6_seen_0 22 rfl rfl
theorem dksX6_seen_2 : cX6_seen.data.toList.drop 46 = dktX6_seen_2 := dk_seg dksX6_seen_1 24 rfl rfl
theorem dksX6_seen_3 : cX6_seen.data.toList.drop 70 = dktX6_seen_3 := dk_seg dksX6_seen_2 24 rfl rfl
theorem dksX6_seen_4 : cX6_seen.data.toList.drop 93 = dktX6_seen_4 := dk_seg dksX6_seen_3 23 rfl rfl
theorem dX6_seen_0 : decode cX6_seen 0 = .ok (.iload_n 1, 1) := dk_27 (dk_at dksX6_seen_0 0 rfl rfl)
theorem dX6_seen_1 : decode cX6_seen 1 = .ok (.invokestatic 160, 3) := dk_184 0 160 (dk_at dksX6_seen_0 1 rfl rfl)
theorem dX6_seen_4 : decode cX6_seen 4 = .ok (.ifCond .eq 27, 3) := dk_153 0 27 (dk_at dksX6_seen_0 4 rfl rfl)
theorem dX6_seen_7 : decode cX6_seen 7 = .ok (.iload_n 2, 1) := dk_28 (dk_at dksX6_seen_0 7 rfl rfl)
theorem dX6_seen_8 : decode cX6_seen 8 = .ok (.i2l, 1) := dk_133 (dk_at dksX6_seen_0 8 rfl rfl)
theorem dX6_seen_9 : decode cX6_seen 9 = .ok (.lconst 0, 1) := dk_9 (dk_at dksX6_seen_0 9 rfl rfl)
theorem dX6_seen_10 : decode cX6_seen 10 = .ok (.ldc2_w 151, 3) := dk_20 0 151 (dk_at dksX6_seen_0 10 rfl rfl)
theorem dX6_seen_13 : decode cX6_seen 13 = .ok (.invokestatic 81, 3) := dk_184 0 81 (dk_at dksX6_seen_0 13 rfl rfl)
theorem dX6_seen_16 : decode cX6_seen 16 = .ok (.ifCond .eq 15, 3) := dk_153 0 15 (dk_at dksX6_seen_0 16 rfl rfl)
theorem dX6_seen_19 : decode cX6_seen 19 = .ok (.iload_n 3, 1) := dk_29 (dk_at dksX6_seen_0 19 rfl rfl)
theorem dX6_seen_20 : decode cX6_seen 20 = .ok (.i2l, 1) := dk_133 (dk_at dksX6_seen_0 20 rfl rfl)
theorem dX6_seen_21 : decode cX6_seen 21 = .ok (.lconst 0, 1) := dk_9 (dk_at dksX6_seen_0 21 rfl rfl)
theorem dX6_seen_22 : decode cX6_seen 22 = .ok (.ldc2_w 256, 3) := dk_20 1 0 (dk_at dksX6_seen_1 0 rfl rfl)
theorem dX6_seen_25 : decode cX6_seen 25 = .ok (.invokestatic 81, 3) := dk_184 0 81 (dk_at dksX6_seen_1 3 rfl rfl)
theorem dX6_seen_28 : decode cX6_seen 28 = .ok (.ifCond .ne 6, 3) := dk_154 0 6 (dk_at dksX6_seen_1 6 rfl rfl)
theorem dX6_seen_31 : decode cX6_seen 31 = .ok (.bipush (-2), 2) := dk_16 254 (dk_at dksX6_seen_1 9 rfl rfl)
theorem dX6_seen_33 : decode cX6_seen 33 = .ok (.ireturn, 1) := dk_172 (dk_at dksX6_seen_1 11 rfl rfl)
theorem dX6_seen_34 : decode cX6_seen 34 = .ok (.aload_n 0, 1) := dk_42 (dk_at dksX6_seen_1 12 rfl rfl)
theorem dX6_seen_35 : decode cX6_seen 35 = .ok (.getfield 258, 3) := dk_180 1 2 (dk_at dksX6_seen_1 13 rfl rfl)
theorem dX6_seen_38 : decode cX6_seen 38 = .ok (.bipush 8, 2) := dk_16 8 (dk_at dksX6_seen_1 16 rfl rfl)
theorem dX6_seen_40 : decode cX6_seen 40 = .ok (.if_icmp .ne 6, 3) := dk_160 0 6 (dk_at dksX6_seen_1 18 rfl rfl)
theorem dX6_seen_43 : decode cX6_seen 43 = .ok (.bipush (-4), 2) := dk_16 252 (dk_at dksX6_seen_1 21 rfl rfl)
theorem dX6_seen_45 : decode cX6_seen 45 = .ok (.ireturn, 1) := dk_172 (dk_at dksX6_seen_1 23 rfl rfl)
theorem dX6_seen_46 : decode cX6_seen 46 = .ok (.aload_n 0, 1) := dk_42 (dk_at dksX6_seen_2 0 rfl rfl)
theorem dX6_seen_47 : decode cX6_seen 47 = .ok (.getfield 73, 3) := dk_180 0 73 (dk_at dksX6_seen_2 1 rfl rfl)
theorem dX6_seen_50 : decode cX6_seen 50 = .ok (.iconst 3, 1) := dk_6 (dk_at dksX6_seen_2 4 rfl rfl)
theorem dX6_seen_51 : decode cX6_seen 51 = .ok (.aload_n 0, 1) := dk_42 (dk_at dksX6_seen_2 5 rfl rfl)
theorem dX6_seen_52 : decode cX6_seen 52 = .ok (.getfield 258, 3) := dk_180 1 2 (dk_at dksX6_seen_2 6 rfl rfl)
theorem dX6_seen_55 : decode cX6_seen 55 = .ok (.imul, 1) := dk_104 (dk_at dksX6_seen_2 9 rfl rfl)
theorem dX6_seen_56 : decode cX6_seen 56 = .ok (.iload_n 1, 1) := dk_27 (dk_at dksX6_seen_2 10 rfl rfl)
theorem dX6_seen_57 : decode cX6_seen 57 = .ok (.iastore, 1) := dk_79 (dk_at dksX6_seen_2 11 rfl rfl)
theorem dX6_seen_58 : decode cX6_seen 58 = .ok (.aload_n 0, 1) := dk_42 (dk_at dksX6_seen_2 12 rfl rfl)
theorem dX6_seen_59 : decode cX6_seen 59 = .ok (.getfield 73, 3) := dk_180 0 73 (dk_at dksX6_seen_2 13 rfl rfl)
theorem dX6_seen_62 : decode cX6_seen 62 = .ok (.iconst 3, 1) := dk_6 (dk_at dksX6_seen_2 16 rfl rfl)
theorem dX6_seen_63 : decode cX6_seen 63 = .ok (.aload_n 0, 1) := dk_42 (dk_at dksX6_seen_2 17 rfl rfl)
theorem dX6_seen_64 : decode cX6_seen 64 = .ok (.getfield 258, 3) := dk_180 1 2 (dk_at dksX6_seen_2 18 rfl rfl)
theorem dX6_seen_67 : decode cX6_seen 67 = .ok (.imul, 1) := dk_104 (dk_at dksX6_seen_2 21 rfl rfl)
theorem dX6_seen_68 : decode cX6_seen 68 = .ok (.iconst 1, 1) := dk_4 (dk_at dksX6_seen_2 22 rfl rfl)
theorem dX6_seen_69 : decode cX6_seen 69 = .ok (.iadd, 1) := dk_96 (dk_at dksX6_seen_2 23 rfl rfl)
theorem dX6_seen_70 : decode cX6_seen 70 = .ok (.iload_n 2, 1) := dk_28 (dk_at dksX6_seen_3 0 rfl rfl)
theorem dX6_seen_71 : decode cX6_seen 71 = .ok (.iastore, 1) := dk_79 (dk_at dksX6_seen_3 1 rfl rfl)
theorem dX6_seen_72 : decode cX6_seen 72 = .ok (.aload_n 0, 1) := dk_42 (dk_at dksX6_seen_3 2 rfl rfl)
theorem dX6_seen_73 : decode cX6_seen 73 = .ok (.getfield 73, 3) := dk_180 0 73 (dk_at dksX6_seen_3 3 rfl rfl)
theorem dX6_seen_76 : decode cX6_seen 76 = .ok (.iconst 3, 1) := dk_6 (dk_at dksX6_seen_3 6 rfl rfl)
theorem dX6_seen_77 : decode cX6_seen 77 = .ok (.aload_n 0, 1) := dk_42 (dk_at dksX6_seen_3 7 rfl rfl)
theorem dX6_seen_78 : decode cX6_seen 78 = .ok (.getfield 258, 3) := dk_180 1 2 (dk_at dksX6_seen_3 8 rfl rfl)
theorem dX6_seen_81 : decode cX6_seen 81 = .ok (.imul, 1) := dk_104 (dk_at dksX6_seen_3 11 rfl rfl)
theorem dX6_seen_82 : decode cX6_seen 82 = .ok (.iconst 2, 1) := dk_5 (dk_at dksX6_seen_3 12 rfl rfl)
theorem dX6_seen_83 : decode cX6_seen 83 = .ok (.iadd, 1) := dk_96 (dk_at dksX6_seen_3 13 rfl rfl)
theorem dX6_seen_84 : decode cX6_seen 84 = .ok (.iload_n 3, 1) := dk_29 (dk_at dksX6_seen_3 14 rfl rfl)
theorem dX6_seen_85 : decode cX6_seen 85 = .ok (.iastore, 1) := dk_79 (dk_at dksX6_seen_3 15 rfl rfl)
theorem dX6_seen_86 : decode cX6_seen 86 = .ok (.aload_n 0, 1) := dk_42 (dk_at dksX6_seen_3 16 rfl rfl)
theorem dX6_seen_87 : decode cX6_seen 87 = .ok (.dup, 1) := dk_89 (dk_at dksX6_seen_3 17 rfl rfl)
theorem dX6_seen_88 : decode cX6_seen 88 = .ok (.getfield 258, 3) := dk_180 1 2 (dk_at dksX6_seen_3 18 rfl rfl)
theorem dX6_seen_91 : decode cX6_seen 91 = .ok (.iconst 1, 1) := dk_4 (dk_at dksX6_seen_3 21 rfl rfl)
theorem dX6_seen_92 : decode cX6_seen 92 = .ok (.iadd, 1) := dk_96 (dk_at dksX6_seen_3 22 rfl rfl)
theorem dX6_seen_93 : decode cX6_seen 93 = .ok (.putfield 258, 3) := dk_181 1 2 (dk_at dksX6_seen_4 0 rfl rfl)
theorem dX6_seen_96 : decode cX6_seen 96 = .ok (.aload_n 0, 1) := dk_42 (dk_at dksX6_seen_4 3 rfl rfl)
theorem dX6_seen_97 : decode cX6_seen 97 = .ok (.getfield 258, 3) := dk_180 1 2 (dk_at dksX6_seen_4 4 rfl rfl)
theorem dX6_seen_100 : decode cX6_seen 100 = .ok (.ireturn, 1) := dk_172 (dk_at dksX6_seen_4 7 rfl rfl)
abbrev cX6_forget : ByteArray := prog_8_method_70_code
def yX6_forget : MethodName := ⟨RX6, "forget", "()I"⟩
def dkwX6_forget_0 : List UInt8 := [42, 180, 1, 2, 60, 42, 3, 181, 1, 2, 27, 172]
abbrev dktX6_forget_0 : List UInt8 := dkwX6_forget_0 ++ []
theorem dksX6_forget_0 : cX6_forget.data.toList.drop 0 = dktX6_forget_0 := by decide +kernel
theorem dX6_forget_0 : decode cX6_forget 0 = .ok (.aload_n 0, 1) := dk_42 (dk_at dksX6_forget_0 0 rfl rfl)
theorem dX6_forget_1 : decode cX6_forget 1 = .ok (.getfield 258, 3) := dk_180 1 2 (dk_at dksX6_forget_0 1 rfl rfl)
theorem dX6_forget_4 : decode cX6_forget 4 = .ok (.istore_n 1, 1) := dk_60 (dk_at dksX6_forget_0 4 rfl rfl)
theorem dX6_forget_5 : decode cX6_forget 5 = .ok (.aload_n 0, 1) := dk_42 (dk_at dksX6_forget_0 5 rfl rfl)
theorem dX6_forget_6 : decode cX6_forget 6 = .ok (.iconst 0, 1) := dk_3 (dk_at dksX6_forget_0 6 rfl rfl)
theorem dX6_forget_7 : decode cX6_forget 7 = .ok (.putfield 258, 3) := dk_181 1 2 (dk_at dksX6_forget_0 7 rfl rfl)
theorem dX6_forget_10 : decode cX6_forget 10 = .ok (.iload_n 1, 1) := dk_27 (dk_at dksX6_forget_0 10 rfl rfl)
theorem dX6_forget_11 : decode cX6_forget 11 = .ok (.ireturn, 1) := dk_172 (dk_at dksX6_forget_0 11 rfl rfl)
abbrev cX6_never : ByteArray := prog_8_method_73_code
def yX6_never : MethodName := ⟨RX6, "never", "()I"⟩
def dkwX6_never_0 : List UInt8 := [42, 182, 0, 218, 42, 182, 1, 9, 172]
abbrev dktX6_never_0 : List UInt8 := dkwX6_never_0 ++ []
theorem dksX6_never_0 : cX6_never.data.toList.drop 0 = dktX6_never_0 := by decide +kernel
theorem dX6_never_0 : decode cX6_never 0 = .ok (.aload_n 0, 1) := dk_42 (dk_at dksX6_never_0 0 rfl rfl)
theorem dX6_never_1 : decode cX6_never 1 = .ok (.invokevirtual 218, 3) := dk_182 0 218 (dk_at dksX6_never_0 1 rfl rfl)
theorem dX6_never_4 : decode cX6_never 4 = .ok (.aload_n 0, 1) := dk_42 (dk_at dksX6_never_0 4 rfl rfl)
theorem dX6_never_5 : decode cX6_never 5 = .ok (.invokevirtual 265, 3) := dk_182 1 9 (dk_at dksX6_never_0 5 rfl rfl)
theorem dX6_never_8 : decode cX6_never 8 = .ok (.ireturn, 1) := dk_172 (dk_at dksX6_never_0 8 rfl rfl)
abbrev cX6_neverNow : ByteArray := prog_8_method_72_code
def yX6_neverNow : MethodName := ⟨RX6, "neverNow", "()I"⟩
def dkwX6_neverNow_2 : List UInt8 := [172]
abbrev dktX6_neverNow_2 : List UInt8 := dkwX6_neverNow_2 ++ []
def dkwX6_neverNow_1 : List UInt8 := [153, 0, 9, 4, 28, 120, 167, 0, 4, 3, 128, 60, 132, 2, 1, 167, 255, 221, 42, 3, 181, 0, 174, 27]
abbrev dktX6_neverNow_1 : List UInt8 := dkwX6_neverNow_1 ++ dktX6_neverNow_2
def dkwX6_neverNow_0 : List UInt8 := [3, 60, 3, 61, 28, 42, 180, 0, 166, 162, 0, 33, 42, 4, 28, 120, 181, 0, 174, 27, 42, 182, 1, 5]
abbrev dktX6_neverNow_0 : List UInt8 := dkwX6_neverNow_0 ++ dktX6_neverNow_1
theorem dksX6_neverNow_0 : cX6_neverNow.data.toList.drop 0 = dktX6_neverNow_0 := by decide +kernel
theorem dksX6_neverNow_1 : cX6_neverNow.data.toList.drop 24 = dktX6_neverNow_1 := dk_seg dksX6_neverNow_0 24 rfl rfl
theorem dksX6_neverNow_2 : cX6_neverNow.data.toList.drop 48 = dktX6_neverNow_2 := dk_seg dksX6_neverNow_1 24 rfl rfl
theorem dX6_neverNow_0 : decode cX6_neverNow 0 = .ok (.iconst 0, 1) := dk_3 (dk_at dksX6_neverNow_0 0 rfl rfl)
theorem dX6_neverNow_1 : decode cX6_neverNow 1 = .ok (.istore_n 1, 1) := dk_60 (dk_at dksX6_neverNow_0 1 rfl rfl)
theorem dX6_neverNow_2 : decode cX6_neverNow 2 = .ok (.iconst 0, 1) := dk_3 (dk_at dksX6_neverNow_0 2 rfl rfl)
theorem dX6_neverNow_3 : decode cX6_neverNow 3 = .ok (.istore_n 2, 1) := dk_61 (dk_at dksX6_neverNow_0 3 rfl rfl)
theorem dX6_neverNow_4 : decode cX6_neverNow 4 = .ok (.iload_n 2, 1) := dk_28 (dk_at dksX6_neverNow_0 4 rfl rfl)
theorem dX6_neverNow_5 : decode cX6_neverNow 5 = .ok (.aload_n 0, 1) := dk_42 (dk_at dksX6_neverNow_0 5 rfl rfl)
theorem dX6_neverNow_6 : decode cX6_neverNow 6 = .ok (.getfield 166, 3) := dk_180 0 166 (dk_at dksX6_neverNow_0 6 rfl rfl)
theorem dX6_neverNow_9 : decode cX6_neverNow 9 = .ok (.if_icmp .ge 33, 3) := dk_162 0 33 (dk_at dksX6_neverNow_0 9 rfl rfl)
theorem dX6_neverNow_12 : decode cX6_neverNow 12 = .ok (.aload_n 0, 1) := dk_42 (dk_at dksX6_neverNow_0 12 rfl rfl)
theorem dX6_neverNow_13 : decode cX6_neverNow 13 = .ok (.iconst 1, 1) := dk_4 (dk_at dksX6_neverNow_0 13 rfl rfl)
theorem dX6_neverNow_14 : decode cX6_neverNow 14 = .ok (.iload_n 2, 1) := dk_28 (dk_at dksX6_neverNow_0 14 rfl rfl)
theorem dX6_neverNow_15 : decode cX6_neverNow 15 = .ok (.ishl, 1) := dk_120 (dk_at dksX6_neverNow_0 15 rfl rfl)
theorem dX6_neverNow_16 : decode cX6_neverNow 16 = .ok (.putfield 174, 3) := dk_181 0 174 (dk_at dksX6_neverNow_0 16 rfl rfl)
theorem dX6_neverNow_19 : decode cX6_neverNow 19 = .ok (.iload_n 1, 1) := dk_27 (dk_at dksX6_neverNow_0 19 rfl rfl)
theorem dX6_neverNow_20 : decode cX6_neverNow 20 = .ok (.aload_n 0, 1) := dk_42 (dk_at dksX6_neverNow_0 20 rfl rfl)
theorem dX6_neverNow_21 : decode cX6_neverNow 21 = .ok (.invokevirtual 261, 3) := dk_182 1 5 (dk_at dksX6_neverNow_0 21 rfl rfl)
theorem dX6_neverNow_24 : decode cX6_neverNow 24 = .ok (.ifCond .eq 9, 3) := dk_153 0 9 (dk_at dksX6_neverNow_1 0 rfl rfl)
theorem dX6_neverNow_27 : decode cX6_neverNow 27 = .ok (.iconst 1, 1) := dk_4 (dk_at dksX6_neverNow_1 3 rfl rfl)
theorem dX6_neverNow_28 : decode cX6_neverNow 28 = .ok (.iload_n 2, 1) := dk_28 (dk_at dksX6_neverNow_1 4 rfl rfl)
theorem dX6_neverNow_29 : decode cX6_neverNow 29 = .ok (.ishl, 1) := dk_120 (dk_at dksX6_neverNow_1 5 rfl rfl)
theorem dX6_neverNow_30 : decode cX6_neverNow 30 = .ok (.goto 4, 3) := dk_167 0 4 (dk_at dksX6_neverNow_1 6 rfl rfl)
theorem dX6_neverNow_33 : decode cX6_neverNow 33 = .ok (.iconst 0, 1) := dk_3 (dk_at dksX6_neverNow_1 9 rfl rfl)
theorem dX6_neverNow_34 : decode cX6_neverNow 34 = .ok (.ior, 1) := dk_128 (dk_at dksX6_neverNow_1 10 rfl rfl)
theorem dX6_neverNow_35 : decode cX6_neverNow 35 = .ok (.istore_n 1, 1) := dk_60 (dk_at dksX6_neverNow_1 11 rfl rfl)
theorem dX6_neverNow_36 : decode cX6_neverNow 36 = .ok (.iinc 2 1, 3) := dk_132 2 1 (dk_at dksX6_neverNow_1 12 rfl rfl)
theorem dX6_neverNow_39 : decode cX6_neverNow 39 = .ok (.goto (-35), 3) := dk_167 255 221 (dk_at dksX6_neverNow_1 15 rfl rfl)
theorem dX6_neverNow_42 : decode cX6_neverNow 42 = .ok (.aload_n 0, 1) := dk_42 (dk_at dksX6_neverNow_1 18 rfl rfl)
theorem dX6_neverNow_43 : decode cX6_neverNow 43 = .ok (.iconst 0, 1) := dk_3 (dk_at dksX6_neverNow_1 19 rfl rfl)
theorem dX6_neverNow_44 : decode cX6_neverNow 44 = .ok (.putfield 174, 3) := dk_181 0 174 (dk_at dksX6_neverNow_1 20 rfl rfl)
theorem dX6_neverNow_47 : decode cX6_neverNow 47 = .ok (.iload_n 1, 1) := dk_27 (dk_at dksX6_neverNow_1 23 rfl rfl)
theorem dX6_neverNow_48 : decode cX6_neverNow 48 = .ok (.ireturn, 1) := dk_172 (dk_at dksX6_neverNow_2 0 rfl rfl)
abbrev cX6_isSeen : ByteArray := prog_8_method_71_code
def yX6_isSeen : MethodName := ⟨RX6, "isSeen", "()Z"⟩
def dkwX6_isSeen_4 : List UInt8 := [167, 0, 4, 3, 60, 132, 2, 1, 167, 255, 162, 27, 172]
abbrev dktX6_isSeen_4 : List UInt8 := dkwX6_isSeen_4 ++ []
def dkwX6_isSeen_3 : List UInt8 := [46, 16, 8, 160, 0, 7, 2, 167, 0, 13, 42, 180, 0, 73, 6, 28, 104, 5, 96, 46, 160, 0, 7, 4]
abbrev dktX6_isSeen_3 : List UInt8 := dkwX6_isSeen_3 ++ dktX6_isSeen_4
def dkwX6_isSeen_2 : List UInt8 := [180, 0, 73, 6, 28, 104, 46, 104, 7, 29, 104, 96, 4, 96, 46, 42, 180, 0, 73, 6, 28, 104, 5, 96]
abbrev dktX6_isSeen_2 : List UInt8 := dkwX6_isSeen_2 ++ dktX6_isSeen_3
def dkwX6_isSeen_1 : List UInt8 := [6, 28, 104, 4, 96, 46, 62, 42, 29, 182, 0, 153, 153, 0, 61, 42, 180, 0, 64, 16, 32, 42]
abbrev dktX6_isSeen_1 : List UInt8 := dkwX6_isSeen_1 ++ dktX6_isSeen_2
def dkwX6_isSeen_0 : List UInt8 := [42, 182, 0, 215, 4, 60, 3, 61, 28, 42, 180, 1, 2, 162, 0, 92, 27, 153, 0, 88, 42, 180, 0, 73]
abbrev dktX6_isSeen_0 : List UInt8 := dkwX6_isSeen_0 ++ dktX6_isSeen_1
theorem dksX6_isSeen_0 : cX6_isSeen.data.toList.drop 0 = dktX6_isSeen_0 := by decide +kernel
theorem dksX6_isSeen_1 : cX6_isSeen.data.toList.drop 24 = dktX6_isSeen_1 := dk_seg dksX6_isSeen_0 24 rfl rfl
theorem dksX6_isSeen_2 : cX6_isSeen.data.toList.drop 46 = dktX6_isSeen_2 := dk_seg dksX6_isSeen_1 22 rfl rfl
theorem dksX6_isSeen_3 : cX6_isSeen.data.toList.drop 70 = dktX6_isSeen_3 := dk_seg dksX6_isSeen_2 24 rfl rfl
theorem dksX6_isSeen_4 : cX6_isSeen.data.toList.drop 94 = dktX6_isSeen_4 := dk_seg dksX6_isSeen_3 24 rfl rfl
theorem dX6_isSeen_0 : decode cX6_isSeen 0 = .ok (.aload_n 0, 1) := dk_42 (dk_at dksX6_isSeen_0 0 rfl rfl)
theorem dX6_isSeen_1 : decode cX6_isSeen 1 = .ok (.invokevirtual 215, 3) := dk_182 0 215 (dk_at dksX6_isSeen_0 1 rfl rfl)
theorem dX6_isSeen_4 : decode cX6_isSeen 4 = .ok (.iconst 1, 1) := dk_4 (dk_at dksX6_isSeen_0 4 rfl rfl)
theorem dX6_isSeen_5 : decode cX6_isSeen 5 = .ok (.istore_n 1, 1) := dk_60 (dk_at dksX6_isSeen_0 5 rfl rfl)
theorem dX6_isSeen_6 : decode cX6_isSeen 6 = .ok (.iconst 0, 1) := dk_3 (dk_at dksX6_isSeen_0 6 rfl rfl)
theorem dX6_isSeen_7 : decode cX6_isSeen 7 = .ok (.istore_n 2, 1) := dk_61 (dk_at dksX6_isSeen_0 7 rfl rfl)
theorem dX6_isSeen_8 : decode cX6_isSeen 8 = .ok (.iload_n 2, 1) := dk_28 (dk_at dksX6_isSeen_0 8 rfl rfl)
theorem dX6_isSeen_9 : decode cX6_isSeen 9 = .ok (.aload_n 0, 1) := dk_42 (dk_at dksX6_isSeen_0 9 rfl rfl)
theorem dX6_isSeen_10 : decode cX6_isSeen 10 = .ok (.getfield 258, 3) := dk_180 1 2 (dk_at dksX6_isSeen_0 10 rfl rfl)
theorem dX6_isSeen_13 : decode cX6_isSeen 13 = .ok (.if_icmp .ge 92, 3) := dk_162 0 92 (dk_at dksX6_isSeen_0 13 rfl rfl)
theorem dX6_isSeen_16 : decode cX6_isSeen 16 = .ok (.iload_n 1, 1) := dk_27 (dk_at dksX6_isSeen_0 16 rfl rfl)
theorem dX6_isSeen_17 : decode cX6_isSeen 17 = .ok (.ifCond .eq 88, 3) := dk_153 0 88 (dk_at dksX6_isSeen_0 17 rfl rfl)
theorem dX6_isSeen_20 : decode cX6_isSeen 20 = .ok (.aload_n 0, 1) := dk_42 (dk_at dksX6_isSeen_0 20 rfl rfl)
theorem dX6_isSeen_21 : decode cX6_isSeen 21 = .ok (.getfield 73, 3) := dk_180 0 73 (dk_at dksX6_isSeen_0 21 rfl rfl)
theorem dX6_isSeen_24 : decode cX6_isSeen 24 = .ok (.iconst 3, 1) := dk_6 (dk_at dksX6_isSeen_1 0 rfl rfl)
theorem dX6_isSeen_25 : decode cX6_isSeen 25 = .ok (.iload_n 2, 1) := dk_28 (dk_at dksX6_isSeen_1 1 rfl rfl)
theorem dX6_isSeen_26 : decode cX6_isSeen 26 = .ok (.imul, 1) := dk_104 (dk_at dksX6_isSeen_1 2 rfl rfl)
theorem dX6_isSeen_27 : decode cX6_isSeen 27 = .ok (.iconst 1, 1) := dk_4 (dk_at dksX6_isSeen_1 3 rfl rfl)
theorem dX6_isSeen_28 : decode cX6_isSeen 28 = .ok (.iadd, 1) := dk_96 (dk_at dksX6_isSeen_1 4 rfl rfl)
theorem dX6_isSeen_29 : decode cX6_isSeen 29 = .ok (.iaload, 1) := dk_46 (dk_at dksX6_isSeen_1 5 rfl rfl)
theorem dX6_isSeen_30 : decode cX6_isSeen 30 = .ok (.istore_n 3, 1) := dk_62 (dk_at dksX6_isSeen_1 6 rfl rfl)
theorem dX6_isSeen_31 : decode cX6_isSeen 31 = .ok (.aload_n 0, 1) := dk_42 (dk_at dksX6_isSeen_1 7 rfl rfl)
theorem dX6_isSeen_32 : decode cX6_isSeen 32 = .ok (.iload_n 3, 1) := dk_29 (dk_at dksX6_isSeen_1 8 rfl rfl)
theorem dX6_isSeen_33 : decode cX6_isSeen 33 = .ok (.invokevirtual 153, 3) := dk_182 0 153 (dk_at dksX6_isSeen_1 9 rfl rfl)
theorem dX6_isSeen_36 : decode cX6_isSeen 36 = .ok (.ifCond .eq 61, 3) := dk_153 0 61 (dk_at dksX6_isSeen_1 12 rfl rfl)
theorem dX6_isSeen_39 : decode cX6_isSeen 39 = .ok (.aload_n 0, 1) := dk_42 (dk_at dksX6_isSeen_1 15 rfl rfl)
theorem dX6_isSeen_40 : decode cX6_isSeen 40 = .ok (.getfield 64, 3) := dk_180 0 64 (dk_at dksX6_isSeen_1 16 rfl rfl)
theorem dX6_isSeen_43 : decode cX6_isSeen 43 = .ok (.bipush 32, 2) := dk_16 32 (dk_at dksX6_isSeen_1 19 rfl rfl)
theorem dX6_isSeen_45 : decode cX6_isSeen 45 = .ok (.aload_n 0, 1) := dk_42 (dk_at dksX6_isSeen_1 21 rfl rfl)
theorem dX6_isSeen_46 : decode cX6_isSeen 46 = .ok (.getfield 73, 3) := dk_180 0 73 (dk_at dksX6_isSeen_2 0 rfl rfl)
theorem dX6_isSeen_49 : decode cX6_isSeen 49 = .ok (.iconst 3, 1) := dk_6 (dk_at dksX6_isSeen_2 3 rfl rfl)
theorem dX6_isSeen_50 : decode cX6_isSeen 50 = .ok (.iload_n 2, 1) := dk_28 (dk_at dksX6_isSeen_2 4 rfl rfl)
theorem dX6_isSeen_51 : decode cX6_isSeen 51 = .ok (.imul, 1) := dk_104 (dk_at dksX6_isSeen_2 5 rfl rfl)
theorem dX6_isSeen_52 : decode cX6_isSeen 52 = .ok (.iaload, 1) := dk_46 (dk_at dksX6_isSeen_2 6 rfl rfl)
theorem dX6_isSeen_53 : decode cX6_isSeen 53 = .ok (.imul, 1) := dk_104 (dk_at dksX6_isSeen_2 7 rfl rfl)
theorem dX6_isSeen_54 : decode cX6_isSeen 54 = .ok (.iconst 4, 1) := dk_7 (dk_at dksX6_isSeen_2 8 rfl rfl)
theorem dX6_isSeen_55 : decode cX6_isSeen 55 = .ok (.iload_n 3, 1) := dk_29 (dk_at dksX6_isSeen_2 9 rfl rfl)
theorem dX6_isSeen_56 : decode cX6_isSeen 56 = .ok (.imul, 1) := dk_104 (dk_at dksX6_isSeen_2 10 rfl rfl)
theorem dX6_isSeen_57 : decode cX6_isSeen 57 = .ok (.iadd, 1) := dk_96 (dk_at dksX6_isSeen_2 11 rfl rfl)
theorem dX6_isSeen_58 : decode cX6_isSeen 58 = .ok (.iconst 1, 1) := dk_4 (dk_at dksX6_isSeen_2 12 rfl rfl)
theorem dX6_isSeen_59 : decode cX6_isSeen 59 = .ok (.iadd, 1) := dk_96 (dk_at dksX6_isSeen_2 13 rfl rfl)
theorem dX6_isSeen_60 : decode cX6_isSeen 60 = .ok (.iaload, 1) := dk_46 (dk_at dksX6_isSeen_2 14 rfl rfl)
theorem dX6_isSeen_61 : decode cX6_isSeen 61 = .ok (.aload_n 0, 1) := dk_42 (dk_at dksX6_isSeen_2 15 rfl rfl)
theorem dX6_isSeen_62 : decode cX6_isSeen 62 = .ok (.getfield 73, 3) := dk_180 0 73 (dk_at dksX6_isSeen_2 16 rfl rfl)
theorem dX6_isSeen_65 : decode cX6_isSeen 65 = .ok (.iconst 3, 1) := dk_6 (dk_at dksX6_isSeen_2 19 rfl rfl)
theorem dX6_isSeen_66 : decode cX6_isSeen 66 = .ok (.iload_n 2, 1) := dk_28 (dk_at dksX6_isSeen_2 20 rfl rfl)
theorem dX6_isSeen_67 : decode cX6_isSeen 67 = .ok (.imul, 1) := dk_104 (dk_at dksX6_isSeen_2 21 rfl rfl)
theorem dX6_isSeen_68 : decode cX6_isSeen 68 = .ok (.iconst 2, 1) := dk_5 (dk_at dksX6_isSeen_2 22 rfl rfl)
theorem dX6_isSeen_69 : decode cX6_isSeen 69 = .ok (.iadd, 1) := dk_96 (dk_at dksX6_isSeen_2 23 rfl rfl)
theorem dX6_isSeen_70 : decode cX6_isSeen 70 = .ok (.iaload, 1) := dk_46 (dk_at dksX6_isSeen_3 0 rfl rfl)
theorem dX6_isSeen_71 : decode cX6_isSeen 71 = .ok (.bipush 8, 2) := dk_16 8 (dk_at dksX6_isSeen_3 1 rfl rfl)
theorem dX6_isSeen_73 : decode cX6_isSeen 73 = .ok (.if_icmp .ne 7, 3) := dk_160 0 7 (dk_at dksX6_isSeen_3 3 rfl rfl)
theorem dX6_isSeen_76 : decode cX6_isSeen 76 = .ok (.iconst (-1), 1) := dk_2 (dk_at dksX6_isSeen_3 6 rfl rfl)
theorem dX6_isSeen_77 : decode cX6_isSeen 77 = .ok (.goto 13, 3) := dk_167 0 13 (dk_at dksX6_isSeen_3 7 rfl rfl)
theorem dX6_isSeen_80 : decode cX6_isSeen 80 = .ok (.aload_n 0, 1) := dk_42 (dk_at dksX6_isSeen_3 10 rfl rfl)
theorem dX6_isSeen_81 : decode cX6_isSeen 81 = .ok (.getfield 73, 3) := dk_180 0 73 (dk_at dksX6_isSeen_3 11 rfl rfl)
theorem dX6_isSeen_84 : decode cX6_isSeen 84 = .ok (.iconst 3, 1) := dk_6 (dk_at dksX6_isSeen_3 14 rfl rfl)
theorem dX6_isSeen_85 : decode cX6_isSeen 85 = .ok (.iload_n 2, 1) := dk_28 (dk_at dksX6_isSeen_3 15 rfl rfl)
theorem dX6_isSeen_86 : decode cX6_isSeen 86 = .ok (.imul, 1) := dk_104 (dk_at dksX6_isSeen_3 16 rfl rfl)
theorem dX6_isSeen_87 : decode cX6_isSeen 87 = .ok (.iconst 2, 1) := dk_5 (dk_at dksX6_isSeen_3 17 rfl rfl)
theorem dX6_isSeen_88 : decode cX6_isSeen 88 = .ok (.iadd, 1) := dk_96 (dk_at dksX6_isSeen_3 18 rfl rfl)
theorem dX6_isSeen_89 : decode cX6_isSeen 89 = .ok (.iaload, 1) := dk_46 (dk_at dksX6_isSeen_3 19 rfl rfl)
theorem dX6_isSeen_90 : decode cX6_isSeen 90 = .ok (.if_icmp .ne 7, 3) := dk_160 0 7 (dk_at dksX6_isSeen_3 20 rfl rfl)
theorem dX6_isSeen_93 : decode cX6_isSeen 93 = .ok (.iconst 1, 1) := dk_4 (dk_at dksX6_isSeen_3 23 rfl rfl)
theorem dX6_isSeen_94 : decode cX6_isSeen 94 = .ok (.goto 4, 3) := dk_167 0 4 (dk_at dksX6_isSeen_4 0 rfl rfl)
theorem dX6_isSeen_97 : decode cX6_isSeen 97 = .ok (.iconst 0, 1) := dk_3 (dk_at dksX6_isSeen_4 3 rfl rfl)
theorem dX6_isSeen_98 : decode cX6_isSeen 98 = .ok (.istore_n 1, 1) := dk_60 (dk_at dksX6_isSeen_4 4 rfl rfl)
theorem dX6_isSeen_99 : decode cX6_isSeen 99 = .ok (.iinc 2 1, 3) := dk_132 2 1 (dk_at dksX6_isSeen_4 5 rfl rfl)
theorem dX6_isSeen_102 : decode cX6_isSeen 102 = .ok (.goto (-94), 3) := dk_167 255 162 (dk_at dksX6_isSeen_4 8 rfl rfl)
theorem dX6_isSeen_105 : decode cX6_isSeen 105 = .ok (.iload_n 1, 1) := dk_27 (dk_at dksX6_isSeen_4 11 rfl rfl)
theorem dX6_isSeen_106 : decode cX6_isSeen 106 = .ok (.ireturn, 1) := dk_172 (dk_at dksX6_isSeen_4 12 rfl rfl)
abbrev cX6_sort : ByteArray := prog_8_method_75_code
def yX6_sort : MethodName := ⟨RX6, "sort", "(I)I"⟩
def dkwX6_sort_0 : List UInt8 := [42, 182, 0, 218, 42, 27, 182, 0, 153, 153, 0, 11, 42, 27, 182, 1, 12, 167, 0, 5, 16, 254, 172]
abbrev dktX6_sort_0 : List UInt8 := dkwX6_sort_0 ++ []
theorem dksX6_sort_0 : cX6_sort.data.toList.drop 0 = dktX6_sort_0 := by decide +kernel
theorem dX6_sort_0 : decode cX6_sort 0 = .ok (.aload_n 0, 1) := dk_42 (dk_at dksX6_sort_0 0 rfl rfl)
theorem dX6_sort_1 : decode cX6_sort 1 = .ok (.invokevirtual 218, 3) := dk_182 0 218 (dk_at dksX6_sort_0 1 rfl rfl)
theorem dX6_sort_4 : decode cX6_sort 4 = .ok (.aload_n 0, 1) := dk_42 (dk_at dksX6_sort_0 4 rfl rfl)
theorem dX6_sort_5 : decode cX6_sort 5 = .ok (.iload_n 1, 1) := dk_27 (dk_at dksX6_sort_0 5 rfl rfl)
theorem dX6_sort_6 : decode cX6_sort 6 = .ok (.invokevirtual 153, 3) := dk_182 0 153 (dk_at dksX6_sort_0 6 rfl rfl)
theorem dX6_sort_9 : decode cX6_sort 9 = .ok (.ifCond .eq 11, 3) := dk_153 0 11 (dk_at dksX6_sort_0 9 rfl rfl)
theorem dX6_sort_12 : decode cX6_sort 12 = .ok (.aload_n 0, 1) := dk_42 (dk_at dksX6_sort_0 12 rfl rfl)
theorem dX6_sort_13 : decode cX6_sort 13 = .ok (.iload_n 1, 1) := dk_27 (dk_at dksX6_sort_0 13 rfl rfl)
theorem dX6_sort_14 : decode cX6_sort 14 = .ok (.invokevirtual 268, 3) := dk_182 1 12 (dk_at dksX6_sort_0 14 rfl rfl)
theorem dX6_sort_17 : decode cX6_sort 17 = .ok (.goto 5, 3) := dk_167 0 5 (dk_at dksX6_sort_0 17 rfl rfl)
theorem dX6_sort_20 : decode cX6_sort 20 = .ok (.bipush (-2), 2) := dk_16 254 (dk_at dksX6_sort_0 20 rfl rfl)
theorem dX6_sort_22 : decode cX6_sort 22 = .ok (.ireturn, 1) := dk_172 (dk_at dksX6_sort_0 22 rfl rfl)
abbrev cX6_sortOf : ByteArray := prog_8_method_74_code
def yX6_sortOf : MethodName := ⟨RX6, "sortOf", "(I)I"⟩
def dkwX6_sortOf_4 : List UInt8 := [167, 255, 217, 132, 4, 1, 167, 255, 172, 42, 180, 0, 31, 8, 27, 104, 5, 96, 28, 79, 29, 172]
abbrev dktX6_sortOf_4 : List UInt8 := dkwX6_sortOf_4 ++ []
def dkwX6_sortOf_3 : List UInt8 := [104, 21, 5, 96, 42, 180, 0, 64, 16, 32, 21, 5, 104, 7, 27, 104, 96, 4, 96, 46, 79, 132, 5, 1]
abbrev dktX6_sortOf_3 : List UInt8 := dkwX6_sortOf_3 ++ dktX6_sortOf_4
def dkwX6_sortOf_2 : List UInt8 := [167, 0, 4, 3, 128, 62, 3, 54, 5, 21, 5, 16, 40, 162, 0, 38, 42, 180, 0, 76, 16, 40, 21, 4]
abbrev dktX6_sortOf_2 : List UInt8 := dkwX6_sortOf_2 ++ dktX6_sortOf_3
def dkwX6_sortOf_1 : List UInt8 := [180, 0, 31, 8, 27, 104, 5, 96, 21, 4, 79, 29, 42, 182, 1, 5, 153, 0, 10, 4, 21, 4, 120]
abbrev dktX6_sortOf_1 : List UInt8 := dkwX6_sortOf_1 ++ dktX6_sortOf_2
def dkwX6_sortOf_0 : List UInt8 := [42, 180, 0, 31, 8, 27, 104, 5, 96, 46, 61, 3, 62, 3, 54, 4, 21, 4, 6, 162, 0, 84, 42]
abbrev dktX6_sortOf_0 : List UInt8 := dkwX6_sortOf_0 ++ dktX6_sortOf_1
theorem dksX6_sortOf_0 : cX6_sortOf.data.toList.drop 0 = dktX6_sortOf_0 := by decide +kernel
theorem dksX6_sortOf_1 : cX6_sortOf.data.toList.drop 23 = dktX6_sortOf_1 := dk_seg dksX6_sortOf_0 23 rfl rfl
theorem dksX6_sortOf_2 : cX6_sortOf.data.toList.drop 46 = dktX6_sortOf_2 := dk_seg dksX6_sortOf_1 23 rfl rfl
theorem dksX6_sortOf_3 : cX6_sortOf.data.toList.drop 70 = dktX6_sortOf_3 := dk_seg dksX6_sortOf_2 24 rfl rfl
theorem dksX6_sortOf_4 : cX6_sortOf.data.toList.drop 94 = dktX6_sortOf_4 := dk_seg dksX6_sortOf_3 24 rfl rfl
theorem dX6_sortOf_0 : decode cX6_sortOf 0 = .ok (.aload_n 0, 1) := dk_42 (dk_at dksX6_sortOf_0 0 rfl rfl)
theorem dX6_sortOf_1 : decode cX6_sortOf 1 = .ok (.getfield 31, 3) := dk_180 0 31 (dk_at dksX6_sortOf_0 1 rfl rfl)
theorem dX6_sortOf_4 : decode cX6_sortOf 4 = .ok (.iconst 5, 1) := dk_8 (dk_at dksX6_sortOf_0 4 rfl rfl)
theorem dX6_sortOf_5 : decode cX6_sortOf 5 = .ok (.iload_n 1, 1) := dk_27 (dk_at dksX6_sortOf_0 5 rfl rfl)
theorem dX6_sortOf_6 : decode cX6_sortOf 6 = .ok (.imul, 1) := dk_104 (dk_at dksX6_sortOf_0 6 rfl rfl)
theorem dX6_sortOf_7 : decode cX6_sortOf 7 = .ok (.iconst 2, 1) := dk_5 (dk_at dksX6_sortOf_0 7 rfl rfl)
theorem dX6_sortOf_8 : decode cX6_sortOf 8 = .ok (.iadd, 1) := dk_96 (dk_at dksX6_sortOf_0 8 rfl rfl)
theorem dX6_sortOf_9 : decode cX6_sortOf 9 = .ok (.iaload, 1) := dk_46 (dk_at dksX6_sortOf_0 9 rfl rfl)
theorem dX6_sortOf_10 : decode cX6_sortOf 10 = .ok (.istore_n 2, 1) := dk_61 (dk_at dksX6_sortOf_0 10 rfl rfl)
theorem dX6_sortOf_11 : decode cX6_sortOf 11 = .ok (.iconst 0, 1) := dk_3 (dk_at dksX6_sortOf_0 11 rfl rfl)
theorem dX6_sortOf_12 : decode cX6_sortOf 12 = .ok (.istore_n 3, 1) := dk_62 (dk_at dksX6_sortOf_0 12 rfl rfl)
theorem dX6_sortOf_13 : decode cX6_sortOf 13 = .ok (.iconst 0, 1) := dk_3 (dk_at dksX6_sortOf_0 13 rfl rfl)
theorem dX6_sortOf_14 : decode cX6_sortOf 14 = .ok (.istore 4, 2) := dk_54 4 (dk_at dksX6_sortOf_0 14 rfl rfl)
theorem dX6_sortOf_16 : decode cX6_sortOf 16 = .ok (.iload 4, 2) := dk_21 4 (dk_at dksX6_sortOf_0 16 rfl rfl)
theorem dX6_sortOf_18 : decode cX6_sortOf 18 = .ok (.iconst 3, 1) := dk_6 (dk_at dksX6_sortOf_0 18 rfl rfl)
theorem dX6_sortOf_19 : decode cX6_sortOf 19 = .ok (.if_icmp .ge 84, 3) := dk_162 0 84 (dk_at dksX6_sortOf_0 19 rfl rfl)
theorem dX6_sortOf_22 : decode cX6_sortOf 22 = .ok (.aload_n 0, 1) := dk_42 (dk_at dksX6_sortOf_0 22 rfl rfl)
theorem dX6_sortOf_23 : decode cX6_sortOf 23 = .ok (.getfield 31, 3) := dk_180 0 31 (dk_at dksX6_sortOf_1 0 rfl rfl)
theorem dX6_sortOf_26 : decode cX6_sortOf 26 = .ok (.iconst 5, 1) := dk_8 (dk_at dksX6_sortOf_1 3 rfl rfl)
theorem dX6_sortOf_27 : decode cX6_sortOf 27 = .ok (.iload_n 1, 1) := dk_27 (dk_at dksX6_sortOf_1 4 rfl rfl)
theorem dX6_sortOf_28 : decode cX6_sortOf 28 = .ok (.imul, 1) := dk_104 (dk_at dksX6_sortOf_1 5 rfl rfl)
theorem dX6_sortOf_29 : decode cX6_sortOf 29 = .ok (.iconst 2, 1) := dk_5 (dk_at dksX6_sortOf_1 6 rfl rfl)
theorem dX6_sortOf_30 : decode cX6_sortOf 30 = .ok (.iadd, 1) := dk_96 (dk_at dksX6_sortOf_1 7 rfl rfl)
theorem dX6_sortOf_31 : decode cX6_sortOf 31 = .ok (.iload 4, 2) := dk_21 4 (dk_at dksX6_sortOf_1 8 rfl rfl)
theorem dX6_sortOf_33 : decode cX6_sortOf 33 = .ok (.iastore, 1) := dk_79 (dk_at dksX6_sortOf_1 10 rfl rfl)
theorem dX6_sortOf_34 : decode cX6_sortOf 34 = .ok (.iload_n 3, 1) := dk_29 (dk_at dksX6_sortOf_1 11 rfl rfl)
theorem dX6_sortOf_35 : decode cX6_sortOf 35 = .ok (.aload_n 0, 1) := dk_42 (dk_at dksX6_sortOf_1 12 rfl rfl)
theorem dX6_sortOf_36 : decode cX6_sortOf 36 = .ok (.invokevirtual 261, 3) := dk_182 1 5 (dk_at dksX6_sortOf_1 13 rfl rfl)
theorem dX6_sortOf_39 : decode cX6_sortOf 39 = .ok (.ifCond .eq 10, 3) := dk_153 0 10 (dk_at dksX6_sortOf_1 16 rfl rfl)
theorem dX6_sortOf_42 : decode cX6_sortOf 42 = .ok (.iconst 1, 1) := dk_4 (dk_at dksX6_sortOf_1 19 rfl rfl)
theorem dX6_sortOf_43 : decode cX6_sortOf 43 = .ok (.iload 4, 2) := dk_21 4 (dk_at dksX6_sortOf_1 20 rfl rfl)
theorem dX6_sortOf_45 : decode cX6_sortOf 45 = .ok (.ishl, 1) := dk_120 (dk_at dksX6_sortOf_1 22 rfl rfl)
theorem dX6_sortOf_46 : decode cX6_sortOf 46 = .ok (.goto 4, 3) := dk_167 0 4 (dk_at dksX6_sortOf_2 0 rfl rfl)
theorem dX6_sortOf_49 : decode cX6_sortOf 49 = .ok (.iconst 0, 1) := dk_3 (dk_at dksX6_sortOf_2 3 rfl rfl)
theorem dX6_sortOf_50 : decode cX6_sortOf 50 = .ok (.ior, 1) := dk_128 (dk_at dksX6_sortOf_2 4 rfl rfl)
theorem dX6_sortOf_51 : decode cX6_sortOf 51 = .ok (.istore_n 3, 1) := dk_62 (dk_at dksX6_sortOf_2 5 rfl rfl)
theorem dX6_sortOf_52 : decode cX6_sortOf 52 = .ok (.iconst 0, 1) := dk_3 (dk_at dksX6_sortOf_2 6 rfl rfl)
theorem dX6_sortOf_53 : decode cX6_sortOf 53 = .ok (.istore 5, 2) := dk_54 5 (dk_at dksX6_sortOf_2 7 rfl rfl)
theorem dX6_sortOf_55 : decode cX6_sortOf 55 = .ok (.iload 5, 2) := dk_21 5 (dk_at dksX6_sortOf_2 9 rfl rfl)
theorem dX6_sortOf_57 : decode cX6_sortOf 57 = .ok (.bipush 40, 2) := dk_16 40 (dk_at dksX6_sortOf_2 11 rfl rfl)
theorem dX6_sortOf_59 : decode cX6_sortOf 59 = .ok (.if_icmp .ge 38, 3) := dk_162 0 38 (dk_at dksX6_sortOf_2 13 rfl rfl)
theorem dX6_sortOf_62 : decode cX6_sortOf 62 = .ok (.aload_n 0, 1) := dk_42 (dk_at dksX6_sortOf_2 16 rfl rfl)
theorem dX6_sortOf_63 : decode cX6_sortOf 63 = .ok (.getfield 76, 3) := dk_180 0 76 (dk_at dksX6_sortOf_2 17 rfl rfl)
theorem dX6_sortOf_66 : decode cX6_sortOf 66 = .ok (.bipush 40, 2) := dk_16 40 (dk_at dksX6_sortOf_2 20 rfl rfl)
theorem dX6_sortOf_68 : decode cX6_sortOf 68 = .ok (.iload 4, 2) := dk_21 4 (dk_at dksX6_sortOf_2 22 rfl rfl)
theorem dX6_sortOf_70 : decode cX6_sortOf 70 = .ok (.imul, 1) := dk_104 (dk_at dksX6_sortOf_3 0 rfl rfl)
theorem dX6_sortOf_71 : decode cX6_sortOf 71 = .ok (.iload 5, 2) := dk_21 5 (dk_at dksX6_sortOf_3 1 rfl rfl)
theorem dX6_sortOf_73 : decode cX6_sortOf 73 = .ok (.iadd, 1) := dk_96 (dk_at dksX6_sortOf_3 3 rfl rfl)
theorem dX6_sortOf_74 : decode cX6_sortOf 74 = .ok (.aload_n 0, 1) := dk_42 (dk_at dksX6_sortOf_3 4 rfl rfl)
theorem dX6_sortOf_75 : decode cX6_sortOf 75 = .ok (.getfield 64, 3) := dk_180 0 64 (dk_at dksX6_sortOf_3 5 rfl rfl)
theorem dX6_sortOf_78 : decode cX6_sortOf 78 = .ok (.bipush 32, 2) := dk_16 32 (dk_at dksX6_sortOf_3 8 rfl rfl)
theorem dX6_sortOf_80 : decode cX6_sortOf 80 = .ok (.iload 5, 2) := dk_21 5 (dk_at dksX6_sortOf_3 10 rfl rfl)
theorem dX6_sortOf_82 : decode cX6_sortOf 82 = .ok (.imul, 1) := dk_104 (dk_at dksX6_sortOf_3 12 rfl rfl)
theorem dX6_sortOf_83 : decode cX6_sortOf 83 = .ok (.iconst 4, 1) := dk_7 (dk_at dksX6_sortOf_3 13 rfl rfl)
theorem dX6_sortOf_84 : decode cX6_sortOf 84 = .ok (.iload_n 1, 1) := dk_27 (dk_at dksX6_sortOf_3 14 rfl rfl)
theorem dX6_sortOf_85 : decode cX6_sortOf 85 = .ok (.imul, 1) := dk_104 (dk_at dksX6_sortOf_3 15 rfl rfl)
theorem dX6_sortOf_86 : decode cX6_sortOf 86 = .ok (.iadd, 1) := dk_96 (dk_at dksX6_sortOf_3 16 rfl rfl)
theorem dX6_sortOf_87 : decode cX6_sortOf 87 = .ok (.iconst 1, 1) := dk_4 (dk_at dksX6_sortOf_3 17 rfl rfl)
theorem dX6_sortOf_88 : decode cX6_sortOf 88 = .ok (.iadd, 1) := dk_96 (dk_at dksX6_sortOf_3 18 rfl rfl)
theorem dX6_sortOf_89 : decode cX6_sortOf 89 = .ok (.iaload, 1) := dk_46 (dk_at dksX6_sortOf_3 19 rfl rfl)
theorem dX6_sortOf_90 : decode cX6_sortOf 90 = .ok (.iastore, 1) := dk_79 (dk_at dksX6_sortOf_3 20 rfl rfl)
theorem dX6_sortOf_91 : decode cX6_sortOf 91 = .ok (.iinc 5 1, 3) := dk_132 5 1 (dk_at dksX6_sortOf_3 21 rfl rfl)
theorem dX6_sortOf_94 : decode cX6_sortOf 94 = .ok (.goto (-39), 3) := dk_167 255 217 (dk_at dksX6_sortOf_4 0 rfl rfl)
theorem dX6_sortOf_97 : decode cX6_sortOf 97 = .ok (.iinc 4 1, 3) := dk_132 4 1 (dk_at dksX6_sortOf_4 3 rfl rfl)
theorem dX6_sortOf_100 : decode cX6_sortOf 100 = .ok (.goto (-84), 3) := dk_167 255 172 (dk_at dksX6_sortOf_4 6 rfl rfl)
theorem dX6_sortOf_103 : decode cX6_sortOf 103 = .ok (.aload_n 0, 1) := dk_42 (dk_at dksX6_sortOf_4 9 rfl rfl)
theorem dX6_sortOf_104 : decode cX6_sortOf 104 = .ok (.getfield 31, 3) := dk_180 0 31 (dk_at dksX6_sortOf_4 10 rfl rfl)
theorem dX6_sortOf_107 : decode cX6_sortOf 107 = .ok (.iconst 5, 1) := dk_8 (dk_at dksX6_sortOf_4 13 rfl rfl)
theorem dX6_sortOf_108 : decode cX6_sortOf 108 = .ok (.iload_n 1, 1) := dk_27 (dk_at dksX6_sortOf_4 14 rfl rfl)
theorem dX6_sortOf_109 : decode cX6_sortOf 109 = .ok (.imul, 1) := dk_104 (dk_at dksX6_sortOf_4 15 rfl rfl)
theorem dX6_sortOf_110 : decode cX6_sortOf 110 = .ok (.iconst 2, 1) := dk_5 (dk_at dksX6_sortOf_4 16 rfl rfl)
theorem dX6_sortOf_111 : decode cX6_sortOf 111 = .ok (.iadd, 1) := dk_96 (dk_at dksX6_sortOf_4 17 rfl rfl)
theorem dX6_sortOf_112 : decode cX6_sortOf 112 = .ok (.iload_n 2, 1) := dk_28 (dk_at dksX6_sortOf_4 18 rfl rfl)
theorem dX6_sortOf_113 : decode cX6_sortOf 113 = .ok (.iastore, 1) := dk_79 (dk_at dksX6_sortOf_4 19 rfl rfl)
theorem dX6_sortOf_114 : decode cX6_sortOf 114 = .ok (.iload_n 3, 1) := dk_29 (dk_at dksX6_sortOf_4 20 rfl rfl)
theorem dX6_sortOf_115 : decode cX6_sortOf 115 = .ok (.ireturn, 1) := dk_172 (dk_at dksX6_sortOf_4 21 rfl rfl)
abbrev cX6_force : ByteArray := prog_8_method_77_code
def yX6_force : MethodName := ⟨RX6, "force", "(II)I"⟩
def dkwX6_force_1 : List UInt8 := [42, 27, 28, 182, 1, 15, 167, 0, 5, 16, 254, 172]
abbrev dktX6_force_1 : List UInt8 := dkwX6_force_1 ++ []
def dkwX6_force_0 : List UInt8 := [42, 182, 0, 218, 42, 27, 182, 0, 153, 153, 0, 24, 28, 133, 9, 20, 0, 95, 184, 0, 81, 153, 0, 12]
abbrev dktX6_force_0 : List UInt8 := dkwX6_force_0 ++ dktX6_force_1
theorem dksX6_force_0 : cX6_force.data.toList.drop 0 = dktX6_force_0 := by decide +kernel
theorem dksX6_force_1 : cX6_force.data.toList.drop 24 = dktX6_force_1 := dk_seg dksX6_force_0 24 rfl rfl
theorem dX6_force_0 : decode cX6_force 0 = .ok (.aload_n 0, 1) := dk_42 (dk_at dksX6_force_0 0 rfl rfl)
theorem dX6_force_1 : decode cX6_force 1 = .ok (.invokevirtual 218, 3) := dk_182 0 218 (dk_at dksX6_force_0 1 rfl rfl)
theorem dX6_force_4 : decode cX6_force 4 = .ok (.aload_n 0, 1) := dk_42 (dk_at dksX6_force_0 4 rfl rfl)
theorem dX6_force_5 : decode cX6_force 5 = .ok (.iload_n 1, 1) := dk_27 (dk_at dksX6_force_0 5 rfl rfl)
theorem dX6_force_6 : decode cX6_force 6 = .ok (.invokevirtual 153, 3) := dk_182 0 153 (dk_at dksX6_force_0 6 rfl rfl)
theorem dX6_force_9 : decode cX6_force 9 = .ok (.ifCond .eq 24, 3) := dk_153 0 24 (dk_at dksX6_force_0 9 rfl rfl)
theorem dX6_force_12 : decode cX6_force 12 = .ok (.iload_n 2, 1) := dk_28 (dk_at dksX6_force_0 12 rfl rfl)
theorem dX6_force_13 : decode cX6_force 13 = .ok (.i2l, 1) := dk_133 (dk_at dksX6_force_0 13 rfl rfl)
theorem dX6_force_14 : decode cX6_force 14 = .ok (.lconst 0, 1) := dk_9 (dk_at dksX6_force_0 14 rfl rfl)
theorem dX6_force_15 : decode cX6_force 15 = .ok (.ldc2_w 95, 3) := dk_20 0 95 (dk_at dksX6_force_0 15 rfl rfl)
theorem dX6_force_18 : decode cX6_force 18 = .ok (.invokestatic 81, 3) := dk_184 0 81 (dk_at dksX6_force_0 18 rfl rfl)
theorem dX6_force_21 : decode cX6_force 21 = .ok (.ifCond .eq 12, 3) := dk_153 0 12 (dk_at dksX6_force_0 21 rfl rfl)
theorem dX6_force_24 : decode cX6_force 24 = .ok (.aload_n 0, 1) := dk_42 (dk_at dksX6_force_1 0 rfl rfl)
theorem dX6_force_25 : decode cX6_force 25 = .ok (.iload_n 1, 1) := dk_27 (dk_at dksX6_force_1 1 rfl rfl)
theorem dX6_force_26 : decode cX6_force 26 = .ok (.iload_n 2, 1) := dk_28 (dk_at dksX6_force_1 2 rfl rfl)
theorem dX6_force_27 : decode cX6_force 27 = .ok (.invokevirtual 271, 3) := dk_182 1 15 (dk_at dksX6_force_1 3 rfl rfl)
theorem dX6_force_30 : decode cX6_force 30 = .ok (.goto 5, 3) := dk_167 0 5 (dk_at dksX6_force_1 6 rfl rfl)
theorem dX6_force_33 : decode cX6_force 33 = .ok (.bipush (-2), 2) := dk_16 254 (dk_at dksX6_force_1 9 rfl rfl)
theorem dX6_force_35 : decode cX6_force 35 = .ok (.ireturn, 1) := dk_172 (dk_at dksX6_force_1 11 rfl rfl)
abbrev cX6_forceOf : ByteArray := prog_8_method_76_code
def yX6_forceOf : MethodName := ⟨RX6, "forceOf", "(II)I"⟩
def dkwX6_forceOf_5 : List UInt8 := [154, 0, 8, 21, 4, 167, 0, 15, 28, 4, 160, 0, 8, 21, 5, 167, 0, 5, 21, 6, 172]
abbrev dktX6_forceOf_5 : List UInt8 := dkwX6_forceOf_5 ++ []
def dkwX6_forceOf_4 : List UInt8 := [21, 6, 54, 6, 132, 7, 1, 167, 255, 179, 42, 180, 0, 31, 8, 27, 104, 6, 96, 29, 79, 28]
abbrev dktX6_forceOf_4 : List UInt8 := dkwX6_forceOf_4 ++ dktX6_forceOf_5
def dkwX6_forceOf_3 : List UInt8 := [2, 160, 0, 8, 21, 7, 167, 0, 5, 21, 5, 54, 5, 21, 8, 153, 0, 8, 21, 7, 167, 0, 5]
abbrev dktX6_forceOf_3 : List UInt8 := dkwX6_forceOf_3 ++ dktX6_forceOf_4
def dkwX6_forceOf_2 : List UInt8 := [54, 8, 21, 4, 21, 8, 153, 0, 7, 4, 167, 0, 4, 3, 96, 54, 4, 21, 8, 153, 0, 14, 21, 5]
abbrev dktX6_forceOf_2 : List UInt8 := dkwX6_forceOf_2 ++ dktX6_forceOf_3
def dkwX6_forceOf_1 : List UInt8 := [21, 7, 16, 100, 162, 0, 76, 42, 180, 0, 31, 8, 27, 104, 6, 96, 21, 7, 79, 42, 182, 1, 5]
abbrev dktX6_forceOf_1 : List UInt8 := dkwX6_forceOf_1 ++ dktX6_forceOf_2
def dkwX6_forceOf_0 : List UInt8 := [42, 180, 0, 31, 8, 27, 104, 6, 96, 46, 62, 3, 54, 4, 2, 54, 5, 2, 54, 6, 3, 54, 7]
abbrev dktX6_forceOf_0 : List UInt8 := dkwX6_forceOf_0 ++ dktX6_forceOf_1
theorem dksX6_forceOf_0 : cX6_forceOf.data.toList.drop 0 = dktX6_forceOf_0 := by decide +kernel
theorem dksX6_forceOf_1 : cX6_forceOf.data.toList.drop 23 = dktX6_forceOf_1 := dk_seg dksX6_forceOf_0 23 rfl rfl
theorem dksX6_forceOf_2 : cX6_forceOf.data.toList.drop 46 = dktX6_forceOf_2 := dk_seg dksX6_forceOf_1 23 rfl rfl
theorem dksX6_forceOf_3 : cX6_forceOf.data.toList.drop 70 = dktX6_forceOf_3 := dk_seg dksX6_forceOf_2 24 rfl rfl
theorem dksX6_forceOf_4 : cX6_forceOf.data.toList.drop 93 = dktX6_forceOf_4 := dk_seg dksX6_forceOf_3 23 rfl rfl
theorem dksX6_forceOf_5 : cX6_forceOf.data.toList.drop 115 = dktX6_forceOf_5 := dk_seg dksX6_forceOf_4 22 rfl rfl
theorem dX6_forceOf_0 : decode cX6_forceOf 0 = .ok (.aload_n 0, 1) := dk_42 (dk_at dksX6_forceOf_0 0 rfl rfl)
theorem dX6_forceOf_1 : decode cX6_forceOf 1 = .ok (.getfield 31, 3) := dk_180 0 31 (dk_at dksX6_forceOf_0 1 rfl rfl)
theorem dX6_forceOf_4 : decode cX6_forceOf 4 = .ok (.iconst 5, 1) := dk_8 (dk_at dksX6_forceOf_0 4 rfl rfl)
theorem dX6_forceOf_5 : decode cX6_forceOf 5 = .ok (.iload_n 1, 1) := dk_27 (dk_at dksX6_forceOf_0 5 rfl rfl)
theorem dX6_forceOf_6 : decode cX6_forceOf 6 = .ok (.imul, 1) := dk_104 (dk_at dksX6_forceOf_0 6 rfl rfl)
theorem dX6_forceOf_7 : decode cX6_forceOf 7 = .ok (.iconst 3, 1) := dk_6 (dk_at dksX6_forceOf_0 7 rfl rfl)
theorem dX6_forceOf_8 : decode cX6_forceOf 8 = .ok (.iadd, 1) := dk_96 (dk_at dksX6_forceOf_0 8 rfl rfl)
theorem dX6_forceOf_9 : decode cX6_forceOf 9 = .ok (.iaload, 1) := dk_46 (dk_at dksX6_forceOf_0 9 rfl rfl)
theorem dX6_forceOf_10 : decode cX6_forceOf 10 = .ok (.istore_n 3, 1) := dk_62 (dk_at dksX6_forceOf_0 10 rfl rfl)
theorem dX6_forceOf_11 : decode cX6_forceOf 11 = .ok (.iconst 0, 1) := dk_3 (dk_at dksX6_forceOf_0 11 rfl rfl)
theorem dX6_forceOf_12 : decode cX6_forceOf 12 = .ok (.istore 4, 2) := dk_54 4 (dk_at dksX6_forceOf_0 12 rfl rfl)
theorem dX6_forceOf_14 : decode cX6_forceOf 14 = .ok (.iconst (-1), 1) := dk_2 (dk_at dksX6_forceOf_0 14 rfl rfl)
theorem dX6_forceOf_15 : decode cX6_forceOf 15 = .ok (.istore 5, 2) := dk_54 5 (dk_at dksX6_forceOf_0 15 rfl rfl)
theorem dX6_forceOf_17 : decode cX6_forceOf 17 = .ok (.iconst (-1), 1) := dk_2 (dk_at dksX6_forceOf_0 17 rfl rfl)
theorem dX6_forceOf_18 : decode cX6_forceOf 18 = .ok (.istore 6, 2) := dk_54 6 (dk_at dksX6_forceOf_0 18 rfl rfl)
theorem dX6_forceOf_20 : decode cX6_forceOf 20 = .ok (.iconst 0, 1) := dk_3 (dk_at dksX6_forceOf_0 20 rfl rfl)
theorem dX6_forceOf_21 : decode cX6_forceOf 21 = .ok (.istore 7, 2) := dk_54 7 (dk_at dksX6_forceOf_0 21 rfl rfl)
theorem dX6_forceOf_23 : decode cX6_forceOf 23 = .ok (.iload 7, 2) := dk_21 7 (dk_at dksX6_forceOf_1 0 rfl rfl)
theorem dX6_forceOf_25 : decode cX6_forceOf 25 = .ok (.bipush 100, 2) := dk_16 100 (dk_at dksX6_forceOf_1 2 rfl rfl)
theorem dX6_forceOf_27 : decode cX6_forceOf 27 = .ok (.if_icmp .ge 76, 3) := dk_162 0 76 (dk_at dksX6_forceOf_1 4 rfl rfl)
theorem dX6_forceOf_30 : decode cX6_forceOf 30 = .ok (.aload_n 0, 1) := dk_42 (dk_at dksX6_forceOf_1 7 rfl rfl)
theorem dX6_forceOf_31 : decode cX6_forceOf 31 = .ok (.getfield 31, 3) := dk_180 0 31 (dk_at dksX6_forceOf_1 8 rfl rfl)
theorem dX6_forceOf_34 : decode cX6_forceOf 34 = .ok (.iconst 5, 1) := dk_8 (dk_at dksX6_forceOf_1 11 rfl rfl)
theorem dX6_forceOf_35 : decode cX6_forceOf 35 = .ok (.iload_n 1, 1) := dk_27 (dk_at dksX6_forceOf_1 12 rfl rfl)
theorem dX6_forceOf_36 : decode cX6_forceOf 36 = .ok (.imul, 1) := dk_104 (dk_at dksX6_forceOf_1 13 rfl rfl)
theorem dX6_forceOf_37 : decode cX6_forceOf 37 = .ok (.iconst 3, 1) := dk_6 (dk_at dksX6_forceOf_1 14 rfl rfl)
theorem dX6_forceOf_38 : decode cX6_forceOf 38 = .ok (.iadd, 1) := dk_96 (dk_at dksX6_forceOf_1 15 rfl rfl)
theorem dX6_forceOf_39 : decode cX6_forceOf 39 = .ok (.iload 7, 2) := dk_21 7 (dk_at dksX6_forceOf_1 16 rfl rfl)
theorem dX6_forceOf_41 : decode cX6_forceOf 41 = .ok (.iastore, 1) := dk_79 (dk_at dksX6_forceOf_1 18 rfl rfl)
theorem dX6_forceOf_42 : decode cX6_forceOf 42 = .ok (.aload_n 0, 1) := dk_42 (dk_at dksX6_forceOf_1 19 rfl rfl)
theorem dX6_forceOf_43 : decode cX6_forceOf 43 = .ok (.invokevirtual 261, 3) := dk_182 1 5 (dk_at dksX6_forceOf_1 20 rfl rfl)
theorem dX6_forceOf_46 : decode cX6_forceOf 46 = .ok (.istore 8, 2) := dk_54 8 (dk_at dksX6_forceOf_2 0 rfl rfl)
theorem dX6_forceOf_48 : decode cX6_forceOf 48 = .ok (.iload 4, 2) := dk_21 4 (dk_at dksX6_forceOf_2 2 rfl rfl)
theorem dX6_forceOf_50 : decode cX6_forceOf 50 = .ok (.iload 8, 2) := dk_21 8 (dk_at dksX6_forceOf_2 4 rfl rfl)
theorem dX6_forceOf_52 : decode cX6_forceOf 52 = .ok (.ifCond .eq 7, 3) := dk_153 0 7 (dk_at dksX6_forceOf_2 6 rfl rfl)
theorem dX6_forceOf_55 : decode cX6_forceOf 55 = .ok (.iconst 1, 1) := dk_4 (dk_at dksX6_forceOf_2 9 rfl rfl)
theorem dX6_forceOf_56 : decode cX6_forceOf 56 = .ok (.goto 4, 3) := dk_167 0 4 (dk_at dksX6_forceOf_2 10 rfl rfl)
theorem dX6_forceOf_59 : decode cX6_forceOf 59 = .ok (.iconst 0, 1) := dk_3 (dk_at dksX6_forceOf_2 13 rfl rfl)
theorem dX6_forceOf_60 : decode cX6_forceOf 60 = .ok (.iadd, 1) := dk_96 (dk_at dksX6_forceOf_2 14 rfl rfl)
theorem dX6_forceOf_61 : decode cX6_forceOf 61 = .ok (.istore 4, 2) := dk_54 4 (dk_at dksX6_forceOf_2 15 rfl rfl)
theorem dX6_forceOf_63 : decode cX6_forceOf 63 = .ok (.iload 8, 2) := dk_21 8 (dk_at dksX6_forceOf_2 17 rfl rfl)
theorem dX6_forceOf_65 : decode cX6_forceOf 65 = .ok (.ifCond .eq 14, 3) := dk_153 0 14 (dk_at dksX6_forceOf_2 19 rfl rfl)
theorem dX6_forceOf_68 : decode cX6_forceOf 68 = .ok (.iload 5, 2) := dk_21 5 (dk_at dksX6_forceOf_2 22 rfl rfl)
theorem dX6_forceOf_70 : decode cX6_forceOf 70 = .ok (.iconst (-1), 1) := dk_2 (dk_at dksX6_forceOf_3 0 rfl rfl)
theorem dX6_forceOf_71 : decode cX6_forceOf 71 = .ok (.if_icmp .ne 8, 3) := dk_160 0 8 (dk_at dksX6_forceOf_3 1 rfl rfl)
theorem dX6_forceOf_74 : decode cX6_forceOf 74 = .ok (.iload 7, 2) := dk_21 7 (dk_at dksX6_forceOf_3 4 rfl rfl)
theorem dX6_forceOf_76 : decode cX6_forceOf 76 = .ok (.goto 5, 3) := dk_167 0 5 (dk_at dksX6_forceOf_3 6 rfl rfl)
theorem dX6_forceOf_79 : decode cX6_forceOf 79 = .ok (.iload 5, 2) := dk_21 5 (dk_at dksX6_forceOf_3 9 rfl rfl)
theorem dX6_forceOf_81 : decode cX6_forceOf 81 = .ok (.istore 5, 2) := dk_54 5 (dk_at dksX6_forceOf_3 11 rfl rfl)
theorem dX6_forceOf_83 : decode cX6_forceOf 83 = .ok (.iload 8, 2) := dk_21 8 (dk_at dksX6_forceOf_3 13 rfl rfl)
theorem dX6_forceOf_85 : decode cX6_forceOf 85 = .ok (.ifCond .eq 8, 3) := dk_153 0 8 (dk_at dksX6_forceOf_3 15 rfl rfl)
theorem dX6_forceOf_88 : decode cX6_forceOf 88 = .ok (.iload 7, 2) := dk_21 7 (dk_at dksX6_forceOf_3 18 rfl rfl)
theorem dX6_forceOf_90 : decode cX6_forceOf 90 = .ok (.goto 5, 3) := dk_167 0 5 (dk_at dksX6_forceOf_3 20 rfl rfl)
theorem dX6_forceOf_93 : decode cX6_forceOf 93 = .ok (.iload 6, 2) := dk_21 6 (dk_at dksX6_forceOf_4 0 rfl rfl)
theorem dX6_forceOf_95 : decode cX6_forceOf 95 = .ok (.istore 6, 2) := dk_54 6 (dk_at dksX6_forceOf_4 2 rfl rfl)
theorem dX6_forceOf_97 : decode cX6_forceOf 97 = .ok (.iinc 7 1, 3) := dk_132 7 1 (dk_at dksX6_forceOf_4 4 rfl rfl)
theorem dX6_forceOf_100 : decode cX6_forceOf 100 = .ok (.goto (-77), 3) := dk_167 255 179 (dk_at dksX6_forceOf_4 7 rfl rfl)
theorem dX6_forceOf_103 : decode cX6_forceOf 103 = .ok (.aload_n 0, 1) := dk_42 (dk_at dksX6_forceOf_4 10 rfl rfl)
theorem dX6_forceOf_104 : decode cX6_forceOf 104 = .ok (.getfield 31, 3) := dk_180 0 31 (dk_at dksX6_forceOf_4 11 rfl rfl)
theorem dX6_forceOf_107 : decode cX6_forceOf 107 = .ok (.iconst 5, 1) := dk_8 (dk_at dksX6_forceOf_4 14 rfl rfl)
theorem dX6_forceOf_108 : decode cX6_forceOf 108 = .ok (.iload_n 1, 1) := dk_27 (dk_at dksX6_forceOf_4 15 rfl rfl)
theorem dX6_forceOf_109 : decode cX6_forceOf 109 = .ok (.imul, 1) := dk_104 (dk_at dksX6_forceOf_4 16 rfl rfl)
theorem dX6_forceOf_110 : decode cX6_forceOf 110 = .ok (.iconst 3, 1) := dk_6 (dk_at dksX6_forceOf_4 17 rfl rfl)
theorem dX6_forceOf_111 : decode cX6_forceOf 111 = .ok (.iadd, 1) := dk_96 (dk_at dksX6_forceOf_4 18 rfl rfl)
theorem dX6_forceOf_112 : decode cX6_forceOf 112 = .ok (.iload_n 3, 1) := dk_29 (dk_at dksX6_forceOf_4 19 rfl rfl)
theorem dX6_forceOf_113 : decode cX6_forceOf 113 = .ok (.iastore, 1) := dk_79 (dk_at dksX6_forceOf_4 20 rfl rfl)
theorem dX6_forceOf_114 : decode cX6_forceOf 114 = .ok (.iload_n 2, 1) := dk_28 (dk_at dksX6_forceOf_4 21 rfl rfl)
theorem dX6_forceOf_115 : decode cX6_forceOf 115 = .ok (.ifCond .ne 8, 3) := dk_154 0 8 (dk_at dksX6_forceOf_5 0 rfl rfl)
theorem dX6_forceOf_118 : decode cX6_forceOf 118 = .ok (.iload 4, 2) := dk_21 4 (dk_at dksX6_forceOf_5 3 rfl rfl)
theorem dX6_forceOf_120 : decode cX6_forceOf 120 = .ok (.goto 15, 3) := dk_167 0 15 (dk_at dksX6_forceOf_5 5 rfl rfl)
theorem dX6_forceOf_123 : decode cX6_forceOf 123 = .ok (.iload_n 2, 1) := dk_28 (dk_at dksX6_forceOf_5 8 rfl rfl)
theorem dX6_forceOf_124 : decode cX6_forceOf 124 = .ok (.iconst 1, 1) := dk_4 (dk_at dksX6_forceOf_5 9 rfl rfl)
theorem dX6_forceOf_125 : decode cX6_forceOf 125 = .ok (.if_icmp .ne 8, 3) := dk_160 0 8 (dk_at dksX6_forceOf_5 10 rfl rfl)
theorem dX6_forceOf_128 : decode cX6_forceOf 128 = .ok (.iload 5, 2) := dk_21 5 (dk_at dksX6_forceOf_5 13 rfl rfl)
theorem dX6_forceOf_130 : decode cX6_forceOf 130 = .ok (.goto 5, 3) := dk_167 0 5 (dk_at dksX6_forceOf_5 15 rfl rfl)
theorem dX6_forceOf_133 : decode cX6_forceOf 133 = .ok (.iload 6, 2) := dk_21 6 (dk_at dksX6_forceOf_5 18 rfl rfl)
theorem dX6_forceOf_135 : decode cX6_forceOf 135 = .ok (.ireturn, 1) := dk_172 (dk_at dksX6_forceOf_5 20 rfl rfl)
abbrev cX6_ask : ByteArray := prog_8_method_80_code
def yX6_ask : MethodName := ⟨RX6, "ask", "(I)I"⟩
def dkwX6_ask_0 : List UInt8 := [42, 182, 0, 218, 42, 27, 182, 0, 153, 153, 0, 11, 42, 27, 182, 1, 21, 167, 0, 5, 16, 254, 172]
abbrev dktX6_ask_0 : List UInt8 := dkwX6_ask_0 ++ []
theorem dksX6_ask_0 : cX6_ask.data.toList.drop 0 = dktX6_ask_0 := by decide +kernel
theorem dX6_ask_0 : decode cX6_ask 0 = .ok (.aload_n 0, 1) := dk_42 (dk_at dksX6_ask_0 0 rfl rfl)
theorem dX6_ask_1 : decode cX6_ask 1 = .ok (.invokevirtual 218, 3) := dk_182 0 218 (dk_at dksX6_ask_0 1 rfl rfl)
theorem dX6_ask_4 : decode cX6_ask 4 = .ok (.aload_n 0, 1) := dk_42 (dk_at dksX6_ask_0 4 rfl rfl)
theorem dX6_ask_5 : decode cX6_ask 5 = .ok (.iload_n 1, 1) := dk_27 (dk_at dksX6_ask_0 5 rfl rfl)
theorem dX6_ask_6 : decode cX6_ask 6 = .ok (.invokevirtual 153, 3) := dk_182 0 153 (dk_at dksX6_ask_0 6 rfl rfl)
theorem dX6_ask_9 : decode cX6_ask 9 = .ok (.ifCond .eq 11, 3) := dk_153 0 11 (dk_at dksX6_ask_0 9 rfl rfl)
theorem dX6_ask_12 : decode cX6_ask 12 = .ok (.aload_n 0, 1) := dk_42 (dk_at dksX6_ask_0 12 rfl rfl)
theorem dX6_ask_13 : decode cX6_ask 13 = .ok (.iload_n 1, 1) := dk_27 (dk_at dksX6_ask_0 13 rfl rfl)
theorem dX6_ask_14 : decode cX6_ask 14 = .ok (.invokevirtual 277, 3) := dk_182 1 21 (dk_at dksX6_ask_0 14 rfl rfl)
theorem dX6_ask_17 : decode cX6_ask 17 = .ok (.goto 5, 3) := dk_167 0 5 (dk_at dksX6_ask_0 17 rfl rfl)
theorem dX6_ask_20 : decode cX6_ask 20 = .ok (.bipush (-2), 2) := dk_16 254 (dk_at dksX6_ask_0 20 rfl rfl)
theorem dX6_ask_22 : decode cX6_ask 22 = .ok (.ireturn, 1) := dk_172 (dk_at dksX6_ask_0 22 rfl rfl)
abbrev cX6_askOf : ByteArray := prog_8_method_79_code
def yX6_askOf : MethodName := ⟨RX6, "askOf", "(I)I"⟩
def dkwX6_askOf_2 : List UInt8 := [167, 255, 223, 29, 172]
abbrev dktX6_askOf_2 : List UInt8 := dkwX6_askOf_2 ++ []
def dkwX6_askOf_1 : List UInt8 := [182, 1, 18, 42, 28, 29, 182, 1, 18, 162, 0, 8, 21, 4, 167, 0, 4, 29, 62, 132, 4, 1]
abbrev dktX6_askOf_1 : List UInt8 := dkwX6_askOf_1 ++ dktX6_askOf_2
def dkwX6_askOf_0 : List UInt8 := [42, 27, 182, 1, 12, 61, 3, 62, 4, 54, 4, 21, 4, 16, 40, 162, 0, 32, 42, 28, 21, 4]
abbrev dktX6_askOf_0 : List UInt8 := dkwX6_askOf_0 ++ dktX6_askOf_1
theorem dksX6_askOf_0 : cX6_askOf.data.toList.drop 0 = dktX6_askOf_0 := by decide +kernel
theorem dksX6_askOf_1 : cX6_askOf.data.toList.drop 22 = dktX6_askOf_1 := dk_seg dksX6_askOf_0 22 rfl rfl
theorem dksX6_askOf_2 : cX6_askOf.data.toList.drop 44 = dktX6_askOf_2 := dk_seg dksX6_askOf_1 22 rfl rfl
theorem dX6_askOf_0 : decode cX6_askOf 0 = .ok (.aload_n 0, 1) := dk_42 (dk_at dksX6_askOf_0 0 rfl rfl)
theorem dX6_askOf_1 : decode cX6_askOf 1 = .ok (.iload_n 1, 1) := dk_27 (dk_at dksX6_askOf_0 1 rfl rfl)
theorem dX6_askOf_2 : decode cX6_askOf 2 = .ok (.invokevirtual 268, 3) := dk_182 1 12 (dk_at dksX6_askOf_0 2 rfl rfl)
theorem dX6_askOf_5 : decode cX6_askOf 5 = .ok (.istore_n 2, 1) := dk_61 (dk_at dksX6_askOf_0 5 rfl rfl)
theorem dX6_askOf_6 : decode cX6_askOf 6 = .ok (.iconst 0, 1) := dk_3 (dk_at dksX6_askOf_0 6 rfl rfl)
theorem dX6_askOf_7 : decode cX6_askOf 7 = .ok (.istore_n 3, 1) := dk_62 (dk_at dksX6_askOf_0 7 rfl rfl)
theorem dX6_askOf_8 : decode cX6_askOf 8 = .ok (.iconst 1, 1) := dk_4 (dk_at dksX6_askOf_0 8 rfl rfl)
theorem dX6_askOf_9 : decode cX6_askOf 9 = .ok (.istore 4, 2) := dk_54 4 (dk_at dksX6_askOf_0 9 rfl rfl)
theorem dX6_askOf_11 : decode cX6_askOf 11 = .ok (.iload 4, 2) := dk_21 4 (dk_at dksX6_askOf_0 11 rfl rfl)
theorem dX6_askOf_13 : decode cX6_askOf 13 = .ok (.bipush 40, 2) := dk_16 40 (dk_at dksX6_askOf_0 13 rfl rfl)
theorem dX6_askOf_15 : decode cX6_askOf 15 = .ok (.if_icmp .ge 32, 3) := dk_162 0 32 (dk_at dksX6_askOf_0 15 rfl rfl)
theorem dX6_askOf_18 : decode cX6_askOf 18 = .ok (.aload_n 0, 1) := dk_42 (dk_at dksX6_askOf_0 18 rfl rfl)
theorem dX6_askOf_19 : decode cX6_askOf 19 = .ok (.iload_n 2, 1) := dk_28 (dk_at dksX6_askOf_0 19 rfl rfl)
theorem dX6_askOf_20 : decode cX6_askOf 20 = .ok (.iload 4, 2) := dk_21 4 (dk_at dksX6_askOf_0 20 rfl rfl)
theorem dX6_askOf_22 : decode cX6_askOf 22 = .ok (.invokevirtual 274, 3) := dk_182 1 18 (dk_at dksX6_askOf_1 0 rfl rfl)
theorem dX6_askOf_25 : decode cX6_askOf 25 = .ok (.aload_n 0, 1) := dk_42 (dk_at dksX6_askOf_1 3 rfl rfl)
theorem dX6_askOf_26 : decode cX6_askOf 26 = .ok (.iload_n 2, 1) := dk_28 (dk_at dksX6_askOf_1 4 rfl rfl)
theorem dX6_askOf_27 : decode cX6_askOf 27 = .ok (.iload_n 3, 1) := dk_29 (dk_at dksX6_askOf_1 5 rfl rfl)
theorem dX6_askOf_28 : decode cX6_askOf 28 = .ok (.invokevirtual 274, 3) := dk_182 1 18 (dk_at dksX6_askOf_1 6 rfl rfl)
theorem dX6_askOf_31 : decode cX6_askOf 31 = .ok (.if_icmp .ge 8, 3) := dk_162 0 8 (dk_at dksX6_askOf_1 9 rfl rfl)
theorem dX6_askOf_34 : decode cX6_askOf 34 = .ok (.iload 4, 2) := dk_21 4 (dk_at dksX6_askOf_1 12 rfl rfl)
theorem dX6_askOf_36 : decode cX6_askOf 36 = .ok (.goto 4, 3) := dk_167 0 4 (dk_at dksX6_askOf_1 14 rfl rfl)
theorem dX6_askOf_39 : decode cX6_askOf 39 = .ok (.iload_n 3, 1) := dk_29 (dk_at dksX6_askOf_1 17 rfl rfl)
theorem dX6_askOf_40 : decode cX6_askOf 40 = .ok (.istore_n 3, 1) := dk_62 (dk_at dksX6_askOf_1 18 rfl rfl)
theorem dX6_askOf_41 : decode cX6_askOf 41 = .ok (.iinc 4 1, 3) := dk_132 4 1 (dk_at dksX6_askOf_1 19 rfl rfl)
theorem dX6_askOf_44 : decode cX6_askOf 44 = .ok (.goto (-33), 3) := dk_167 255 223 (dk_at dksX6_askOf_2 0 rfl rfl)
theorem dX6_askOf_47 : decode cX6_askOf 47 = .ok (.iload_n 3, 1) := dk_29 (dk_at dksX6_askOf_2 3 rfl rfl)
theorem dX6_askOf_48 : decode cX6_askOf 48 = .ok (.ireturn, 1) := dk_172 (dk_at dksX6_askOf_2 4 rfl rfl)
abbrev cX6_alike : ByteArray := prog_8_method_78_code
def yX6_alike : MethodName := ⟨RX6, "alike", "(II)I"⟩
def dkwX6_alike_4 : List UInt8 := [167, 255, 167, 29, 172]
abbrev dktX6_alike_4 : List UInt8 := dkwX6_alike_4 ++ []
def dkwX6_alike_3 : List UInt8 := [167, 0, 4, 3, 96, 54, 5, 132, 6, 1, 167, 255, 192, 21, 5, 29, 184, 0, 229, 62, 132, 4, 1]
abbrev dktX6_alike_3 : List UInt8 := dkwX6_alike_3 ++ dktX6_alike_4
def dkwX6_alike_2 : List UInt8 := [16, 40, 21, 4, 104, 28, 96, 46, 42, 180, 0, 76, 16, 40, 21, 6, 104, 28, 96, 46, 160, 0, 7, 4]
abbrev dktX6_alike_2 : List UInt8 := dkwX6_alike_2 ++ dktX6_alike_3
def dkwX6_alike_1 : List UInt8 := [21, 5, 27, 21, 4, 184, 0, 177, 153, 0, 43, 27, 21, 6, 184, 0, 177, 153, 0, 34, 42, 180, 0, 76]
abbrev dktX6_alike_1 : List UInt8 := dkwX6_alike_1 ++ dktX6_alike_2
def dkwX6_alike_0 : List UInt8 := [3, 62, 3, 54, 4, 21, 4, 6, 162, 0, 89, 3, 54, 5, 3, 54, 6, 21, 6, 6, 162, 0, 64]
abbrev dktX6_alike_0 : List UInt8 := dkwX6_alike_0 ++ dktX6_alike_1
theorem dksX6_alike_0 : cX6_alike.data.toList.drop 0 = dktX6_alike_0 := by decide +kernel
theorem dksX6_alike_1 : cX6_alike.data.toList.drop 23 = dktX6_alike_1 := dk_seg dksX6_alike_0 23 rfl rfl
theorem dksX6_alike_2 : cX6_alike.data.toList.drop 47 = dktX6_alike_2 := dk_seg dksX6_alike_1 24 rfl rfl
theorem dksX6_alike_3 : cX6_alike.data.toList.drop 71 = dktX6_alike_3 := dk_seg dksX6_alike_2 24 rfl rfl
theorem dksX6_alike_4 : cX6_alike.data.toList.drop 94 = dktX6_alike_4 := dk_seg dksX6_alike_3 23 rfl rfl
theorem dX6_alike_0 : decode cX6_alike 0 = .ok (.iconst 0, 1) := dk_3 (dk_at dksX6_alike_0 0 rfl rfl)
theorem dX6_alike_1 : decode cX6_alike 1 = .ok (.istore_n 3, 1) := dk_62 (dk_at dksX6_alike_0 1 rfl rfl)
theorem dX6_alike_2 : decode cX6_alike 2 = .ok (.iconst 0, 1) := dk_3 (dk_at dksX6_alike_0 2 rfl rfl)
theorem dX6_alike_3 : decode cX6_alike 3 = .ok (.istore 4, 2) := dk_54 4 (dk_at dksX6_alike_0 3 rfl rfl)
theorem dX6_alike_5 : decode cX6_alike 5 = .ok (.iload 4, 2) := dk_21 4 (dk_at dksX6_alike_0 5 rfl rfl)
theorem dX6_alike_7 : decode cX6_alike 7 = .ok (.iconst 3, 1) := dk_6 (dk_at dksX6_alike_0 7 rfl rfl)
theorem dX6_alike_8 : decode cX6_alike 8 = .ok (.if_icmp .ge 89, 3) := dk_162 0 89 (dk_at dksX6_alike_0 8 rfl rfl)
theorem dX6_alike_11 : decode cX6_alike 11 = .ok (.iconst 0, 1) := dk_3 (dk_at dksX6_alike_0 11 rfl rfl)
theorem dX6_alike_12 : decode cX6_alike 12 = .ok (.istore 5, 2) := dk_54 5 (dk_at dksX6_alike_0 12 rfl rfl)
theorem dX6_alike_14 : decode cX6_alike 14 = .ok (.iconst 0, 1) := dk_3 (dk_at dksX6_alike_0 14 rfl rfl)
theorem dX6_alike_15 : decode cX6_alike 15 = .ok (.istore 6, 2) := dk_54 6 (dk_at dksX6_alike_0 15 rfl rfl)
theorem dX6_alike_17 : decode cX6_alike 17 = .ok (.iload 6, 2) := dk_21 6 (dk_at dksX6_alike_0 17 rfl rfl)
theorem dX6_alike_19 : decode cX6_alike 19 = .ok (.iconst 3, 1) := dk_6 (dk_at dksX6_alike_0 19 rfl rfl)
theorem dX6_alike_20 : decode cX6_alike 20 = .ok (.if_icmp .ge 64, 3) := dk_162 0 64 (dk_at dksX6_alike_0 20 rfl rfl)
theorem dX6_alike_23 : decode cX6_alike 23 = .ok (.iload 5, 2) := dk_21 5 (dk_at dksX6_alike_1 0 rfl rfl)
theorem dX6_alike_25 : decode cX6_alike 25 = .ok (.iload_n 1, 1) := dk_27 (dk_at dksX6_alike_1 2 rfl rfl)
theorem dX6_alike_26 : decode cX6_alike 26 = .ok (.iload 4, 2) := dk_21 4 (dk_at dksX6_alike_1 3 rfl rfl)
theorem dX6_alike_28 : decode cX6_alike 28 = .ok (.invokestatic 177, 3) := dk_184 0 177 (dk_at dksX6_alike_1 5 rfl rfl)
theorem dX6_alike_31 : decode cX6_alike 31 = .ok (.ifCond .eq 43, 3) := dk_153 0 43 (dk_at dksX6_alike_1 8 rfl rfl)
theorem dX6_alike_34 : decode cX6_alike 34 = .ok (.iload_n 1, 1) := dk_27 (dk_at dksX6_alike_1 11 rfl rfl)
theorem dX6_alike_35 : decode cX6_alike 35 = .ok (.iload 6, 2) := dk_21 6 (dk_at dksX6_alike_1 12 rfl rfl)
theorem dX6_alike_37 : decode cX6_alike 37 = .ok (.invokestatic 177, 3) := dk_184 0 177 (dk_at dksX6_alike_1 14 rfl rfl)
theorem dX6_alike_40 : decode cX6_alike 40 = .ok (.ifCond .eq 34, 3) := dk_153 0 34 (dk_at dksX6_alike_1 17 rfl rfl)
theorem dX6_alike_43 : decode cX6_alike 43 = .ok (.aload_n 0, 1) := dk_42 (dk_at dksX6_alike_1 20 rfl rfl)
theorem dX6_alike_44 : decode cX6_alike 44 = .ok (.getfield 76, 3) := dk_180 0 76 (dk_at dksX6_alike_1 21 rfl rfl)
theorem dX6_alike_47 : decode cX6_alike 47 = .ok (.bipush 40, 2) := dk_16 40 (dk_at dksX6_alike_2 0 rfl rfl)
theorem dX6_alike_49 : decode cX6_alike 49 = .ok (.iload 4, 2) := dk_21 4 (dk_at dksX6_alike_2 2 rfl rfl)
theorem dX6_alike_51 : decode cX6_alike 51 = .ok (.imul, 1) := dk_104 (dk_at dksX6_alike_2 4 rfl rfl)
theorem dX6_alike_52 : decode cX6_alike 52 = .ok (.iload_n 2, 1) := dk_28 (dk_at dksX6_alike_2 5 rfl rfl)
theorem dX6_alike_53 : decode cX6_alike 53 = .ok (.iadd, 1) := dk_96 (dk_at dksX6_alike_2 6 rfl rfl)
theorem dX6_alike_54 : decode cX6_alike 54 = .ok (.iaload, 1) := dk_46 (dk_at dksX6_alike_2 7 rfl rfl)
theorem dX6_alike_55 : decode cX6_alike 55 = .ok (.aload_n 0, 1) := dk_42 (dk_at dksX6_alike_2 8 rfl rfl)
theorem dX6_alike_56 : decode cX6_alike 56 = .ok (.getfield 76, 3) := dk_180 0 76 (dk_at dksX6_alike_2 9 rfl rfl)
theorem dX6_alike_59 : decode cX6_alike 59 = .ok (.bipush 40, 2) := dk_16 40 (dk_at dksX6_alike_2 12 rfl rfl)
theorem dX6_alike_61 : decode cX6_alike 61 = .ok (.iload 6, 2) := dk_21 6 (dk_at dksX6_alike_2 14 rfl rfl)
theorem dX6_alike_63 : decode cX6_alike 63 = .ok (.imul, 1) := dk_104 (dk_at dksX6_alike_2 16 rfl rfl)
theorem dX6_alike_64 : decode cX6_alike 64 = .ok (.iload_n 2, 1) := dk_28 (dk_at dksX6_alike_2 17 rfl rfl)
theorem dX6_alike_65 : decode cX6_alike 65 = .ok (.iadd, 1) := dk_96 (dk_at dksX6_alike_2 18 rfl rfl)
theorem dX6_alike_66 : decode cX6_alike 66 = .ok (.iaload, 1) := dk_46 (dk_at dksX6_alike_2 19 rfl rfl)
theorem dX6_alike_67 : decode cX6_alike 67 = .ok (.if_icmp .ne 7, 3) := dk_160 0 7 (dk_at dksX6_alike_2 20 rfl rfl)
theorem dX6_alike_70 : decode cX6_alike 70 = .ok (.iconst 1, 1) := dk_4 (dk_at dksX6_alike_2 23 rfl rfl)
theorem dX6_alike_71 : decode cX6_alike 71 = .ok (.goto 4, 3) := dk_167 0 4 (dk_at dksX6_alike_3 0 rfl rfl)
theorem dX6_alike_74 : decode cX6_alike 74 = .ok (.iconst 0, 1) := dk_3 (dk_at dksX6_alike_3 3 rfl rfl)
theorem dX6_alike_75 : decode cX6_alike 75 = .ok (.iadd, 1) := dk_96 (dk_at dksX6_alike_3 4 rfl rfl)
theorem dX6_alike_76 : decode cX6_alike 76 = .ok (.istore 5, 2) := dk_54 5 (dk_at dksX6_alike_3 5 rfl rfl)
theorem dX6_alike_78 : decode cX6_alike 78 = .ok (.iinc 6 1, 3) := dk_132 6 1 (dk_at dksX6_alike_3 7 rfl rfl)
theorem dX6_alike_81 : decode cX6_alike 81 = .ok (.goto (-64), 3) := dk_167 255 192 (dk_at dksX6_alike_3 10 rfl rfl)
theorem dX6_alike_84 : decode cX6_alike 84 = .ok (.iload 5, 2) := dk_21 5 (dk_at dksX6_alike_3 13 rfl rfl)
theorem dX6_alike_86 : decode cX6_alike 86 = .ok (.iload_n 3, 1) := dk_29 (dk_at dksX6_alike_3 15 rfl rfl)
theorem dX6_alike_87 : decode cX6_alike 87 = .ok (.invokestatic 229, 3) := dk_184 0 229 (dk_at dksX6_alike_3 16 rfl rfl)
theorem dX6_alike_90 : decode cX6_alike 90 = .ok (.istore_n 3, 1) := dk_62 (dk_at dksX6_alike_3 19 rfl rfl)
theorem dX6_alike_91 : decode cX6_alike 91 = .ok (.iinc 4 1, 3) := dk_132 4 1 (dk_at dksX6_alike_3 20 rfl rfl)
theorem dX6_alike_94 : decode cX6_alike 94 = .ok (.goto (-89), 3) := dk_167 255 167 (dk_at dksX6_alike_4 0 rfl rfl)
theorem dX6_alike_97 : decode cX6_alike 97 = .ok (.iload_n 3, 1) := dk_29 (dk_at dksX6_alike_4 3 rfl rfl)
theorem dX6_alike_98 : decode cX6_alike 98 = .ok (.ireturn, 1) := dk_172 (dk_at dksX6_alike_4 4 rfl rfl)
abbrev cX6_rumour : ByteArray := prog_8_method_82_code
def yX6_rumour : MethodName := ⟨RX6, "rumour", "(III)J"⟩
def dkwX6_rumour_1 : List UInt8 := [29, 184, 0, 110, 153, 0, 13, 42, 27, 28, 29, 182, 1, 30, 167, 0, 8, 16, 254, 184, 1, 34, 173]
abbrev dktX6_rumour_1 : List UInt8 := dkwX6_rumour_1 ++ []
def dkwX6_rumour_0 : List UInt8 := [42, 182, 0, 218, 27, 133, 9, 20, 1, 28, 184, 0, 81, 153, 0, 28, 42, 28, 182, 0, 153, 153, 0, 20]
abbrev dktX6_rumour_0 : List UInt8 := dkwX6_rumour_0 ++ dktX6_rumour_1
theorem dksX6_rumour_0 : cX6_rumour.data.toList.drop 0 = dktX6_rumour_0 := by decide +kernel
theorem dksX6_rumour_1 : cX6_rumour.data.toList.drop 24 = dktX6_rumour_1 := dk_seg dksX6_rumour_0 24 rfl rfl
theorem dX6_rumour_0 : decode cX6_rumour 0 = .ok (.aload_n 0, 1) := dk_42 (dk_at dksX6_rumour_0 0 rfl rfl)
theorem dX6_rumour_1 : decode cX6_rumour 1 = .ok (.invokevirtual 218, 3) := dk_182 0 218 (dk_at dksX6_rumour_0 1 rfl rfl)
theorem dX6_rumour_4 : decode cX6_rumour 4 = .ok (.iload_n 1, 1) := dk_27 (dk_at dksX6_rumour_0 4 rfl rfl)
theorem dX6_rumour_5 : decode cX6_rumour 5 = .ok (.i2l, 1) := dk_133 (dk_at dksX6_rumour_0 5 rfl rfl)
theorem dX6_rumour_6 : decode cX6_rumour 6 = .ok (.lconst 0, 1) := dk_9 (dk_at dksX6_rumour_0 6 rfl rfl)
theorem dX6_rumour_7 : decode cX6_rumour 7 = .ok (.ldc2_w 284, 3) := dk_20 1 28 (dk_at dksX6_rumour_0 7 rfl rfl)
theorem dX6_rumour_10 : decode cX6_rumour 10 = .ok (.invokestatic 81, 3) := dk_184 0 81 (dk_at dksX6_rumour_0 10 rfl rfl)
theorem dX6_rumour_13 : decode cX6_rumour 13 = .ok (.ifCond .eq 28, 3) := dk_153 0 28 (dk_at dksX6_rumour_0 13 rfl rfl)
theorem dX6_rumour_16 : decode cX6_rumour 16 = .ok (.aload_n 0, 1) := dk_42 (dk_at dksX6_rumour_0 16 rfl rfl)
theorem dX6_rumour_17 : decode cX6_rumour 17 = .ok (.iload_n 2, 1) := dk_28 (dk_at dksX6_rumour_0 17 rfl rfl)
theorem dX6_rumour_18 : decode cX6_rumour 18 = .ok (.invokevirtual 153, 3) := dk_182 0 153 (dk_at dksX6_rumour_0 18 rfl rfl)
theorem dX6_rumour_21 : decode cX6_rumour 21 = .ok (.ifCond .eq 20, 3) := dk_153 0 20 (dk_at dksX6_rumour_0 21 rfl rfl)
theorem dX6_rumour_24 : decode cX6_rumour 24 = .ok (.iload_n 3, 1) := dk_29 (dk_at dksX6_rumour_1 0 rfl rfl)
theorem dX6_rumour_25 : decode cX6_rumour 25 = .ok (.invokestatic 110, 3) := dk_184 0 110 (dk_at dksX6_rumour_1 1 rfl rfl)
theorem dX6_rumour_28 : decode cX6_rumour 28 = .ok (.ifCond .eq 13, 3) := dk_153 0 13 (dk_at dksX6_rumour_1 4 rfl rfl)
theorem dX6_rumour_31 : decode cX6_rumour 31 = .ok (.aload_n 0, 1) := dk_42 (dk_at dksX6_rumour_1 7 rfl rfl)
theorem dX6_rumour_32 : decode cX6_rumour 32 = .ok (.iload_n 1, 1) := dk_27 (dk_at dksX6_rumour_1 8 rfl rfl)
theorem dX6_rumour_33 : decode cX6_rumour 33 = .ok (.iload_n 2, 1) := dk_28 (dk_at dksX6_rumour_1 9 rfl rfl)
theorem dX6_rumour_34 : decode cX6_rumour 34 = .ok (.iload_n 3, 1) := dk_29 (dk_at dksX6_rumour_1 10 rfl rfl)
theorem dX6_rumour_35 : decode cX6_rumour 35 = .ok (.invokevirtual 286, 3) := dk_182 1 30 (dk_at dksX6_rumour_1 11 rfl rfl)
theorem dX6_rumour_38 : decode cX6_rumour 38 = .ok (.goto 8, 3) := dk_167 0 8 (dk_at dksX6_rumour_1 14 rfl rfl)
theorem dX6_rumour_41 : decode cX6_rumour 41 = .ok (.bipush (-2), 2) := dk_16 254 (dk_at dksX6_rumour_1 17 rfl rfl)
theorem dX6_rumour_43 : decode cX6_rumour 43 = .ok (.invokestatic 290, 3) := dk_184 1 34 (dk_at dksX6_rumour_1 19 rfl rfl)
theorem dX6_rumour_46 : decode cX6_rumour 46 = .ok (.lreturn, 1) := dk_173 (dk_at dksX6_rumour_1 22 rfl rfl)
abbrev cX6_rumourOf : ByteArray := prog_8_method_81_code
def yX6_rumourOf : MethodName := ⟨RX6, "rumourOf", "(III)J"⟩
def dkwX6_rumourOf_4 : List UInt8 := [167, 255, 169, 42, 3, 181, 0, 174, 22, 4, 10, 7, 42, 180, 0, 166, 104, 121, 29, 184, 1, 24, 173]
abbrev dktX6_rumourOf_4 : List UInt8 := dkwX6_rumourOf_4 ++ []
def dkwX6_rumourOf_3 : List UInt8 := [167, 0, 5, 27, 133, 105, 55, 7, 132, 9, 1, 167, 255, 219, 22, 4, 22, 7, 97, 55, 4, 132, 6, 1]
abbrev dktX6_rumourOf_3 : List UInt8 := dkwX6_rumourOf_3 ++ dktX6_rumourOf_4
def dkwX6_rumourOf_2 : List UInt8 := [180, 0, 166, 162, 0, 34, 22, 7, 21, 6, 21, 9, 184, 0, 177, 153, 0, 11, 16, 16, 27, 100, 133]
abbrev dktX6_rumourOf_2 : List UInt8 := dkwX6_rumourOf_2 ++ dktX6_rumourOf_3
def dkwX6_rumourOf_1 : List UInt8 := [182, 0, 215, 42, 180, 0, 46, 28, 46, 5, 160, 0, 56, 10, 55, 7, 3, 54, 9, 21, 9, 42]
abbrev dktX6_rumourOf_1 : List UInt8 := dkwX6_rumourOf_1 ++ dktX6_rumourOf_2
def dkwX6_rumourOf_0 : List UInt8 := [9, 55, 4, 3, 54, 6, 21, 6, 4, 42, 180, 0, 166, 120, 162, 0, 82, 42, 21, 6, 181, 0, 174, 42]
abbrev dktX6_rumourOf_0 : List UInt8 := dkwX6_rumourOf_0 ++ dktX6_rumourOf_1
theorem dksX6_rumourOf_0 : cX6_rumourOf.data.toList.drop 0 = dktX6_rumourOf_0 := by decide +kernel
theorem dksX6_rumourOf_1 : cX6_rumourOf.data.toList.drop 24 = dktX6_rumourOf_1 := dk_seg dksX6_rumourOf_0 24 rfl rfl
theorem dksX6_rumourOf_2 : cX6_rumourOf.data.toList.drop 46 = dktX6_rumourOf_2 := dk_seg dksX6_rumourOf_1 22 rfl rfl
theorem dksX6_rumourOf_3 : cX6_rumourOf.data.toList.drop 69 = dktX6_rumourOf_3 := dk_seg dksX6_rumourOf_2 23 rfl rfl
theorem dksX6_rumourOf_4 : cX6_rumourOf.data.toList.drop 93 = dktX6_rumourOf_4 := dk_seg dksX6_rumourOf_3 24 rfl rfl
theorem dX6_rumourOf_0 : decode cX6_rumourOf 0 = .ok (.lconst 0, 1) := dk_9 (dk_at dksX6_rumourOf_0 0 rfl rfl)
theorem dX6_rumourOf_1 : decode cX6_rumourOf 1 = .ok (.lstore 4, 2) := dk_55 4 (dk_at dksX6_rumourOf_0 1 rfl rfl)
theorem dX6_rumourOf_3 : decode cX6_rumourOf 3 = .ok (.iconst 0, 1) := dk_3 (dk_at dksX6_rumourOf_0 3 rfl rfl)
theorem dX6_rumourOf_4 : decode cX6_rumourOf 4 = .ok (.istore 6, 2) := dk_54 6 (dk_at dksX6_rumourOf_0 4 rfl rfl)
theorem dX6_rumourOf_6 : decode cX6_rumourOf 6 = .ok (.iload 6, 2) := dk_21 6 (dk_at dksX6_rumourOf_0 6 rfl rfl)
theorem dX6_rumourOf_8 : decode cX6_rumourOf 8 = .ok (.iconst 1, 1) := dk_4 (dk_at dksX6_rumourOf_0 8 rfl rfl)
theorem dX6_rumourOf_9 : decode cX6_rumourOf 9 = .ok (.aload_n 0, 1) := dk_42 (dk_at dksX6_rumourOf_0 9 rfl rfl)
theorem dX6_rumourOf_10 : decode cX6_rumourOf 10 = .ok (.getfield 166, 3) := dk_180 0 166 (dk_at dksX6_rumourOf_0 10 rfl rfl)
theorem dX6_rumourOf_13 : decode cX6_rumourOf 13 = .ok (.ishl, 1) := dk_120 (dk_at dksX6_rumourOf_0 13 rfl rfl)
theorem dX6_rumourOf_14 : decode cX6_rumourOf 14 = .ok (.if_icmp .ge 82, 3) := dk_162 0 82 (dk_at dksX6_rumourOf_0 14 rfl rfl)
theorem dX6_rumourOf_17 : decode cX6_rumourOf 17 = .ok (.aload_n 0, 1) := dk_42 (dk_at dksX6_rumourOf_0 17 rfl rfl)
theorem dX6_rumourOf_18 : decode cX6_rumourOf 18 = .ok (.iload 6, 2) := dk_21 6 (dk_at dksX6_rumourOf_0 18 rfl rfl)
theorem dX6_rumourOf_20 : decode cX6_rumourOf 20 = .ok (.putfield 174, 3) := dk_181 0 174 (dk_at dksX6_rumourOf_0 20 rfl rfl)
theorem dX6_rumourOf_23 : decode cX6_rumourOf 23 = .ok (.aload_n 0, 1) := dk_42 (dk_at dksX6_rumourOf_0 23 rfl rfl)
theorem dX6_rumourOf_24 : decode cX6_rumourOf 24 = .ok (.invokevirtual 215, 3) := dk_182 0 215 (dk_at dksX6_rumourOf_1 0 rfl rfl)
theorem dX6_rumourOf_27 : decode cX6_rumourOf 27 = .ok (.aload_n 0, 1) := dk_42 (dk_at dksX6_rumourOf_1 3 rfl rfl)
theorem dX6_rumourOf_28 : decode cX6_rumourOf 28 = .ok (.getfield 46, 3) := dk_180 0 46 (dk_at dksX6_rumourOf_1 4 rfl rfl)
theorem dX6_rumourOf_31 : decode cX6_rumourOf 31 = .ok (.iload_n 2, 1) := dk_28 (dk_at dksX6_rumourOf_1 7 rfl rfl)
theorem dX6_rumourOf_32 : decode cX6_rumourOf 32 = .ok (.iaload, 1) := dk_46 (dk_at dksX6_rumourOf_1 8 rfl rfl)
theorem dX6_rumourOf_33 : decode cX6_rumourOf 33 = .ok (.iconst 2, 1) := dk_5 (dk_at dksX6_rumourOf_1 9 rfl rfl)
theorem dX6_rumourOf_34 : decode cX6_rumourOf 34 = .ok (.if_icmp .ne 56, 3) := dk_160 0 56 (dk_at dksX6_rumourOf_1 10 rfl rfl)
theorem dX6_rumourOf_37 : decode cX6_rumourOf 37 = .ok (.lconst 1, 1) := dk_10 (dk_at dksX6_rumourOf_1 13 rfl rfl)
theorem dX6_rumourOf_38 : decode cX6_rumourOf 38 = .ok (.lstore 7, 2) := dk_55 7 (dk_at dksX6_rumourOf_1 14 rfl rfl)
theorem dX6_rumourOf_40 : decode cX6_rumourOf 40 = .ok (.iconst 0, 1) := dk_3 (dk_at dksX6_rumourOf_1 16 rfl rfl)
theorem dX6_rumourOf_41 : decode cX6_rumourOf 41 = .ok (.istore 9, 2) := dk_54 9 (dk_at dksX6_rumourOf_1 17 rfl rfl)
theorem dX6_rumourOf_43 : decode cX6_rumourOf 43 = .ok (.iload 9, 2) := dk_21 9 (dk_at dksX6_rumourOf_1 19 rfl rfl)
theorem dX6_rumourOf_45 : decode cX6_rumourOf 45 = .ok (.aload_n 0, 1) := dk_42 (dk_at dksX6_rumourOf_1 21 rfl rfl)
theorem dX6_rumourOf_46 : decode cX6_rumourOf 46 = .ok (.getfield 166, 3) := dk_180 0 166 (dk_at dksX6_rumourOf_2 0 rfl rfl)
theorem dX6_rumourOf_49 : decode cX6_rumourOf 49 = .ok (.if_icmp .ge 34, 3) := dk_162 0 34 (dk_at dksX6_rumourOf_2 3 rfl rfl)
theorem dX6_rumourOf_52 : decode cX6_rumourOf 52 = .ok (.lload 7, 2) := dk_22 7 (dk_at dksX6_rumourOf_2 6 rfl rfl)
theorem dX6_rumourOf_54 : decode cX6_rumourOf 54 = .ok (.iload 6, 2) := dk_21 6 (dk_at dksX6_rumourOf_2 8 rfl rfl)
theorem dX6_rumourOf_56 : decode cX6_rumourOf 56 = .ok (.iload 9, 2) := dk_21 9 (dk_at dksX6_rumourOf_2 10 rfl rfl)
theorem dX6_rumourOf_58 : decode cX6_rumourOf 58 = .ok (.invokestatic 177, 3) := dk_184 0 177 (dk_at dksX6_rumourOf_2 12 rfl rfl)
theorem dX6_rumourOf_61 : decode cX6_rumourOf 61 = .ok (.ifCond .eq 11, 3) := dk_153 0 11 (dk_at dksX6_rumourOf_2 15 rfl rfl)
theorem dX6_rumourOf_64 : decode cX6_rumourOf 64 = .ok (.bipush 16, 2) := dk_16 16 (dk_at dksX6_rumourOf_2 18 rfl rfl)
theorem dX6_rumourOf_66 : decode cX6_rumourOf 66 = .ok (.iload_n 1, 1) := dk_27 (dk_at dksX6_rumourOf_2 20 rfl rfl)
theorem dX6_rumourOf_67 : decode cX6_rumourOf 67 = .ok (.isub, 1) := dk_100 (dk_at dksX6_rumourOf_2 21 rfl rfl)
theorem dX6_rumourOf_68 : decode cX6_rumourOf 68 = .ok (.i2l, 1) := dk_133 (dk_at dksX6_rumourOf_2 22 rfl rfl)
theorem dX6_rumourOf_69 : decode cX6_rumourOf 69 = .ok (.goto 5, 3) := dk_167 0 5 (dk_at dksX6_rumourOf_3 0 rfl rfl)
theorem dX6_rumourOf_72 : decode cX6_rumourOf 72 = .ok (.iload_n 1, 1) := dk_27 (dk_at dksX6_rumourOf_3 3 rfl rfl)
theorem dX6_rumourOf_73 : decode cX6_rumourOf 73 = .ok (.i2l, 1) := dk_133 (dk_at dksX6_rumourOf_3 4 rfl rfl)
theorem dX6_rumourOf_74 : decode cX6_rumourOf 74 = .ok (.lmul, 1) := dk_105 (dk_at dksX6_rumourOf_3 5 rfl rfl)
theorem dX6_rumourOf_75 : decode cX6_rumourOf 75 = .ok (.lstore 7, 2) := dk_55 7 (dk_at dksX6_rumourOf_3 6 rfl rfl)
theorem dX6_rumourOf_77 : decode cX6_rumourOf 77 = .ok (.iinc 9 1, 3) := dk_132 9 1 (dk_at dksX6_rumourOf_3 8 rfl rfl)
theorem dX6_rumourOf_80 : decode cX6_rumourOf 80 = .ok (.goto (-37), 3) := dk_167 255 219 (dk_at dksX6_rumourOf_3 11 rfl rfl)
theorem dX6_rumourOf_83 : decode cX6_rumourOf 83 = .ok (.lload 4, 2) := dk_22 4 (dk_at dksX6_rumourOf_3 14 rfl rfl)
theorem dX6_rumourOf_85 : decode cX6_rumourOf 85 = .ok (.lload 7, 2) := dk_22 7 (dk_at dksX6_rumourOf_3 16 rfl rfl)
theorem dX6_rumourOf_87 : decode cX6_rumourOf 87 = .ok (.ladd, 1) := dk_97 (dk_at dksX6_rumourOf_3 18 rfl rfl)
theorem dX6_rumourOf_88 : decode cX6_rumourOf 88 = .ok (.lstore 4, 2) := dk_55 4 (dk_at dksX6_rumourOf_3 19 rfl rfl)
theorem dX6_rumourOf_90 : decode cX6_rumourOf 90 = .ok (.iinc 6 1, 3) := dk_132 6 1 (dk_at dksX6_rumourOf_3 21 rfl rfl)
theorem dX6_rumourOf_93 : decode cX6_rumourOf 93 = .ok (.goto (-87), 3) := dk_167 255 169 (dk_at dksX6_rumourOf_4 0 rfl rfl)
theorem dX6_rumourOf_96 : decode cX6_rumourOf 96 = .ok (.aload_n 0, 1) := dk_42 (dk_at dksX6_rumourOf_4 3 rfl rfl)
theorem dX6_rumourOf_97 : decode cX6_rumourOf 97 = .ok (.iconst 0, 1) := dk_3 (dk_at dksX6_rumourOf_4 4 rfl rfl)
theorem dX6_rumourOf_98 : decode cX6_rumourOf 98 = .ok (.putfield 174, 3) := dk_181 0 174 (dk_at dksX6_rumourOf_4 5 rfl rfl)
theorem dX6_rumourOf_101 : decode cX6_rumourOf 101 = .ok (.lload 4, 2) := dk_22 4 (dk_at dksX6_rumourOf_4 8 rfl rfl)
theorem dX6_rumourOf_103 : decode cX6_rumourOf 103 = .ok (.lconst 1, 1) := dk_10 (dk_at dksX6_rumourOf_4 10 rfl rfl)
theorem dX6_rumourOf_104 : decode cX6_rumourOf 104 = .ok (.iconst 4, 1) := dk_7 (dk_at dksX6_rumourOf_4 11 rfl rfl)
theorem dX6_rumourOf_105 : decode cX6_rumourOf 105 = .ok (.aload_n 0, 1) := dk_42 (dk_at dksX6_rumourOf_4 12 rfl rfl)
theorem dX6_rumourOf_106 : decode cX6_rumourOf 106 = .ok (.getfield 166, 3) := dk_180 0 166 (dk_at dksX6_rumourOf_4 13 rfl rfl)
theorem dX6_rumourOf_109 : decode cX6_rumourOf 109 = .ok (.imul, 1) := dk_104 (dk_at dksX6_rumourOf_4 16 rfl rfl)
theorem dX6_rumourOf_110 : decode cX6_rumourOf 110 = .ok (.lshl, 1) := dk_121 (dk_at dksX6_rumourOf_4 17 rfl rfl)
theorem dX6_rumourOf_111 : decode cX6_rumourOf 111 = .ok (.iload_n 3, 1) := dk_29 (dk_at dksX6_rumourOf_4 18 rfl rfl)
theorem dX6_rumourOf_112 : decode cX6_rumourOf 112 = .ok (.invokestatic 280, 3) := dk_184 1 24 (dk_at dksX6_rumourOf_4 19 rfl rfl)
theorem dX6_rumourOf_115 : decode cX6_rumourOf 115 = .ok (.lreturn, 1) := dk_173 (dk_at dksX6_rumourOf_4 22 rfl rfl)
abbrev cX6_part : ByteArray := prog_8_method_10_code
def yX6_part : MethodName := ⟨RX6, "part", "(JJI)J"⟩
def dkwX6_part_1 : List UInt8 := [22, 9, 55, 7, 167, 255, 234, 21, 4, 154, 0, 7, 30, 167, 0, 4, 32, 22, 5, 109, 173]
abbrev dktX6_part_1 : List UInt8 := dkwX6_part_1 ++ []
def dkwX6_part_0 : List UInt8 := [30, 55, 5, 32, 55, 7, 22, 7, 9, 148, 153, 0, 21, 22, 5, 22, 7, 113, 55, 9, 22, 7, 55, 5]
abbrev dktX6_part_0 : List UInt8 := dkwX6_part_0 ++ dktX6_part_1
theorem dksX6_part_0 : cX6_part.data.toList.drop 0 = dktX6_part_0 := by decide +kernel
theorem dksX6_part_1 : cX6_part.data.toList.drop 24 = dktX6_part_1 := dk_seg dksX6_part_0 24 rfl rfl
theorem dX6_part_0 : decode cX6_part 0 = .ok (.lload_n 0, 1) := dk_30 (dk_at dksX6_part_0 0 rfl rfl)
theorem dX6_part_1 : decode cX6_part 1 = .ok (.lstore 5, 2) := dk_55 5 (dk_at dksX6_part_0 1 rfl rfl)
theorem dX6_part_3 : decode cX6_part 3 = .ok (.lload_n 2, 1) := dk_32 (dk_at dksX6_part_0 3 rfl rfl)
theorem dX6_part_4 : decode cX6_part 4 = .ok (.lstore 7, 2) := dk_55 7 (dk_at dksX6_part_0 4 rfl rfl)
theorem dX6_part_6 : decode cX6_part 6 = .ok (.lload 7, 2) := dk_22 7 (dk_at dksX6_part_0 6 rfl rfl)
theorem dX6_part_8 : decode cX6_part 8 = .ok (.lconst 0, 1) := dk_9 (dk_at dksX6_part_0 8 rfl rfl)
theorem dX6_part_9 : decode cX6_part 9 = .ok (.lcmp, 1) := dk_148 (dk_at dksX6_part_0 9 rfl rfl)
theorem dX6_part_10 : decode cX6_part 10 = .ok (.ifCond .eq 21, 3) := dk_153 0 21 (dk_at dksX6_part_0 10 rfl rfl)
theorem dX6_part_13 : decode cX6_part 13 = .ok (.lload 5, 2) := dk_22 5 (dk_at dksX6_part_0 13 rfl rfl)
theorem dX6_part_15 : decode cX6_part 15 = .ok (.lload 7, 2) := dk_22 7 (dk_at dksX6_part_0 15 rfl rfl)
theorem dX6_part_17 : decode cX6_part 17 = .ok (.lrem, 1) := dk_113 (dk_at dksX6_part_0 17 rfl rfl)
theorem dX6_part_18 : decode cX6_part 18 = .ok (.lstore 9, 2) := dk_55 9 (dk_at dksX6_part_0 18 rfl rfl)
theorem dX6_part_20 : decode cX6_part 20 = .ok (.lload 7, 2) := dk_22 7 (dk_at dksX6_part_0 20 rfl rfl)
theorem dX6_part_22 : decode cX6_part 22 = .ok (.lstore 5, 2) := dk_55 5 (dk_at dksX6_part_0 22 rfl rfl)
theorem dX6_part_24 : decode cX6_part 24 = .ok (.lload 9, 2) := dk_22 9 (dk_at dksX6_part_1 0 rfl rfl)
theorem dX6_part_26 : decode cX6_part 26 = .ok (.lstore 7, 2) := dk_55 7 (dk_at dksX6_part_1 2 rfl rfl)
theorem dX6_part_28 : decode cX6_part 28 = .ok (.goto (-22), 3) := dk_167 255 234 (dk_at dksX6_part_1 4 rfl rfl)
theorem dX6_part_31 : decode cX6_part 31 = .ok (.iload 4, 2) := dk_21 4 (dk_at dksX6_part_1 7 rfl rfl)
theorem dX6_part_33 : decode cX6_part 33 = .ok (.ifCond .ne 7, 3) := dk_154 0 7 (dk_at dksX6_part_1 9 rfl rfl)
theorem dX6_part_36 : decode cX6_part 36 = .ok (.lload_n 0, 1) := dk_30 (dk_at dksX6_part_1 12 rfl rfl)
theorem dX6_part_37 : decode cX6_part 37 = .ok (.goto 4, 3) := dk_167 0 4 (dk_at dksX6_part_1 13 rfl rfl)
theorem dX6_part_40 : decode cX6_part 40 = .ok (.lload_n 2, 1) := dk_32 (dk_at dksX6_part_1 16 rfl rfl)
theorem dX6_part_41 : decode cX6_part 41 = .ok (.lload 5, 2) := dk_22 5 (dk_at dksX6_part_1 17 rfl rfl)
theorem dX6_part_43 : decode cX6_part 43 = .ok (.ldiv, 1) := dk_109 (dk_at dksX6_part_1 19 rfl rfl)
theorem dX6_part_44 : decode cX6_part 44 = .ok (.lreturn, 1) := dk_173 (dk_at dksX6_part_1 20 rfl rfl)
abbrev cX6_no : ByteArray := prog_8_method_4_code
def yX6_no : MethodName := ⟨RX6, "no", "(I)J"⟩
def dkwX6_no_0 : List UInt8 := [20, 0, 79, 26, 133, 101, 173]
abbrev dktX6_no_0 : List UInt8 := dkwX6_no_0 ++ []
theorem dksX6_no_0 : cX6_no.data.toList.drop 0 = dktX6_no_0 := by decide +kernel
theorem dX6_no_0 : decode cX6_no 0 = .ok (.ldc2_w 79, 3) := dk_20 0 79 (dk_at dksX6_no_0 0 rfl rfl)
theorem dX6_no_3 : decode cX6_no 3 = .ok (.iload_n 0, 1) := dk_26 (dk_at dksX6_no_0 3 rfl rfl)
theorem dX6_no_4 : decode cX6_no 4 = .ok (.i2l, 1) := dk_133 (dk_at dksX6_no_0 4 rfl rfl)
theorem dX6_no_5 : decode cX6_no 5 = .ok (.lsub, 1) := dk_101 (dk_at dksX6_no_0 5 rfl rfl)
theorem dX6_no_6 : decode cX6_no 6 = .ok (.lreturn, 1) := dk_173 (dk_at dksX6_no_0 6 rfl rfl)
abbrev cX6_market : ByteArray := prog_8_method_85_code
def yX6_market : MethodName := ⟨RX6, "market", "(II)I"⟩
def dkwX6_market_0 : List UInt8 := [42, 182, 0, 218, 28, 184, 0, 110, 153, 0, 12, 42, 27, 28, 182, 1, 45, 167, 0, 5, 16, 254, 172]
abbrev dktX6_market_0 : List UInt8 := dkwX6_market_0 ++ []
theorem dksX6_market_0 : cX6_market.data.toList.drop 0 = dktX6_market_0 := by decide +kernel
theorem dX6_market_0 : decode cX6_market 0 = .ok (.aload_n 0, 1) := dk_42 (dk_at dksX6_market_0 0 rfl rfl)
theorem dX6_market_1 : decode cX6_market 1 = .ok (.invokevirtual 218, 3) := dk_182 0 218 (dk_at dksX6_market_0 1 rfl rfl)
theorem dX6_market_4 : decode cX6_market 4 = .ok (.iload_n 2, 1) := dk_28 (dk_at dksX6_market_0 4 rfl rfl)
theorem dX6_market_5 : decode cX6_market 5 = .ok (.invokestatic 110, 3) := dk_184 0 110 (dk_at dksX6_market_0 5 rfl rfl)
theorem dX6_market_8 : decode cX6_market 8 = .ok (.ifCond .eq 12, 3) := dk_153 0 12 (dk_at dksX6_market_0 8 rfl rfl)
theorem dX6_market_11 : decode cX6_market 11 = .ok (.aload_n 0, 1) := dk_42 (dk_at dksX6_market_0 11 rfl rfl)
theorem dX6_market_12 : decode cX6_market 12 = .ok (.iload_n 1, 1) := dk_27 (dk_at dksX6_market_0 12 rfl rfl)
theorem dX6_market_13 : decode cX6_market 13 = .ok (.iload_n 2, 1) := dk_28 (dk_at dksX6_market_0 13 rfl rfl)
theorem dX6_market_14 : decode cX6_market 14 = .ok (.invokevirtual 301, 3) := dk_182 1 45 (dk_at dksX6_market_0 14 rfl rfl)
theorem dX6_market_17 : decode cX6_market 17 = .ok (.goto 5, 3) := dk_167 0 5 (dk_at dksX6_market_0 17 rfl rfl)
theorem dX6_market_20 : decode cX6_market 20 = .ok (.bipush (-2), 2) := dk_16 254 (dk_at dksX6_market_0 20 rfl rfl)
theorem dX6_market_22 : decode cX6_market 22 = .ok (.ireturn, 1) := dk_172 (dk_at dksX6_market_0 22 rfl rfl)
abbrev cX6_marketOf : ByteArray := prog_8_method_84_code
def yX6_marketOf : MethodName := ⟨RX6, "marketOf", "(II)I"⟩
def dkwX6_marketOf_2 : List UInt8 := [154, 0, 7, 5, 167, 0, 4, 7, 182, 0, 226, 184, 0, 235, 172]
abbrev dktX6_marketOf_2 : List UInt8 := dkwX6_marketOf_2 ++ []
def dkwX6_marketOf_1 : List UInt8 := [42, 16, 100, 182, 1, 42, 79, 132, 3, 1, 167, 255, 229, 42, 182, 0, 215, 42, 182, 0, 143, 87, 42, 28]
abbrev dktX6_marketOf_1 : List UInt8 := dkwX6_marketOf_1 ++ dktX6_marketOf_2
def dkwX6_marketOf_0 : List UInt8 := [42, 27, 181, 1, 39, 3, 62, 29, 42, 180, 0, 133, 162, 0, 25, 42, 180, 0, 31, 8, 29, 104, 6, 96]
abbrev dktX6_marketOf_0 : List UInt8 := dkwX6_marketOf_0 ++ dktX6_marketOf_1
theorem dksX6_marketOf_0 : cX6_marketOf.data.toList.drop 0 = dktX6_marketOf_0 := by decide +kernel
theorem dksX6_marketOf_1 : cX6_marketOf.data.toList.drop 24 = dktX6_marketOf_1 := dk_seg dksX6_marketOf_0 24 rfl rfl
theorem dksX6_marketOf_2 : cX6_marketOf.data.toList.drop 48 = dktX6_marketOf_2 := dk_seg dksX6_marketOf_1 24 rfl rfl
theorem dX6_marketOf_0 : decode cX6_marketOf 0 = .ok (.aload_n 0, 1) := dk_42 (dk_at dksX6_marketOf_0 0 rfl rfl)
theorem dX6_marketOf_1 : decode cX6_marketOf 1 = .ok (.iload_n 1, 1) := dk_27 (dk_at dksX6_marketOf_0 1 rfl rfl)
theorem dX6_marketOf_2 : decode cX6_marketOf 2 = .ok (.putfield 295, 3) := dk_181 1 39 (dk_at dksX6_marketOf_0 2 rfl rfl)
theorem dX6_marketOf_5 : decode cX6_marketOf 5 = .ok (.iconst 0, 1) := dk_3 (dk_at dksX6_marketOf_0 5 rfl rfl)
theorem dX6_marketOf_6 : decode cX6_marketOf 6 = .ok (.istore_n 3, 1) := dk_62 (dk_at dksX6_marketOf_0 6 rfl rfl)
theorem dX6_marketOf_7 : decode cX6_marketOf 7 = .ok (.iload_n 3, 1) := dk_29 (dk_at dksX6_marketOf_0 7 rfl rfl)
theorem dX6_marketOf_8 : decode cX6_marketOf 8 = .ok (.aload_n 0, 1) := dk_42 (dk_at dksX6_marketOf_0 8 rfl rfl)
theorem dX6_marketOf_9 : decode cX6_marketOf 9 = .ok (.getfield 133, 3) := dk_180 0 133 (dk_at dksX6_marketOf_0 9 rfl rfl)
theorem dX6_marketOf_12 : decode cX6_marketOf 12 = .ok (.if_icmp .ge 25, 3) := dk_162 0 25 (dk_at dksX6_marketOf_0 12 rfl rfl)
theorem dX6_marketOf_15 : decode cX6_marketOf 15 = .ok (.aload_n 0, 1) := dk_42 (dk_at dksX6_marketOf_0 15 rfl rfl)
theorem dX6_marketOf_16 : decode cX6_marketOf 16 = .ok (.getfield 31, 3) := dk_180 0 31 (dk_at dksX6_marketOf_0 16 rfl rfl)
theorem dX6_marketOf_19 : decode cX6_marketOf 19 = .ok (.iconst 5, 1) := dk_8 (dk_at dksX6_marketOf_0 19 rfl rfl)
theorem dX6_marketOf_20 : decode cX6_marketOf 20 = .ok (.iload_n 3, 1) := dk_29 (dk_at dksX6_marketOf_0 20 rfl rfl)
theorem dX6_marketOf_21 : decode cX6_marketOf 21 = .ok (.imul, 1) := dk_104 (dk_at dksX6_marketOf_0 21 rfl rfl)
theorem dX6_marketOf_22 : decode cX6_marketOf 22 = .ok (.iconst 3, 1) := dk_6 (dk_at dksX6_marketOf_0 22 rfl rfl)
theorem dX6_marketOf_23 : decode cX6_marketOf 23 = .ok (.iadd, 1) := dk_96 (dk_at dksX6_marketOf_0 23 rfl rfl)
theorem dX6_marketOf_24 : decode cX6_marketOf 24 = .ok (.aload_n 0, 1) := dk_42 (dk_at dksX6_marketOf_1 0 rfl rfl)
theorem dX6_marketOf_25 : decode cX6_marketOf 25 = .ok (.bipush 100, 2) := dk_16 100 (dk_at dksX6_marketOf_1 1 rfl rfl)
theorem dX6_marketOf_27 : decode cX6_marketOf 27 = .ok (.invokevirtual 298, 3) := dk_182 1 42 (dk_at dksX6_marketOf_1 3 rfl rfl)
theorem dX6_marketOf_30 : decode cX6_marketOf 30 = .ok (.iastore, 1) := dk_79 (dk_at dksX6_marketOf_1 6 rfl rfl)
theorem dX6_marketOf_31 : decode cX6_marketOf 31 = .ok (.iinc 3 1, 3) := dk_132 3 1 (dk_at dksX6_marketOf_1 7 rfl rfl)
theorem dX6_marketOf_34 : decode cX6_marketOf 34 = .ok (.goto (-27), 3) := dk_167 255 229 (dk_at dksX6_marketOf_1 10 rfl rfl)
theorem dX6_marketOf_37 : decode cX6_marketOf 37 = .ok (.aload_n 0, 1) := dk_42 (dk_at dksX6_marketOf_1 13 rfl rfl)
theorem dX6_marketOf_38 : decode cX6_marketOf 38 = .ok (.invokevirtual 215, 3) := dk_182 0 215 (dk_at dksX6_marketOf_1 14 rfl rfl)
theorem dX6_marketOf_41 : decode cX6_marketOf 41 = .ok (.aload_n 0, 1) := dk_42 (dk_at dksX6_marketOf_1 17 rfl rfl)
theorem dX6_marketOf_42 : decode cX6_marketOf 42 = .ok (.invokevirtual 143, 3) := dk_182 0 143 (dk_at dksX6_marketOf_1 18 rfl rfl)
theorem dX6_marketOf_45 : decode cX6_marketOf 45 = .ok (.pop, 1) := dk_87 (dk_at dksX6_marketOf_1 21 rfl rfl)
theorem dX6_marketOf_46 : decode cX6_marketOf 46 = .ok (.aload_n 0, 1) := dk_42 (dk_at dksX6_marketOf_1 22 rfl rfl)
theorem dX6_marketOf_47 : decode cX6_marketOf 47 = .ok (.iload_n 2, 1) := dk_28 (dk_at dksX6_marketOf_1 23 rfl rfl)
theorem dX6_marketOf_48 : decode cX6_marketOf 48 = .ok (.ifCond .ne 7, 3) := dk_154 0 7 (dk_at dksX6_marketOf_2 0 rfl rfl)
theorem dX6_marketOf_51 : decode cX6_marketOf 51 = .ok (.iconst 2, 1) := dk_5 (dk_at dksX6_marketOf_2 3 rfl rfl)
theorem dX6_marketOf_52 : decode cX6_marketOf 52 = .ok (.goto 4, 3) := dk_167 0 4 (dk_at dksX6_marketOf_2 4 rfl rfl)
theorem dX6_marketOf_55 : decode cX6_marketOf 55 = .ok (.iconst 4, 1) := dk_7 (dk_at dksX6_marketOf_2 7 rfl rfl)
theorem dX6_marketOf_56 : decode cX6_marketOf 56 = .ok (.invokevirtual 226, 3) := dk_182 0 226 (dk_at dksX6_marketOf_2 8 rfl rfl)
theorem dX6_marketOf_59 : decode cX6_marketOf 59 = .ok (.invokestatic 235, 3) := dk_184 0 235 (dk_at dksX6_marketOf_2 11 rfl rfl)
theorem dX6_marketOf_62 : decode cX6_marketOf 62 = .ok (.ireturn, 1) := dk_172 (dk_at dksX6_marketOf_2 14 rfl rfl)
abbrev cX6_lot : ByteArray := prog_8_method_83_code
def yX6_lot : MethodName := ⟨RX6, "lot", "(I)I"⟩
def dkwX6_lot_1 : List UInt8 := [112, 172]
abbrev dktX6_lot_1 : List UInt8 := dkwX6_lot_1 ++ []
def dkwX6_lot_0 : List UInt8 := [42, 19, 1, 38, 42, 180, 1, 39, 104, 17, 48, 57, 96, 181, 1, 39, 42, 180, 1, 39, 16, 16, 124, 27]
abbrev dktX6_lot_0 : List UInt8 := dkwX6_lot_0 ++ dktX6_lot_1
theorem dksX6_lot_0 : cX6_lot.data.toList.drop 0 = dktX6_lot_0 := by decide +kernel
theorem dksX6_lot_1 : cX6_lot.data.toList.drop 24 = dktX6_lot_1 := dk_seg dksX6_lot_0 24 rfl rfl
theorem dX6_lot_0 : decode cX6_lot 0 = .ok (.aload_n 0, 1) := dk_42 (dk_at dksX6_lot_0 0 rfl rfl)
theorem dX6_lot_1 : decode cX6_lot 1 = .ok (.ldc_w 294, 3) := dk_19 1 38 (dk_at dksX6_lot_0 1 rfl rfl)
theorem dX6_lot_4 : decode cX6_lot 4 = .ok (.aload_n 0, 1) := dk_42 (dk_at dksX6_lot_0 4 rfl rfl)
theorem dX6_lot_5 : decode cX6_lot 5 = .ok (.getfield 295, 3) := dk_180 1 39 (dk_at dksX6_lot_0 5 rfl rfl)
theorem dX6_lot_8 : decode cX6_lot 8 = .ok (.imul, 1) := dk_104 (dk_at dksX6_lot_0 8 rfl rfl)
theorem dX6_lot_9 : decode cX6_lot 9 = .ok (.sipush 12345, 3) := dk_17 48 57 (dk_at dksX6_lot_0 9 rfl rfl)
theorem dX6_lot_12 : decode cX6_lot 12 = .ok (.iadd, 1) := dk_96 (dk_at dksX6_lot_0 12 rfl rfl)
theorem dX6_lot_13 : decode cX6_lot 13 = .ok (.putfield 295, 3) := dk_181 1 39 (dk_at dksX6_lot_0 13 rfl rfl)
theorem dX6_lot_16 : decode cX6_lot 16 = .ok (.aload_n 0, 1) := dk_42 (dk_at dksX6_lot_0 16 rfl rfl)
theorem dX6_lot_17 : decode cX6_lot 17 = .ok (.getfield 295, 3) := dk_180 1 39 (dk_at dksX6_lot_0 17 rfl rfl)
theorem dX6_lot_20 : decode cX6_lot 20 = .ok (.bipush 16, 2) := dk_16 16 (dk_at dksX6_lot_0 20 rfl rfl)
theorem dX6_lot_22 : decode cX6_lot 22 = .ok (.iushr, 1) := dk_124 (dk_at dksX6_lot_0 22 rfl rfl)
theorem dX6_lot_23 : decode cX6_lot 23 = .ok (.iload_n 1, 1) := dk_27 (dk_at dksX6_lot_0 23 rfl rfl)
theorem dX6_lot_24 : decode cX6_lot 24 = .ok (.irem, 1) := dk_112 (dk_at dksX6_lot_1 0 rfl rfl)
theorem dX6_lot_25 : decode cX6_lot 25 = .ok (.ireturn, 1) := dk_172 (dk_at dksX6_lot_1 1 rfl rfl)
abbrev cX6_write : ByteArray := prog_8_method_86_code
def yX6_write : MethodName := ⟨RX6, "write", "(II)I"⟩
def dkwX6_write_4 : List UInt8 := [184, 0, 105, 79, 132, 4, 1, 167, 255, 210, 29, 172]
abbrev dktX6_write_4 : List UInt8 := dkwX6_write_4 ++ []
def dkwX6_write_3 : List UInt8 := [42, 180, 0, 7, 28, 46, 42, 180, 0, 64, 16, 32, 21, 4, 104, 7, 27, 104, 96, 4, 96, 46]
abbrev dktX6_write_3 : List UInt8 := dkwX6_write_3 ++ dktX6_write_4
def dkwX6_write_2 : List UInt8 := [184, 0, 171, 62, 3, 54, 4, 21, 4, 29, 162, 0, 46, 42, 180, 0, 16, 16, 60, 28, 104, 21, 4, 96]
abbrev dktX6_write_2 : List UInt8 := dkwX6_write_2 ++ dktX6_write_3
def dkwX6_write_1 : List UInt8 := [180, 0, 7, 28, 46, 156, 0, 9, 42, 4, 182, 0, 97, 172, 42, 180, 0, 13, 28, 46, 16, 40]
abbrev dktX6_write_1 : List UInt8 := dkwX6_write_1 ++ dktX6_write_2
def dkwX6_write_0 : List UInt8 := [42, 182, 0, 218, 42, 27, 182, 0, 153, 153, 0, 10, 28, 184, 0, 91, 154, 0, 6, 16, 254, 172, 42]
abbrev dktX6_write_0 : List UInt8 := dkwX6_write_0 ++ dktX6_write_1
theorem dksX6_write_0 : cX6_write.data.toList.drop 0 = dktX6_write_0 := by decide +kernel
theorem dksX6_write_1 : cX6_write.data.toList.drop 23 = dktX6_write_1 := dk_seg dksX6_write_0 23 rfl rfl
theorem dksX6_write_2 : cX6_write.data.toList.drop 45 = dktX6_write_2 := dk_seg dksX6_write_1 22 rfl rfl
theorem dksX6_write_3 : cX6_write.data.toList.drop 69 = dktX6_write_3 := dk_seg dksX6_write_2 24 rfl rfl
theorem dksX6_write_4 : cX6_write.data.toList.drop 91 = dktX6_write_4 := dk_seg dksX6_write_3 22 rfl rfl
theorem dX6_write_0 : decode cX6_write 0 = .ok (.aload_n 0, 1) := dk_42 (dk_at dksX6_write_0 0 rfl rfl)
theorem dX6_write_1 : decode cX6_write 1 = .ok (.invokevirtual 218, 3) := dk_182 0 218 (dk_at dksX6_write_0 1 rfl rfl)
theorem dX6_write_4 : decode cX6_write 4 = .ok (.aload_n 0, 1) := dk_42 (dk_at dksX6_write_0 4 rfl rfl)
theorem dX6_write_5 : decode cX6_write 5 = .ok (.iload_n 1, 1) := dk_27 (dk_at dksX6_write_0 5 rfl rfl)
theorem dX6_write_6 : decode cX6_write 6 = .ok (.invokevirtual 153, 3) := dk_182 0 153 (dk_at dksX6_write_0 6 rfl rfl)
theorem dX6_write_9 : decode cX6_write 9 = .ok (.ifCond .eq 10, 3) := dk_153 0 10 (dk_at dksX6_write_0 9 rfl rfl)
theorem dX6_write_12 : decode cX6_write 12 = .ok (.iload_n 2, 1) := dk_28 (dk_at dksX6_write_0 12 rfl rfl)
theorem dX6_write_13 : decode cX6_write 13 = .ok (.invokestatic 91, 3) := dk_184 0 91 (dk_at dksX6_write_0 13 rfl rfl)
theorem dX6_write_16 : decode cX6_write 16 = .ok (.ifCond .ne 6, 3) := dk_154 0 6 (dk_at dksX6_write_0 16 rfl rfl)
theorem dX6_write_19 : decode cX6_write 19 = .ok (.bipush (-2), 2) := dk_16 254 (dk_at dksX6_write_0 19 rfl rfl)
theorem dX6_write_21 : decode cX6_write 21 = .ok (.ireturn, 1) := dk_172 (dk_at dksX6_write_0 21 rfl rfl)
theorem dX6_write_22 : decode cX6_write 22 = .ok (.aload_n 0, 1) := dk_42 (dk_at dksX6_write_0 22 rfl rfl)
theorem dX6_write_23 : decode cX6_write 23 = .ok (.getfield 7, 3) := dk_180 0 7 (dk_at dksX6_write_1 0 rfl rfl)
theorem dX6_write_26 : decode cX6_write 26 = .ok (.iload_n 2, 1) := dk_28 (dk_at dksX6_write_1 3 rfl rfl)
theorem dX6_write_27 : decode cX6_write 27 = .ok (.iaload, 1) := dk_46 (dk_at dksX6_write_1 4 rfl rfl)
theorem dX6_write_28 : decode cX6_write 28 = .ok (.ifCond .ge 9, 3) := dk_156 0 9 (dk_at dksX6_write_1 5 rfl rfl)
theorem dX6_write_31 : decode cX6_write 31 = .ok (.aload_n 0, 1) := dk_42 (dk_at dksX6_write_1 8 rfl rfl)
theorem dX6_write_32 : decode cX6_write 32 = .ok (.iconst 1, 1) := dk_4 (dk_at dksX6_write_1 9 rfl rfl)
theorem dX6_write_33 : decode cX6_write 33 = .ok (.invokevirtual 97, 3) := dk_182 0 97 (dk_at dksX6_write_1 10 rfl rfl)
theorem dX6_write_36 : decode cX6_write 36 = .ok (.ireturn, 1) := dk_172 (dk_at dksX6_write_1 13 rfl rfl)
theorem dX6_write_37 : decode cX6_write 37 = .ok (.aload_n 0, 1) := dk_42 (dk_at dksX6_write_1 14 rfl rfl)
theorem dX6_write_38 : decode cX6_write 38 = .ok (.getfield 13, 3) := dk_180 0 13 (dk_at dksX6_write_1 15 rfl rfl)
theorem dX6_write_41 : decode cX6_write 41 = .ok (.iload_n 2, 1) := dk_28 (dk_at dksX6_write_1 18 rfl rfl)
theorem dX6_write_42 : decode cX6_write 42 = .ok (.iaload, 1) := dk_46 (dk_at dksX6_write_1 19 rfl rfl)
theorem dX6_write_43 : decode cX6_write 43 = .ok (.bipush 40, 2) := dk_16 40 (dk_at dksX6_write_1 20 rfl rfl)
theorem dX6_write_45 : decode cX6_write 45 = .ok (.invokestatic 171, 3) := dk_184 0 171 (dk_at dksX6_write_2 0 rfl rfl)
theorem dX6_write_48 : decode cX6_write 48 = .ok (.istore_n 3, 1) := dk_62 (dk_at dksX6_write_2 3 rfl rfl)
theorem dX6_write_49 : decode cX6_write 49 = .ok (.iconst 0, 1) := dk_3 (dk_at dksX6_write_2 4 rfl rfl)
theorem dX6_write_50 : decode cX6_write 50 = .ok (.istore 4, 2) := dk_54 4 (dk_at dksX6_write_2 5 rfl rfl)
theorem dX6_write_52 : decode cX6_write 52 = .ok (.iload 4, 2) := dk_21 4 (dk_at dksX6_write_2 7 rfl rfl)
theorem dX6_write_54 : decode cX6_write 54 = .ok (.iload_n 3, 1) := dk_29 (dk_at dksX6_write_2 9 rfl rfl)
theorem dX6_write_55 : decode cX6_write 55 = .ok (.if_icmp .ge 46, 3) := dk_162 0 46 (dk_at dksX6_write_2 10 rfl rfl)
theorem dX6_write_58 : decode cX6_write 58 = .ok (.aload_n 0, 1) := dk_42 (dk_at dksX6_write_2 13 rfl rfl)
theorem dX6_write_59 : decode cX6_write 59 = .ok (.getfield 16, 3) := dk_180 0 16 (dk_at dksX6_write_2 14 rfl rfl)
theorem dX6_write_62 : decode cX6_write 62 = .ok (.bipush 60, 2) := dk_16 60 (dk_at dksX6_write_2 17 rfl rfl)
theorem dX6_write_64 : decode cX6_write 64 = .ok (.iload_n 2, 1) := dk_28 (dk_at dksX6_write_2 19 rfl rfl)
theorem dX6_write_65 : decode cX6_write 65 = .ok (.imul, 1) := dk_104 (dk_at dksX6_write_2 20 rfl rfl)
theorem dX6_write_66 : decode cX6_write 66 = .ok (.iload 4, 2) := dk_21 4 (dk_at dksX6_write_2 21 rfl rfl)
theorem dX6_write_68 : decode cX6_write 68 = .ok (.iadd, 1) := dk_96 (dk_at dksX6_write_2 23 rfl rfl)
theorem dX6_write_69 : decode cX6_write 69 = .ok (.aload_n 0, 1) := dk_42 (dk_at dksX6_write_3 0 rfl rfl)
theorem dX6_write_70 : decode cX6_write 70 = .ok (.getfield 7, 3) := dk_180 0 7 (dk_at dksX6_write_3 1 rfl rfl)
theorem dX6_write_73 : decode cX6_write 73 = .ok (.iload_n 2, 1) := dk_28 (dk_at dksX6_write_3 4 rfl rfl)
theorem dX6_write_74 : decode cX6_write 74 = .ok (.iaload, 1) := dk_46 (dk_at dksX6_write_3 5 rfl rfl)
theorem dX6_write_75 : decode cX6_write 75 = .ok (.aload_n 0, 1) := dk_42 (dk_at dksX6_write_3 6 rfl rfl)
theorem dX6_write_76 : decode cX6_write 76 = .ok (.getfield 64, 3) := dk_180 0 64 (dk_at dksX6_write_3 7 rfl rfl)
theorem dX6_write_79 : decode cX6_write 79 = .ok (.bipush 32, 2) := dk_16 32 (dk_at dksX6_write_3 10 rfl rfl)
theorem dX6_write_81 : decode cX6_write 81 = .ok (.iload 4, 2) := dk_21 4 (dk_at dksX6_write_3 12 rfl rfl)
theorem dX6_write_83 : decode cX6_write 83 = .ok (.imul, 1) := dk_104 (dk_at dksX6_write_3 14 rfl rfl)
theorem dX6_write_84 : decode cX6_write 84 = .ok (.iconst 4, 1) := dk_7 (dk_at dksX6_write_3 15 rfl rfl)
theorem dX6_write_85 : decode cX6_write 85 = .ok (.iload_n 1, 1) := dk_27 (dk_at dksX6_write_3 16 rfl rfl)
theorem dX6_write_86 : decode cX6_write 86 = .ok (.imul, 1) := dk_104 (dk_at dksX6_write_3 17 rfl rfl)
theorem dX6_write_87 : decode cX6_write 87 = .ok (.iadd, 1) := dk_96 (dk_at dksX6_write_3 18 rfl rfl)
theorem dX6_write_88 : decode cX6_write 88 = .ok (.iconst 1, 1) := dk_4 (dk_at dksX6_write_3 19 rfl rfl)
theorem dX6_write_89 : decode cX6_write 89 = .ok (.iadd, 1) := dk_96 (dk_at dksX6_write_3 20 rfl rfl)
theorem dX6_write_90 : decode cX6_write 90 = .ok (.iaload, 1) := dk_46 (dk_at dksX6_write_3 21 rfl rfl)
theorem dX6_write_91 : decode cX6_write 91 = .ok (.invokestatic 105, 3) := dk_184 0 105 (dk_at dksX6_write_4 0 rfl rfl)
theorem dX6_write_94 : decode cX6_write 94 = .ok (.iastore, 1) := dk_79 (dk_at dksX6_write_4 3 rfl rfl)
theorem dX6_write_95 : decode cX6_write 95 = .ok (.iinc 4 1, 3) := dk_132 4 1 (dk_at dksX6_write_4 4 rfl rfl)
theorem dX6_write_98 : decode cX6_write 98 = .ok (.goto (-46), 3) := dk_167 255 210 (dk_at dksX6_write_4 7 rfl rfl)
theorem dX6_write_101 : decode cX6_write 101 = .ok (.iload_n 3, 1) := dk_29 (dk_at dksX6_write_4 10 rfl rfl)
theorem dX6_write_102 : decode cX6_write 102 = .ok (.ireturn, 1) := dk_172 (dk_at dksX6_write_4 11 rfl rfl)
abbrev cX6_count : ByteArray := prog_8_method_88_code
def yX6_count : MethodName := ⟨RX6, "count", "(I)I"⟩
def dkwX6_count_3 : List UInt8 := [42, 182, 0, 244, 172, 42, 182, 1, 48, 172, 42, 180, 1, 2, 172, 42, 180, 0, 85, 172, 16, 254, 172]
abbrev dktX6_count_3 : List UInt8 := dkwX6_count_3 ++ []
def dkwX6_count_2 : List UInt8 := [42, 180, 0, 127, 172, 42, 180, 0, 133, 172, 42, 180, 0, 25, 27, 5, 100, 46, 172, 42, 180, 0, 166, 172]
abbrev dktX6_count_2 : List UInt8 := dkwX6_count_2 ++ dktX6_count_3
def dkwX6_count_1 : List UInt8 := [170, 0, 0, 0, 0, 0, 95, 0, 0, 0, 0, 0, 0, 0, 8, 0, 0, 0, 51, 0, 0, 0, 56, 0, 0, 0, 61, 0, 0, 0, 61, 0, 0, 0, 70, 0, 0, 0, 75, 0, 0, 0, 80, 0, 0, 0, 85, 0, 0, 0, 90]
abbrev dktX6_count_1 : List UInt8 := dkwX6_count_1 ++ dktX6_count_2
def dkwX6_count_0 : List UInt8 := [42, 182, 0, 218, 27]
abbrev dktX6_count_0 : List UInt8 := dkwX6_count_0 ++ dktX6_count_1
theorem dksX6_count_0 : cX6_count.data.toList.drop 0 = dktX6_count_0 := by decide +kernel
theorem dksX6_count_1 : cX6_count.data.toList.drop 5 = dktX6_count_1 := dk_seg dksX6_count_0 5 rfl rfl
theorem dksX6_count_2 : cX6_count.data.toList.drop 56 = dktX6_count_2 := dk_seg dksX6_count_1 51 rfl rfl
theorem dksX6_count_3 : cX6_count.data.toList.drop 80 = dktX6_count_3 := dk_seg dksX6_count_2 24 rfl rfl
theorem dX6_count_0 : decode cX6_count 0 = .ok (.aload_n 0, 1) := dk_42 (dk_at dksX6_count_0 0 rfl rfl)
theorem dX6_count_1 : decode cX6_count 1 = .ok (.invokevirtual 218, 3) := dk_182 0 218 (dk_at dksX6_count_0 1 rfl rfl)
theorem dX6_count_4 : decode cX6_count 4 = .ok (.iload_n 1, 1) := dk_27 (dk_at dksX6_count_0 4 rfl rfl)
theorem dX6_count_5 : decode cX6_count 5 = .ok (.tableswitch 95 0 8 #[51, 56, 61, 61, 70, 75, 80, 85, 90], 51) := by decide +kernel
theorem dX6_count_56 : decode cX6_count 56 = .ok (.aload_n 0, 1) := dk_42 (dk_at dksX6_count_2 0 rfl rfl)
theorem dX6_count_57 : decode cX6_count 57 = .ok (.getfield 127, 3) := dk_180 0 127 (dk_at dksX6_count_2 1 rfl rfl)
theorem dX6_count_60 : decode cX6_count 60 = .ok (.ireturn, 1) := dk_172 (dk_at dksX6_count_2 4 rfl rfl)
theorem dX6_count_61 : decode cX6_count 61 = .ok (.aload_n 0, 1) := dk_42 (dk_at dksX6_count_2 5 rfl rfl)
theorem dX6_count_62 : decode cX6_count 62 = .ok (.getfield 133, 3) := dk_180 0 133 (dk_at dksX6_count_2 6 rfl rfl)
theorem dX6_count_65 : decode cX6_count 65 = .ok (.ireturn, 1) := dk_172 (dk_at dksX6_count_2 9 rfl rfl)
theorem dX6_count_66 : decode cX6_count 66 = .ok (.aload_n 0, 1) := dk_42 (dk_at dksX6_count_2 10 rfl rfl)
theorem dX6_count_67 : decode cX6_count 67 = .ok (.getfield 25, 3) := dk_180 0 25 (dk_at dksX6_count_2 11 rfl rfl)
theorem dX6_count_70 : decode cX6_count 70 = .ok (.iload_n 1, 1) := dk_27 (dk_at dksX6_count_2 14 rfl rfl)
theorem dX6_count_71 : decode cX6_count 71 = .ok (.iconst 2, 1) := dk_5 (dk_at dksX6_count_2 15 rfl rfl)
theorem dX6_count_72 : decode cX6_count 72 = .ok (.isub, 1) := dk_100 (dk_at dksX6_count_2 16 rfl rfl)
theorem dX6_count_73 : decode cX6_count 73 = .ok (.iaload, 1) := dk_46 (dk_at dksX6_count_2 17 rfl rfl)
theorem dX6_count_74 : decode cX6_count 74 = .ok (.ireturn, 1) := dk_172 (dk_at dksX6_count_2 18 rfl rfl)
theorem dX6_count_75 : decode cX6_count 75 = .ok (.aload_n 0, 1) := dk_42 (dk_at dksX6_count_2 19 rfl rfl)
theorem dX6_count_76 : decode cX6_count 76 = .ok (.getfield 166, 3) := dk_180 0 166 (dk_at dksX6_count_2 20 rfl rfl)
theorem dX6_count_79 : decode cX6_count 79 = .ok (.ireturn, 1) := dk_172 (dk_at dksX6_count_2 23 rfl rfl)
theorem dX6_count_80 : decode cX6_count 80 = .ok (.aload_n 0, 1) := dk_42 (dk_at dksX6_count_3 0 rfl rfl)
theorem dX6_count_81 : decode cX6_count 81 = .ok (.invokevirtual 244, 3) := dk_182 0 244 (dk_at dksX6_count_3 1 rfl rfl)
theorem dX6_count_84 : decode cX6_count 84 = .ok (.ireturn, 1) := dk_172 (dk_at dksX6_count_3 4 rfl rfl)
theorem dX6_count_85 : decode cX6_count 85 = .ok (.aload_n 0, 1) := dk_42 (dk_at dksX6_count_3 5 rfl rfl)
theorem dX6_count_86 : decode cX6_count 86 = .ok (.invokevirtual 304, 3) := dk_182 1 48 (dk_at dksX6_count_3 6 rfl rfl)
theorem dX6_count_89 : decode cX6_count 89 = .ok (.ireturn, 1) := dk_172 (dk_at dksX6_count_3 9 rfl rfl)
theorem dX6_count_90 : decode cX6_count 90 = .ok (.aload_n 0, 1) := dk_42 (dk_at dksX6_count_3 10 rfl rfl)
theorem dX6_count_91 : decode cX6_count 91 = .ok (.getfield 258, 3) := dk_180 1 2 (dk_at dksX6_count_3 11 rfl rfl)
theorem dX6_count_94 : decode cX6_count 94 = .ok (.ireturn, 1) := dk_172 (dk_at dksX6_count_3 14 rfl rfl)
theorem dX6_count_95 : decode cX6_count 95 = .ok (.aload_n 0, 1) := dk_42 (dk_at dksX6_count_3 15 rfl rfl)
theorem dX6_count_96 : decode cX6_count 96 = .ok (.getfield 85, 3) := dk_180 0 85 (dk_at dksX6_count_3 16 rfl rfl)
theorem dX6_count_99 : decode cX6_count 99 = .ok (.ireturn, 1) := dk_172 (dk_at dksX6_count_3 19 rfl rfl)
theorem dX6_count_100 : decode cX6_count 100 = .ok (.bipush (-2), 2) := dk_16 254 (dk_at dksX6_count_3 20 rfl rfl)
theorem dX6_count_102 : decode cX6_count 102 = .ok (.ireturn, 1) := dk_172 (dk_at dksX6_count_3 22 rfl rfl)
abbrev cX6_allArrivals : ByteArray := prog_8_method_87_code
def yX6_allArrivals : MethodName := ⟨RX6, "allArrivals", "()I"⟩
def dkwX6_allArrivals_1 : List UInt8 := [167, 255, 238, 27, 172]
abbrev dktX6_allArrivals_1 : List UInt8 := dkwX6_allArrivals_1 ++ []
def dkwX6_allArrivals_0 : List UInt8 := [3, 60, 3, 61, 28, 16, 8, 162, 0, 18, 27, 42, 180, 0, 70, 28, 46, 96, 60, 132, 2, 1]
abbrev dktX6_allArrivals_0 : List UInt8 := dkwX6_allArrivals_0 ++ dktX6_allArrivals_1
theorem dksX6_allArrivals_0 : cX6_allArrivals.data.toList.drop 0 = dktX6_allArrivals_0 := by decide +kernel
theorem dksX6_allArrivals_1 : cX6_allArrivals.data.toList.drop 22 = dktX6_allArrivals_1 := dk_seg dksX6_allArrivals_0 22 rfl rfl
theorem dX6_allArrivals_0 : decode cX6_allArrivals 0 = .ok (.iconst 0, 1) := dk_3 (dk_at dksX6_allArrivals_0 0 rfl rfl)
theorem dX6_allArrivals_1 : decode cX6_allArrivals 1 = .ok (.istore_n 1, 1) := dk_60 (dk_at dksX6_allArrivals_0 1 rfl rfl)
theorem dX6_allArrivals_2 : decode cX6_allArrivals 2 = .ok (.iconst 0, 1) := dk_3 (dk_at dksX6_allArrivals_0 2 rfl rfl)
theorem dX6_allArrivals_3 : decode cX6_allArrivals 3 = .ok (.istore_n 2, 1) := dk_61 (dk_at dksX6_allArrivals_0 3 rfl rfl)
theorem dX6_allArrivals_4 : decode cX6_allArrivals 4 = .ok (.iload_n 2, 1) := dk_28 (dk_at dksX6_allArrivals_0 4 rfl rfl)
theorem dX6_allArrivals_5 : decode cX6_allArrivals 5 = .ok (.bipush 8, 2) := dk_16 8 (dk_at dksX6_allArrivals_0 5 rfl rfl)
theorem dX6_allArrivals_7 : decode cX6_allArrivals 7 = .ok (.if_icmp .ge 18, 3) := dk_162 0 18 (dk_at dksX6_allArrivals_0 7 rfl rfl)
theorem dX6_allArrivals_10 : decode cX6_allArrivals 10 = .ok (.iload_n 1, 1) := dk_27 (dk_at dksX6_allArrivals_0 10 rfl rfl)
theorem dX6_allArrivals_11 : decode cX6_allArrivals 11 = .ok (.aload_n 0, 1) := dk_42 (dk_at dksX6_allArrivals_0 11 rfl rfl)
theorem dX6_allArrivals_12 : decode cX6_allArrivals 12 = .ok (.getfield 70, 3) := dk_180 0 70 (dk_at dksX6_allArrivals_0 12 rfl rfl)
theorem dX6_allArrivals_15 : decode cX6_allArrivals 15 = .ok (.iload_n 2, 1) := dk_28 (dk_at dksX6_allArrivals_0 15 rfl rfl)
theorem dX6_allArrivals_16 : decode cX6_allArrivals 16 = .ok (.iaload, 1) := dk_46 (dk_at dksX6_allArrivals_0 16 rfl rfl)
theorem dX6_allArrivals_17 : decode cX6_allArrivals 17 = .ok (.iadd, 1) := dk_96 (dk_at dksX6_allArrivals_0 17 rfl rfl)
theorem dX6_allArrivals_18 : decode cX6_allArrivals 18 = .ok (.istore_n 1, 1) := dk_60 (dk_at dksX6_allArrivals_0 18 rfl rfl)
theorem dX6_allArrivals_19 : decode cX6_allArrivals 19 = .ok (.iinc 2 1, 3) := dk_132 2 1 (dk_at dksX6_allArrivals_0 19 rfl rfl)
theorem dX6_allArrivals_22 : decode cX6_allArrivals 22 = .ok (.goto (-18), 3) := dk_167 255 238 (dk_at dksX6_allArrivals_1 0 rfl rfl)
theorem dX6_allArrivals_25 : decode cX6_allArrivals 25 = .ok (.iload_n 1, 1) := dk_27 (dk_at dksX6_allArrivals_1 3 rfl rfl)
theorem dX6_allArrivals_26 : decode cX6_allArrivals 26 = .ok (.ireturn, 1) := dk_172 (dk_at dksX6_allArrivals_1 4 rfl rfl)
abbrev cX6_digest : ByteArray := prog_8_method_91_code
def yX6_digest : MethodName := ⟨RX6, "digest", "()J"⟩
def dkwX6_digest_13 : List UInt8 := [4, 182, 1, 45, 133, 97, 173]
abbrev dktX6_digest_13 : List UInt8 := dkwX6_digest_13 ++ []
def dkwX6_digest_12 : List UInt8 := [64, 20, 1, 51, 31, 105, 42, 16, 7, 3, 182, 1, 45, 133, 97, 64, 20, 1, 51, 31, 105, 42, 16, 7]
abbrev dktX6_digest_12 : List UInt8 := dkwX6_digest_12 ++ dktX6_digest_13
def dkwX6_digest_11 : List UInt8 := [20, 1, 51, 31, 105, 42, 4, 182, 0, 253, 133, 97, 64, 20, 1, 51, 31, 105, 42, 182, 1, 9, 133, 97]
abbrev dktX6_digest_11 : List UInt8 := dkwX6_digest_11 ++ dktX6_digest_12
def dkwX6_digest_10 : List UInt8 := [133, 97, 64, 132, 3, 1, 167, 255, 235, 20, 1, 51, 31, 105, 42, 3, 182, 0, 253, 133, 97, 64]
abbrev dktX6_digest_10 : List UInt8 := dkwX6_digest_10 ++ dktX6_digest_11
def dkwX6_digest_9 : List UInt8 := [42, 182, 0, 232, 133, 97, 64, 3, 62, 29, 6, 162, 0, 22, 20, 1, 51, 31, 105, 42, 29, 182, 0, 247]
abbrev dktX6_digest_9 : List UInt8 := dkwX6_digest_9 ++ dktX6_digest_10
def dkwX6_digest_8 : List UInt8 := [42, 180, 0, 195, 133, 97, 64, 20, 1, 51, 31, 105, 42, 180, 0, 198, 133, 97, 64, 20, 1, 51, 31, 105]
abbrev dktX6_digest_8 : List UInt8 := dkwX6_digest_8 ++ dktX6_digest_9
def dkwX6_digest_7 : List UInt8 := [20, 1, 51, 31, 105, 42, 29, 182, 0, 226, 133, 97, 64, 132, 3, 1, 167, 255, 234, 20, 1, 51, 31, 105]
abbrev dktX6_digest_7 : List UInt8 := dkwX6_digest_7 ++ dktX6_digest_8
def dkwX6_digest_6 : List UInt8 := [31, 29, 182, 1, 62, 64, 132, 3, 1, 167, 255, 238, 42, 182, 0, 215, 5, 62, 29, 16, 6, 162, 0, 22]
abbrev dktX6_digest_6 : List UInt8 := dkwX6_digest_6 ++ dktX6_digest_7
def dkwX6_digest_5 : List UInt8 := [6, 182, 0, 221, 133, 97, 64, 132, 3, 1, 167, 255, 219, 3, 62, 29, 42, 180, 0, 133, 162, 0, 16, 42]
abbrev dktX6_digest_5 : List UInt8 := dkwX6_digest_5 ++ dktX6_digest_6
def dkwX6_digest_4 : List UInt8 := [162, 0, 37, 20, 1, 51, 31, 105, 42, 3, 29, 182, 0, 221, 133, 97, 64, 20, 1, 51, 31, 105, 42, 29]
abbrev dktX6_digest_4 : List UInt8 := dkwX6_digest_4 ++ dktX6_digest_5
def dkwX6_digest_3 : List UInt8 := [31, 105, 42, 180, 0, 28, 29, 46, 133, 97, 64, 132, 3, 1, 167, 255, 229, 3, 62, 29, 16, 8]
abbrev dktX6_digest_3 : List UInt8 := dkwX6_digest_3 ++ dktX6_digest_4
def dkwX6_digest_2 : List UInt8 := [105, 42, 4, 182, 0, 146, 133, 97, 64, 3, 62, 29, 7, 42, 180, 0, 127, 104, 162, 0, 23, 20, 1, 51]
abbrev dktX6_digest_2 : List UInt8 := dkwX6_digest_2 ++ dktX6_digest_3
def dkwX6_digest_1 : List UInt8 := [64, 132, 3, 1, 167, 255, 234, 20, 1, 51, 31, 105, 42, 3, 182, 0, 146, 133, 97, 64, 20, 1, 51, 31]
abbrev dktX6_digest_1 : List UInt8 := dkwX6_digest_1 ++ dktX6_digest_2
def dkwX6_digest_0 : List UInt8 := [20, 1, 57, 64, 3, 62, 29, 16, 8, 162, 0, 22, 20, 1, 51, 31, 105, 42, 29, 182, 1, 59, 133, 97]
abbrev dktX6_digest_0 : List UInt8 := dkwX6_digest_0 ++ dktX6_digest_1
theorem dksX6_digest_0 : cX6_digest.data.toList.drop 0 = dktX6_digest_0 := by decide +kernel
theorem dksX6_digest_1 : cX6_digest.data.toList.drop 24 = dktX6_digest_1 := dk_seg dksX6_digest_0 24 rfl rfl
theorem dksX6_digest_2 : cX6_digest.data.toList.drop 48 = dktX6_digest_2 := dk_seg dksX6_digest_1 24 rfl rfl
theorem dksX6_digest_3 : cX6_digest.data.toList.drop 72 = dktX6_digest_3 := dk_seg dksX6_digest_2 24 rfl rfl
theorem dksX6_digest_4 : cX6_digest.data.toList.drop 94 = dktX6_digest_4 := dk_seg dksX6_digest_3 22 rfl rfl
theorem dksX6_digest_5 : cX6_digest.data.toList.drop 118 = dktX6_digest_5 := dk_seg dksX6_digest_4 24 rfl rfl
theorem dksX6_digest_6 : cX6_digest.data.toList.drop 142 = dktX6_digest_6 := dk_seg dksX6_digest_5 24 rfl rfl
theorem dksX6_digest_7 : cX6_digest.data.toList.drop 166 = dktX6_digest_7 := dk_seg dksX6_digest_6 24 rfl rfl
theorem dksX6_digest_8 : cX6_digest.data.toList.drop 190 = dktX6_digest_8 := dk_seg dksX6_digest_7 24 rfl rfl
theorem dksX6_digest_9 : cX6_digest.data.toList.drop 214 = dktX6_digest_9 := dk_seg dksX6_digest_8 24 rfl rfl
theorem dksX6_digest_10 : cX6_digest.data.toList.drop 238 = dktX6_digest_10 := dk_seg dksX6_digest_9 24 rfl rfl
theorem dksX6_digest_11 : cX6_digest.data.toList.drop 260 = dktX6_digest_11 := dk_seg dksX6_digest_10 22 rfl rfl
theorem dksX6_digest_12 : cX6_digest.data.toList.drop 284 = dktX6_digest_12 := dk_seg dksX6_digest_11 24 rfl rfl
theorem dksX6_digest_13 : cX6_digest.data.toList.drop 308 = dktX6_digest_13 := dk_seg dksX6_digest_12 24 rfl rfl
theorem dX6_digest_0 : decode cX6_digest 0 = .ok (.ldc2_w 313, 3) := dk_20 1 57 (dk_at dksX6_digest_0 0 rfl rfl)
theorem dX6_digest_3 : decode cX6_digest 3 = .ok (.lstore_n 1, 1) := dk_64 (dk_at dksX6_digest_0 3 rfl rfl)
theorem dX6_digest_4 : decode cX6_digest 4 = .ok (.iconst 0, 1) := dk_3 (dk_at dksX6_digest_0 4 rfl rfl)
theorem dX6_digest_5 : decode cX6_digest 5 = .ok (.istore_n 3, 1) := dk_62 (dk_at dksX6_digest_0 5 rfl rfl)
theorem dX6_digest_6 : decode cX6_digest 6 = .ok (.iload_n 3, 1) := dk_29 (dk_at dksX6_digest_0 6 rfl rfl)
theorem dX6_digest_7 : decode cX6_digest 7 = .ok (.bipush 8, 2) := dk_16 8 (dk_at dksX6_digest_0 7 rfl rfl)
theorem dX6_digest_9 : decode cX6_digest 9 = .ok (.if_icmp .ge 22, 3) := dk_162 0 22 (dk_at dksX6_digest_0 9 rfl rfl)
theorem dX6_digest_12 : decode cX6_digest 12 = .ok (.ldc2_w 307, 3) := dk_20 1 51 (dk_at dksX6_digest_0 12 rfl rfl)
theorem dX6_digest_15 : decode cX6_digest 15 = .ok (.lload_n 1, 1) := dk_31 (dk_at dksX6_digest_0 15 rfl rfl)
theorem dX6_digest_16 : decode cX6_digest 16 = .ok (.lmul, 1) := dk_105 (dk_at dksX6_digest_0 16 rfl rfl)
theorem dX6_digest_17 : decode cX6_digest 17 = .ok (.aload_n 0, 1) := dk_42 (dk_at dksX6_digest_0 17 rfl rfl)
theorem dX6_digest_18 : decode cX6_digest 18 = .ok (.iload_n 3, 1) := dk_29 (dk_at dksX6_digest_0 18 rfl rfl)
theorem dX6_digest_19 : decode cX6_digest 19 = .ok (.invokevirtual 315, 3) := dk_182 1 59 (dk_at dksX6_digest_0 19 rfl rfl)
theorem dX6_digest_22 : decode cX6_digest 22 = .ok (.i2l, 1) := dk_133 (dk_at dksX6_digest_0 22 rfl rfl)
theorem dX6_digest_23 : decode cX6_digest 23 = .ok (.ladd, 1) := dk_97 (dk_at dksX6_digest_0 23 rfl rfl)
theorem dX6_digest_24 : decode cX6_digest 24 = .ok (.lstore_n 1, 1) := dk_64 (dk_at dksX6_digest_1 0 rfl rfl)
theorem dX6_digest_25 : decode cX6_digest 25 = .ok (.iinc 3 1, 3) := dk_132 3 1 (dk_at dksX6_digest_1 1 rfl rfl)
theorem dX6_digest_28 : decode cX6_digest 28 = .ok (.goto (-22), 3) := dk_167 255 234 (dk_at dksX6_digest_1 4 rfl rfl)
theorem dX6_digest_31 : decode cX6_digest 31 = .ok (.ldc2_w 307, 3) := dk_20 1 51 (dk_at dksX6_digest_1 7 rfl rfl)
theorem dX6_digest_34 : decode cX6_digest 34 = .ok (.lload_n 1, 1) := dk_31 (dk_at dksX6_digest_1 10 rfl rfl)
theorem dX6_digest_35 : decode cX6_digest 35 = .ok (.lmul, 1) := dk_105 (dk_at dksX6_digest_1 11 rfl rfl)
theorem dX6_digest_36 : decode cX6_digest 36 = .ok (.aload_n 0, 1) := dk_42 (dk_at dksX6_digest_1 12 rfl rfl)
theorem dX6_digest_37 : decode cX6_digest 37 = .ok (.iconst 0, 1) := dk_3 (dk_at dksX6_digest_1 13 rfl rfl)
theorem dX6_digest_38 : decode cX6_digest 38 = .ok (.invokevirtual 146, 3) := dk_182 0 146 (dk_at dksX6_digest_1 14 rfl rfl)
theorem dX6_digest_41 : decode cX6_digest 41 = .ok (.i2l, 1) := dk_133 (dk_at dksX6_digest_1 17 rfl rfl)
theorem dX6_digest_42 : decode cX6_digest 42 = .ok (.ladd, 1) := dk_97 (dk_at dksX6_digest_1 18 rfl rfl)
theorem dX6_digest_43 : decode cX6_digest 43 = .ok (.lstore_n 1, 1) := dk_64 (dk_at dksX6_digest_1 19 rfl rfl)
theorem dX6_digest_44 : decode cX6_digest 44 = .ok (.ldc2_w 307, 3) := dk_20 1 51 (dk_at dksX6_digest_1 20 rfl rfl)
theorem dX6_digest_47 : decode cX6_digest 47 = .ok (.lload_n 1, 1) := dk_31 (dk_at dksX6_digest_1 23 rfl rfl)
theorem dX6_digest_48 : decode cX6_digest 48 = .ok (.lmul, 1) := dk_105 (dk_at dksX6_digest_2 0 rfl rfl)
theorem dX6_digest_49 : decode cX6_digest 49 = .ok (.aload_n 0, 1) := dk_42 (dk_at dksX6_digest_2 1 rfl rfl)
theorem dX6_digest_50 : decode cX6_digest 50 = .ok (.iconst 1, 1) := dk_4 (dk_at dksX6_digest_2 2 rfl rfl)
theorem dX6_digest_51 : decode cX6_digest 51 = .ok (.invokevirtual 146, 3) := dk_182 0 146 (dk_at dksX6_digest_2 3 rfl rfl)
theorem dX6_digest_54 : decode cX6_digest 54 = .ok (.i2l, 1) := dk_133 (dk_at dksX6_digest_2 6 rfl rfl)
theorem dX6_digest_55 : decode cX6_digest 55 = .ok (.ladd, 1) := dk_97 (dk_at dksX6_digest_2 7 rfl rfl)
theorem dX6_digest_56 : decode cX6_digest 56 = .ok (.lstore_n 1, 1) := dk_64 (dk_at dksX6_digest_2 8 rfl rfl)
theorem dX6_digest_57 : decode cX6_digest 57 = .ok (.iconst 0, 1) := dk_3 (dk_at dksX6_digest_2 9 rfl rfl)
theorem dX6_digest_58 : decode cX6_digest 58 = .ok (.istore_n 3, 1) := dk_62 (dk_at dksX6_digest_2 10 rfl rfl)
theorem dX6_digest_59 : decode cX6_digest 59 = .ok (.iload_n 3, 1) := dk_29 (dk_at dksX6_digest_2 11 rfl rfl)
theorem dX6_digest_60 : decode cX6_digest 60 = .ok (.iconst 4, 1) := dk_7 (dk_at dksX6_digest_2 12 rfl rfl)
theorem dX6_digest_61 : decode cX6_digest 61 = .ok (.aload_n 0, 1) := dk_42 (dk_at dksX6_digest_2 13 rfl rfl)
theorem dX6_digest_62 : decode cX6_digest 62 = .ok (.getfield 127, 3) := dk_180 0 127 (dk_at dksX6_digest_2 14 rfl rfl)
theorem dX6_digest_65 : decode cX6_digest 65 = .ok (.imul, 1) := dk_104 (dk_at dksX6_digest_2 17 rfl rfl)
theorem dX6_digest_66 : decode cX6_digest 66 = .ok (.if_icmp .ge 23, 3) := dk_162 0 23 (dk_at dksX6_digest_2 18 rfl rfl)
theorem dX6_digest_69 : decode cX6_digest 69 = .ok (.ldc2_w 307, 3) := dk_20 1 51 (dk_at dksX6_digest_2 21 rfl rfl)
theorem dX6_digest_72 : decode cX6_digest 72 = .ok (.lload_n 1, 1) := dk_31 (dk_at dksX6_digest_3 0 rfl rfl)
theorem dX6_digest_73 : decode cX6_digest 73 = .ok (.lmul, 1) := dk_105 (dk_at dksX6_digest_3 1 rfl rfl)
theorem dX6_digest_74 : decode cX6_digest 74 = .ok (.aload_n 0, 1) := dk_42 (dk_at dksX6_digest_3 2 rfl rfl)
theorem dX6_digest_75 : decode cX6_digest 75 = .ok (.getfield 28, 3) := dk_180 0 28 (dk_at dksX6_digest_3 3 rfl rfl)
theorem dX6_digest_78 : decode cX6_digest 78 = .ok (.iload_n 3, 1) := dk_29 (dk_at dksX6_digest_3 6 rfl rfl)
theorem dX6_digest_79 : decode cX6_digest 79 = .ok (.iaload, 1) := dk_46 (dk_at dksX6_digest_3 7 rfl rfl)
theorem dX6_digest_80 : decode cX6_digest 80 = .ok (.i2l, 1) := dk_133 (dk_at dksX6_digest_3 8 rfl rfl)
theorem dX6_digest_81 : decode cX6_digest 81 = .ok (.ladd, 1) := dk_97 (dk_at dksX6_digest_3 9 rfl rfl)
theorem dX6_digest_82 : decode cX6_digest 82 = .ok (.lstore_n 1, 1) := dk_64 (dk_at dksX6_digest_3 10 rfl rfl)
theorem dX6_digest_83 : decode cX6_digest 83 = .ok (.iinc 3 1, 3) := dk_132 3 1 (dk_at dksX6_digest_3 11 rfl rfl)
theorem dX6_digest_86 : decode cX6_digest 86 = .ok (.goto (-27), 3) := dk_167 255 229 (dk_at dksX6_digest_3 14 rfl rfl)
theorem dX6_digest_89 : decode cX6_digest 89 = .ok (.iconst 0, 1) := dk_3 (dk_at dksX6_digest_3 17 rfl rfl)
theorem dX6_digest_90 : decode cX6_digest 90 = .ok (.istore_n 3, 1) := dk_62 (dk_at dksX6_digest_3 18 rfl rfl)
theorem dX6_digest_91 : decode cX6_digest 91 = .ok (.iload_n 3, 1) := dk_29 (dk_at dksX6_digest_3 19 rfl rfl)
theorem dX6_digest_92 : decode cX6_digest 92 = .ok (.bipush 8, 2) := dk_16 8 (dk_at dksX6_digest_3 20 rfl rfl)
theorem dX6_digest_94 : decode cX6_digest 94 = .ok (.if_icmp .ge 37, 3) := dk_162 0 37 (dk_at dksX6_digest_4 0 rfl rfl)
theorem dX6_digest_97 : decode cX6_digest 97 = .ok (.ldc2_w 307, 3) := dk_20 1 51 (dk_at dksX6_digest_4 3 rfl rfl)
theorem dX6_digest_100 : decode cX6_digest 100 = .ok (.lload_n 1, 1) := dk_31 (dk_at dksX6_digest_4 6 rfl rfl)
theorem dX6_digest_101 : decode cX6_digest 101 = .ok (.lmul, 1) := dk_105 (dk_at dksX6_digest_4 7 rfl rfl)
theorem dX6_digest_102 : decode cX6_digest 102 = .ok (.aload_n 0, 1) := dk_42 (dk_at dksX6_digest_4 8 rfl rfl)
theorem dX6_digest_103 : decode cX6_digest 103 = .ok (.iconst 0, 1) := dk_3 (dk_at dksX6_digest_4 9 rfl rfl)
theorem dX6_digest_104 : decode cX6_digest 104 = .ok (.iload_n 3, 1) := dk_29 (dk_at dksX6_digest_4 10 rfl rfl)
theorem dX6_digest_105 : decode cX6_digest 105 = .ok (.invokevirtual 221, 3) := dk_182 0 221 (dk_at dksX6_digest_4 11 rfl rfl)
theorem dX6_digest_108 : decode cX6_digest 108 = .ok (.i2l, 1) := dk_133 (dk_at dksX6_digest_4 14 rfl rfl)
theorem dX6_digest_109 : decode cX6_digest 109 = .ok (.ladd, 1) := dk_97 (dk_at dksX6_digest_4 15 rfl rfl)
theorem dX6_digest_110 : decode cX6_digest 110 = .ok (.lstore_n 1, 1) := dk_64 (dk_at dksX6_digest_4 16 rfl rfl)
theorem dX6_digest_111 : decode cX6_digest 111 = .ok (.ldc2_w 307, 3) := dk_20 1 51 (dk_at dksX6_digest_4 17 rfl rfl)
theorem dX6_digest_114 : decode cX6_digest 114 = .ok (.lload_n 1, 1) := dk_31 (dk_at dksX6_digest_4 20 rfl rfl)
theorem dX6_digest_115 : decode cX6_digest 115 = .ok (.lmul, 1) := dk_105 (dk_at dksX6_digest_4 21 rfl rfl)
theorem dX6_digest_116 : decode cX6_digest 116 = .ok (.aload_n 0, 1) := dk_42 (dk_at dksX6_digest_4 22 rfl rfl)
theorem dX6_digest_117 : decode cX6_digest 117 = .ok (.iload_n 3, 1) := dk_29 (dk_at dksX6_digest_4 23 rfl rfl)
theorem dX6_digest_118 : decode cX6_digest 118 = .ok (.iconst 3, 1) := dk_6 (dk_at dksX6_digest_5 0 rfl rfl)
theorem dX6_digest_119 : decode cX6_digest 119 = .ok (.invokevirtual 221, 3) := dk_182 0 221 (dk_at dksX6_digest_5 1 rfl rfl)
theorem dX6_digest_122 : decode cX6_digest 122 = .ok (.i2l, 1) := dk_133 (dk_at dksX6_digest_5 4 rfl rfl)
theorem dX6_digest_123 : decode cX6_digest 123 = .ok (.ladd, 1) := dk_97 (dk_at dksX6_digest_5 5 rfl rfl)
theorem dX6_digest_124 : decode cX6_digest 124 = .ok (.lstore_n 1, 1) := dk_64 (dk_at dksX6_digest_5 6 rfl rfl)
theorem dX6_digest_125 : decode cX6_digest 125 = .ok (.iinc 3 1, 3) := dk_132 3 1 (dk_at dksX6_digest_5 7 rfl rfl)
theorem dX6_digest_128 : decode cX6_digest 128 = .ok (.goto (-37), 3) := dk_167 255 219 (dk_at dksX6_digest_5 10 rfl rfl)
theorem dX6_digest_131 : decode cX6_digest 131 = .ok (.iconst 0, 1) := dk_3 (dk_at dksX6_digest_5 13 rfl rfl)
theorem dX6_digest_132 : decode cX6_digest 132 = .ok (.istore_n 3, 1) := dk_62 (dk_at dksX6_digest_5 14 rfl rfl)
theorem dX6_digest_133 : decode cX6_digest 133 = .ok (.iload_n 3, 1) := dk_29 (dk_at dksX6_digest_5 15 rfl rfl)
theorem dX6_digest_134 : decode cX6_digest 134 = .ok (.aload_n 0, 1) := dk_42 (dk_at dksX6_digest_5 16 rfl rfl)
theorem dX6_digest_135 : decode cX6_digest 135 = .ok (.getfield 133, 3) := dk_180 0 133 (dk_at dksX6_digest_5 17 rfl rfl)
theorem dX6_digest_138 : decode cX6_digest 138 = .ok (.if_icmp .ge 16, 3) := dk_162 0 16 (dk_at dksX6_digest_5 20 rfl rfl)
theorem dX6_digest_141 : decode cX6_digest 141 = .ok (.aload_n 0, 1) := dk_42 (dk_at dksX6_digest_5 23 rfl rfl)
theorem dX6_digest_142 : decode cX6_digest 142 = .ok (.lload_n 1, 1) := dk_31 (dk_at dksX6_digest_6 0 rfl rfl)
theorem dX6_digest_143 : decode cX6_digest 143 = .ok (.iload_n 3, 1) := dk_29 (dk_at dksX6_digest_6 1 rfl rfl)
theorem dX6_digest_144 : decode cX6_digest 144 = .ok (.invokevirtual 318, 3) := dk_182 1 62 (dk_at dksX6_digest_6 2 rfl rfl)
theorem dX6_digest_147 : decode cX6_digest 147 = .ok (.lstore_n 1, 1) := dk_64 (dk_at dksX6_digest_6 5 rfl rfl)
theorem dX6_digest_148 : decode cX6_digest 148 = .ok (.iinc 3 1, 3) := dk_132 3 1 (dk_at dksX6_digest_6 6 rfl rfl)
theorem dX6_digest_151 : decode cX6_digest 151 = .ok (.goto (-18), 3) := dk_167 255 238 (dk_at dksX6_digest_6 9 rfl rfl)
theorem dX6_digest_154 : decode cX6_digest 154 = .ok (.aload_n 0, 1) := dk_42 (dk_at dksX6_digest_6 12 rfl rfl)
theorem dX6_digest_155 : decode cX6_digest 155 = .ok (.invokevirtual 215, 3) := dk_182 0 215 (dk_at dksX6_digest_6 13 rfl rfl)
theorem dX6_digest_158 : decode cX6_digest 158 = .ok (.iconst 2, 1) := dk_5 (dk_at dksX6_digest_6 16 rfl rfl)
theorem dX6_digest_159 : decode cX6_digest 159 = .ok (.istore_n 3, 1) := dk_62 (dk_at dksX6_digest_6 17 rfl rfl)
theorem dX6_digest_160 : decode cX6_digest 160 = .ok (.iload_n 3, 1) := dk_29 (dk_at dksX6_digest_6 18 rfl rfl)
theorem dX6_digest_161 : decode cX6_digest 161 = .ok (.bipush 6, 2) := dk_16 6 (dk_at dksX6_digest_6 19 rfl rfl)
theorem dX6_digest_163 : decode cX6_digest 163 = .ok (.if_icmp .ge 22, 3) := dk_162 0 22 (dk_at dksX6_digest_6 21 rfl rfl)
theorem dX6_digest_166 : decode cX6_digest 166 = .ok (.ldc2_w 307, 3) := dk_20 1 51 (dk_at dksX6_digest_7 0 rfl rfl)
theorem dX6_digest_169 : decode cX6_digest 169 = .ok (.lload_n 1, 1) := dk_31 (dk_at dksX6_digest_7 3 rfl rfl)
theorem dX6_digest_170 : decode cX6_digest 170 = .ok (.lmul, 1) := dk_105 (dk_at dksX6_digest_7 4 rfl rfl)
theorem dX6_digest_171 : decode cX6_digest 171 = .ok (.aload_n 0, 1) := dk_42 (dk_at dksX6_digest_7 5 rfl rfl)
theorem dX6_digest_172 : decode cX6_digest 172 = .ok (.iload_n 3, 1) := dk_29 (dk_at dksX6_digest_7 6 rfl rfl)
theorem dX6_digest_173 : decode cX6_digest 173 = .ok (.invokevirtual 226, 3) := dk_182 0 226 (dk_at dksX6_digest_7 7 rfl rfl)
theorem dX6_digest_176 : decode cX6_digest 176 = .ok (.i2l, 1) := dk_133 (dk_at dksX6_digest_7 10 rfl rfl)
theorem dX6_digest_177 : decode cX6_digest 177 = .ok (.ladd, 1) := dk_97 (dk_at dksX6_digest_7 11 rfl rfl)
theorem dX6_digest_178 : decode cX6_digest 178 = .ok (.lstore_n 1, 1) := dk_64 (dk_at dksX6_digest_7 12 rfl rfl)
theorem dX6_digest_179 : decode cX6_digest 179 = .ok (.iinc 3 1, 3) := dk_132 3 1 (dk_at dksX6_digest_7 13 rfl rfl)
theorem dX6_digest_182 : decode cX6_digest 182 = .ok (.goto (-22), 3) := dk_167 255 234 (dk_at dksX6_digest_7 16 rfl rfl)
theorem dX6_digest_185 : decode cX6_digest 185 = .ok (.ldc2_w 307, 3) := dk_20 1 51 (dk_at dksX6_digest_7 19 rfl rfl)
theorem dX6_digest_188 : decode cX6_digest 188 = .ok (.lload_n 1, 1) := dk_31 (dk_at dksX6_digest_7 22 rfl rfl)
theorem dX6_digest_189 : decode cX6_digest 189 = .ok (.lmul, 1) := dk_105 (dk_at dksX6_digest_7 23 rfl rfl)
theorem dX6_digest_190 : decode cX6_digest 190 = .ok (.aload_n 0, 1) := dk_42 (dk_at dksX6_digest_8 0 rfl rfl)
theorem dX6_digest_191 : decode cX6_digest 191 = .ok (.getfield 195, 3) := dk_180 0 195 (dk_at dksX6_digest_8 1 rfl rfl)
theorem dX6_digest_194 : decode cX6_digest 194 = .ok (.i2l, 1) := dk_133 (dk_at dksX6_digest_8 4 rfl rfl)
theorem dX6_digest_195 : decode cX6_digest 195 = .ok (.ladd, 1) := dk_97 (dk_at dksX6_digest_8 5 rfl rfl)
theorem dX6_digest_196 : decode cX6_digest 196 = .ok (.lstore_n 1, 1) := dk_64 (dk_at dksX6_digest_8 6 rfl rfl)
theorem dX6_digest_197 : decode cX6_digest 197 = .ok (.ldc2_w 307, 3) := dk_20 1 51 (dk_at dksX6_digest_8 7 rfl rfl)
theorem dX6_digest_200 : decode cX6_digest 200 = .ok (.lload_n 1, 1) := dk_31 (dk_at dksX6_digest_8 10 rfl rfl)
theorem dX6_digest_201 : decode cX6_digest 201 = .ok (.lmul, 1) := dk_105 (dk_at dksX6_digest_8 11 rfl rfl)
theorem dX6_digest_202 : decode cX6_digest 202 = .ok (.aload_n 0, 1) := dk_42 (dk_at dksX6_digest_8 12 rfl rfl)
theorem dX6_digest_203 : decode cX6_digest 203 = .ok (.getfield 198, 3) := dk_180 0 198 (dk_at dksX6_digest_8 13 rfl rfl)
theorem dX6_digest_206 : decode cX6_digest 206 = .ok (.i2l, 1) := dk_133 (dk_at dksX6_digest_8 16 rfl rfl)
theorem dX6_digest_207 : decode cX6_digest 207 = .ok (.ladd, 1) := dk_97 (dk_at dksX6_digest_8 17 rfl rfl)
theorem dX6_digest_208 : decode cX6_digest 208 = .ok (.lstore_n 1, 1) := dk_64 (dk_at dksX6_digest_8 18 rfl rfl)
theorem dX6_digest_209 : decode cX6_digest 209 = .ok (.ldc2_w 307, 3) := dk_20 1 51 (dk_at dksX6_digest_8 19 rfl rfl)
theorem dX6_digest_212 : decode cX6_digest 212 = .ok (.lload_n 1, 1) := dk_31 (dk_at dksX6_digest_8 22 rfl rfl)
theorem dX6_digest_213 : decode cX6_digest 213 = .ok (.lmul, 1) := dk_105 (dk_at dksX6_digest_8 23 rfl rfl)
theorem dX6_digest_214 : decode cX6_digest 214 = .ok (.aload_n 0, 1) := dk_42 (dk_at dksX6_digest_9 0 rfl rfl)
theorem dX6_digest_215 : decode cX6_digest 215 = .ok (.invokevirtual 232, 3) := dk_182 0 232 (dk_at dksX6_digest_9 1 rfl rfl)
theorem dX6_digest_218 : decode cX6_digest 218 = .ok (.i2l, 1) := dk_133 (dk_at dksX6_digest_9 4 rfl rfl)
theorem dX6_digest_219 : decode cX6_digest 219 = .ok (.ladd, 1) := dk_97 (dk_at dksX6_digest_9 5 rfl rfl)
theorem dX6_digest_220 : decode cX6_digest 220 = .ok (.lstore_n 1, 1) := dk_64 (dk_at dksX6_digest_9 6 rfl rfl)
theorem dX6_digest_221 : decode cX6_digest 221 = .ok (.iconst 0, 1) := dk_3 (dk_at dksX6_digest_9 7 rfl rfl)
theorem dX6_digest_222 : decode cX6_digest 222 = .ok (.istore_n 3, 1) := dk_62 (dk_at dksX6_digest_9 8 rfl rfl)
theorem dX6_digest_223 : decode cX6_digest 223 = .ok (.iload_n 3, 1) := dk_29 (dk_at dksX6_digest_9 9 rfl rfl)
theorem dX6_digest_224 : decode cX6_digest 224 = .ok (.iconst 3, 1) := dk_6 (dk_at dksX6_digest_9 10 rfl rfl)
theorem dX6_digest_225 : decode cX6_digest 225 = .ok (.if_icmp .ge 22, 3) := dk_162 0 22 (dk_at dksX6_digest_9 11 rfl rfl)
theorem dX6_digest_228 : decode cX6_digest 228 = .ok (.ldc2_w 307, 3) := dk_20 1 51 (dk_at dksX6_digest_9 14 rfl rfl)
theorem dX6_digest_231 : decode cX6_digest 231 = .ok (.lload_n 1, 1) := dk_31 (dk_at dksX6_digest_9 17 rfl rfl)
theorem dX6_digest_232 : decode cX6_digest 232 = .ok (.lmul, 1) := dk_105 (dk_at dksX6_digest_9 18 rfl rfl)
theorem dX6_digest_233 : decode cX6_digest 233 = .ok (.aload_n 0, 1) := dk_42 (dk_at dksX6_digest_9 19 rfl rfl)
theorem dX6_digest_234 : decode cX6_digest 234 = .ok (.iload_n 3, 1) := dk_29 (dk_at dksX6_digest_9 20 rfl rfl)
theorem dX6_digest_235 : decode cX6_digest 235 = .ok (.invokevirtual 247, 3) := dk_182 0 247 (dk_at dksX6_digest_9 21 rfl rfl)
theorem dX6_digest_238 : decode cX6_digest 238 = .ok (.i2l, 1) := dk_133 (dk_at dksX6_digest_10 0 rfl rfl)
theorem dX6_digest_239 : decode cX6_digest 239 = .ok (.ladd, 1) := dk_97 (dk_at dksX6_digest_10 1 rfl rfl)
theorem dX6_digest_240 : decode cX6_digest 240 = .ok (.lstore_n 1, 1) := dk_64 (dk_at dksX6_digest_10 2 rfl rfl)
theorem dX6_digest_241 : decode cX6_digest 241 = .ok (.iinc 3 1, 3) := dk_132 3 1 (dk_at dksX6_digest_10 3 rfl rfl)
theorem dX6_digest_244 : decode cX6_digest 244 = .ok (.goto (-21), 3) := dk_167 255 235 (dk_at dksX6_digest_10 6 rfl rfl)
theorem dX6_digest_247 : decode cX6_digest 247 = .ok (.ldc2_w 307, 3) := dk_20 1 51 (dk_at dksX6_digest_10 9 rfl rfl)
theorem dX6_digest_250 : decode cX6_digest 250 = .ok (.lload_n 1, 1) := dk_31 (dk_at dksX6_digest_10 12 rfl rfl)
theorem dX6_digest_251 : decode cX6_digest 251 = .ok (.lmul, 1) := dk_105 (dk_at dksX6_digest_10 13 rfl rfl)
theorem dX6_digest_252 : decode cX6_digest 252 = .ok (.aload_n 0, 1) := dk_42 (dk_at dksX6_digest_10 14 rfl rfl)
theorem dX6_digest_253 : decode cX6_digest 253 = .ok (.iconst 0, 1) := dk_3 (dk_at dksX6_digest_10 15 rfl rfl)
theorem dX6_digest_254 : decode cX6_digest 254 = .ok (.invokevirtual 253, 3) := dk_182 0 253 (dk_at dksX6_digest_10 16 rfl rfl)
theorem dX6_digest_257 : decode cX6_digest 257 = .ok (.i2l, 1) := dk_133 (dk_at dksX6_digest_10 19 rfl rfl)
theorem dX6_digest_258 : decode cX6_digest 258 = .ok (.ladd, 1) := dk_97 (dk_at dksX6_digest_10 20 rfl rfl)
theorem dX6_digest_259 : decode cX6_digest 259 = .ok (.lstore_n 1, 1) := dk_64 (dk_at dksX6_digest_10 21 rfl rfl)
theorem dX6_digest_260 : decode cX6_digest 260 = .ok (.ldc2_w 307, 3) := dk_20 1 51 (dk_at dksX6_digest_11 0 rfl rfl)
theorem dX6_digest_263 : decode cX6_digest 263 = .ok (.lload_n 1, 1) := dk_31 (dk_at dksX6_digest_11 3 rfl rfl)
theorem dX6_digest_264 : decode cX6_digest 264 = .ok (.lmul, 1) := dk_105 (dk_at dksX6_digest_11 4 rfl rfl)
theorem dX6_digest_265 : decode cX6_digest 265 = .ok (.aload_n 0, 1) := dk_42 (dk_at dksX6_digest_11 5 rfl rfl)
theorem dX6_digest_266 : decode cX6_digest 266 = .ok (.iconst 1, 1) := dk_4 (dk_at dksX6_digest_11 6 rfl rfl)
theorem dX6_digest_267 : decode cX6_digest 267 = .ok (.invokevirtual 253, 3) := dk_182 0 253 (dk_at dksX6_digest_11 7 rfl rfl)
theorem dX6_digest_270 : decode cX6_digest 270 = .ok (.i2l, 1) := dk_133 (dk_at dksX6_digest_11 10 rfl rfl)
theorem dX6_digest_271 : decode cX6_digest 271 = .ok (.ladd, 1) := dk_97 (dk_at dksX6_digest_11 11 rfl rfl)
theorem dX6_digest_272 : decode cX6_digest 272 = .ok (.lstore_n 1, 1) := dk_64 (dk_at dksX6_digest_11 12 rfl rfl)
theorem dX6_digest_273 : decode cX6_digest 273 = .ok (.ldc2_w 307, 3) := dk_20 1 51 (dk_at dksX6_digest_11 13 rfl rfl)
theorem dX6_digest_276 : decode cX6_digest 276 = .ok (.lload_n 1, 1) := dk_31 (dk_at dksX6_digest_11 16 rfl rfl)
theorem dX6_digest_277 : decode cX6_digest 277 = .ok (.lmul, 1) := dk_105 (dk_at dksX6_digest_11 17 rfl rfl)
theorem dX6_digest_278 : decode cX6_digest 278 = .ok (.aload_n 0, 1) := dk_42 (dk_at dksX6_digest_11 18 rfl rfl)
theorem dX6_digest_279 : decode cX6_digest 279 = .ok (.invokevirtual 265, 3) := dk_182 1 9 (dk_at dksX6_digest_11 19 rfl rfl)
theorem dX6_digest_282 : decode cX6_digest 282 = .ok (.i2l, 1) := dk_133 (dk_at dksX6_digest_11 22 rfl rfl)
theorem dX6_digest_283 : decode cX6_digest 283 = .ok (.ladd, 1) := dk_97 (dk_at dksX6_digest_11 23 rfl rfl)
theorem dX6_digest_284 : decode cX6_digest 284 = .ok (.lstore_n 1, 1) := dk_64 (dk_at dksX6_digest_12 0 rfl rfl)
theorem dX6_digest_285 : decode cX6_digest 285 = .ok (.ldc2_w 307, 3) := dk_20 1 51 (dk_at dksX6_digest_12 1 rfl rfl)
theorem dX6_digest_288 : decode cX6_digest 288 = .ok (.lload_n 1, 1) := dk_31 (dk_at dksX6_digest_12 4 rfl rfl)
theorem dX6_digest_289 : decode cX6_digest 289 = .ok (.lmul, 1) := dk_105 (dk_at dksX6_digest_12 5 rfl rfl)
theorem dX6_digest_290 : decode cX6_digest 290 = .ok (.aload_n 0, 1) := dk_42 (dk_at dksX6_digest_12 6 rfl rfl)
theorem dX6_digest_291 : decode cX6_digest 291 = .ok (.bipush 7, 2) := dk_16 7 (dk_at dksX6_digest_12 7 rfl rfl)
theorem dX6_digest_293 : decode cX6_digest 293 = .ok (.iconst 0, 1) := dk_3 (dk_at dksX6_digest_12 9 rfl rfl)
theorem dX6_digest_294 : decode cX6_digest 294 = .ok (.invokevirtual 301, 3) := dk_182 1 45 (dk_at dksX6_digest_12 10 rfl rfl)
theorem dX6_digest_297 : decode cX6_digest 297 = .ok (.i2l, 1) := dk_133 (dk_at dksX6_digest_12 13 rfl rfl)
theorem dX6_digest_298 : decode cX6_digest 298 = .ok (.ladd, 1) := dk_97 (dk_at dksX6_digest_12 14 rfl rfl)
theorem dX6_digest_299 : decode cX6_digest 299 = .ok (.lstore_n 1, 1) := dk_64 (dk_at dksX6_digest_12 15 rfl rfl)
theorem dX6_digest_300 : decode cX6_digest 300 = .ok (.ldc2_w 307, 3) := dk_20 1 51 (dk_at dksX6_digest_12 16 rfl rfl)
theorem dX6_digest_303 : decode cX6_digest 303 = .ok (.lload_n 1, 1) := dk_31 (dk_at dksX6_digest_12 19 rfl rfl)
theorem dX6_digest_304 : decode cX6_digest 304 = .ok (.lmul, 1) := dk_105 (dk_at dksX6_digest_12 20 rfl rfl)
theorem dX6_digest_305 : decode cX6_digest 305 = .ok (.aload_n 0, 1) := dk_42 (dk_at dksX6_digest_12 21 rfl rfl)
theorem dX6_digest_306 : decode cX6_digest 306 = .ok (.bipush 7, 2) := dk_16 7 (dk_at dksX6_digest_12 22 rfl rfl)
theorem dX6_digest_308 : decode cX6_digest 308 = .ok (.iconst 1, 1) := dk_4 (dk_at dksX6_digest_13 0 rfl rfl)
theorem dX6_digest_309 : decode cX6_digest 309 = .ok (.invokevirtual 301, 3) := dk_182 1 45 (dk_at dksX6_digest_13 1 rfl rfl)
theorem dX6_digest_312 : decode cX6_digest 312 = .ok (.i2l, 1) := dk_133 (dk_at dksX6_digest_13 4 rfl rfl)
theorem dX6_digest_313 : decode cX6_digest 313 = .ok (.ladd, 1) := dk_97 (dk_at dksX6_digest_13 5 rfl rfl)
theorem dX6_digest_314 : decode cX6_digest 314 = .ok (.lreturn, 1) := dk_173 (dk_at dksX6_digest_13 6 rfl rfl)
abbrev cX6_tellsCarter : ByteArray := prog_8_method_90_code
def yX6_tellsCarter : MethodName := ⟨RX6, "tellsCarter", "(JI)J"⟩
def dkwX6_tellsCarter_9 : List UInt8 := [20, 1, 51, 22, 4, 105, 42, 8, 29, 4, 182, 1, 30, 97, 173]
abbrev dktX6_tellsCarter_9 : List UInt8 := dkwX6_tellsCarter_9 ++ []
def dkwX6_tellsCarter_8 : List UInt8 := [29, 182, 1, 21, 133, 97, 55, 4, 20, 1, 51, 22, 4, 105, 42, 8, 29, 3, 182, 1, 30, 97, 55, 4]
abbrev dktX6_tellsCarter_8 : List UInt8 := dkwX6_tellsCarter_8 ++ dktX6_tellsCarter_9
def dkwX6_tellsCarter_7 : List UInt8 := [42, 29, 21, 6, 182, 1, 15, 133, 97, 55, 4, 132, 6, 1, 167, 255, 230, 20, 1, 51, 22, 4, 105, 42]
abbrev dktX6_tellsCarter_7 : List UInt8 := dkwX6_tellsCarter_7 ++ dktX6_tellsCarter_8
def dkwX6_tellsCarter_6 : List UInt8 := [42, 29, 182, 1, 12, 133, 97, 55, 4, 3, 54, 6, 21, 6, 6, 162, 0, 26, 20, 1, 51, 22, 4, 105]
abbrev dktX6_tellsCarter_6 : List UInt8 := dkwX6_tellsCarter_6 ++ dktX6_tellsCarter_7
def dkwX6_tellsCarter_5 : List UInt8 := [55, 4, 20, 1, 51, 22, 4, 105, 42, 29, 4, 182, 0, 250, 133, 97, 55, 4, 20, 1, 51, 22, 4, 105]
abbrev dktX6_tellsCarter_5 : List UInt8 := dkwX6_tellsCarter_5 ++ dktX6_tellsCarter_6
def dkwX6_tellsCarter_4 : List UInt8 := [42, 29, 182, 0, 238, 133, 97, 55, 4, 20, 1, 51, 22, 4, 105, 42, 29, 3, 182, 0, 250, 133, 97]
abbrev dktX6_tellsCarter_4 : List UInt8 := dkwX6_tellsCarter_4 ++ dktX6_tellsCarter_5
def dkwX6_tellsCarter_3 : List UInt8 := [55, 4, 20, 1, 51, 22, 4, 105, 42, 180, 0, 61, 29, 46, 133, 97, 55, 4, 20, 1, 51, 22, 4, 105]
abbrev dktX6_tellsCarter_3 : List UInt8 := dkwX6_tellsCarter_3 ++ dktX6_tellsCarter_4
def dkwX6_tellsCarter_2 : List UInt8 := [22, 4, 29, 3, 182, 1, 53, 29, 8, 182, 1, 53, 29, 16, 15, 182, 1, 53, 29, 16, 39, 182, 1, 53]
abbrev dktX6_tellsCarter_2 : List UInt8 := dkwX6_tellsCarter_2 ++ dktX6_tellsCarter_3
def dkwX6_tellsCarter_1 : List UInt8 := [180, 0, 31, 8, 29, 104, 21, 6, 96, 46, 133, 97, 55, 4, 132, 6, 1, 167, 255, 226, 42, 42, 42, 42]
abbrev dktX6_tellsCarter_1 : List UInt8 := dkwX6_tellsCarter_1 ++ dktX6_tellsCarter_2
def dkwX6_tellsCarter_0 : List UInt8 := [42, 182, 0, 215, 31, 55, 4, 3, 54, 6, 21, 6, 8, 162, 0, 30, 20, 1, 51, 22, 4, 105, 42]
abbrev dktX6_tellsCarter_0 : List UInt8 := dkwX6_tellsCarter_0 ++ dktX6_tellsCarter_1
theorem dksX6_tellsCarter_0 : cX6_tellsCarter.data.toList.drop 0 = dktX6_tellsCarter_0 := by decide +kernel
theorem dksX6_tellsCarter_1 : cX6_tellsCarter.data.toList.drop 23 = dktX6_tellsCarter_1 := dk_seg dksX6_tellsCarter_0 23 rfl rfl
theorem dksX6_tellsCarter_2 : cX6_tellsCarter.data.toList.drop 47 = dktX6_tellsCarter_2 := dk_seg dksX6_tellsCarter_1 24 rfl rfl
theorem dksX6_tellsCarter_3 : cX6_tellsCarter.data.toList.drop 71 = dktX6_tellsCarter_3 := dk_seg dksX6_tellsCarter_2 24 rfl rfl
theorem dksX6_tellsCarter_4 : cX6_tellsCarter.data.toList.drop 95 = dktX6_tellsCarter_4 := dk_seg dksX6_tellsCarter_3 24 rfl rfl
theorem dksX6_tellsCarter_5 : cX6_tellsCarter.data.toList.drop 118 = dktX6_tellsCarter_5 := dk_seg dksX6_tellsCarter_4 23 rfl rfl
theorem dksX6_tellsCarter_6 : cX6_tellsCarter.data.toList.drop 142 = dktX6_tellsCarter_6 := dk_seg dksX6_tellsCarter_5 24 rfl rfl
theorem dksX6_tellsCarter_7 : cX6_tellsCarter.data.toList.drop 166 = dktX6_tellsCarter_7 := dk_seg dksX6_tellsCarter_6 24 rfl rfl
theorem dksX6_tellsCarter_8 : cX6_tellsCarter.data.toList.drop 190 = dktX6_tellsCarter_8 := dk_seg dksX6_tellsCarter_7 24 rfl rfl
theorem dksX6_tellsCarter_9 : cX6_tellsCarter.data.toList.drop 214 = dktX6_tellsCarter_9 := dk_seg dksX6_tellsCarter_8 24 rfl rfl
theorem dX6_tellsCarter_0 : decode cX6_tellsCarter 0 = .ok (.aload_n 0, 1) := dk_42 (dk_at dksX6_tellsCarter_0 0 rfl rfl)
theorem dX6_tellsCarter_1 : decode cX6_tellsCarter 1 = .ok (.invokevirtual 215, 3) := dk_182 0 215 (dk_at dksX6_tellsCarter_0 1 rfl rfl)
theorem dX6_tellsCarter_4 : decode cX6_tellsCarter 4 = .ok (.lload_n 1, 1) := dk_31 (dk_at dksX6_tellsCarter_0 4 rfl rfl)
theorem dX6_tellsCarter_5 : decode cX6_tellsCarter 5 = .ok (.lstore 4, 2) := dk_55 4 (dk_at dksX6_tellsCarter_0 5 rfl rfl)
theorem dX6_tellsCarter_7 : decode cX6_tellsCarter 7 = .ok (.iconst 0, 1) := dk_3 (dk_at dksX6_tellsCarter_0 7 rfl rfl)
theorem dX6_tellsCarter_8 : decode cX6_tellsCarter 8 = .ok (.istore 6, 2) := dk_54 6 (dk_at dksX6_tellsCarter_0 8 rfl rfl)
theorem dX6_tellsCarter_10 : decode cX6_tellsCarter 10 = .ok (.iload 6, 2) := dk_21 6 (dk_at dksX6_tellsCarter_0 10 rfl rfl)
theorem dX6_tellsCarter_12 : decode cX6_tellsCarter 12 = .ok (.iconst 5, 1) := dk_8 (dk_at dksX6_tellsCarter_0 12 rfl rfl)
theorem dX6_tellsCarter_13 : decode cX6_tellsCarter 13 = .ok (.if_icmp .ge 30, 3) := dk_162 0 30 (dk_at dksX6_tellsCarter_0 13 rfl rfl)
theorem dX6_tellsCarter_16 : decode cX6_tellsCarter 16 = .ok (.ldc2_w 307, 3) := dk_20 1 51 (dk_at dksX6_tellsCarter_0 16 rfl rfl)
theorem dX6_tellsCarter_19 : decode cX6_tellsCarter 19 = .ok (.lload 4, 2) := dk_22 4 (dk_at dksX6_tellsCarter_0 19 rfl rfl)
theorem dX6_tellsCarter_21 : decode cX6_tellsCarter 21 = .ok (.lmul, 1) := dk_105 (dk_at dksX6_tellsCarter_0 21 rfl rfl)
theorem dX6_tellsCarter_22 : decode cX6_tellsCarter 22 = .ok (.aload_n 0, 1) := dk_42 (dk_at dksX6_tellsCarter_0 22 rfl rfl)
theorem dX6_tellsCarter_23 : decode cX6_tellsCarter 23 = .ok (.getfield 31, 3) := dk_180 0 31 (dk_at dksX6_tellsCarter_1 0 rfl rfl)
theorem dX6_tellsCarter_26 : decode cX6_tellsCarter 26 = .ok (.iconst 5, 1) := dk_8 (dk_at dksX6_tellsCarter_1 3 rfl rfl)
theorem dX6_tellsCarter_27 : decode cX6_tellsCarter 27 = .ok (.iload_n 3, 1) := dk_29 (dk_at dksX6_tellsCarter_1 4 rfl rfl)
theorem dX6_tellsCarter_28 : decode cX6_tellsCarter 28 = .ok (.imul, 1) := dk_104 (dk_at dksX6_tellsCarter_1 5 rfl rfl)
theorem dX6_tellsCarter_29 : decode cX6_tellsCarter 29 = .ok (.iload 6, 2) := dk_21 6 (dk_at dksX6_tellsCarter_1 6 rfl rfl)
theorem dX6_tellsCarter_31 : decode cX6_tellsCarter 31 = .ok (.iadd, 1) := dk_96 (dk_at dksX6_tellsCarter_1 8 rfl rfl)
theorem dX6_tellsCarter_32 : decode cX6_tellsCarter 32 = .ok (.iaload, 1) := dk_46 (dk_at dksX6_tellsCarter_1 9 rfl rfl)
theorem dX6_tellsCarter_33 : decode cX6_tellsCarter 33 = .ok (.i2l, 1) := dk_133 (dk_at dksX6_tellsCarter_1 10 rfl rfl)
theorem dX6_tellsCarter_34 : decode cX6_tellsCarter 34 = .ok (.ladd, 1) := dk_97 (dk_at dksX6_tellsCarter_1 11 rfl rfl)
theorem dX6_tellsCarter_35 : decode cX6_tellsCarter 35 = .ok (.lstore 4, 2) := dk_55 4 (dk_at dksX6_tellsCarter_1 12 rfl rfl)
theorem dX6_tellsCarter_37 : decode cX6_tellsCarter 37 = .ok (.iinc 6 1, 3) := dk_132 6 1 (dk_at dksX6_tellsCarter_1 14 rfl rfl)
theorem dX6_tellsCarter_40 : decode cX6_tellsCarter 40 = .ok (.goto (-30), 3) := dk_167 255 226 (dk_at dksX6_tellsCarter_1 17 rfl rfl)
theorem dX6_tellsCarter_43 : decode cX6_tellsCarter 43 = .ok (.aload_n 0, 1) := dk_42 (dk_at dksX6_tellsCarter_1 20 rfl rfl)
theorem dX6_tellsCarter_44 : decode cX6_tellsCarter 44 = .ok (.aload_n 0, 1) := dk_42 (dk_at dksX6_tellsCarter_1 21 rfl rfl)
theorem dX6_tellsCarter_45 : decode cX6_tellsCarter 45 = .ok (.aload_n 0, 1) := dk_42 (dk_at dksX6_tellsCarter_1 22 rfl rfl)
theorem dX6_tellsCarter_46 : decode cX6_tellsCarter 46 = .ok (.aload_n 0, 1) := dk_42 (dk_at dksX6_tellsCarter_1 23 rfl rfl)
theorem dX6_tellsCarter_47 : decode cX6_tellsCarter 47 = .ok (.lload 4, 2) := dk_22 4 (dk_at dksX6_tellsCarter_2 0 rfl rfl)
theorem dX6_tellsCarter_49 : decode cX6_tellsCarter 49 = .ok (.iload_n 3, 1) := dk_29 (dk_at dksX6_tellsCarter_2 2 rfl rfl)
theorem dX6_tellsCarter_50 : decode cX6_tellsCarter 50 = .ok (.iconst 0, 1) := dk_3 (dk_at dksX6_tellsCarter_2 3 rfl rfl)
theorem dX6_tellsCarter_51 : decode cX6_tellsCarter 51 = .ok (.invokevirtual 309, 3) := dk_182 1 53 (dk_at dksX6_tellsCarter_2 4 rfl rfl)
theorem dX6_tellsCarter_54 : decode cX6_tellsCarter 54 = .ok (.iload_n 3, 1) := dk_29 (dk_at dksX6_tellsCarter_2 7 rfl rfl)
theorem dX6_tellsCarter_55 : decode cX6_tellsCarter 55 = .ok (.iconst 5, 1) := dk_8 (dk_at dksX6_tellsCarter_2 8 rfl rfl)
theorem dX6_tellsCarter_56 : decode cX6_tellsCarter 56 = .ok (.invokevirtual 309, 3) := dk_182 1 53 (dk_at dksX6_tellsCarter_2 9 rfl rfl)
theorem dX6_tellsCarter_59 : decode cX6_tellsCarter 59 = .ok (.iload_n 3, 1) := dk_29 (dk_at dksX6_tellsCarter_2 12 rfl rfl)
theorem dX6_tellsCarter_60 : decode cX6_tellsCarter 60 = .ok (.bipush 15, 2) := dk_16 15 (dk_at dksX6_tellsCarter_2 13 rfl rfl)
theorem dX6_tellsCarter_62 : decode cX6_tellsCarter 62 = .ok (.invokevirtual 309, 3) := dk_182 1 53 (dk_at dksX6_tellsCarter_2 15 rfl rfl)
theorem dX6_tellsCarter_65 : decode cX6_tellsCarter 65 = .ok (.iload_n 3, 1) := dk_29 (dk_at dksX6_tellsCarter_2 18 rfl rfl)
theorem dX6_tellsCarter_66 : decode cX6_tellsCarter 66 = .ok (.bipush 39, 2) := dk_16 39 (dk_at dksX6_tellsCarter_2 19 rfl rfl)
theorem dX6_tellsCarter_68 : decode cX6_tellsCarter 68 = .ok (.invokevirtual 309, 3) := dk_182 1 53 (dk_at dksX6_tellsCarter_2 21 rfl rfl)
theorem dX6_tellsCarter_71 : decode cX6_tellsCarter 71 = .ok (.lstore 4, 2) := dk_55 4 (dk_at dksX6_tellsCarter_3 0 rfl rfl)
theorem dX6_tellsCarter_73 : decode cX6_tellsCarter 73 = .ok (.ldc2_w 307, 3) := dk_20 1 51 (dk_at dksX6_tellsCarter_3 2 rfl rfl)
theorem dX6_tellsCarter_76 : decode cX6_tellsCarter 76 = .ok (.lload 4, 2) := dk_22 4 (dk_at dksX6_tellsCarter_3 5 rfl rfl)
theorem dX6_tellsCarter_78 : decode cX6_tellsCarter 78 = .ok (.lmul, 1) := dk_105 (dk_at dksX6_tellsCarter_3 7 rfl rfl)
theorem dX6_tellsCarter_79 : decode cX6_tellsCarter 79 = .ok (.aload_n 0, 1) := dk_42 (dk_at dksX6_tellsCarter_3 8 rfl rfl)
theorem dX6_tellsCarter_80 : decode cX6_tellsCarter 80 = .ok (.getfield 61, 3) := dk_180 0 61 (dk_at dksX6_tellsCarter_3 9 rfl rfl)
theorem dX6_tellsCarter_83 : decode cX6_tellsCarter 83 = .ok (.iload_n 3, 1) := dk_29 (dk_at dksX6_tellsCarter_3 12 rfl rfl)
theorem dX6_tellsCarter_84 : decode cX6_tellsCarter 84 = .ok (.iaload, 1) := dk_46 (dk_at dksX6_tellsCarter_3 13 rfl rfl)
theorem dX6_tellsCarter_85 : decode cX6_tellsCarter 85 = .ok (.i2l, 1) := dk_133 (dk_at dksX6_tellsCarter_3 14 rfl rfl)
theorem dX6_tellsCarter_86 : decode cX6_tellsCarter 86 = .ok (.ladd, 1) := dk_97 (dk_at dksX6_tellsCarter_3 15 rfl rfl)
theorem dX6_tellsCarter_87 : decode cX6_tellsCarter 87 = .ok (.lstore 4, 2) := dk_55 4 (dk_at dksX6_tellsCarter_3 16 rfl rfl)
theorem dX6_tellsCarter_89 : decode cX6_tellsCarter 89 = .ok (.ldc2_w 307, 3) := dk_20 1 51 (dk_at dksX6_tellsCarter_3 18 rfl rfl)
theorem dX6_tellsCarter_92 : decode cX6_tellsCarter 92 = .ok (.lload 4, 2) := dk_22 4 (dk_at dksX6_tellsCarter_3 21 rfl rfl)
theorem dX6_tellsCarter_94 : decode cX6_tellsCarter 94 = .ok (.lmul, 1) := dk_105 (dk_at dksX6_tellsCarter_3 23 rfl rfl)
theorem dX6_tellsCarter_95 : decode cX6_tellsCarter 95 = .ok (.aload_n 0, 1) := dk_42 (dk_at dksX6_tellsCarter_4 0 rfl rfl)
theorem dX6_tellsCarter_96 : decode cX6_tellsCarter 96 = .ok (.iload_n 3, 1) := dk_29 (dk_at dksX6_tellsCarter_4 1 rfl rfl)
theorem dX6_tellsCarter_97 : decode cX6_tellsCarter 97 = .ok (.invokevirtual 238, 3) := dk_182 0 238 (dk_at dksX6_tellsCarter_4 2 rfl rfl)
theorem dX6_tellsCarter_100 : decode cX6_tellsCarter 100 = .ok (.i2l, 1) := dk_133 (dk_at dksX6_tellsCarter_4 5 rfl rfl)
theorem dX6_tellsCarter_101 : decode cX6_tellsCarter 101 = .ok (.ladd, 1) := dk_97 (dk_at dksX6_tellsCarter_4 6 rfl rfl)
theorem dX6_tellsCarter_102 : decode cX6_tellsCarter 102 = .ok (.lstore 4, 2) := dk_55 4 (dk_at dksX6_tellsCarter_4 7 rfl rfl)
theorem dX6_tellsCarter_104 : decode cX6_tellsCarter 104 = .ok (.ldc2_w 307, 3) := dk_20 1 51 (dk_at dksX6_tellsCarter_4 9 rfl rfl)
theorem dX6_tellsCarter_107 : decode cX6_tellsCarter 107 = .ok (.lload 4, 2) := dk_22 4 (dk_at dksX6_tellsCarter_4 12 rfl rfl)
theorem dX6_tellsCarter_109 : decode cX6_tellsCarter 109 = .ok (.lmul, 1) := dk_105 (dk_at dksX6_tellsCarter_4 14 rfl rfl)
theorem dX6_tellsCarter_110 : decode cX6_tellsCarter 110 = .ok (.aload_n 0, 1) := dk_42 (dk_at dksX6_tellsCarter_4 15 rfl rfl)
theorem dX6_tellsCarter_111 : decode cX6_tellsCarter 111 = .ok (.iload_n 3, 1) := dk_29 (dk_at dksX6_tellsCarter_4 16 rfl rfl)
theorem dX6_tellsCarter_112 : decode cX6_tellsCarter 112 = .ok (.iconst 0, 1) := dk_3 (dk_at dksX6_tellsCarter_4 17 rfl rfl)
theorem dX6_tellsCarter_113 : decode cX6_tellsCarter 113 = .ok (.invokevirtual 250, 3) := dk_182 0 250 (dk_at dksX6_tellsCarter_4 18 rfl rfl)
theorem dX6_tellsCarter_116 : decode cX6_tellsCarter 116 = .ok (.i2l, 1) := dk_133 (dk_at dksX6_tellsCarter_4 21 rfl rfl)
theorem dX6_tellsCarter_117 : decode cX6_tellsCarter 117 = .ok (.ladd, 1) := dk_97 (dk_at dksX6_tellsCarter_4 22 rfl rfl)
theorem dX6_tellsCarter_118 : decode cX6_tellsCarter 118 = .ok (.lstore 4, 2) := dk_55 4 (dk_at dksX6_tellsCarter_5 0 rfl rfl)
theorem dX6_tellsCarter_120 : decode cX6_tellsCarter 120 = .ok (.ldc2_w 307, 3) := dk_20 1 51 (dk_at dksX6_tellsCarter_5 2 rfl rfl)
theorem dX6_tellsCarter_123 : decode cX6_tellsCarter 123 = .ok (.lload 4, 2) := dk_22 4 (dk_at dksX6_tellsCarter_5 5 rfl rfl)
theorem dX6_tellsCarter_125 : decode cX6_tellsCarter 125 = .ok (.lmul, 1) := dk_105 (dk_at dksX6_tellsCarter_5 7 rfl rfl)
theorem dX6_tellsCarter_126 : decode cX6_tellsCarter 126 = .ok (.aload_n 0, 1) := dk_42 (dk_at dksX6_tellsCarter_5 8 rfl rfl)
theorem dX6_tellsCarter_127 : decode cX6_tellsCarter 127 = .ok (.iload_n 3, 1) := dk_29 (dk_at dksX6_tellsCarter_5 9 rfl rfl)
theorem dX6_tellsCarter_128 : decode cX6_tellsCarter 128 = .ok (.iconst 1, 1) := dk_4 (dk_at dksX6_tellsCarter_5 10 rfl rfl)
theorem dX6_tellsCarter_129 : decode cX6_tellsCarter 129 = .ok (.invokevirtual 250, 3) := dk_182 0 250 (dk_at dksX6_tellsCarter_5 11 rfl rfl)
theorem dX6_tellsCarter_132 : decode cX6_tellsCarter 132 = .ok (.i2l, 1) := dk_133 (dk_at dksX6_tellsCarter_5 14 rfl rfl)
theorem dX6_tellsCarter_133 : decode cX6_tellsCarter 133 = .ok (.ladd, 1) := dk_97 (dk_at dksX6_tellsCarter_5 15 rfl rfl)
theorem dX6_tellsCarter_134 : decode cX6_tellsCarter 134 = .ok (.lstore 4, 2) := dk_55 4 (dk_at dksX6_tellsCarter_5 16 rfl rfl)
theorem dX6_tellsCarter_136 : decode cX6_tellsCarter 136 = .ok (.ldc2_w 307, 3) := dk_20 1 51 (dk_at dksX6_tellsCarter_5 18 rfl rfl)
theorem dX6_tellsCarter_139 : decode cX6_tellsCarter 139 = .ok (.lload 4, 2) := dk_22 4 (dk_at dksX6_tellsCarter_5 21 rfl rfl)
theorem dX6_tellsCarter_141 : decode cX6_tellsCarter 141 = .ok (.lmul, 1) := dk_105 (dk_at dksX6_tellsCarter_5 23 rfl rfl)
theorem dX6_tellsCarter_142 : decode cX6_tellsCarter 142 = .ok (.aload_n 0, 1) := dk_42 (dk_at dksX6_tellsCarter_6 0 rfl rfl)
theorem dX6_tellsCarter_143 : decode cX6_tellsCarter 143 = .ok (.iload_n 3, 1) := dk_29 (dk_at dksX6_tellsCarter_6 1 rfl rfl)
theorem dX6_tellsCarter_144 : decode cX6_tellsCarter 144 = .ok (.invokevirtual 268, 3) := dk_182 1 12 (dk_at dksX6_tellsCarter_6 2 rfl rfl)
theorem dX6_tellsCarter_147 : decode cX6_tellsCarter 147 = .ok (.i2l, 1) := dk_133 (dk_at dksX6_tellsCarter_6 5 rfl rfl)
theorem dX6_tellsCarter_148 : decode cX6_tellsCarter 148 = .ok (.ladd, 1) := dk_97 (dk_at dksX6_tellsCarter_6 6 rfl rfl)
theorem dX6_tellsCarter_149 : decode cX6_tellsCarter 149 = .ok (.lstore 4, 2) := dk_55 4 (dk_at dksX6_tellsCarter_6 7 rfl rfl)
theorem dX6_tellsCarter_151 : decode cX6_tellsCarter 151 = .ok (.iconst 0, 1) := dk_3 (dk_at dksX6_tellsCarter_6 9 rfl rfl)
theorem dX6_tellsCarter_152 : decode cX6_tellsCarter 152 = .ok (.istore 6, 2) := dk_54 6 (dk_at dksX6_tellsCarter_6 10 rfl rfl)
theorem dX6_tellsCarter_154 : decode cX6_tellsCarter 154 = .ok (.iload 6, 2) := dk_21 6 (dk_at dksX6_tellsCarter_6 12 rfl rfl)
theorem dX6_tellsCarter_156 : decode cX6_tellsCarter 156 = .ok (.iconst 3, 1) := dk_6 (dk_at dksX6_tellsCarter_6 14 rfl rfl)
theorem dX6_tellsCarter_157 : decode cX6_tellsCarter 157 = .ok (.if_icmp .ge 26, 3) := dk_162 0 26 (dk_at dksX6_tellsCarter_6 15 rfl rfl)
theorem dX6_tellsCarter_160 : decode cX6_tellsCarter 160 = .ok (.ldc2_w 307, 3) := dk_20 1 51 (dk_at dksX6_tellsCarter_6 18 rfl rfl)
theorem dX6_tellsCarter_163 : decode cX6_tellsCarter 163 = .ok (.lload 4, 2) := dk_22 4 (dk_at dksX6_tellsCarter_6 21 rfl rfl)
theorem dX6_tellsCarter_165 : decode cX6_tellsCarter 165 = .ok (.lmul, 1) := dk_105 (dk_at dksX6_tellsCarter_6 23 rfl rfl)
theorem dX6_tellsCarter_166 : decode cX6_tellsCarter 166 = .ok (.aload_n 0, 1) := dk_42 (dk_at dksX6_tellsCarter_7 0 rfl rfl)
theorem dX6_tellsCarter_167 : decode cX6_tellsCarter 167 = .ok (.iload_n 3, 1) := dk_29 (dk_at dksX6_tellsCarter_7 1 rfl rfl)
theorem dX6_tellsCarter_168 : decode cX6_tellsCarter 168 = .ok (.iload 6, 2) := dk_21 6 (dk_at dksX6_tellsCarter_7 2 rfl rfl)
theorem dX6_tellsCarter_170 : decode cX6_tellsCarter 170 = .ok (.invokevirtual 271, 3) := dk_182 1 15 (dk_at dksX6_tellsCarter_7 4 rfl rfl)
theorem dX6_tellsCarter_173 : decode cX6_tellsCarter 173 = .ok (.i2l, 1) := dk_133 (dk_at dksX6_tellsCarter_7 7 rfl rfl)
theorem dX6_tellsCarter_174 : decode cX6_tellsCarter 174 = .ok (.ladd, 1) := dk_97 (dk_at dksX6_tellsCarter_7 8 rfl rfl)
theorem dX6_tellsCarter_175 : decode cX6_tellsCarter 175 = .ok (.lstore 4, 2) := dk_55 4 (dk_at dksX6_tellsCarter_7 9 rfl rfl)
theorem dX6_tellsCarter_177 : decode cX6_tellsCarter 177 = .ok (.iinc 6 1, 3) := dk_132 6 1 (dk_at dksX6_tellsCarter_7 11 rfl rfl)
theorem dX6_tellsCarter_180 : decode cX6_tellsCarter 180 = .ok (.goto (-26), 3) := dk_167 255 230 (dk_at dksX6_tellsCarter_7 14 rfl rfl)
theorem dX6_tellsCarter_183 : decode cX6_tellsCarter 183 = .ok (.ldc2_w 307, 3) := dk_20 1 51 (dk_at dksX6_tellsCarter_7 17 rfl rfl)
theorem dX6_tellsCarter_186 : decode cX6_tellsCarter 186 = .ok (.lload 4, 2) := dk_22 4 (dk_at dksX6_tellsCarter_7 20 rfl rfl)
theorem dX6_tellsCarter_188 : decode cX6_tellsCarter 188 = .ok (.lmul, 1) := dk_105 (dk_at dksX6_tellsCarter_7 22 rfl rfl)
theorem dX6_tellsCarter_189 : decode cX6_tellsCarter 189 = .ok (.aload_n 0, 1) := dk_42 (dk_at dksX6_tellsCarter_7 23 rfl rfl)
theorem dX6_tellsCarter_190 : decode cX6_tellsCarter 190 = .ok (.iload_n 3, 1) := dk_29 (dk_at dksX6_tellsCarter_8 0 rfl rfl)
theorem dX6_tellsCarter_191 : decode cX6_tellsCarter 191 = .ok (.invokevirtual 277, 3) := dk_182 1 21 (dk_at dksX6_tellsCarter_8 1 rfl rfl)
theorem dX6_tellsCarter_194 : decode cX6_tellsCarter 194 = .ok (.i2l, 1) := dk_133 (dk_at dksX6_tellsCarter_8 4 rfl rfl)
theorem dX6_tellsCarter_195 : decode cX6_tellsCarter 195 = .ok (.ladd, 1) := dk_97 (dk_at dksX6_tellsCarter_8 5 rfl rfl)
theorem dX6_tellsCarter_196 : decode cX6_tellsCarter 196 = .ok (.lstore 4, 2) := dk_55 4 (dk_at dksX6_tellsCarter_8 6 rfl rfl)
theorem dX6_tellsCarter_198 : decode cX6_tellsCarter 198 = .ok (.ldc2_w 307, 3) := dk_20 1 51 (dk_at dksX6_tellsCarter_8 8 rfl rfl)
theorem dX6_tellsCarter_201 : decode cX6_tellsCarter 201 = .ok (.lload 4, 2) := dk_22 4 (dk_at dksX6_tellsCarter_8 11 rfl rfl)
theorem dX6_tellsCarter_203 : decode cX6_tellsCarter 203 = .ok (.lmul, 1) := dk_105 (dk_at dksX6_tellsCarter_8 13 rfl rfl)
theorem dX6_tellsCarter_204 : decode cX6_tellsCarter 204 = .ok (.aload_n 0, 1) := dk_42 (dk_at dksX6_tellsCarter_8 14 rfl rfl)
theorem dX6_tellsCarter_205 : decode cX6_tellsCarter 205 = .ok (.iconst 5, 1) := dk_8 (dk_at dksX6_tellsCarter_8 15 rfl rfl)
theorem dX6_tellsCarter_206 : decode cX6_tellsCarter 206 = .ok (.iload_n 3, 1) := dk_29 (dk_at dksX6_tellsCarter_8 16 rfl rfl)
theorem dX6_tellsCarter_207 : decode cX6_tellsCarter 207 = .ok (.iconst 0, 1) := dk_3 (dk_at dksX6_tellsCarter_8 17 rfl rfl)
theorem dX6_tellsCarter_208 : decode cX6_tellsCarter 208 = .ok (.invokevirtual 286, 3) := dk_182 1 30 (dk_at dksX6_tellsCarter_8 18 rfl rfl)
theorem dX6_tellsCarter_211 : decode cX6_tellsCarter 211 = .ok (.ladd, 1) := dk_97 (dk_at dksX6_tellsCarter_8 21 rfl rfl)
theorem dX6_tellsCarter_212 : decode cX6_tellsCarter 212 = .ok (.lstore 4, 2) := dk_55 4 (dk_at dksX6_tellsCarter_8 22 rfl rfl)
theorem dX6_tellsCarter_214 : decode cX6_tellsCarter 214 = .ok (.ldc2_w 307, 3) := dk_20 1 51 (dk_at dksX6_tellsCarter_9 0 rfl rfl)
theorem dX6_tellsCarter_217 : decode cX6_tellsCarter 217 = .ok (.lload 4, 2) := dk_22 4 (dk_at dksX6_tellsCarter_9 3 rfl rfl)
theorem dX6_tellsCarter_219 : decode cX6_tellsCarter 219 = .ok (.lmul, 1) := dk_105 (dk_at dksX6_tellsCarter_9 5 rfl rfl)
theorem dX6_tellsCarter_220 : decode cX6_tellsCarter 220 = .ok (.aload_n 0, 1) := dk_42 (dk_at dksX6_tellsCarter_9 6 rfl rfl)
theorem dX6_tellsCarter_221 : decode cX6_tellsCarter 221 = .ok (.iconst 5, 1) := dk_8 (dk_at dksX6_tellsCarter_9 7 rfl rfl)
theorem dX6_tellsCarter_222 : decode cX6_tellsCarter 222 = .ok (.iload_n 3, 1) := dk_29 (dk_at dksX6_tellsCarter_9 8 rfl rfl)
theorem dX6_tellsCarter_223 : decode cX6_tellsCarter 223 = .ok (.iconst 1, 1) := dk_4 (dk_at dksX6_tellsCarter_9 9 rfl rfl)
theorem dX6_tellsCarter_224 : decode cX6_tellsCarter 224 = .ok (.invokevirtual 286, 3) := dk_182 1 30 (dk_at dksX6_tellsCarter_9 10 rfl rfl)
theorem dX6_tellsCarter_227 : decode cX6_tellsCarter 227 = .ok (.ladd, 1) := dk_97 (dk_at dksX6_tellsCarter_9 13 rfl rfl)
theorem dX6_tellsCarter_228 : decode cX6_tellsCarter 228 = .ok (.lreturn, 1) := dk_173 (dk_at dksX6_tellsCarter_9 14 rfl rfl)
abbrev cX6_tellsHour : ByteArray := prog_8_method_89_code
def yX6_tellsHour : MethodName := ⟨RX6, "tellsHour", "(JII)J"⟩
def dkwX6_tellsHour_1 : List UInt8 := [21, 4, 104, 7, 29, 104, 96, 21, 7, 96, 46, 133, 97, 55, 5, 132, 7, 1, 167, 255, 220, 22, 5, 173]
abbrev dktX6_tellsHour_1 : List UInt8 := dkwX6_tellsHour_1 ++ []
def dkwX6_tellsHour_0 : List UInt8 := [31, 55, 5, 3, 54, 7, 21, 7, 7, 162, 0, 36, 20, 1, 51, 22, 5, 105, 42, 180, 0, 64, 16, 32]
abbrev dktX6_tellsHour_0 : List UInt8 := dkwX6_tellsHour_0 ++ dktX6_tellsHour_1
theorem dksX6_tellsHour_0 : cX6_tellsHour.data.toList.drop 0 = dktX6_tellsHour_0 := by decide +kernel
theorem dksX6_tellsHour_1 : cX6_tellsHour.data.toList.drop 24 = dktX6_tellsHour_1 := dk_seg dksX6_tellsHour_0 24 rfl rfl
theorem dX6_tellsHour_0 : decode cX6_tellsHour 0 = .ok (.lload_n 1, 1) := dk_31 (dk_at dksX6_tellsHour_0 0 rfl rfl)
theorem dX6_tellsHour_1 : decode cX6_tellsHour 1 = .ok (.lstore 5, 2) := dk_55 5 (dk_at dksX6_tellsHour_0 1 rfl rfl)
theorem dX6_tellsHour_3 : decode cX6_tellsHour 3 = .ok (.iconst 0, 1) := dk_3 (dk_at dksX6_tellsHour_0 3 rfl rfl)
theorem dX6_tellsHour_4 : decode cX6_tellsHour 4 = .ok (.istore 7, 2) := dk_54 7 (dk_at dksX6_tellsHour_0 4 rfl rfl)
theorem dX6_tellsHour_6 : decode cX6_tellsHour 6 = .ok (.iload 7, 2) := dk_21 7 (dk_at dksX6_tellsHour_0 6 rfl rfl)
theorem dX6_tellsHour_8 : decode cX6_tellsHour 8 = .ok (.iconst 4, 1) := dk_7 (dk_at dksX6_tellsHour_0 8 rfl rfl)
theorem dX6_tellsHour_9 : decode cX6_tellsHour 9 = .ok (.if_icmp .ge 36, 3) := dk_162 0 36 (dk_at dksX6_tellsHour_0 9 rfl rfl)
theorem dX6_tellsHour_12 : decode cX6_tellsHour 12 = .ok (.ldc2_w 307, 3) := dk_20 1 51 (dk_at dksX6_tellsHour_0 12 rfl rfl)
theorem dX6_tellsHour_15 : decode cX6_tellsHour 15 = .ok (.lload 5, 2) := dk_22 5 (dk_at dksX6_tellsHour_0 15 rfl rfl)
theorem dX6_tellsHour_17 : decode cX6_tellsHour 17 = .ok (.lmul, 1) := dk_105 (dk_at dksX6_tellsHour_0 17 rfl rfl)
theorem dX6_tellsHour_18 : decode cX6_tellsHour 18 = .ok (.aload_n 0, 1) := dk_42 (dk_at dksX6_tellsHour_0 18 rfl rfl)
theorem dX6_tellsHour_19 : decode cX6_tellsHour 19 = .ok (.getfield 64, 3) := dk_180 0 64 (dk_at dksX6_tellsHour_0 19 rfl rfl)
theorem dX6_tellsHour_22 : decode cX6_tellsHour 22 = .ok (.bipush 32, 2) := dk_16 32 (dk_at dksX6_tellsHour_0 22 rfl rfl)
theorem dX6_tellsHour_24 : decode cX6_tellsHour 24 = .ok (.iload 4, 2) := dk_21 4 (dk_at dksX6_tellsHour_1 0 rfl rfl)
theorem dX6_tellsHour_26 : decode cX6_tellsHour 26 = .ok (.imul, 1) := dk_104 (dk_at dksX6_tellsHour_1 2 rfl rfl)
theorem dX6_tellsHour_27 : decode cX6_tellsHour 27 = .ok (.iconst 4, 1) := dk_7 (dk_at dksX6_tellsHour_1 3 rfl rfl)
theorem dX6_tellsHour_28 : decode cX6_tellsHour 28 = .ok (.iload_n 3, 1) := dk_29 (dk_at dksX6_tellsHour_1 4 rfl rfl)
theorem dX6_tellsHour_29 : decode cX6_tellsHour 29 = .ok (.imul, 1) := dk_104 (dk_at dksX6_tellsHour_1 5 rfl rfl)
theorem dX6_tellsHour_30 : decode cX6_tellsHour 30 = .ok (.iadd, 1) := dk_96 (dk_at dksX6_tellsHour_1 6 rfl rfl)
theorem dX6_tellsHour_31 : decode cX6_tellsHour 31 = .ok (.iload 7, 2) := dk_21 7 (dk_at dksX6_tellsHour_1 7 rfl rfl)
theorem dX6_tellsHour_33 : decode cX6_tellsHour 33 = .ok (.iadd, 1) := dk_96 (dk_at dksX6_tellsHour_1 9 rfl rfl)
theorem dX6_tellsHour_34 : decode cX6_tellsHour 34 = .ok (.iaload, 1) := dk_46 (dk_at dksX6_tellsHour_1 10 rfl rfl)
theorem dX6_tellsHour_35 : decode cX6_tellsHour 35 = .ok (.i2l, 1) := dk_133 (dk_at dksX6_tellsHour_1 11 rfl rfl)
theorem dX6_tellsHour_36 : decode cX6_tellsHour 36 = .ok (.ladd, 1) := dk_97 (dk_at dksX6_tellsHour_1 12 rfl rfl)
theorem dX6_tellsHour_37 : decode cX6_tellsHour 37 = .ok (.lstore 5, 2) := dk_55 5 (dk_at dksX6_tellsHour_1 13 rfl rfl)
theorem dX6_tellsHour_39 : decode cX6_tellsHour 39 = .ok (.iinc 7 1, 3) := dk_132 7 1 (dk_at dksX6_tellsHour_1 15 rfl rfl)
theorem dX6_tellsHour_42 : decode cX6_tellsHour 42 = .ok (.goto (-36), 3) := dk_167 255 220 (dk_at dksX6_tellsHour_1 18 rfl rfl)
theorem dX6_tellsHour_45 : decode cX6_tellsHour 45 = .ok (.lload 5, 2) := dk_22 5 (dk_at dksX6_tellsHour_1 21 rfl rfl)
theorem dX6_tellsHour_47 : decode cX6_tellsHour 47 = .ok (.lreturn, 1) := dk_173 (dk_at dksX6_tellsHour_1 23 rfl rfl)
theorem q95 : (Jvm.Cond.initialized "QuestionRoadModel") ∈ lw_all := lw_g (lw_at lw_m1 7 rfl) rfl
theorem q907 : (Jvm.Cond.instantiable "QuestionRoadModel" (32 : Nat)) ∈ lw_all := lw_g (lw_at lw_m4 99 rfl) rfl
theorem q909 : (Jvm.Cond.instanceMethod ({ cls := "QuestionRoadModel", name := "<init>", desc := "()V" } : Jvm.MethodName)) ∈ lw_all := lw_g (lw_at lw_m4 101 rfl) rfl
theorem q910 : (Jvm.Cond.code ({ cls := "QuestionRoadModel", name := "<init>", desc := "()V" } : Jvm.MethodName) prog_8_method_1_code (2 : Nat) (Option.none : Option Jvm.ClassFile.FieldType)) ∈ lw_all := lw_g (lw_at lw_m4 102 rfl) rfl
theorem q911 : (Jvm.Cond.methodLink "QuestionRoadModel" (1 : Nat) ({ cls := "java/lang/Object", name := "<init>", desc := "()V" } : Jvm.MethodName)) ∈ lw_all := lw_g (lw_at lw_m4 103 rfl) rfl
theorem q912 : (Jvm.Cond.fieldLink "QuestionRoadModel" (7 : Nat) "QuestionRoadModel" "forms" "[I") ∈ lw_all := lw_g (lw_at lw_m4 104 rfl) rfl
theorem q913 : (Jvm.Cond.fieldLink "QuestionRoadModel" (13 : Nat) "QuestionRoadModel" "sizes" "[I") ∈ lw_all := lw_g (lw_at lw_m4 105 rfl) rfl
theorem q914 : (Jvm.Cond.fieldLink "QuestionRoadModel" (16 : Nat) "QuestionRoadModel" "items" "[I") ∈ lw_all := lw_g (lw_at lw_m4 106 rfl) rfl
theorem q915 : (Jvm.Cond.fieldLink "QuestionRoadModel" (19 : Nat) "QuestionRoadModel" "moved" "[I") ∈ lw_all := lw_g (lw_at lw_m4 107 rfl) rfl
theorem q916 : (Jvm.Cond.fieldLink "QuestionRoadModel" (85 : Nat) "QuestionRoadModel" "latest" "I") ∈ lw_all := lw_g (lw_at lw_m4 108 rfl) rfl
theorem q917 : (Jvm.Cond.fieldLink "QuestionRoadModel" (22 : Nat) "QuestionRoadModel" "bytes" "[I") ∈ lw_all := lw_g (lw_at lw_m4 109 rfl) rfl
theorem q918 : (Jvm.Cond.fieldLink "QuestionRoadModel" (25 : Nat) "QuestionRoadModel" "typed" "[I") ∈ lw_all := lw_g (lw_at lw_m4 110 rfl) rfl
theorem q919 : (Jvm.Cond.fieldLink "QuestionRoadModel" (127 : Nat) "QuestionRoadModel" "ways" "I") ∈ lw_all := lw_g (lw_at lw_m4 111 rfl) rfl
theorem q920 : (Jvm.Cond.fieldLink "QuestionRoadModel" (28 : Nat) "QuestionRoadModel" "way" "[I") ∈ lw_all := lw_g (lw_at lw_m4 112 rfl) rfl
theorem q921 : (Jvm.Cond.fieldLink "QuestionRoadModel" (133 : Nat) "QuestionRoadModel" "carters" "I") ∈ lw_all := lw_g (lw_at lw_m4 113 rfl) rfl
theorem q922 : (Jvm.Cond.fieldLink "QuestionRoadModel" (31 : Nat) "QuestionRoadModel" "carter" "[I") ∈ lw_all := lw_g (lw_at lw_m4 114 rfl) rfl
theorem q923 : (Jvm.Cond.fieldLink "QuestionRoadModel" (34 : Nat) "QuestionRoadModel" "late" "[I") ∈ lw_all := lw_g (lw_at lw_m4 115 rfl) rfl
theorem q924 : (Jvm.Cond.fieldLink "QuestionRoadModel" (166 : Nat) "QuestionRoadModel" "answers" "I") ∈ lw_all := lw_g (lw_at lw_m4 116 rfl) rfl
theorem q925 : (Jvm.Cond.fieldLink "QuestionRoadModel" (37 : Nat) "QuestionRoadModel" "answer" "[I") ∈ lw_all := lw_g (lw_at lw_m4 117 rfl) rfl
theorem q926 : (Jvm.Cond.fieldLink "QuestionRoadModel" (174 : Nat) "QuestionRoadModel" "gone" "I") ∈ lw_all := lw_g (lw_at lw_m4 118 rfl) rfl
theorem q927 : (Jvm.Cond.fieldLink "QuestionRoadModel" (40 : Nat) "QuestionRoadModel" "step" "[I") ∈ lw_all := lw_g (lw_at lw_m4 119 rfl) rfl
theorem q928 : (Jvm.Cond.fieldLink "QuestionRoadModel" (43 : Nat) "QuestionRoadModel" "far" "[I") ∈ lw_all := lw_g (lw_at lw_m4 120 rfl) rfl
theorem q929 : (Jvm.Cond.fieldLink "QuestionRoadModel" (46 : Nat) "QuestionRoadModel" "state" "[I") ∈ lw_all := lw_g (lw_at lw_m4 121 rfl) rfl
theorem q930 : (Jvm.Cond.fieldLink "QuestionRoadModel" (49 : Nat) "QuestionRoadModel" "place" "[I") ∈ lw_all := lw_g (lw_at lw_m4 122 rfl) rfl
theorem q931 : (Jvm.Cond.fieldLink "QuestionRoadModel" (52 : Nat) "QuestionRoadModel" "strength" "[I") ∈ lw_all := lw_g (lw_at lw_m4 123 rfl) rfl
theorem q932 : (Jvm.Cond.fieldLink "QuestionRoadModel" (55 : Nat) "QuestionRoadModel" "whither" "[I") ∈ lw_all := lw_g (lw_at lw_m4 124 rfl) rfl
theorem q933 : (Jvm.Cond.fieldLink "QuestionRoadModel" (58 : Nat) "QuestionRoadModel" "arrives" "[I") ∈ lw_all := lw_g (lw_at lw_m4 125 rfl) rfl
theorem q934 : (Jvm.Cond.fieldLink "QuestionRoadModel" (61 : Nat) "QuestionRoadModel" "ends" "[I") ∈ lw_all := lw_g (lw_at lw_m4 126 rfl) rfl
theorem q935 : (Jvm.Cond.fieldLink "QuestionRoadModel" (64 : Nat) "QuestionRoadModel" "kept" "[I") ∈ lw_all := lw_g (lw_at lw_m4 127 rfl) rfl
theorem q936 : (Jvm.Cond.fieldLink "QuestionRoadModel" (67 : Nat) "QuestionRoadModel" "present" "[I") ∈ lw_all := lw_g (lw_at lw_m4 128 rfl) rfl
theorem q937 : (Jvm.Cond.fieldLink "QuestionRoadModel" (70 : Nat) "QuestionRoadModel" "arrivals" "[I") ∈ lw_all := lw_g (lw_at lw_m4 129 rfl) rfl
theorem q938 : (Jvm.Cond.fieldLink "QuestionRoadModel" (195 : Nat) "QuestionRoadModel" "metOn" "I") ∈ lw_all := lw_g (lw_at lw_m4 130 rfl) rfl
theorem q939 : (Jvm.Cond.fieldLink "QuestionRoadModel" (198 : Nat) "QuestionRoadModel" "metAt" "I") ∈ lw_all := lw_g (lw_at lw_m4 131 rfl) rfl
theorem q940 : (Jvm.Cond.fieldLink "QuestionRoadModel" (258 : Nat) "QuestionRoadModel" "sights" "I") ∈ lw_all := lw_g (lw_at lw_m4 132 rfl) rfl
theorem q941 : (Jvm.Cond.fieldLink "QuestionRoadModel" (73 : Nat) "QuestionRoadModel" "sight" "[I") ∈ lw_all := lw_g (lw_at lw_m4 133 rfl) rfl
theorem q942 : (Jvm.Cond.fieldLink "QuestionRoadModel" (76 : Nat) "QuestionRoadModel" "places" "[I") ∈ lw_all := lw_g (lw_at lw_m4 134 rfl) rfl
theorem q943 : (Jvm.Cond.fieldLink "QuestionRoadModel" (295 : Nat) "QuestionRoadModel" "drawn" "I") ∈ lw_all := lw_g (lw_at lw_m4 135 rfl) rfl
theorem q944 : (Jvm.Cond.laysFinal "QuestionRoadModel" "QuestionRoadModel" "forms" "[I") ∈ lw_all := lw_g (lw_at lw_m4 136 rfl) rfl
theorem q945 : (Jvm.Cond.soleField "QuestionRoadModel" "forms") ∈ lw_all := lw_g (lw_at lw_m4 137 rfl) rfl
theorem q946 : (Jvm.Cond.laysFinal "QuestionRoadModel" "QuestionRoadModel" "sizes" "[I") ∈ lw_all := lw_g (lw_at lw_m4 138 rfl) rfl
theorem q947 : (Jvm.Cond.soleField "QuestionRoadModel" "sizes") ∈ lw_all := lw_g (lw_at lw_m4 139 rfl) rfl
theorem q948 : (Jvm.Cond.laysFinal "QuestionRoadModel" "QuestionRoadModel" "items" "[I") ∈ lw_all := lw_g (lw_at lw_m4 140 rfl) rfl
theorem q949 : (Jvm.Cond.soleField "QuestionRoadModel" "items") ∈ lw_all := lw_g (lw_at lw_m4 141 rfl) rfl
theorem q950 : (Jvm.Cond.laysFinal "QuestionRoadModel" "QuestionRoadModel" "moved" "[I") ∈ lw_all := lw_g (lw_at lw_m4 142 rfl) rfl
theorem q951 : (Jvm.Cond.soleField "QuestionRoadModel" "moved") ∈ lw_all := lw_g (lw_at lw_m4 143 rfl) rfl
theorem q952 : (Jvm.Cond.lays "QuestionRoadModel" "QuestionRoadModel" "latest" "I") ∈ lw_all := lw_g (lw_at lw_m4 144 rfl) rfl
theorem q953 : (Jvm.Cond.soleField "QuestionRoadModel" "latest") ∈ lw_all := lw_g (lw_at lw_m4 145 rfl) rfl
theorem q954 : (Jvm.Cond.laysFinal "QuestionRoadModel" "QuestionRoadModel" "bytes" "[I") ∈ lw_all := lw_g (lw_at lw_m4 146 rfl) rfl
theorem q955 : (Jvm.Cond.soleField "QuestionRoadModel" "bytes") ∈ lw_all := lw_g (lw_at lw_m4 147 rfl) rfl
theorem q956 : (Jvm.Cond.laysFinal "QuestionRoadModel" "QuestionRoadModel" "typed" "[I") ∈ lw_all := lw_g (lw_at lw_m4 148 rfl) rfl
theorem q957 : (Jvm.Cond.soleField "QuestionRoadModel" "typed") ∈ lw_all := lw_g (lw_at lw_m4 149 rfl) rfl
theorem q958 : (Jvm.Cond.lays "QuestionRoadModel" "QuestionRoadModel" "ways" "I") ∈ lw_all := lw_g (lw_at lw_m4 150 rfl) rfl
theorem q959 : (Jvm.Cond.soleField "QuestionRoadModel" "ways") ∈ lw_all := lw_g (lw_at lw_m4 151 rfl) rfl
theorem q960 : (Jvm.Cond.laysFinal "QuestionRoadModel" "QuestionRoadModel" "way" "[I") ∈ lw_all := lw_g (lw_at lw_m4 152 rfl) rfl
theorem q961 : (Jvm.Cond.soleField "QuestionRoadModel" "way") ∈ lw_all := lw_g (lw_at lw_m4 153 rfl) rfl
theorem q962 : (Jvm.Cond.lays "QuestionRoadModel" "QuestionRoadModel" "carters" "I") ∈ lw_all := lw_g (lw_at lw_m4 154 rfl) rfl
theorem q963 : (Jvm.Cond.soleField "QuestionRoadModel" "carters") ∈ lw_all := lw_g (lw_at lw_m4 155 rfl) rfl
theorem q964 : (Jvm.Cond.laysFinal "QuestionRoadModel" "QuestionRoadModel" "carter" "[I") ∈ lw_all := lw_g (lw_at lw_m4 156 rfl) rfl
theorem q965 : (Jvm.Cond.soleField "QuestionRoadModel" "carter") ∈ lw_all := lw_g (lw_at lw_m4 157 rfl) rfl
theorem q966 : (Jvm.Cond.laysFinal "QuestionRoadModel" "QuestionRoadModel" "late" "[I") ∈ lw_all := lw_g (lw_at lw_m4 158 rfl) rfl
theorem q967 : (Jvm.Cond.soleField "QuestionRoadModel" "late") ∈ lw_all := lw_g (lw_at lw_m4 159 rfl) rfl
theorem q968 : (Jvm.Cond.lays "QuestionRoadModel" "QuestionRoadModel" "answers" "I") ∈ lw_all := lw_g (lw_at lw_m4 160 rfl) rfl
theorem q969 : (Jvm.Cond.soleField "QuestionRoadModel" "answers") ∈ lw_all := lw_g (lw_at lw_m4 161 rfl) rfl
theorem q970 : (Jvm.Cond.laysFinal "QuestionRoadModel" "QuestionRoadModel" "answer" "[I") ∈ lw_all := lw_g (lw_at lw_m4 162 rfl) rfl
theorem q971 : (Jvm.Cond.soleField "QuestionRoadModel" "answer") ∈ lw_all := lw_g (lw_at lw_m4 163 rfl) rfl
theorem q972 : (Jvm.Cond.lays "QuestionRoadModel" "QuestionRoadModel" "gone" "I") ∈ lw_all := lw_g (lw_at lw_m4 164 rfl) rfl
theorem q973 : (Jvm.Cond.soleField "QuestionRoadModel" "gone") ∈ lw_all := lw_g (lw_at lw_m4 165 rfl) rfl
theorem q974 : (Jvm.Cond.laysFinal "QuestionRoadModel" "QuestionRoadModel" "step" "[I") ∈ lw_all := lw_g (lw_at lw_m4 166 rfl) rfl
theorem q975 : (Jvm.Cond.soleField "QuestionRoadModel" "step") ∈ lw_all := lw_g (lw_at lw_m4 167 rfl) rfl
theorem q976 : (Jvm.Cond.laysFinal "QuestionRoadModel" "QuestionRoadModel" "far" "[I") ∈ lw_all := lw_g (lw_at lw_m4 168 rfl) rfl
theorem q977 : (Jvm.Cond.soleField "QuestionRoadModel" "far") ∈ lw_all := lw_g (lw_at lw_m4 169 rfl) rfl
theorem q978 : (Jvm.Cond.laysFinal "QuestionRoadModel" "QuestionRoadModel" "state" "[I") ∈ lw_all := lw_g (lw_at lw_m4 170 rfl) rfl
theorem q979 : (Jvm.Cond.soleField "QuestionRoadModel" "state") ∈ lw_all := lw_g (lw_at lw_m4 171 rfl) rfl
theorem q980 : (Jvm.Cond.laysFinal "QuestionRoadModel" "QuestionRoadModel" "place" "[I") ∈ lw_all := lw_g (lw_at lw_m4 172 rfl) rfl
theorem q981 : (Jvm.Cond.soleField "QuestionRoadModel" "place") ∈ lw_all := lw_g (lw_at lw_m4 173 rfl) rfl
theorem q982 : (Jvm.Cond.laysFinal "QuestionRoadModel" "QuestionRoadModel" "strength" "[I") ∈ lw_all := lw_g (lw_at lw_m4 174 rfl) rfl
theorem q983 : (Jvm.Cond.soleField "QuestionRoadModel" "strength") ∈ lw_all := lw_g (lw_at lw_m4 175 rfl) rfl
theorem q984 : (Jvm.Cond.laysFinal "QuestionRoadModel" "QuestionRoadModel" "whither" "[I") ∈ lw_all := lw_g (lw_at lw_m4 176 rfl) rfl
theorem q985 : (Jvm.Cond.soleField "QuestionRoadModel" "whither") ∈ lw_all := lw_g (lw_at lw_m4 177 rfl) rfl
theorem q986 : (Jvm.Cond.laysFinal "QuestionRoadModel" "QuestionRoadModel" "arrives" "[I") ∈ lw_all := lw_g (lw_at lw_m4 178 rfl) rfl
theorem q987 : (Jvm.Cond.soleField "QuestionRoadModel" "arrives") ∈ lw_all := lw_g (lw_at lw_m4 179 rfl) rfl
theorem q988 : (Jvm.Cond.laysFinal "QuestionRoadModel" "QuestionRoadModel" "ends" "[I") ∈ lw_all := lw_g (lw_at lw_m4 180 rfl) rfl
theorem q989 : (Jvm.Cond.soleField "QuestionRoadModel" "ends") ∈ lw_all := lw_g (lw_at lw_m4 181 rfl) rfl
theorem q990 : (Jvm.Cond.laysFinal "QuestionRoadModel" "QuestionRoadModel" "kept" "[I") ∈ lw_all := lw_g (lw_at lw_m4 182 rfl) rfl
theorem q991 : (Jvm.Cond.soleField "QuestionRoadModel" "kept") ∈ lw_all := lw_g (lw_at lw_m4 183 rfl) rfl
theorem q992 : (Jvm.Cond.laysFinal "QuestionRoadModel" "QuestionRoadModel" "present" "[I") ∈ lw_all := lw_g (lw_at lw_m4 184 rfl) rfl
theorem q993 : (Jvm.Cond.soleField "QuestionRoadModel" "present") ∈ lw_all := lw_g (lw_at lw_m4 185 rfl) rfl
theorem q994 : (Jvm.Cond.laysFinal "QuestionRoadModel" "QuestionRoadModel" "arrivals" "[I") ∈ lw_all := lw_g (lw_at lw_m4 186 rfl) rfl
theorem q995 : (Jvm.Cond.soleField "QuestionRoadModel" "arrivals") ∈ lw_all := lw_g (lw_at lw_m4 187 rfl) rfl
theorem q996 : (Jvm.Cond.lays "QuestionRoadModel" "QuestionRoadModel" "metOn" "I") ∈ lw_all := lw_g (lw_at lw_m4 188 rfl) rfl
theorem q997 : (Jvm.Cond.soleField "QuestionRoadModel" "metOn") ∈ lw_all := lw_g (lw_at lw_m4 189 rfl) rfl
theorem q998 : (Jvm.Cond.lays "QuestionRoadModel" "QuestionRoadModel" "metAt" "I") ∈ lw_all := lw_g (lw_at lw_m4 190 rfl) rfl
theorem q999 : (Jvm.Cond.soleField "QuestionRoadModel" "metAt") ∈ lw_all := lw_g (lw_at lw_m4 191 rfl) rfl
theorem q1000 : (Jvm.Cond.lays "QuestionRoadModel" "QuestionRoadModel" "sights" "I") ∈ lw_all := lw_g (lw_at lw_m4 192 rfl) rfl
theorem q1001 : (Jvm.Cond.soleField "QuestionRoadModel" "sights") ∈ lw_all := lw_g (lw_at lw_m4 193 rfl) rfl
theorem q1002 : (Jvm.Cond.laysFinal "QuestionRoadModel" "QuestionRoadModel" "sight" "[I") ∈ lw_all := lw_g (lw_at lw_m4 194 rfl) rfl
theorem q1003 : (Jvm.Cond.soleField "QuestionRoadModel" "sight") ∈ lw_all := lw_g (lw_at lw_m4 195 rfl) rfl
theorem q1004 : (Jvm.Cond.laysFinal "QuestionRoadModel" "QuestionRoadModel" "places" "[I") ∈ lw_all := lw_g (lw_at lw_m4 196 rfl) rfl
theorem q1005 : (Jvm.Cond.soleField "QuestionRoadModel" "places") ∈ lw_all := lw_g (lw_at lw_m4 197 rfl) rfl
theorem q1006 : (Jvm.Cond.lays "QuestionRoadModel" "QuestionRoadModel" "drawn" "I") ∈ lw_all := lw_g (lw_at lw_m4 198 rfl) rfl
theorem q1007 : (Jvm.Cond.soleField "QuestionRoadModel" "drawn") ∈ lw_all := lw_g (lw_at lw_m4 199 rfl) rfl
theorem q1008 : (Jvm.Cond.superclass "QuestionRoadModel" "java/lang/Object") ∈ lw_all := lw_g (lw_at lw_m4 200 rfl) rfl
theorem q1010 : (Jvm.Cond.instanceMethod ({ cls := "QuestionRoadModel", name := "sheet", desc := "(III)I" } : Jvm.MethodName)) ∈ lw_all := lw_g (lw_at lw_m4 202 rfl) rfl
theorem q1011 : (Jvm.Cond.selects "QuestionRoadModel" ({ cls := "QuestionRoadModel", name := "sheet", desc := "(III)I" } : Jvm.MethodName) ({ cls := "QuestionRoadModel", name := "sheet", desc := "(III)I" } : Jvm.MethodName)) ∈ lw_all := lw_g (lw_at lw_m4 203 rfl) rfl
theorem q1012 : (Jvm.Cond.code ({ cls := "QuestionRoadModel", name := "sheet", desc := "(III)I" } : Jvm.MethodName) prog_8_method_13_code (5 : Nat) (Option.some Jvm.ClassFile.FieldType.int)) ∈ lw_all := lw_g (lw_at lw_m4 204 rfl) rfl
theorem q1013 : (Jvm.Cond.methodLink "QuestionRoadModel" (91 : Nat) ({ cls := "QuestionRoadModel", name := "isSheet", desc := "(I)Z" } : Jvm.MethodName)) ∈ lw_all := lw_g (lw_at lw_m4 205 rfl) rfl
theorem q1014 : (Jvm.Cond.static ({ cls := "QuestionRoadModel", name := "isSheet", desc := "(I)Z" } : Jvm.MethodName)) ∈ lw_all := lw_g (lw_at lw_m4 206 rfl) rfl
theorem q1015 : (Jvm.Cond.code ({ cls := "QuestionRoadModel", name := "isSheet", desc := "(I)Z" } : Jvm.MethodName) prog_8_method_12_code (1 : Nat) (Option.some Jvm.ClassFile.FieldType.boolean)) ∈ lw_all := lw_g (lw_at lw_m4 207 rfl) rfl
theorem q1016 : (Jvm.Cond.constantLong "QuestionRoadModel" (89 : Nat) (3 : Int64)) ∈ lw_all := lw_g (lw_at lw_m4 208 rfl) rfl
theorem q1017 : (Jvm.Cond.methodLink "QuestionRoadModel" (81 : Nat) ({ cls := "QuestionRoadModel", name := "in", desc := "(JJJ)Z" } : Jvm.MethodName)) ∈ lw_all := lw_g (lw_at lw_m4 209 rfl) rfl
theorem q1018 : (Jvm.Cond.static ({ cls := "QuestionRoadModel", name := "in", desc := "(JJJ)Z" } : Jvm.MethodName)) ∈ lw_all := lw_g (lw_at lw_m4 210 rfl) rfl
theorem q1019 : (Jvm.Cond.code ({ cls := "QuestionRoadModel", name := "in", desc := "(JJJ)Z" } : Jvm.MethodName) prog_8_method_3_code (6 : Nat) (Option.some Jvm.ClassFile.FieldType.boolean)) ∈ lw_all := lw_g (lw_at lw_m4 211 rfl) rfl
theorem q1020 : (Jvm.Cond.constantLong "QuestionRoadModel" (95 : Nat) (2 : Int64)) ∈ lw_all := lw_g (lw_at lw_m4 212 rfl) rfl
theorem q1021 : (Jvm.Cond.methodLink "QuestionRoadModel" (97 : Nat) ({ cls := "QuestionRoadModel", name := "finds", desc := "(I)I" } : Jvm.MethodName)) ∈ lw_all := lw_g (lw_at lw_m4 213 rfl) rfl
theorem q1022 : (Jvm.Cond.privateMethod ({ cls := "QuestionRoadModel", name := "finds", desc := "(I)I" } : Jvm.MethodName)) ∈ lw_tbl := lw_at lw_m4 214 rfl
theorem q1023 : (Jvm.Cond.instanceMethod ({ cls := "QuestionRoadModel", name := "finds", desc := "(I)I" } : Jvm.MethodName)) ∈ lw_all := lw_g (lw_at lw_m4 215 rfl) rfl
theorem q1024 : (Jvm.Cond.code ({ cls := "QuestionRoadModel", name := "finds", desc := "(I)I" } : Jvm.MethodName) prog_8_method_11_code (2 : Nat) (Option.some Jvm.ClassFile.FieldType.int)) ∈ lw_all := lw_g (lw_at lw_m4 216 rfl) rfl
theorem q1026 : (Jvm.Cond.instanceMethod ({ cls := "QuestionRoadModel", name := "lose", desc := "(I)I" } : Jvm.MethodName)) ∈ lw_all := lw_g (lw_at lw_m4 218 rfl) rfl
theorem q1027 : (Jvm.Cond.selects "QuestionRoadModel" ({ cls := "QuestionRoadModel", name := "lose", desc := "(I)I" } : Jvm.MethodName) ({ cls := "QuestionRoadModel", name := "lose", desc := "(I)I" } : Jvm.MethodName)) ∈ lw_all := lw_g (lw_at lw_m4 219 rfl) rfl
theorem q1028 : (Jvm.Cond.code ({ cls := "QuestionRoadModel", name := "lose", desc := "(I)I" } : Jvm.MethodName) prog_8_method_14_code (2 : Nat) (Option.some Jvm.ClassFile.FieldType.int)) ∈ lw_all := lw_g (lw_at lw_m4 220 rfl) rfl
theorem q1030 : (Jvm.Cond.instanceMethod ({ cls := "QuestionRoadModel", name := "lay", desc := "(IIII)I" } : Jvm.MethodName)) ∈ lw_all := lw_g (lw_at lw_m4 222 rfl) rfl
theorem q1031 : (Jvm.Cond.selects "QuestionRoadModel" ({ cls := "QuestionRoadModel", name := "lay", desc := "(IIII)I" } : Jvm.MethodName) ({ cls := "QuestionRoadModel", name := "lay", desc := "(IIII)I" } : Jvm.MethodName)) ∈ lw_all := lw_g (lw_at lw_m4 223 rfl) rfl
theorem q1032 : (Jvm.Cond.code ({ cls := "QuestionRoadModel", name := "lay", desc := "(IIII)I" } : Jvm.MethodName) prog_8_method_17_code (6 : Nat) (Option.some Jvm.ClassFile.FieldType.int)) ∈ lw_all := lw_g (lw_at lw_m4 224 rfl) rfl
theorem q1033 : (Jvm.Cond.methodLink "QuestionRoadModel" (101 : Nat) ({ cls := "QuestionRoadModel", name := "lacks", desc := "(III)I" } : Jvm.MethodName)) ∈ lw_all := lw_g (lw_at lw_m4 225 rfl) rfl
theorem q1034 : (Jvm.Cond.privateMethod ({ cls := "QuestionRoadModel", name := "lacks", desc := "(III)I" } : Jvm.MethodName)) ∈ lw_tbl := lw_at lw_m4 226 rfl
theorem q1035 : (Jvm.Cond.instanceMethod ({ cls := "QuestionRoadModel", name := "lacks", desc := "(III)I" } : Jvm.MethodName)) ∈ lw_all := lw_g (lw_at lw_m4 227 rfl) rfl
theorem q1036 : (Jvm.Cond.code ({ cls := "QuestionRoadModel", name := "lacks", desc := "(III)I" } : Jvm.MethodName) prog_8_method_15_code (4 : Nat) (Option.some Jvm.ClassFile.FieldType.int)) ∈ lw_all := lw_g (lw_at lw_m4 228 rfl) rfl
theorem q1037 : (Jvm.Cond.methodLink "QuestionRoadModel" (105 : Nat) ({ cls := "QuestionRoadModel", name := "cut", desc := "(II)I" } : Jvm.MethodName)) ∈ lw_all := lw_g (lw_at lw_m4 229 rfl) rfl
theorem q1038 : (Jvm.Cond.static ({ cls := "QuestionRoadModel", name := "cut", desc := "(II)I" } : Jvm.MethodName)) ∈ lw_all := lw_g (lw_at lw_m4 230 rfl) rfl
theorem q1039 : (Jvm.Cond.code ({ cls := "QuestionRoadModel", name := "cut", desc := "(II)I" } : Jvm.MethodName) prog_8_method_16_code (2 : Nat) (Option.some Jvm.ClassFile.FieldType.int)) ∈ lw_all := lw_g (lw_at lw_m4 231 rfl) rfl
theorem q1041 : (Jvm.Cond.instanceMethod ({ cls := "QuestionRoadModel", name := "get", desc := "(III)I" } : Jvm.MethodName)) ∈ lw_all := lw_g (lw_at lw_m4 233 rfl) rfl
theorem q1042 : (Jvm.Cond.selects "QuestionRoadModel" ({ cls := "QuestionRoadModel", name := "get", desc := "(III)I" } : Jvm.MethodName) ({ cls := "QuestionRoadModel", name := "get", desc := "(III)I" } : Jvm.MethodName)) ∈ lw_all := lw_g (lw_at lw_m4 234 rfl) rfl
theorem q1043 : (Jvm.Cond.code ({ cls := "QuestionRoadModel", name := "get", desc := "(III)I" } : Jvm.MethodName) prog_8_method_18_code (4 : Nat) (Option.some Jvm.ClassFile.FieldType.int)) ∈ lw_all := lw_g (lw_at lw_m4 235 rfl) rfl
theorem q1044 : (Jvm.Cond.constant "QuestionRoadModel" (109 : Nat) (-2147483648 : Int32)) ∈ lw_all := lw_g (lw_at lw_m4 236 rfl) rfl
theorem q1046 : (Jvm.Cond.instanceMethod ({ cls := "QuestionRoadModel", name := "copy", desc := "(IIIII)I" } : Jvm.MethodName)) ∈ lw_all := lw_g (lw_at lw_m4 238 rfl) rfl
theorem q1047 : (Jvm.Cond.selects "QuestionRoadModel" ({ cls := "QuestionRoadModel", name := "copy", desc := "(IIIII)I" } : Jvm.MethodName) ({ cls := "QuestionRoadModel", name := "copy", desc := "(IIIII)I" } : Jvm.MethodName)) ∈ lw_all := lw_g (lw_at lw_m4 239 rfl) rfl
theorem q1048 : (Jvm.Cond.code ({ cls := "QuestionRoadModel", name := "copy", desc := "(IIIII)I" } : Jvm.MethodName) prog_8_method_19_code (7 : Nat) (Option.some Jvm.ClassFile.FieldType.int)) ∈ lw_all := lw_g (lw_at lw_m5 0 rfl) rfl
theorem q1050 : (Jvm.Cond.instanceMethod ({ cls := "QuestionRoadModel", name := "type", desc := "(II)I" } : Jvm.MethodName)) ∈ lw_all := lw_g (lw_at lw_m5 2 rfl) rfl
theorem q1051 : (Jvm.Cond.selects "QuestionRoadModel" ({ cls := "QuestionRoadModel", name := "type", desc := "(II)I" } : Jvm.MethodName) ({ cls := "QuestionRoadModel", name := "type", desc := "(II)I" } : Jvm.MethodName)) ∈ lw_all := lw_g (lw_at lw_m5 3 rfl) rfl
theorem q1052 : (Jvm.Cond.code ({ cls := "QuestionRoadModel", name := "type", desc := "(II)I" } : Jvm.MethodName) prog_8_method_20_code (3 : Nat) (Option.some Jvm.ClassFile.FieldType.int)) ∈ lw_all := lw_g (lw_at lw_m5 4 rfl) rfl
theorem q1053 : (Jvm.Cond.methodLink "QuestionRoadModel" (110 : Nat) ({ cls := "QuestionRoadModel", name := "isTwo", desc := "(I)Z" } : Jvm.MethodName)) ∈ lw_all := lw_g (lw_at lw_m5 5 rfl) rfl
theorem q1054 : (Jvm.Cond.static ({ cls := "QuestionRoadModel", name := "isTwo", desc := "(I)Z" } : Jvm.MethodName)) ∈ lw_all := lw_g (lw_at lw_m5 6 rfl) rfl
theorem q1055 : (Jvm.Cond.code ({ cls := "QuestionRoadModel", name := "isTwo", desc := "(I)Z" } : Jvm.MethodName) prog_8_method_5_code (1 : Nat) (Option.some Jvm.ClassFile.FieldType.boolean)) ∈ lw_all := lw_g (lw_at lw_m5 7 rfl) rfl
theorem q1056 : (Jvm.Cond.constantLong "QuestionRoadModel" (113 : Nat) (255 : Int64)) ∈ lw_all := lw_g (lw_at lw_m5 8 rfl) rfl
theorem q1058 : (Jvm.Cond.instanceMethod ({ cls := "QuestionRoadModel", name := "wipe", desc := "(I)I" } : Jvm.MethodName)) ∈ lw_all := lw_g (lw_at lw_m5 10 rfl) rfl
theorem q1059 : (Jvm.Cond.selects "QuestionRoadModel" ({ cls := "QuestionRoadModel", name := "wipe", desc := "(I)I" } : Jvm.MethodName) ({ cls := "QuestionRoadModel", name := "wipe", desc := "(I)I" } : Jvm.MethodName)) ∈ lw_all := lw_g (lw_at lw_m5 11 rfl) rfl
theorem q1060 : (Jvm.Cond.code ({ cls := "QuestionRoadModel", name := "wipe", desc := "(I)I" } : Jvm.MethodName) prog_8_method_21_code (3 : Nat) (Option.some Jvm.ClassFile.FieldType.int)) ∈ lw_all := lw_g (lw_at lw_m5 12 rfl) rfl
theorem q1062 : (Jvm.Cond.instanceMethod ({ cls := "QuestionRoadModel", name := "undo", desc := "(I)I" } : Jvm.MethodName)) ∈ lw_all := lw_g (lw_at lw_m5 14 rfl) rfl
theorem q1063 : (Jvm.Cond.selects "QuestionRoadModel" ({ cls := "QuestionRoadModel", name := "undo", desc := "(I)I" } : Jvm.MethodName) ({ cls := "QuestionRoadModel", name := "undo", desc := "(I)I" } : Jvm.MethodName)) ∈ lw_all := lw_g (lw_at lw_m5 15 rfl) rfl
theorem q1064 : (Jvm.Cond.code ({ cls := "QuestionRoadModel", name := "undo", desc := "(I)I" } : Jvm.MethodName) prog_8_method_22_code (2 : Nat) (Option.some Jvm.ClassFile.FieldType.int)) ∈ lw_all := lw_g (lw_at lw_m5 16 rfl) rfl
theorem q1066 : (Jvm.Cond.instanceMethod ({ cls := "QuestionRoadModel", name := "fault", desc := "(I)I" } : Jvm.MethodName)) ∈ lw_all := lw_g (lw_at lw_m5 18 rfl) rfl
theorem q1067 : (Jvm.Cond.selects "QuestionRoadModel" ({ cls := "QuestionRoadModel", name := "fault", desc := "(I)I" } : Jvm.MethodName) ({ cls := "QuestionRoadModel", name := "fault", desc := "(I)I" } : Jvm.MethodName)) ∈ lw_all := lw_g (lw_at lw_m5 19 rfl) rfl
theorem q1068 : (Jvm.Cond.code ({ cls := "QuestionRoadModel", name := "fault", desc := "(I)I" } : Jvm.MethodName) prog_8_method_30_code (2 : Nat) (Option.some Jvm.ClassFile.FieldType.int)) ∈ lw_all := lw_g (lw_at lw_m5 20 rfl) rfl
theorem q1069 : (Jvm.Cond.methodLink "QuestionRoadModel" (146 : Nat) ({ cls := "QuestionRoadModel", name := "readsText", desc := "(I)I" } : Jvm.MethodName)) ∈ lw_all := lw_g (lw_at lw_m5 21 rfl) rfl
theorem q1070 : (Jvm.Cond.privateMethod ({ cls := "QuestionRoadModel", name := "readsText", desc := "(I)I" } : Jvm.MethodName)) ∈ lw_tbl := lw_at lw_m5 22 rfl
theorem q1071 : (Jvm.Cond.instanceMethod ({ cls := "QuestionRoadModel", name := "readsText", desc := "(I)I" } : Jvm.MethodName)) ∈ lw_all := lw_g (lw_at lw_m5 23 rfl) rfl
theorem q1072 : (Jvm.Cond.code ({ cls := "QuestionRoadModel", name := "readsText", desc := "(I)I" } : Jvm.MethodName) prog_8_method_29_code (2 : Nat) (Option.some Jvm.ClassFile.FieldType.int)) ∈ lw_all := lw_g (lw_at lw_m5 24 rfl) rfl
theorem q1073 : (Jvm.Cond.methodLink "QuestionRoadModel" (139 : Nat) ({ cls := "QuestionRoadModel", name := "readsWays", desc := "()I" } : Jvm.MethodName)) ∈ lw_all := lw_g (lw_at lw_m5 25 rfl) rfl
theorem q1074 : (Jvm.Cond.privateMethod ({ cls := "QuestionRoadModel", name := "readsWays", desc := "()I" } : Jvm.MethodName)) ∈ lw_tbl := lw_at lw_m5 26 rfl
theorem q1075 : (Jvm.Cond.instanceMethod ({ cls := "QuestionRoadModel", name := "readsWays", desc := "()I" } : Jvm.MethodName)) ∈ lw_all := lw_g (lw_at lw_m5 27 rfl) rfl
theorem q1076 : (Jvm.Cond.code ({ cls := "QuestionRoadModel", name := "readsWays", desc := "()I" } : Jvm.MethodName) prog_8_method_26_code (6 : Nat) (Option.some Jvm.ClassFile.FieldType.int)) ∈ lw_all := lw_g (lw_at lw_m5 28 rfl) rfl
theorem q1077 : (Jvm.Cond.methodLink "QuestionRoadModel" (130 : Nat) ({ cls := "QuestionRoadModel", name := "wayOf", desc := "(III)I" } : Jvm.MethodName)) ∈ lw_all := lw_g (lw_at lw_m5 29 rfl) rfl
theorem q1078 : (Jvm.Cond.static ({ cls := "QuestionRoadModel", name := "wayOf", desc := "(III)I" } : Jvm.MethodName)) ∈ lw_all := lw_g (lw_at lw_m5 30 rfl) rfl
theorem q1079 : (Jvm.Cond.code ({ cls := "QuestionRoadModel", name := "wayOf", desc := "(III)I" } : Jvm.MethodName) prog_8_method_25_code (3 : Nat) (Option.some Jvm.ClassFile.FieldType.int)) ∈ lw_all := lw_g (lw_at lw_m5 31 rfl) rfl
theorem q1080 : (Jvm.Cond.methodLink "QuestionRoadModel" (121 : Nat) ({ cls := "QuestionRoadModel", name := "placeOf", desc := "(I)I" } : Jvm.MethodName)) ∈ lw_all := lw_g (lw_at lw_m5 32 rfl) rfl
theorem q1081 : (Jvm.Cond.static ({ cls := "QuestionRoadModel", name := "placeOf", desc := "(I)I" } : Jvm.MethodName)) ∈ lw_all := lw_g (lw_at lw_m5 33 rfl) rfl
theorem q1082 : (Jvm.Cond.code ({ cls := "QuestionRoadModel", name := "placeOf", desc := "(I)I" } : Jvm.MethodName) prog_8_method_23_code (1 : Nat) (Option.some Jvm.ClassFile.FieldType.int)) ∈ lw_all := lw_g (lw_at lw_m5 34 rfl) rfl
theorem q1083 : (Jvm.Cond.constantLong "QuestionRoadModel" (115 : Nat) (97 : Int64)) ∈ lw_all := lw_g (lw_at lw_m5 35 rfl) rfl
theorem q1084 : (Jvm.Cond.constantLong "QuestionRoadModel" (117 : Nat) (104 : Int64)) ∈ lw_all := lw_g (lw_at lw_m5 36 rfl) rfl
theorem q1085 : (Jvm.Cond.methodLink "QuestionRoadModel" (124 : Nat) ({ cls := "QuestionRoadModel", name := "figureOf", desc := "(II)I" } : Jvm.MethodName)) ∈ lw_all := lw_g (lw_at lw_m5 37 rfl) rfl
theorem q1086 : (Jvm.Cond.static ({ cls := "QuestionRoadModel", name := "figureOf", desc := "(II)I" } : Jvm.MethodName)) ∈ lw_all := lw_g (lw_at lw_m5 38 rfl) rfl
theorem q1087 : (Jvm.Cond.code ({ cls := "QuestionRoadModel", name := "figureOf", desc := "(II)I" } : Jvm.MethodName) prog_8_method_24_code (2 : Nat) (Option.some Jvm.ClassFile.FieldType.int)) ∈ lw_all := lw_g (lw_at lw_m5 39 rfl) rfl
theorem q1088 : (Jvm.Cond.constantLong "QuestionRoadModel" (119 : Nat) (57 : Int64)) ∈ lw_all := lw_g (lw_at lw_m5 40 rfl) rfl
theorem q1089 : (Jvm.Cond.methodLink "QuestionRoadModel" (143 : Nat) ({ cls := "QuestionRoadModel", name := "readsCarters", desc := "()I" } : Jvm.MethodName)) ∈ lw_all := lw_g (lw_at lw_m5 41 rfl) rfl
theorem q1090 : (Jvm.Cond.privateMethod ({ cls := "QuestionRoadModel", name := "readsCarters", desc := "()I" } : Jvm.MethodName)) ∈ lw_tbl := lw_at lw_m5 42 rfl
theorem q1091 : (Jvm.Cond.instanceMethod ({ cls := "QuestionRoadModel", name := "readsCarters", desc := "()I" } : Jvm.MethodName)) ∈ lw_all := lw_g (lw_at lw_m5 43 rfl) rfl
theorem q1092 : (Jvm.Cond.code ({ cls := "QuestionRoadModel", name := "readsCarters", desc := "()I" } : Jvm.MethodName) prog_8_method_28_code (6 : Nat) (Option.some Jvm.ClassFile.FieldType.int)) ∈ lw_all := lw_g (lw_at lw_m5 44 rfl) rfl
theorem q1093 : (Jvm.Cond.methodLink "QuestionRoadModel" (136 : Nat) ({ cls := "QuestionRoadModel", name := "carterOf", desc := "(II)I" } : Jvm.MethodName)) ∈ lw_all := lw_g (lw_at lw_m5 45 rfl) rfl
theorem q1094 : (Jvm.Cond.static ({ cls := "QuestionRoadModel", name := "carterOf", desc := "(II)I" } : Jvm.MethodName)) ∈ lw_all := lw_g (lw_at lw_m5 46 rfl) rfl
theorem q1095 : (Jvm.Cond.code ({ cls := "QuestionRoadModel", name := "carterOf", desc := "(II)I" } : Jvm.MethodName) prog_8_method_27_code (2 : Nat) (Option.some Jvm.ClassFile.FieldType.int)) ∈ lw_all := lw_g (lw_at lw_m5 47 rfl) rfl
theorem q1097 : (Jvm.Cond.instanceMethod ({ cls := "QuestionRoadModel", name := "way", desc := "(II)I" } : Jvm.MethodName)) ∈ lw_all := lw_g (lw_at lw_m5 49 rfl) rfl
theorem q1098 : (Jvm.Cond.selects "QuestionRoadModel" ({ cls := "QuestionRoadModel", name := "way", desc := "(II)I" } : Jvm.MethodName) ({ cls := "QuestionRoadModel", name := "way", desc := "(II)I" } : Jvm.MethodName)) ∈ lw_all := lw_g (lw_at lw_m5 50 rfl) rfl
theorem q1099 : (Jvm.Cond.code ({ cls := "QuestionRoadModel", name := "way", desc := "(II)I" } : Jvm.MethodName) prog_8_method_34_code (3 : Nat) (Option.some Jvm.ClassFile.FieldType.int)) ∈ lw_all := lw_g (lw_at lw_m5 51 rfl) rfl
theorem q1101 : (Jvm.Cond.instanceMethod ({ cls := "QuestionRoadModel", name := "carter", desc := "(II)I" } : Jvm.MethodName)) ∈ lw_all := lw_g (lw_at lw_m5 53 rfl) rfl
theorem q1102 : (Jvm.Cond.selects "QuestionRoadModel" ({ cls := "QuestionRoadModel", name := "carter", desc := "(II)I" } : Jvm.MethodName) ({ cls := "QuestionRoadModel", name := "carter", desc := "(II)I" } : Jvm.MethodName)) ∈ lw_all := lw_g (lw_at lw_m5 54 rfl) rfl
theorem q1103 : (Jvm.Cond.code ({ cls := "QuestionRoadModel", name := "carter", desc := "(II)I" } : Jvm.MethodName) prog_8_method_35_code (3 : Nat) (Option.some Jvm.ClassFile.FieldType.int)) ∈ lw_all := lw_g (lw_at lw_m5 55 rfl) rfl
theorem q1104 : (Jvm.Cond.methodLink "QuestionRoadModel" (153 : Nat) ({ cls := "QuestionRoadModel", name := "isCarter", desc := "(I)Z" } : Jvm.MethodName)) ∈ lw_all := lw_g (lw_at lw_m5 56 rfl) rfl
theorem q1105 : (Jvm.Cond.privateMethod ({ cls := "QuestionRoadModel", name := "isCarter", desc := "(I)Z" } : Jvm.MethodName)) ∈ lw_tbl := lw_at lw_m5 57 rfl
theorem q1106 : (Jvm.Cond.instanceMethod ({ cls := "QuestionRoadModel", name := "isCarter", desc := "(I)Z" } : Jvm.MethodName)) ∈ lw_all := lw_g (lw_at lw_m5 58 rfl) rfl
theorem q1107 : (Jvm.Cond.code ({ cls := "QuestionRoadModel", name := "isCarter", desc := "(I)Z" } : Jvm.MethodName) prog_8_method_31_code (2 : Nat) (Option.some Jvm.ClassFile.FieldType.boolean)) ∈ lw_all := lw_g (lw_at lw_m5 59 rfl) rfl
theorem q1108 : (Jvm.Cond.constantLong "QuestionRoadModel" (156 : Nat) (4 : Int64)) ∈ lw_all := lw_g (lw_at lw_m5 60 rfl) rfl
theorem q1110 : (Jvm.Cond.instanceMethod ({ cls := "QuestionRoadModel", name := "late", desc := "(II)I" } : Jvm.MethodName)) ∈ lw_all := lw_g (lw_at lw_m5 62 rfl) rfl
theorem q1111 : (Jvm.Cond.selects "QuestionRoadModel" ({ cls := "QuestionRoadModel", name := "late", desc := "(II)I" } : Jvm.MethodName) ({ cls := "QuestionRoadModel", name := "late", desc := "(II)I" } : Jvm.MethodName)) ∈ lw_all := lw_g (lw_at lw_m5 63 rfl) rfl
theorem q1112 : (Jvm.Cond.code ({ cls := "QuestionRoadModel", name := "late", desc := "(II)I" } : Jvm.MethodName) prog_8_method_36_code (4 : Nat) (Option.some Jvm.ClassFile.FieldType.int)) ∈ lw_all := lw_g (lw_at lw_m5 64 rfl) rfl
theorem q1113 : (Jvm.Cond.constantLong "QuestionRoadModel" (151 : Nat) (7 : Int64)) ∈ lw_all := lw_g (lw_at lw_m5 65 rfl) rfl
theorem q1114 : (Jvm.Cond.constantLong "QuestionRoadModel" (158 : Nat) (9 : Int64)) ∈ lw_all := lw_g (lw_at lw_m5 66 rfl) rfl
theorem q1116 : (Jvm.Cond.instanceMethod ({ cls := "QuestionRoadModel", name := "answer", desc := "(II)I" } : Jvm.MethodName)) ∈ lw_all := lw_g (lw_at lw_m5 68 rfl) rfl
theorem q1117 : (Jvm.Cond.selects "QuestionRoadModel" ({ cls := "QuestionRoadModel", name := "answer", desc := "(II)I" } : Jvm.MethodName) ({ cls := "QuestionRoadModel", name := "answer", desc := "(II)I" } : Jvm.MethodName)) ∈ lw_all := lw_g (lw_at lw_m5 69 rfl) rfl
theorem q1118 : (Jvm.Cond.code ({ cls := "QuestionRoadModel", name := "answer", desc := "(II)I" } : Jvm.MethodName) prog_8_method_37_code (3 : Nat) (Option.some Jvm.ClassFile.FieldType.int)) ∈ lw_all := lw_g (lw_at lw_m5 70 rfl) rfl
theorem q1119 : (Jvm.Cond.methodLink "QuestionRoadModel" (160 : Nat) ({ cls := "QuestionRoadModel", name := "isHour", desc := "(I)Z" } : Jvm.MethodName)) ∈ lw_all := lw_g (lw_at lw_m5 71 rfl) rfl
theorem q1120 : (Jvm.Cond.static ({ cls := "QuestionRoadModel", name := "isHour", desc := "(I)Z" } : Jvm.MethodName)) ∈ lw_all := lw_g (lw_at lw_m5 72 rfl) rfl
theorem q1121 : (Jvm.Cond.code ({ cls := "QuestionRoadModel", name := "isHour", desc := "(I)Z" } : Jvm.MethodName) prog_8_method_32_code (1 : Nat) (Option.some Jvm.ClassFile.FieldType.boolean)) ∈ lw_all := lw_g (lw_at lw_m5 73 rfl) rfl
theorem q1122 : (Jvm.Cond.constantLong "QuestionRoadModel" (149 : Nat) (39 : Int64)) ∈ lw_all := lw_g (lw_at lw_m5 74 rfl) rfl
theorem q1123 : (Jvm.Cond.methodLink "QuestionRoadModel" (163 : Nat) ({ cls := "QuestionRoadModel", name := "isPlace", desc := "(I)Z" } : Jvm.MethodName)) ∈ lw_all := lw_g (lw_at lw_m5 75 rfl) rfl
theorem q1124 : (Jvm.Cond.static ({ cls := "QuestionRoadModel", name := "isPlace", desc := "(I)Z" } : Jvm.MethodName)) ∈ lw_all := lw_g (lw_at lw_m5 76 rfl) rfl
theorem q1125 : (Jvm.Cond.code ({ cls := "QuestionRoadModel", name := "isPlace", desc := "(I)Z" } : Jvm.MethodName) prog_8_method_33_code (1 : Nat) (Option.some Jvm.ClassFile.FieldType.boolean)) ∈ lw_all := lw_g (lw_at lw_m5 77 rfl) rfl
theorem q1127 : (Jvm.Cond.instanceMethod ({ cls := "QuestionRoadModel", name := "back", desc := "()I" } : Jvm.MethodName)) ∈ lw_all := lw_g (lw_at lw_m5 79 rfl) rfl
theorem q1128 : (Jvm.Cond.selects "QuestionRoadModel" ({ cls := "QuestionRoadModel", name := "back", desc := "()I" } : Jvm.MethodName) ({ cls := "QuestionRoadModel", name := "back", desc := "()I" } : Jvm.MethodName)) ∈ lw_all := lw_g (lw_at lw_m5 80 rfl) rfl
theorem q1129 : (Jvm.Cond.code ({ cls := "QuestionRoadModel", name := "back", desc := "()I" } : Jvm.MethodName) prog_8_method_38_code (1 : Nat) (Option.some Jvm.ClassFile.FieldType.int)) ∈ lw_all := lw_g (lw_at lw_m5 81 rfl) rfl
theorem q1131 : (Jvm.Cond.instanceMethod ({ cls := "QuestionRoadModel", name := "read", desc := "(I)I" } : Jvm.MethodName)) ∈ lw_all := lw_g (lw_at lw_m5 83 rfl) rfl
theorem q1132 : (Jvm.Cond.selects "QuestionRoadModel" ({ cls := "QuestionRoadModel", name := "read", desc := "(I)I" } : Jvm.MethodName) ({ cls := "QuestionRoadModel", name := "read", desc := "(I)I" } : Jvm.MethodName)) ∈ lw_all := lw_g (lw_at lw_m5 84 rfl) rfl
theorem q1133 : (Jvm.Cond.code ({ cls := "QuestionRoadModel", name := "read", desc := "(I)I" } : Jvm.MethodName) prog_8_method_39_code (4 : Nat) (Option.some Jvm.ClassFile.FieldType.int)) ∈ lw_all := lw_g (lw_at lw_m5 85 rfl) rfl
theorem q1134 : (Jvm.Cond.methodLink "QuestionRoadModel" (169 : Nat) ({ cls := "QuestionRoadModel", name := "answer", desc := "(II)I" } : Jvm.MethodName)) ∈ lw_all := lw_g (lw_at lw_m5 86 rfl) rfl
theorem q1136 : (Jvm.Cond.instanceMethod ({ cls := "QuestionRoadModel", name := "at", desc := "(III)I" } : Jvm.MethodName)) ∈ lw_all := lw_g (lw_at lw_m5 88 rfl) rfl
theorem q1137 : (Jvm.Cond.selects "QuestionRoadModel" ({ cls := "QuestionRoadModel", name := "at", desc := "(III)I" } : Jvm.MethodName) ({ cls := "QuestionRoadModel", name := "at", desc := "(III)I" } : Jvm.MethodName)) ∈ lw_all := lw_g (lw_at lw_m5 89 rfl) rfl
theorem q1138 : (Jvm.Cond.code ({ cls := "QuestionRoadModel", name := "at", desc := "(III)I" } : Jvm.MethodName) prog_8_method_50_code (4 : Nat) (Option.some Jvm.ClassFile.FieldType.int)) ∈ lw_all := lw_g (lw_at lw_m5 90 rfl) rfl
theorem q1139 : (Jvm.Cond.methodLink "QuestionRoadModel" (218 : Nat) ({ cls := "QuestionRoadModel", name := "find", desc := "()V" } : Jvm.MethodName)) ∈ lw_all := lw_g (lw_at lw_m5 91 rfl) rfl
theorem q1140 : (Jvm.Cond.privateMethod ({ cls := "QuestionRoadModel", name := "find", desc := "()V" } : Jvm.MethodName)) ∈ lw_tbl := lw_at lw_m5 92 rfl
theorem q1141 : (Jvm.Cond.instanceMethod ({ cls := "QuestionRoadModel", name := "find", desc := "()V" } : Jvm.MethodName)) ∈ lw_all := lw_g (lw_at lw_m5 93 rfl) rfl
theorem q1142 : (Jvm.Cond.code ({ cls := "QuestionRoadModel", name := "find", desc := "()V" } : Jvm.MethodName) prog_8_method_49_code (1 : Nat) (Option.none : Option Jvm.ClassFile.FieldType)) ∈ lw_all := lw_g (lw_at lw_m5 94 rfl) rfl
theorem q1143 : (Jvm.Cond.methodLink "QuestionRoadModel" (212 : Nat) ({ cls := "QuestionRoadModel", name := "maps", desc := "()V" } : Jvm.MethodName)) ∈ lw_all := lw_g (lw_at lw_m5 95 rfl) rfl
theorem q1144 : (Jvm.Cond.privateMethod ({ cls := "QuestionRoadModel", name := "maps", desc := "()V" } : Jvm.MethodName)) ∈ lw_tbl := lw_at lw_m5 96 rfl
theorem q1145 : (Jvm.Cond.instanceMethod ({ cls := "QuestionRoadModel", name := "maps", desc := "()V" } : Jvm.MethodName)) ∈ lw_all := lw_g (lw_at lw_m5 97 rfl) rfl
theorem q1146 : (Jvm.Cond.code ({ cls := "QuestionRoadModel", name := "maps", desc := "()V" } : Jvm.MethodName) prog_8_method_40_code (6 : Nat) (Option.none : Option Jvm.ClassFile.FieldType)) ∈ lw_all := lw_g (lw_at lw_m5 98 rfl) rfl
theorem q1147 : (Jvm.Cond.methodLink "QuestionRoadModel" (171 : Nat) ({ cls := "QuestionRoadModel", name := "lesser", desc := "(II)I" } : Jvm.MethodName)) ∈ lw_all := lw_g (lw_at lw_m5 99 rfl) rfl
theorem q1148 : (Jvm.Cond.static ({ cls := "QuestionRoadModel", name := "lesser", desc := "(II)I" } : Jvm.MethodName)) ∈ lw_all := lw_g (lw_at lw_m5 100 rfl) rfl
theorem q1149 : (Jvm.Cond.code ({ cls := "QuestionRoadModel", name := "lesser", desc := "(II)I" } : Jvm.MethodName) prog_8_method_8_code (2 : Nat) (Option.some Jvm.ClassFile.FieldType.int)) ∈ lw_all := lw_g (lw_at lw_m5 101 rfl) rfl
theorem q1150 : (Jvm.Cond.methodLink "QuestionRoadModel" (215 : Nat) ({ cls := "QuestionRoadModel", name := "lives", desc := "()V" } : Jvm.MethodName)) ∈ lw_all := lw_g (lw_at lw_m5 102 rfl) rfl
theorem q1151 : (Jvm.Cond.privateMethod ({ cls := "QuestionRoadModel", name := "lives", desc := "()V" } : Jvm.MethodName)) ∈ lw_tbl := lw_at lw_m5 103 rfl
theorem q1152 : (Jvm.Cond.instanceMethod ({ cls := "QuestionRoadModel", name := "lives", desc := "()V" } : Jvm.MethodName)) ∈ lw_all := lw_g (lw_at lw_m5 104 rfl) rfl
theorem q1153 : (Jvm.Cond.code ({ cls := "QuestionRoadModel", name := "lives", desc := "()V" } : Jvm.MethodName) prog_8_method_48_code (3 : Nat) (Option.none : Option Jvm.ClassFile.FieldType)) ∈ lw_all := lw_g (lw_at lw_m5 105 rfl) rfl
theorem q1154 : (Jvm.Cond.methodLink "QuestionRoadModel" (201 : Nat) ({ cls := "QuestionRoadModel", name := "gathers", desc := "(I)V" } : Jvm.MethodName)) ∈ lw_all := lw_g (lw_at lw_m5 106 rfl) rfl
theorem q1155 : (Jvm.Cond.privateMethod ({ cls := "QuestionRoadModel", name := "gathers", desc := "(I)V" } : Jvm.MethodName)) ∈ lw_tbl := lw_at lw_m5 107 rfl
theorem q1156 : (Jvm.Cond.instanceMethod ({ cls := "QuestionRoadModel", name := "gathers", desc := "(I)V" } : Jvm.MethodName)) ∈ lw_all := lw_g (lw_at lw_m5 108 rfl) rfl
theorem q1157 : (Jvm.Cond.code ({ cls := "QuestionRoadModel", name := "gathers", desc := "(I)V" } : Jvm.MethodName) prog_8_method_46_code (4 : Nat) (Option.none : Option Jvm.ClassFile.FieldType)) ∈ lw_all := lw_g (lw_at lw_m5 109 rfl) rfl
theorem q1158 : (Jvm.Cond.methodLink "QuestionRoadModel" (205 : Nat) ({ cls := "QuestionRoadModel", name := "goesOn", desc := "(II)V" } : Jvm.MethodName)) ∈ lw_all := lw_g (lw_at lw_m5 110 rfl) rfl
theorem q1159 : (Jvm.Cond.privateMethod ({ cls := "QuestionRoadModel", name := "goesOn", desc := "(II)V" } : Jvm.MethodName)) ∈ lw_tbl := lw_at lw_m5 111 rfl
theorem q1160 : (Jvm.Cond.instanceMethod ({ cls := "QuestionRoadModel", name := "goesOn", desc := "(II)V" } : Jvm.MethodName)) ∈ lw_all := lw_g (lw_at lw_m5 112 rfl) rfl
theorem q1161 : (Jvm.Cond.code ({ cls := "QuestionRoadModel", name := "goesOn", desc := "(II)V" } : Jvm.MethodName) prog_8_method_45_code (7 : Nat) (Option.none : Option Jvm.ClassFile.FieldType)) ∈ lw_all := lw_g (lw_at lw_m5 113 rfl) rfl
theorem q1162 : (Jvm.Cond.methodLink "QuestionRoadModel" (184 : Nat) ({ cls := "QuestionRoadModel", name := "stays", desc := "(III)V" } : Jvm.MethodName)) ∈ lw_all := lw_g (lw_at lw_m5 114 rfl) rfl
theorem q1163 : (Jvm.Cond.privateMethod ({ cls := "QuestionRoadModel", name := "stays", desc := "(III)V" } : Jvm.MethodName)) ∈ lw_tbl := lw_at lw_m5 115 rfl
theorem q1164 : (Jvm.Cond.instanceMethod ({ cls := "QuestionRoadModel", name := "stays", desc := "(III)V" } : Jvm.MethodName)) ∈ lw_all := lw_g (lw_at lw_m5 116 rfl) rfl
theorem q1165 : (Jvm.Cond.code ({ cls := "QuestionRoadModel", name := "stays", desc := "(III)V" } : Jvm.MethodName) prog_8_method_44_code (4 : Nat) (Option.none : Option Jvm.ClassFile.FieldType)) ∈ lw_all := lw_g (lw_at lw_m5 117 rfl) rfl
theorem q1166 : (Jvm.Cond.methodLink "QuestionRoadModel" (188 : Nat) ({ cls := "QuestionRoadModel", name := "isTold", desc := "(III)Z" } : Jvm.MethodName)) ∈ lw_all := lw_g (lw_at lw_m5 118 rfl) rfl
theorem q1167 : (Jvm.Cond.privateMethod ({ cls := "QuestionRoadModel", name := "isTold", desc := "(III)Z" } : Jvm.MethodName)) ∈ lw_tbl := lw_at lw_m5 119 rfl
theorem q1168 : (Jvm.Cond.instanceMethod ({ cls := "QuestionRoadModel", name := "isTold", desc := "(III)Z" } : Jvm.MethodName)) ∈ lw_all := lw_g (lw_at lw_m5 120 rfl) rfl
theorem q1169 : (Jvm.Cond.code ({ cls := "QuestionRoadModel", name := "isTold", desc := "(III)Z" } : Jvm.MethodName) prog_8_method_43_code (5 : Nat) (Option.some Jvm.ClassFile.FieldType.boolean)) ∈ lw_all := lw_g (lw_at lw_m5 121 rfl) rfl
theorem q1170 : (Jvm.Cond.methodLink "QuestionRoadModel" (181 : Nat) ({ cls := "QuestionRoadModel", name := "isAnswer", desc := "(II)Z" } : Jvm.MethodName)) ∈ lw_all := lw_g (lw_at lw_m5 122 rfl) rfl
theorem q1171 : (Jvm.Cond.privateMethod ({ cls := "QuestionRoadModel", name := "isAnswer", desc := "(II)Z" } : Jvm.MethodName)) ∈ lw_tbl := lw_at lw_m5 123 rfl
theorem q1172 : (Jvm.Cond.instanceMethod ({ cls := "QuestionRoadModel", name := "isAnswer", desc := "(II)Z" } : Jvm.MethodName)) ∈ lw_all := lw_g (lw_at lw_m5 124 rfl) rfl
theorem q1173 : (Jvm.Cond.code ({ cls := "QuestionRoadModel", name := "isAnswer", desc := "(II)Z" } : Jvm.MethodName) prog_8_method_42_code (5 : Nat) (Option.some Jvm.ClassFile.FieldType.boolean)) ∈ lw_all := lw_g (lw_at lw_m5 125 rfl) rfl
theorem q1174 : (Jvm.Cond.methodLink "QuestionRoadModel" (177 : Nat) ({ cls := "QuestionRoadModel", name := "isIn", desc := "(II)Z" } : Jvm.MethodName)) ∈ lw_all := lw_g (lw_at lw_m5 126 rfl) rfl
theorem q1175 : (Jvm.Cond.static ({ cls := "QuestionRoadModel", name := "isIn", desc := "(II)Z" } : Jvm.MethodName)) ∈ lw_all := lw_g (lw_at lw_m5 127 rfl) rfl
theorem q1176 : (Jvm.Cond.code ({ cls := "QuestionRoadModel", name := "isIn", desc := "(II)Z" } : Jvm.MethodName) prog_8_method_6_code (2 : Nat) (Option.some Jvm.ClassFile.FieldType.boolean)) ∈ lw_all := lw_g (lw_at lw_m5 128 rfl) rfl
theorem q1177 : (Jvm.Cond.methodLink "QuestionRoadModel" (192 : Nat) ({ cls := "QuestionRoadModel", name := "next", desc := "(II)I" } : Jvm.MethodName)) ∈ lw_all := lw_g (lw_at lw_m5 129 rfl) rfl
theorem q1178 : (Jvm.Cond.privateMethod ({ cls := "QuestionRoadModel", name := "next", desc := "(II)I" } : Jvm.MethodName)) ∈ lw_tbl := lw_at lw_m5 130 rfl
theorem q1179 : (Jvm.Cond.instanceMethod ({ cls := "QuestionRoadModel", name := "next", desc := "(II)I" } : Jvm.MethodName)) ∈ lw_all := lw_g (lw_at lw_m5 131 rfl) rfl
theorem q1180 : (Jvm.Cond.code ({ cls := "QuestionRoadModel", name := "next", desc := "(II)I" } : Jvm.MethodName) prog_8_method_41_code (4 : Nat) (Option.some Jvm.ClassFile.FieldType.int)) ∈ lw_all := lw_g (lw_at lw_m5 132 rfl) rfl
theorem q1181 : (Jvm.Cond.methodLink "QuestionRoadModel" (209 : Nat) ({ cls := "QuestionRoadModel", name := "keeps", desc := "(I)V" } : Jvm.MethodName)) ∈ lw_all := lw_g (lw_at lw_m5 133 rfl) rfl
theorem q1182 : (Jvm.Cond.privateMethod ({ cls := "QuestionRoadModel", name := "keeps", desc := "(I)V" } : Jvm.MethodName)) ∈ lw_tbl := lw_at lw_m5 134 rfl
theorem q1183 : (Jvm.Cond.instanceMethod ({ cls := "QuestionRoadModel", name := "keeps", desc := "(I)V" } : Jvm.MethodName)) ∈ lw_all := lw_g (lw_at lw_m5 135 rfl) rfl
theorem q1184 : (Jvm.Cond.code ({ cls := "QuestionRoadModel", name := "keeps", desc := "(I)V" } : Jvm.MethodName) prog_8_method_47_code (3 : Nat) (Option.none : Option Jvm.ClassFile.FieldType)) ∈ lw_all := lw_g (lw_at lw_m5 136 rfl) rfl
theorem q1186 : (Jvm.Cond.instanceMethod ({ cls := "QuestionRoadModel", name := "ends", desc := "(I)I" } : Jvm.MethodName)) ∈ lw_all := lw_g (lw_at lw_m5 138 rfl) rfl
theorem q1187 : (Jvm.Cond.selects "QuestionRoadModel" ({ cls := "QuestionRoadModel", name := "ends", desc := "(I)I" } : Jvm.MethodName) ({ cls := "QuestionRoadModel", name := "ends", desc := "(I)I" } : Jvm.MethodName)) ∈ lw_all := lw_g (lw_at lw_m5 139 rfl) rfl
theorem q1188 : (Jvm.Cond.code ({ cls := "QuestionRoadModel", name := "ends", desc := "(I)I" } : Jvm.MethodName) prog_8_method_51_code (2 : Nat) (Option.some Jvm.ClassFile.FieldType.int)) ∈ lw_all := lw_g (lw_at lw_m5 140 rfl) rfl
theorem q1190 : (Jvm.Cond.instanceMethod ({ cls := "QuestionRoadModel", name := "far", desc := "(II)I" } : Jvm.MethodName)) ∈ lw_all := lw_g (lw_at lw_m5 142 rfl) rfl
theorem q1191 : (Jvm.Cond.selects "QuestionRoadModel" ({ cls := "QuestionRoadModel", name := "far", desc := "(II)I" } : Jvm.MethodName) ({ cls := "QuestionRoadModel", name := "far", desc := "(II)I" } : Jvm.MethodName)) ∈ lw_all := lw_g (lw_at lw_m5 143 rfl) rfl
theorem q1192 : (Jvm.Cond.code ({ cls := "QuestionRoadModel", name := "far", desc := "(II)I" } : Jvm.MethodName) prog_8_method_53_code (3 : Nat) (Option.some Jvm.ClassFile.FieldType.int)) ∈ lw_all := lw_g (lw_at lw_m5 144 rfl) rfl
theorem q1193 : (Jvm.Cond.methodLink "QuestionRoadModel" (221 : Nat) ({ cls := "QuestionRoadModel", name := "farBy", desc := "(II)I" } : Jvm.MethodName)) ∈ lw_all := lw_g (lw_at lw_m5 145 rfl) rfl
theorem q1194 : (Jvm.Cond.privateMethod ({ cls := "QuestionRoadModel", name := "farBy", desc := "(II)I" } : Jvm.MethodName)) ∈ lw_tbl := lw_at lw_m5 146 rfl
theorem q1195 : (Jvm.Cond.instanceMethod ({ cls := "QuestionRoadModel", name := "farBy", desc := "(II)I" } : Jvm.MethodName)) ∈ lw_all := lw_g (lw_at lw_m5 147 rfl) rfl
theorem q1196 : (Jvm.Cond.code ({ cls := "QuestionRoadModel", name := "farBy", desc := "(II)I" } : Jvm.MethodName) prog_8_method_52_code (3 : Nat) (Option.some Jvm.ClassFile.FieldType.int)) ∈ lw_all := lw_g (lw_at lw_m5 148 rfl) rfl
theorem q1198 : (Jvm.Cond.instanceMethod ({ cls := "QuestionRoadModel", name := "who", desc := "(I)I" } : Jvm.MethodName)) ∈ lw_all := lw_g (lw_at lw_m5 150 rfl) rfl
theorem q1199 : (Jvm.Cond.selects "QuestionRoadModel" ({ cls := "QuestionRoadModel", name := "who", desc := "(I)I" } : Jvm.MethodName) ({ cls := "QuestionRoadModel", name := "who", desc := "(I)I" } : Jvm.MethodName)) ∈ lw_all := lw_g (lw_at lw_m5 151 rfl) rfl
theorem q1200 : (Jvm.Cond.code ({ cls := "QuestionRoadModel", name := "who", desc := "(I)I" } : Jvm.MethodName) prog_8_method_55_code (2 : Nat) (Option.some Jvm.ClassFile.FieldType.int)) ∈ lw_all := lw_g (lw_at lw_m5 152 rfl) rfl
theorem q1201 : (Jvm.Cond.constantLong "QuestionRoadModel" (224 : Nat) (5 : Int64)) ∈ lw_all := lw_g (lw_at lw_m5 153 rfl) rfl
theorem q1202 : (Jvm.Cond.methodLink "QuestionRoadModel" (226 : Nat) ({ cls := "QuestionRoadModel", name := "whoBy", desc := "(I)I" } : Jvm.MethodName)) ∈ lw_all := lw_g (lw_at lw_m5 154 rfl) rfl
theorem q1203 : (Jvm.Cond.privateMethod ({ cls := "QuestionRoadModel", name := "whoBy", desc := "(I)I" } : Jvm.MethodName)) ∈ lw_tbl := lw_at lw_m5 155 rfl
theorem q1204 : (Jvm.Cond.instanceMethod ({ cls := "QuestionRoadModel", name := "whoBy", desc := "(I)I" } : Jvm.MethodName)) ∈ lw_all := lw_g (lw_at lw_m5 156 rfl) rfl
theorem q1205 : (Jvm.Cond.code ({ cls := "QuestionRoadModel", name := "whoBy", desc := "(I)I" } : Jvm.MethodName) prog_8_method_54_code (4 : Nat) (Option.some Jvm.ClassFile.FieldType.int)) ∈ lw_all := lw_g (lw_at lw_m5 157 rfl) rfl
theorem q1207 : (Jvm.Cond.instanceMethod ({ cls := "QuestionRoadModel", name := "met", desc := "(I)I" } : Jvm.MethodName)) ∈ lw_all := lw_g (lw_at lw_m5 159 rfl) rfl
theorem q1208 : (Jvm.Cond.selects "QuestionRoadModel" ({ cls := "QuestionRoadModel", name := "met", desc := "(I)I" } : Jvm.MethodName) ({ cls := "QuestionRoadModel", name := "met", desc := "(I)I" } : Jvm.MethodName)) ∈ lw_all := lw_g (lw_at lw_m5 160 rfl) rfl
theorem q1209 : (Jvm.Cond.code ({ cls := "QuestionRoadModel", name := "met", desc := "(I)I" } : Jvm.MethodName) prog_8_method_56_code (2 : Nat) (Option.some Jvm.ClassFile.FieldType.int)) ∈ lw_all := lw_g (lw_at lw_m5 161 rfl) rfl
theorem q1211 : (Jvm.Cond.instanceMethod ({ cls := "QuestionRoadModel", name := "busiest", desc := "()I" } : Jvm.MethodName)) ∈ lw_all := lw_g (lw_at lw_m5 163 rfl) rfl
theorem q1212 : (Jvm.Cond.selects "QuestionRoadModel" ({ cls := "QuestionRoadModel", name := "busiest", desc := "()I" } : Jvm.MethodName) ({ cls := "QuestionRoadModel", name := "busiest", desc := "()I" } : Jvm.MethodName)) ∈ lw_all := lw_g (lw_at lw_m5 164 rfl) rfl
theorem q1213 : (Jvm.Cond.code ({ cls := "QuestionRoadModel", name := "busiest", desc := "()I" } : Jvm.MethodName) prog_8_method_58_code (1 : Nat) (Option.some Jvm.ClassFile.FieldType.int)) ∈ lw_all := lw_g (lw_at lw_m5 165 rfl) rfl
theorem q1214 : (Jvm.Cond.methodLink "QuestionRoadModel" (232 : Nat) ({ cls := "QuestionRoadModel", name := "busiestNow", desc := "()I" } : Jvm.MethodName)) ∈ lw_all := lw_g (lw_at lw_m5 166 rfl) rfl
theorem q1215 : (Jvm.Cond.privateMethod ({ cls := "QuestionRoadModel", name := "busiestNow", desc := "()I" } : Jvm.MethodName)) ∈ lw_tbl := lw_at lw_m5 167 rfl
theorem q1216 : (Jvm.Cond.instanceMethod ({ cls := "QuestionRoadModel", name := "busiestNow", desc := "()I" } : Jvm.MethodName)) ∈ lw_all := lw_g (lw_at lw_m5 168 rfl) rfl
theorem q1217 : (Jvm.Cond.code ({ cls := "QuestionRoadModel", name := "busiestNow", desc := "()I" } : Jvm.MethodName) prog_8_method_57_code (4 : Nat) (Option.some Jvm.ClassFile.FieldType.int)) ∈ lw_all := lw_g (lw_at lw_m5 169 rfl) rfl
theorem q1218 : (Jvm.Cond.methodLink "QuestionRoadModel" (229 : Nat) ({ cls := "QuestionRoadModel", name := "greater", desc := "(II)I" } : Jvm.MethodName)) ∈ lw_all := lw_g (lw_at lw_m5 170 rfl) rfl
theorem q1219 : (Jvm.Cond.static ({ cls := "QuestionRoadModel", name := "greater", desc := "(II)I" } : Jvm.MethodName)) ∈ lw_all := lw_g (lw_at lw_m5 171 rfl) rfl
theorem q1220 : (Jvm.Cond.code ({ cls := "QuestionRoadModel", name := "greater", desc := "(II)I" } : Jvm.MethodName) prog_8_method_9_code (2 : Nat) (Option.some Jvm.ClassFile.FieldType.int)) ∈ lw_all := lw_g (lw_at lw_m5 172 rfl) rfl
theorem q1222 : (Jvm.Cond.instanceMethod ({ cls := "QuestionRoadModel", name := "needs", desc := "(I)I" } : Jvm.MethodName)) ∈ lw_all := lw_g (lw_at lw_m5 174 rfl) rfl
theorem q1223 : (Jvm.Cond.selects "QuestionRoadModel" ({ cls := "QuestionRoadModel", name := "needs", desc := "(I)I" } : Jvm.MethodName) ({ cls := "QuestionRoadModel", name := "needs", desc := "(I)I" } : Jvm.MethodName)) ∈ lw_all := lw_g (lw_at lw_m5 175 rfl) rfl
theorem q1224 : (Jvm.Cond.code ({ cls := "QuestionRoadModel", name := "needs", desc := "(I)I" } : Jvm.MethodName) prog_8_method_61_code (2 : Nat) (Option.some Jvm.ClassFile.FieldType.int)) ∈ lw_all := lw_g (lw_at lw_m5 176 rfl) rfl
theorem q1225 : (Jvm.Cond.methodLink "QuestionRoadModel" (238 : Nat) ({ cls := "QuestionRoadModel", name := "needsOf", desc := "(I)I" } : Jvm.MethodName)) ∈ lw_all := lw_g (lw_at lw_m5 177 rfl) rfl
theorem q1226 : (Jvm.Cond.privateMethod ({ cls := "QuestionRoadModel", name := "needsOf", desc := "(I)I" } : Jvm.MethodName)) ∈ lw_tbl := lw_at lw_m5 178 rfl
theorem q1227 : (Jvm.Cond.instanceMethod ({ cls := "QuestionRoadModel", name := "needsOf", desc := "(I)I" } : Jvm.MethodName)) ∈ lw_all := lw_g (lw_at lw_m5 179 rfl) rfl
theorem q1228 : (Jvm.Cond.code ({ cls := "QuestionRoadModel", name := "needsOf", desc := "(I)I" } : Jvm.MethodName) prog_8_method_60_code (5 : Nat) (Option.some Jvm.ClassFile.FieldType.int)) ∈ lw_all := lw_g (lw_at lw_m5 180 rfl) rfl
theorem q1230 : (Jvm.Cond.instanceMethod ({ cls := "QuestionRoadModel", name := "lend", desc := "(I)I" } : Jvm.MethodName)) ∈ lw_all := lw_g (lw_at lw_m5 182 rfl) rfl
theorem q1231 : (Jvm.Cond.selects "QuestionRoadModel" ({ cls := "QuestionRoadModel", name := "lend", desc := "(I)I" } : Jvm.MethodName) ({ cls := "QuestionRoadModel", name := "lend", desc := "(I)I" } : Jvm.MethodName)) ∈ lw_all := lw_g (lw_at lw_m5 183 rfl) rfl
theorem q1232 : (Jvm.Cond.code ({ cls := "QuestionRoadModel", name := "lend", desc := "(I)I" } : Jvm.MethodName) prog_8_method_64_code (2 : Nat) (Option.some Jvm.ClassFile.FieldType.int)) ∈ lw_all := lw_g (lw_at lw_m5 184 rfl) rfl
theorem q1233 : (Jvm.Cond.methodLink "QuestionRoadModel" (247 : Nat) ({ cls := "QuestionRoadModel", name := "lendBy", desc := "(I)I" } : Jvm.MethodName)) ∈ lw_all := lw_g (lw_at lw_m5 185 rfl) rfl
theorem q1234 : (Jvm.Cond.privateMethod ({ cls := "QuestionRoadModel", name := "lendBy", desc := "(I)I" } : Jvm.MethodName)) ∈ lw_tbl := lw_at lw_m5 186 rfl
theorem q1235 : (Jvm.Cond.instanceMethod ({ cls := "QuestionRoadModel", name := "lendBy", desc := "(I)I" } : Jvm.MethodName)) ∈ lw_all := lw_g (lw_at lw_m5 187 rfl) rfl
theorem q1236 : (Jvm.Cond.code ({ cls := "QuestionRoadModel", name := "lendBy", desc := "(I)I" } : Jvm.MethodName) prog_8_method_63_code (8 : Nat) (Option.some Jvm.ClassFile.FieldType.int)) ∈ lw_all := lw_g (lw_at lw_m5 188 rfl) rfl
theorem q1237 : (Jvm.Cond.methodLink "QuestionRoadModel" (241 : Nat) ({ cls := "QuestionRoadModel", name := "lends", desc := "(II)V" } : Jvm.MethodName)) ∈ lw_all := lw_g (lw_at lw_m5 189 rfl) rfl
theorem q1238 : (Jvm.Cond.privateMethod ({ cls := "QuestionRoadModel", name := "lends", desc := "(II)V" } : Jvm.MethodName)) ∈ lw_tbl := lw_at lw_m5 190 rfl
theorem q1239 : (Jvm.Cond.instanceMethod ({ cls := "QuestionRoadModel", name := "lends", desc := "(II)V" } : Jvm.MethodName)) ∈ lw_all := lw_g (lw_at lw_m5 191 rfl) rfl
theorem q1240 : (Jvm.Cond.code ({ cls := "QuestionRoadModel", name := "lends", desc := "(II)V" } : Jvm.MethodName) prog_8_method_62_code (5 : Nat) (Option.none : Option Jvm.ClassFile.FieldType)) ∈ lw_all := lw_g (lw_at lw_m5 192 rfl) rfl
theorem q1241 : (Jvm.Cond.methodLink "QuestionRoadModel" (244 : Nat) ({ cls := "QuestionRoadModel", name := "comers", desc := "()I" } : Jvm.MethodName)) ∈ lw_all := lw_g (lw_at lw_m5 193 rfl) rfl
theorem q1242 : (Jvm.Cond.privateMethod ({ cls := "QuestionRoadModel", name := "comers", desc := "()I" } : Jvm.MethodName)) ∈ lw_tbl := lw_at lw_m5 194 rfl
theorem q1243 : (Jvm.Cond.instanceMethod ({ cls := "QuestionRoadModel", name := "comers", desc := "()I" } : Jvm.MethodName)) ∈ lw_all := lw_g (lw_at lw_m5 195 rfl) rfl
theorem q1244 : (Jvm.Cond.code ({ cls := "QuestionRoadModel", name := "comers", desc := "()I" } : Jvm.MethodName) prog_8_method_59_code (1 : Nat) (Option.some Jvm.ClassFile.FieldType.int)) ∈ lw_all := lw_g (lw_at lw_m5 196 rfl) rfl
theorem q1245 : (Jvm.Cond.methodLink "QuestionRoadModel" (235 : Nat) ({ cls := "QuestionRoadModel", name := "ones", desc := "(I)I" } : Jvm.MethodName)) ∈ lw_all := lw_g (lw_at lw_m5 197 rfl) rfl
theorem q1246 : (Jvm.Cond.static ({ cls := "QuestionRoadModel", name := "ones", desc := "(I)I" } : Jvm.MethodName)) ∈ lw_all := lw_g (lw_at lw_m5 198 rfl) rfl
theorem q1247 : (Jvm.Cond.code ({ cls := "QuestionRoadModel", name := "ones", desc := "(I)I" } : Jvm.MethodName) prog_8_method_7_code (3 : Nat) (Option.some Jvm.ClassFile.FieldType.int)) ∈ lw_all := lw_g (lw_at lw_m5 199 rfl) rfl
theorem q1249 : (Jvm.Cond.instanceMethod ({ cls := "QuestionRoadModel", name := "delay", desc := "(II)I" } : Jvm.MethodName)) ∈ lw_all := lw_g (lw_at lw_m5 201 rfl) rfl
theorem q1250 : (Jvm.Cond.selects "QuestionRoadModel" ({ cls := "QuestionRoadModel", name := "delay", desc := "(II)I" } : Jvm.MethodName) ({ cls := "QuestionRoadModel", name := "delay", desc := "(II)I" } : Jvm.MethodName)) ∈ lw_all := lw_g (lw_at lw_m5 202 rfl) rfl
theorem q1251 : (Jvm.Cond.code ({ cls := "QuestionRoadModel", name := "delay", desc := "(II)I" } : Jvm.MethodName) prog_8_method_66_code (3 : Nat) (Option.some Jvm.ClassFile.FieldType.int)) ∈ lw_all := lw_g (lw_at lw_m5 203 rfl) rfl
theorem q1252 : (Jvm.Cond.methodLink "QuestionRoadModel" (250 : Nat) ({ cls := "QuestionRoadModel", name := "delayOf", desc := "(II)I" } : Jvm.MethodName)) ∈ lw_all := lw_g (lw_at lw_m5 204 rfl) rfl
theorem q1253 : (Jvm.Cond.privateMethod ({ cls := "QuestionRoadModel", name := "delayOf", desc := "(II)I" } : Jvm.MethodName)) ∈ lw_tbl := lw_at lw_m5 205 rfl
theorem q1254 : (Jvm.Cond.instanceMethod ({ cls := "QuestionRoadModel", name := "delayOf", desc := "(II)I" } : Jvm.MethodName)) ∈ lw_all := lw_g (lw_at lw_m5 206 rfl) rfl
theorem q1255 : (Jvm.Cond.code ({ cls := "QuestionRoadModel", name := "delayOf", desc := "(II)I" } : Jvm.MethodName) prog_8_method_65_code (8 : Nat) (Option.some Jvm.ClassFile.FieldType.int)) ∈ lw_all := lw_g (lw_at lw_m5 207 rfl) rfl
theorem q1257 : (Jvm.Cond.instanceMethod ({ cls := "QuestionRoadModel", name := "level", desc := "(I)I" } : Jvm.MethodName)) ∈ lw_all := lw_g (lw_at lw_m5 209 rfl) rfl
theorem q1258 : (Jvm.Cond.selects "QuestionRoadModel" ({ cls := "QuestionRoadModel", name := "level", desc := "(I)I" } : Jvm.MethodName) ({ cls := "QuestionRoadModel", name := "level", desc := "(I)I" } : Jvm.MethodName)) ∈ lw_all := lw_g (lw_at lw_m5 210 rfl) rfl
theorem q1259 : (Jvm.Cond.code ({ cls := "QuestionRoadModel", name := "level", desc := "(I)I" } : Jvm.MethodName) prog_8_method_68_code (2 : Nat) (Option.some Jvm.ClassFile.FieldType.int)) ∈ lw_all := lw_g (lw_at lw_m5 211 rfl) rfl
theorem q1260 : (Jvm.Cond.methodLink "QuestionRoadModel" (253 : Nat) ({ cls := "QuestionRoadModel", name := "levelBy", desc := "(I)I" } : Jvm.MethodName)) ∈ lw_all := lw_g (lw_at lw_m5 212 rfl) rfl
theorem q1261 : (Jvm.Cond.privateMethod ({ cls := "QuestionRoadModel", name := "levelBy", desc := "(I)I" } : Jvm.MethodName)) ∈ lw_tbl := lw_at lw_m5 213 rfl
theorem q1262 : (Jvm.Cond.instanceMethod ({ cls := "QuestionRoadModel", name := "levelBy", desc := "(I)I" } : Jvm.MethodName)) ∈ lw_all := lw_g (lw_at lw_m5 214 rfl) rfl
theorem q1263 : (Jvm.Cond.code ({ cls := "QuestionRoadModel", name := "levelBy", desc := "(I)I" } : Jvm.MethodName) prog_8_method_67_code (7 : Nat) (Option.some Jvm.ClassFile.FieldType.int)) ∈ lw_all := lw_g (lw_at lw_m5 215 rfl) rfl
theorem q1265 : (Jvm.Cond.instanceMethod ({ cls := "QuestionRoadModel", name := "seen", desc := "(III)I" } : Jvm.MethodName)) ∈ lw_all := lw_g (lw_at lw_m5 217 rfl) rfl
theorem q1266 : (Jvm.Cond.selects "QuestionRoadModel" ({ cls := "QuestionRoadModel", name := "seen", desc := "(III)I" } : Jvm.MethodName) ({ cls := "QuestionRoadModel", name := "seen", desc := "(III)I" } : Jvm.MethodName)) ∈ lw_all := lw_g (lw_at lw_m5 218 rfl) rfl
theorem q1267 : (Jvm.Cond.code ({ cls := "QuestionRoadModel", name := "seen", desc := "(III)I" } : Jvm.MethodName) prog_8_method_69_code (4 : Nat) (Option.some Jvm.ClassFile.FieldType.int)) ∈ lw_all := lw_g (lw_at lw_m5 219 rfl) rfl
theorem q1268 : (Jvm.Cond.constantLong "QuestionRoadModel" (256 : Nat) (8 : Int64)) ∈ lw_all := lw_g (lw_at lw_m5 220 rfl) rfl
theorem q1270 : (Jvm.Cond.instanceMethod ({ cls := "QuestionRoadModel", name := "forget", desc := "()I" } : Jvm.MethodName)) ∈ lw_all := lw_g (lw_at lw_m5 222 rfl) rfl
theorem q1271 : (Jvm.Cond.selects "QuestionRoadModel" ({ cls := "QuestionRoadModel", name := "forget", desc := "()I" } : Jvm.MethodName) ({ cls := "QuestionRoadModel", name := "forget", desc := "()I" } : Jvm.MethodName)) ∈ lw_all := lw_g (lw_at lw_m5 223 rfl) rfl
theorem q1272 : (Jvm.Cond.code ({ cls := "QuestionRoadModel", name := "forget", desc := "()I" } : Jvm.MethodName) prog_8_method_70_code (2 : Nat) (Option.some Jvm.ClassFile.FieldType.int)) ∈ lw_all := lw_g (lw_at lw_m5 224 rfl) rfl
theorem q1274 : (Jvm.Cond.instanceMethod ({ cls := "QuestionRoadModel", name := "never", desc := "()I" } : Jvm.MethodName)) ∈ lw_all := lw_g (lw_at lw_m5 226 rfl) rfl
theorem q1275 : (Jvm.Cond.selects "QuestionRoadModel" ({ cls := "QuestionRoadModel", name := "never", desc := "()I" } : Jvm.MethodName) ({ cls := "QuestionRoadModel", name := "never", desc := "()I" } : Jvm.MethodName)) ∈ lw_all := lw_g (lw_at lw_m5 227 rfl) rfl
theorem q1276 : (Jvm.Cond.code ({ cls := "QuestionRoadModel", name := "never", desc := "()I" } : Jvm.MethodName) prog_8_method_73_code (1 : Nat) (Option.some Jvm.ClassFile.FieldType.int)) ∈ lw_all := lw_g (lw_at lw_m5 228 rfl) rfl
theorem q1277 : (Jvm.Cond.methodLink "QuestionRoadModel" (265 : Nat) ({ cls := "QuestionRoadModel", name := "neverNow", desc := "()I" } : Jvm.MethodName)) ∈ lw_all := lw_g (lw_at lw_m5 229 rfl) rfl
theorem q1278 : (Jvm.Cond.privateMethod ({ cls := "QuestionRoadModel", name := "neverNow", desc := "()I" } : Jvm.MethodName)) ∈ lw_tbl := lw_at lw_m5 230 rfl
theorem q1279 : (Jvm.Cond.instanceMethod ({ cls := "QuestionRoadModel", name := "neverNow", desc := "()I" } : Jvm.MethodName)) ∈ lw_all := lw_g (lw_at lw_m5 231 rfl) rfl
theorem q1280 : (Jvm.Cond.code ({ cls := "QuestionRoadModel", name := "neverNow", desc := "()I" } : Jvm.MethodName) prog_8_method_72_code (3 : Nat) (Option.some Jvm.ClassFile.FieldType.int)) ∈ lw_all := lw_g (lw_at lw_m5 232 rfl) rfl
theorem q1281 : (Jvm.Cond.methodLink "QuestionRoadModel" (261 : Nat) ({ cls := "QuestionRoadModel", name := "isSeen", desc := "()Z" } : Jvm.MethodName)) ∈ lw_all := lw_g (lw_at lw_m5 233 rfl) rfl
theorem q1282 : (Jvm.Cond.privateMethod ({ cls := "QuestionRoadModel", name := "isSeen", desc := "()Z" } : Jvm.MethodName)) ∈ lw_tbl := lw_at lw_m5 234 rfl
theorem q1283 : (Jvm.Cond.instanceMethod ({ cls := "QuestionRoadModel", name := "isSeen", desc := "()Z" } : Jvm.MethodName)) ∈ lw_all := lw_g (lw_at lw_m5 235 rfl) rfl
theorem q1284 : (Jvm.Cond.code ({ cls := "QuestionRoadModel", name := "isSeen", desc := "()Z" } : Jvm.MethodName) prog_8_method_71_code (4 : Nat) (Option.some Jvm.ClassFile.FieldType.boolean)) ∈ lw_all := lw_g (lw_at lw_m5 236 rfl) rfl
theorem q1286 : (Jvm.Cond.instanceMethod ({ cls := "QuestionRoadModel", name := "sort", desc := "(I)I" } : Jvm.MethodName)) ∈ lw_all := lw_g (lw_at lw_m5 238 rfl) rfl
theorem q1287 : (Jvm.Cond.selects "QuestionRoadModel" ({ cls := "QuestionRoadModel", name := "sort", desc := "(I)I" } : Jvm.MethodName) ({ cls := "QuestionRoadModel", name := "sort", desc := "(I)I" } : Jvm.MethodName)) ∈ lw_all := lw_g (lw_at lw_m5 239 rfl) rfl
theorem q1288 : (Jvm.Cond.code ({ cls := "QuestionRoadModel", name := "sort", desc := "(I)I" } : Jvm.MethodName) prog_8_method_75_code (2 : Nat) (Option.some Jvm.ClassFile.FieldType.int)) ∈ lw_all := lw_g (lw_at lw_m6 0 rfl) rfl
theorem q1289 : (Jvm.Cond.methodLink "QuestionRoadModel" (268 : Nat) ({ cls := "QuestionRoadModel", name := "sortOf", desc := "(I)I" } : Jvm.MethodName)) ∈ lw_all := lw_g (lw_at lw_m6 1 rfl) rfl
theorem q1290 : (Jvm.Cond.privateMethod ({ cls := "QuestionRoadModel", name := "sortOf", desc := "(I)I" } : Jvm.MethodName)) ∈ lw_tbl := lw_at lw_m6 2 rfl
theorem q1291 : (Jvm.Cond.instanceMethod ({ cls := "QuestionRoadModel", name := "sortOf", desc := "(I)I" } : Jvm.MethodName)) ∈ lw_all := lw_g (lw_at lw_m6 3 rfl) rfl
theorem q1292 : (Jvm.Cond.code ({ cls := "QuestionRoadModel", name := "sortOf", desc := "(I)I" } : Jvm.MethodName) prog_8_method_74_code (6 : Nat) (Option.some Jvm.ClassFile.FieldType.int)) ∈ lw_all := lw_g (lw_at lw_m6 4 rfl) rfl
theorem q1294 : (Jvm.Cond.instanceMethod ({ cls := "QuestionRoadModel", name := "force", desc := "(II)I" } : Jvm.MethodName)) ∈ lw_all := lw_g (lw_at lw_m6 6 rfl) rfl
theorem q1295 : (Jvm.Cond.selects "QuestionRoadModel" ({ cls := "QuestionRoadModel", name := "force", desc := "(II)I" } : Jvm.MethodName) ({ cls := "QuestionRoadModel", name := "force", desc := "(II)I" } : Jvm.MethodName)) ∈ lw_all := lw_g (lw_at lw_m6 7 rfl) rfl
theorem q1296 : (Jvm.Cond.code ({ cls := "QuestionRoadModel", name := "force", desc := "(II)I" } : Jvm.MethodName) prog_8_method_77_code (3 : Nat) (Option.some Jvm.ClassFile.FieldType.int)) ∈ lw_all := lw_g (lw_at lw_m6 8 rfl) rfl
theorem q1297 : (Jvm.Cond.methodLink "QuestionRoadModel" (271 : Nat) ({ cls := "QuestionRoadModel", name := "forceOf", desc := "(II)I" } : Jvm.MethodName)) ∈ lw_all := lw_g (lw_at lw_m6 9 rfl) rfl
theorem q1298 : (Jvm.Cond.privateMethod ({ cls := "QuestionRoadModel", name := "forceOf", desc := "(II)I" } : Jvm.MethodName)) ∈ lw_tbl := lw_at lw_m6 10 rfl
theorem q1299 : (Jvm.Cond.instanceMethod ({ cls := "QuestionRoadModel", name := "forceOf", desc := "(II)I" } : Jvm.MethodName)) ∈ lw_all := lw_g (lw_at lw_m6 11 rfl) rfl
theorem q1300 : (Jvm.Cond.code ({ cls := "QuestionRoadModel", name := "forceOf", desc := "(II)I" } : Jvm.MethodName) prog_8_method_76_code (9 : Nat) (Option.some Jvm.ClassFile.FieldType.int)) ∈ lw_all := lw_g (lw_at lw_m6 12 rfl) rfl
theorem q1302 : (Jvm.Cond.instanceMethod ({ cls := "QuestionRoadModel", name := "ask", desc := "(I)I" } : Jvm.MethodName)) ∈ lw_all := lw_g (lw_at lw_m6 14 rfl) rfl
theorem q1303 : (Jvm.Cond.selects "QuestionRoadModel" ({ cls := "QuestionRoadModel", name := "ask", desc := "(I)I" } : Jvm.MethodName) ({ cls := "QuestionRoadModel", name := "ask", desc := "(I)I" } : Jvm.MethodName)) ∈ lw_all := lw_g (lw_at lw_m6 15 rfl) rfl
theorem q1304 : (Jvm.Cond.code ({ cls := "QuestionRoadModel", name := "ask", desc := "(I)I" } : Jvm.MethodName) prog_8_method_80_code (2 : Nat) (Option.some Jvm.ClassFile.FieldType.int)) ∈ lw_all := lw_g (lw_at lw_m6 16 rfl) rfl
theorem q1305 : (Jvm.Cond.methodLink "QuestionRoadModel" (277 : Nat) ({ cls := "QuestionRoadModel", name := "askOf", desc := "(I)I" } : Jvm.MethodName)) ∈ lw_all := lw_g (lw_at lw_m6 17 rfl) rfl
theorem q1306 : (Jvm.Cond.privateMethod ({ cls := "QuestionRoadModel", name := "askOf", desc := "(I)I" } : Jvm.MethodName)) ∈ lw_tbl := lw_at lw_m6 18 rfl
theorem q1307 : (Jvm.Cond.instanceMethod ({ cls := "QuestionRoadModel", name := "askOf", desc := "(I)I" } : Jvm.MethodName)) ∈ lw_all := lw_g (lw_at lw_m6 19 rfl) rfl
theorem q1308 : (Jvm.Cond.code ({ cls := "QuestionRoadModel", name := "askOf", desc := "(I)I" } : Jvm.MethodName) prog_8_method_79_code (5 : Nat) (Option.some Jvm.ClassFile.FieldType.int)) ∈ lw_all := lw_g (lw_at lw_m6 20 rfl) rfl
theorem q1309 : (Jvm.Cond.methodLink "QuestionRoadModel" (274 : Nat) ({ cls := "QuestionRoadModel", name := "alike", desc := "(II)I" } : Jvm.MethodName)) ∈ lw_all := lw_g (lw_at lw_m6 21 rfl) rfl
theorem q1310 : (Jvm.Cond.privateMethod ({ cls := "QuestionRoadModel", name := "alike", desc := "(II)I" } : Jvm.MethodName)) ∈ lw_tbl := lw_at lw_m6 22 rfl
theorem q1311 : (Jvm.Cond.instanceMethod ({ cls := "QuestionRoadModel", name := "alike", desc := "(II)I" } : Jvm.MethodName)) ∈ lw_all := lw_g (lw_at lw_m6 23 rfl) rfl
theorem q1312 : (Jvm.Cond.code ({ cls := "QuestionRoadModel", name := "alike", desc := "(II)I" } : Jvm.MethodName) prog_8_method_78_code (7 : Nat) (Option.some Jvm.ClassFile.FieldType.int)) ∈ lw_all := lw_g (lw_at lw_m6 24 rfl) rfl
theorem q1314 : (Jvm.Cond.instanceMethod ({ cls := "QuestionRoadModel", name := "rumour", desc := "(III)J" } : Jvm.MethodName)) ∈ lw_all := lw_g (lw_at lw_m6 26 rfl) rfl
theorem q1315 : (Jvm.Cond.selects "QuestionRoadModel" ({ cls := "QuestionRoadModel", name := "rumour", desc := "(III)J" } : Jvm.MethodName) ({ cls := "QuestionRoadModel", name := "rumour", desc := "(III)J" } : Jvm.MethodName)) ∈ lw_all := lw_g (lw_at lw_m6 27 rfl) rfl
theorem q1316 : (Jvm.Cond.code ({ cls := "QuestionRoadModel", name := "rumour", desc := "(III)J" } : Jvm.MethodName) prog_8_method_82_code (4 : Nat) (Option.some Jvm.ClassFile.FieldType.long)) ∈ lw_all := lw_g (lw_at lw_m6 28 rfl) rfl
theorem q1317 : (Jvm.Cond.constantLong "QuestionRoadModel" (284 : Nat) (16 : Int64)) ∈ lw_all := lw_g (lw_at lw_m6 29 rfl) rfl
theorem q1318 : (Jvm.Cond.methodLink "QuestionRoadModel" (286 : Nat) ({ cls := "QuestionRoadModel", name := "rumourOf", desc := "(III)J" } : Jvm.MethodName)) ∈ lw_all := lw_g (lw_at lw_m6 30 rfl) rfl
theorem q1319 : (Jvm.Cond.privateMethod ({ cls := "QuestionRoadModel", name := "rumourOf", desc := "(III)J" } : Jvm.MethodName)) ∈ lw_tbl := lw_at lw_m6 31 rfl
theorem q1320 : (Jvm.Cond.instanceMethod ({ cls := "QuestionRoadModel", name := "rumourOf", desc := "(III)J" } : Jvm.MethodName)) ∈ lw_all := lw_g (lw_at lw_m6 32 rfl) rfl
theorem q1321 : (Jvm.Cond.code ({ cls := "QuestionRoadModel", name := "rumourOf", desc := "(III)J" } : Jvm.MethodName) prog_8_method_81_code (10 : Nat) (Option.some Jvm.ClassFile.FieldType.long)) ∈ lw_all := lw_g (lw_at lw_m6 33 rfl) rfl
theorem q1322 : (Jvm.Cond.methodLink "QuestionRoadModel" (280 : Nat) ({ cls := "QuestionRoadModel", name := "part", desc := "(JJI)J" } : Jvm.MethodName)) ∈ lw_all := lw_g (lw_at lw_m6 34 rfl) rfl
theorem q1323 : (Jvm.Cond.static ({ cls := "QuestionRoadModel", name := "part", desc := "(JJI)J" } : Jvm.MethodName)) ∈ lw_all := lw_g (lw_at lw_m6 35 rfl) rfl
theorem q1324 : (Jvm.Cond.code ({ cls := "QuestionRoadModel", name := "part", desc := "(JJI)J" } : Jvm.MethodName) prog_8_method_10_code (11 : Nat) (Option.some Jvm.ClassFile.FieldType.long)) ∈ lw_all := lw_g (lw_at lw_m6 36 rfl) rfl
theorem q1325 : (Jvm.Cond.methodLink "QuestionRoadModel" (290 : Nat) ({ cls := "QuestionRoadModel", name := "no", desc := "(I)J" } : Jvm.MethodName)) ∈ lw_all := lw_g (lw_at lw_m6 37 rfl) rfl
theorem q1326 : (Jvm.Cond.static ({ cls := "QuestionRoadModel", name := "no", desc := "(I)J" } : Jvm.MethodName)) ∈ lw_all := lw_g (lw_at lw_m6 38 rfl) rfl
theorem q1327 : (Jvm.Cond.code ({ cls := "QuestionRoadModel", name := "no", desc := "(I)J" } : Jvm.MethodName) prog_8_method_4_code (1 : Nat) (Option.some Jvm.ClassFile.FieldType.long)) ∈ lw_all := lw_g (lw_at lw_m6 39 rfl) rfl
theorem q1328 : (Jvm.Cond.constantLong "QuestionRoadModel" (79 : Nat) (-9223372036854775808 : Int64)) ∈ lw_all := lw_g (lw_at lw_m6 40 rfl) rfl
theorem q1330 : (Jvm.Cond.instanceMethod ({ cls := "QuestionRoadModel", name := "market", desc := "(II)I" } : Jvm.MethodName)) ∈ lw_all := lw_g (lw_at lw_m6 42 rfl) rfl
theorem q1331 : (Jvm.Cond.selects "QuestionRoadModel" ({ cls := "QuestionRoadModel", name := "market", desc := "(II)I" } : Jvm.MethodName) ({ cls := "QuestionRoadModel", name := "market", desc := "(II)I" } : Jvm.MethodName)) ∈ lw_all := lw_g (lw_at lw_m6 43 rfl) rfl
theorem q1332 : (Jvm.Cond.code ({ cls := "QuestionRoadModel", name := "market", desc := "(II)I" } : Jvm.MethodName) prog_8_method_85_code (3 : Nat) (Option.some Jvm.ClassFile.FieldType.int)) ∈ lw_all := lw_g (lw_at lw_m6 44 rfl) rfl
theorem q1333 : (Jvm.Cond.methodLink "QuestionRoadModel" (301 : Nat) ({ cls := "QuestionRoadModel", name := "marketOf", desc := "(II)I" } : Jvm.MethodName)) ∈ lw_all := lw_g (lw_at lw_m6 45 rfl) rfl
theorem q1334 : (Jvm.Cond.privateMethod ({ cls := "QuestionRoadModel", name := "marketOf", desc := "(II)I" } : Jvm.MethodName)) ∈ lw_tbl := lw_at lw_m6 46 rfl
theorem q1335 : (Jvm.Cond.instanceMethod ({ cls := "QuestionRoadModel", name := "marketOf", desc := "(II)I" } : Jvm.MethodName)) ∈ lw_all := lw_g (lw_at lw_m6 47 rfl) rfl
theorem q1336 : (Jvm.Cond.code ({ cls := "QuestionRoadModel", name := "marketOf", desc := "(II)I" } : Jvm.MethodName) prog_8_method_84_code (4 : Nat) (Option.some Jvm.ClassFile.FieldType.int)) ∈ lw_all := lw_g (lw_at lw_m6 48 rfl) rfl
theorem q1337 : (Jvm.Cond.methodLink "QuestionRoadModel" (298 : Nat) ({ cls := "QuestionRoadModel", name := "lot", desc := "(I)I" } : Jvm.MethodName)) ∈ lw_all := lw_g (lw_at lw_m6 49 rfl) rfl
theorem q1338 : (Jvm.Cond.privateMethod ({ cls := "QuestionRoadModel", name := "lot", desc := "(I)I" } : Jvm.MethodName)) ∈ lw_tbl := lw_at lw_m6 50 rfl
theorem q1339 : (Jvm.Cond.instanceMethod ({ cls := "QuestionRoadModel", name := "lot", desc := "(I)I" } : Jvm.MethodName)) ∈ lw_all := lw_g (lw_at lw_m6 51 rfl) rfl
theorem q1340 : (Jvm.Cond.code ({ cls := "QuestionRoadModel", name := "lot", desc := "(I)I" } : Jvm.MethodName) prog_8_method_83_code (2 : Nat) (Option.some Jvm.ClassFile.FieldType.int)) ∈ lw_all := lw_g (lw_at lw_m6 52 rfl) rfl
theorem q1341 : (Jvm.Cond.constant "QuestionRoadModel" (294 : Nat) (1103515245 : Int32)) ∈ lw_all := lw_g (lw_at lw_m6 53 rfl) rfl
theorem q1343 : (Jvm.Cond.instanceMethod ({ cls := "QuestionRoadModel", name := "write", desc := "(II)I" } : Jvm.MethodName)) ∈ lw_all := lw_g (lw_at lw_m6 55 rfl) rfl
theorem q1344 : (Jvm.Cond.selects "QuestionRoadModel" ({ cls := "QuestionRoadModel", name := "write", desc := "(II)I" } : Jvm.MethodName) ({ cls := "QuestionRoadModel", name := "write", desc := "(II)I" } : Jvm.MethodName)) ∈ lw_all := lw_g (lw_at lw_m6 56 rfl) rfl
theorem q1345 : (Jvm.Cond.code ({ cls := "QuestionRoadModel", name := "write", desc := "(II)I" } : Jvm.MethodName) prog_8_method_86_code (5 : Nat) (Option.some Jvm.ClassFile.FieldType.int)) ∈ lw_all := lw_g (lw_at lw_m6 57 rfl) rfl
theorem q1347 : (Jvm.Cond.instanceMethod ({ cls := "QuestionRoadModel", name := "count", desc := "(I)I" } : Jvm.MethodName)) ∈ lw_all := lw_g (lw_at lw_m6 59 rfl) rfl
theorem q1348 : (Jvm.Cond.selects "QuestionRoadModel" ({ cls := "QuestionRoadModel", name := "count", desc := "(I)I" } : Jvm.MethodName) ({ cls := "QuestionRoadModel", name := "count", desc := "(I)I" } : Jvm.MethodName)) ∈ lw_all := lw_g (lw_at lw_m6 60 rfl) rfl
theorem q1349 : (Jvm.Cond.code ({ cls := "QuestionRoadModel", name := "count", desc := "(I)I" } : Jvm.MethodName) prog_8_method_88_code (2 : Nat) (Option.some Jvm.ClassFile.FieldType.int)) ∈ lw_all := lw_g (lw_at lw_m6 61 rfl) rfl
theorem q1350 : (Jvm.Cond.methodLink "QuestionRoadModel" (304 : Nat) ({ cls := "QuestionRoadModel", name := "allArrivals", desc := "()I" } : Jvm.MethodName)) ∈ lw_all := lw_g (lw_at lw_m6 62 rfl) rfl
theorem q1351 : (Jvm.Cond.privateMethod ({ cls := "QuestionRoadModel", name := "allArrivals", desc := "()I" } : Jvm.MethodName)) ∈ lw_tbl := lw_at lw_m6 63 rfl
theorem q1352 : (Jvm.Cond.instanceMethod ({ cls := "QuestionRoadModel", name := "allArrivals", desc := "()I" } : Jvm.MethodName)) ∈ lw_all := lw_g (lw_at lw_m6 64 rfl) rfl
theorem q1353 : (Jvm.Cond.code ({ cls := "QuestionRoadModel", name := "allArrivals", desc := "()I" } : Jvm.MethodName) prog_8_method_87_code (3 : Nat) (Option.some Jvm.ClassFile.FieldType.int)) ∈ lw_all := lw_g (lw_at lw_m6 65 rfl) rfl
theorem q1355 : (Jvm.Cond.instanceMethod ({ cls := "QuestionRoadModel", name := "digest", desc := "()J" } : Jvm.MethodName)) ∈ lw_all := lw_g (lw_at lw_m6 67 rfl) rfl
theorem q1356 : (Jvm.Cond.selects "QuestionRoadModel" ({ cls := "QuestionRoadModel", name := "digest", desc := "()J" } : Jvm.MethodName) ({ cls := "QuestionRoadModel", name := "digest", desc := "()J" } : Jvm.MethodName)) ∈ lw_all := lw_g (lw_at lw_m6 68 rfl) rfl
theorem q1357 : (Jvm.Cond.code ({ cls := "QuestionRoadModel", name := "digest", desc := "()J" } : Jvm.MethodName) prog_8_method_91_code (4 : Nat) (Option.some Jvm.ClassFile.FieldType.long)) ∈ lw_all := lw_g (lw_at lw_m6 69 rfl) rfl
theorem q1358 : (Jvm.Cond.constantLong "QuestionRoadModel" (313 : Nat) (17 : Int64)) ∈ lw_all := lw_g (lw_at lw_m6 70 rfl) rfl
theorem q1359 : (Jvm.Cond.constantLong "QuestionRoadModel" (307 : Nat) (31 : Int64)) ∈ lw_all := lw_g (lw_at lw_m6 71 rfl) rfl
theorem q1360 : (Jvm.Cond.methodLink "QuestionRoadModel" (315 : Nat) ({ cls := "QuestionRoadModel", name := "count", desc := "(I)I" } : Jvm.MethodName)) ∈ lw_all := lw_g (lw_at lw_m6 72 rfl) rfl
theorem q1361 : (Jvm.Cond.methodLink "QuestionRoadModel" (318 : Nat) ({ cls := "QuestionRoadModel", name := "tellsCarter", desc := "(JI)J" } : Jvm.MethodName)) ∈ lw_all := lw_g (lw_at lw_m6 73 rfl) rfl
theorem q1362 : (Jvm.Cond.privateMethod ({ cls := "QuestionRoadModel", name := "tellsCarter", desc := "(JI)J" } : Jvm.MethodName)) ∈ lw_tbl := lw_at lw_m6 74 rfl
theorem q1363 : (Jvm.Cond.instanceMethod ({ cls := "QuestionRoadModel", name := "tellsCarter", desc := "(JI)J" } : Jvm.MethodName)) ∈ lw_all := lw_g (lw_at lw_m6 75 rfl) rfl
theorem q1364 : (Jvm.Cond.code ({ cls := "QuestionRoadModel", name := "tellsCarter", desc := "(JI)J" } : Jvm.MethodName) prog_8_method_90_code (7 : Nat) (Option.some Jvm.ClassFile.FieldType.long)) ∈ lw_all := lw_g (lw_at lw_m6 76 rfl) rfl
theorem q1365 : (Jvm.Cond.methodLink "QuestionRoadModel" (309 : Nat) ({ cls := "QuestionRoadModel", name := "tellsHour", desc := "(JII)J" } : Jvm.MethodName)) ∈ lw_all := lw_g (lw_at lw_m6 77 rfl) rfl
theorem q1366 : (Jvm.Cond.privateMethod ({ cls := "QuestionRoadModel", name := "tellsHour", desc := "(JII)J" } : Jvm.MethodName)) ∈ lw_tbl := lw_at lw_m6 78 rfl
theorem q1367 : (Jvm.Cond.instanceMethod ({ cls := "QuestionRoadModel", name := "tellsHour", desc := "(JII)J" } : Jvm.MethodName)) ∈ lw_all := lw_g (lw_at lw_m6 79 rfl) rfl
theorem q1368 : (Jvm.Cond.code ({ cls := "QuestionRoadModel", name := "tellsHour", desc := "(JII)J" } : Jvm.MethodName) prog_8_method_89_code (8 : Nat) (Option.some Jvm.ClassFile.FieldType.long)) ∈ lw_all := lw_g (lw_at lw_m6 80 rfl) rfl
theorem in_X6 : ∀ w ∈ wsX60, w ∈ lw_all := lw_in wsX60 [944, 946, 948, 950, 952, 954, 956, 958, 960, 962, 964, 966, 968, 970, 972, 974, 976, 978, 980, 982, 984, 986, 988, 990, 992, 994, 996, 998, 1000, 1002, 1004, 1006] (by decide +kernel) (by decide +kernel)
