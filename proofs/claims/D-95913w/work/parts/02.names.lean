/-! DECODE ROWS BY BYTES: one lemma an opcode; a method's code is cut into short pieces once, and a row reads its own piece alone. -/
set_option maxRecDepth 100000
/-- the code has just these bytes from pc on -/
def DkAt (code : ByteArray) (pc : Nat) (bs : List UInt8) : Prop := ∀ (j : Nat) (b : UInt8), bs[j]? = some b → code.data.toList[pc + j]? = some b
/-- the piece W has the bytes bs from its place j on -/
def dkIn (W : List UInt8) (j : Nat) (bs : List UInt8) : Bool := decide ((W.drop j).take bs.length = bs)
theorem dk_seg {l W T : List UInt8} {o o2 : Nat} (h : l.drop o = W ++ T) (n : Nat) (hn : W.length = n) (ho : o + n = o2) : l.drop o2 = T := by
  subst ho
  rw [← List.drop_drop, h, List.drop_left' hn]
theorem dk_at {code : ByteArray} {W T bs : List UInt8} {o pc : Nat} (h : code.data.toList.drop o = W ++ T) (j : Nat) (hp : o + j = pc) (hw : dkIn W j bs = true) : DkAt code pc bs := by
  subst hp
  intro i b e
  have h1 := of_decide_eq_true hw
  have h2 : i < bs.length := (List.getElem?_eq_some_iff.mp e).1
  have h3 : W[j + i]? = some b := by
    rw [← h1, List.getElem?_take, if_pos h2, List.getElem?_drop] at e
    exact e
  have h4 : j + i < W.length := (List.getElem?_eq_some_iff.mp h3).1
  have h5 : (code.data.toList.drop o)[j + i]? = some b := by
    rw [h, List.getElem?_append_left h4]
    exact h3
  rw [List.getElem?_drop, ← Nat.add_assoc] at h5
  exact h5
theorem dk_u1 {A : ByteArray} {p : Nat} {b : UInt8} (h : A.data.toList[p]? = some b) : (Reader.u1 : Reader DecodeError Nat) A p = .ok (b.toNat, p + 1) := by
  obtain ⟨h1, h2⟩ := List.getElem?_eq_some_iff.mp h
  have h3 : p < A.size := by simpa using h1
  have h4 : A[p]'h3 = b := h2
  have e : (Reader.u1 : Reader DecodeError Nat) A p = (if h : p < A.size then .ok (A[p].toNat, p + 1) else .error (HasTruncated.truncated p)) := by
    show (do if h : p < A.size then do set (p + 1); Pure.pure A[p].toNat else MonadExcept.throw (HasTruncated.truncated p) : Reader DecodeError Nat) A p = _
    by_cases hi : p < A.size
    · rw [dif_pos hi, dif_pos hi]; rfl
    · rw [dif_neg hi, dif_neg hi]; rfl
  rw [e, dif_pos h3, h4]
theorem dk_bind {α β : Type} {r : Reader DecodeError α} {f : α → Reader DecodeError β} {A : ByteArray} {p s : Nat} {a : α} (h : r A p = .ok (a, s)) : (r >>= f) A p = f a A s := by
  show (do let (a, s) ← r A p; f a A s : Except DecodeError (β × Nat)) = _
  rw [h]
  rfl
theorem dk_map {α β : Type} {r : Reader DecodeError α} {g : α → β} {A : ByteArray} {p s : Nat} {a : α} (h : r A p = .ok (a, s)) : (g <$> r) A p = .ok (g a, s) := by
  show (do let (a, s) ← r A p; .ok (g a, s) : Except DecodeError (β × Nat)) = _
  rw [h]
  rfl
theorem dk_u2 {A : ByteArray} {p : Nat} {a b : UInt8} (h : A.data.toList[p]? = some a) (h2 : A.data.toList[p + 1]? = some b) : (Reader.u2 : Reader DecodeError Nat) A p = .ok (a.toNat * 256 + b.toNat, p + 2) := by
  show (Reader.u1 >>= fun hi => Reader.u1 >>= fun lo => Pure.pure (hi * 256 + lo) : Reader DecodeError Nat) A p = _
  rw [dk_bind (dk_u1 h), dk_bind (dk_u1 h2)]
  rfl
theorem dk_of {code : ByteArray} {pc n : Nat} {i : Instr} (h : Decoder.instr pc code pc = .ok (i, pc + n)) : decode code pc = .ok (i, n) := by
  have e : decode code pc = (match Decoder.instr pc code pc with | .error x => .error x | .ok (j, s) => .ok (j, s - pc)) := by
    show (do let (j, s) ← Decoder.instr pc code pc; Pure.pure (j, s - pc) : Except DecodeError (Instr × Nat)) = _
    cases Decoder.instr pc code pc <;> rfl
  rw [e, h]
  show Except.ok (i, pc + n - pc) = _
  rw [Nat.add_sub_cancel_left]
theorem dk_1 {code : ByteArray} {pc : Nat} (h : DkAt code pc [1]) : decode code pc = .ok (.aconst_null, 1) := dk_of ((dk_bind (dk_u1 (h 0 _ rfl))).trans rfl)
theorem dk_2 {code : ByteArray} {pc : Nat} (h : DkAt code pc [2]) : decode code pc = .ok (.iconst (-1), 1) := dk_of ((dk_bind (dk_u1 (h 0 _ rfl))).trans rfl)
theorem dk_3 {code : ByteArray} {pc : Nat} (h : DkAt code pc [3]) : decode code pc = .ok (.iconst 0, 1) := dk_of ((dk_bind (dk_u1 (h 0 _ rfl))).trans rfl)
theorem dk_4 {code : ByteArray} {pc : Nat} (h : DkAt code pc [4]) : decode code pc = .ok (.iconst 1, 1) := dk_of ((dk_bind (dk_u1 (h 0 _ rfl))).trans rfl)
theorem dk_5 {code : ByteArray} {pc : Nat} (h : DkAt code pc [5]) : decode code pc = .ok (.iconst 2, 1) := dk_of ((dk_bind (dk_u1 (h 0 _ rfl))).trans rfl)
theorem dk_6 {code : ByteArray} {pc : Nat} (h : DkAt code pc [6]) : decode code pc = .ok (.iconst 3, 1) := dk_of ((dk_bind (dk_u1 (h 0 _ rfl))).trans rfl)
theorem dk_7 {code : ByteArray} {pc : Nat} (h : DkAt code pc [7]) : decode code pc = .ok (.iconst 4, 1) := dk_of ((dk_bind (dk_u1 (h 0 _ rfl))).trans rfl)
theorem dk_8 {code : ByteArray} {pc : Nat} (h : DkAt code pc [8]) : decode code pc = .ok (.iconst 5, 1) := dk_of ((dk_bind (dk_u1 (h 0 _ rfl))).trans rfl)
theorem dk_9 {code : ByteArray} {pc : Nat} (h : DkAt code pc [9]) : decode code pc = .ok (.lconst 0, 1) := dk_of ((dk_bind (dk_u1 (h 0 _ rfl))).trans rfl)
theorem dk_10 {code : ByteArray} {pc : Nat} (h : DkAt code pc [10]) : decode code pc = .ok (.lconst 1, 1) := dk_of ((dk_bind (dk_u1 (h 0 _ rfl))).trans rfl)
theorem dk_16 {code : ByteArray} {pc : Nat} (a : UInt8) (h : DkAt code pc [16, a]) : decode code pc = .ok (.bipush (Reader.signed 8 a.toNat), 2) := dk_of ((dk_bind (dk_u1 (h 0 _ rfl))).trans ((dk_bind (dk_map (dk_u1 (h 1 _ rfl)))).trans rfl))
theorem dk_17 {code : ByteArray} {pc : Nat} (a b : UInt8) (h : DkAt code pc [17, a, b]) : decode code pc = .ok (.sipush (Reader.signed 16 (a.toNat * 256 + b.toNat)), 3) := dk_of ((dk_bind (dk_u1 (h 0 _ rfl))).trans ((dk_bind (dk_map (dk_u2 (h 1 _ rfl) (h 2 _ rfl)))).trans rfl))
theorem dk_18 {code : ByteArray} {pc : Nat} (a : UInt8) (h : DkAt code pc [18, a]) : decode code pc = .ok (.ldc a.toNat, 2) := dk_of ((dk_bind (dk_u1 (h 0 _ rfl))).trans ((dk_bind (dk_u1 (h 1 _ rfl))).trans rfl))
theorem dk_19 {code : ByteArray} {pc : Nat} (a b : UInt8) (h : DkAt code pc [19, a, b]) : decode code pc = .ok (.ldc_w (a.toNat * 256 + b.toNat), 3) := dk_of ((dk_bind (dk_u1 (h 0 _ rfl))).trans ((dk_bind (dk_u2 (h 1 _ rfl) (h 2 _ rfl))).trans rfl))
theorem dk_20 {code : ByteArray} {pc : Nat} (a b : UInt8) (h : DkAt code pc [20, a, b]) : decode code pc = .ok (.ldc2_w (a.toNat * 256 + b.toNat), 3) := dk_of ((dk_bind (dk_u1 (h 0 _ rfl))).trans ((dk_bind (dk_u2 (h 1 _ rfl) (h 2 _ rfl))).trans rfl))
theorem dk_21 {code : ByteArray} {pc : Nat} (a : UInt8) (h : DkAt code pc [21, a]) : decode code pc = .ok (.iload a.toNat, 2) := dk_of ((dk_bind (dk_u1 (h 0 _ rfl))).trans ((dk_bind (dk_u1 (h 1 _ rfl))).trans rfl))
theorem dk_22 {code : ByteArray} {pc : Nat} (a : UInt8) (h : DkAt code pc [22, a]) : decode code pc = .ok (.lload a.toNat, 2) := dk_of ((dk_bind (dk_u1 (h 0 _ rfl))).trans ((dk_bind (dk_u1 (h 1 _ rfl))).trans rfl))
theorem dk_25 {code : ByteArray} {pc : Nat} (a : UInt8) (h : DkAt code pc [25, a]) : decode code pc = .ok (.aload a.toNat, 2) := dk_of ((dk_bind (dk_u1 (h 0 _ rfl))).trans ((dk_bind (dk_u1 (h 1 _ rfl))).trans rfl))
theorem dk_26 {code : ByteArray} {pc : Nat} (h : DkAt code pc [26]) : decode code pc = .ok (.iload_n 0, 1) := dk_of ((dk_bind (dk_u1 (h 0 _ rfl))).trans rfl)
theorem dk_27 {code : ByteArray} {pc : Nat} (h : DkAt code pc [27]) : decode code pc = .ok (.iload_n 1, 1) := dk_of ((dk_bind (dk_u1 (h 0 _ rfl))).trans rfl)
theorem dk_28 {code : ByteArray} {pc : Nat} (h : DkAt code pc [28]) : decode code pc = .ok (.iload_n 2, 1) := dk_of ((dk_bind (dk_u1 (h 0 _ rfl))).trans rfl)
theorem dk_29 {code : ByteArray} {pc : Nat} (h : DkAt code pc [29]) : decode code pc = .ok (.iload_n 3, 1) := dk_of ((dk_bind (dk_u1 (h 0 _ rfl))).trans rfl)
theorem dk_30 {code : ByteArray} {pc : Nat} (h : DkAt code pc [30]) : decode code pc = .ok (.lload_n 0, 1) := dk_of ((dk_bind (dk_u1 (h 0 _ rfl))).trans rfl)
theorem dk_31 {code : ByteArray} {pc : Nat} (h : DkAt code pc [31]) : decode code pc = .ok (.lload_n 1, 1) := dk_of ((dk_bind (dk_u1 (h 0 _ rfl))).trans rfl)
theorem dk_32 {code : ByteArray} {pc : Nat} (h : DkAt code pc [32]) : decode code pc = .ok (.lload_n 2, 1) := dk_of ((dk_bind (dk_u1 (h 0 _ rfl))).trans rfl)
theorem dk_42 {code : ByteArray} {pc : Nat} (h : DkAt code pc [42]) : decode code pc = .ok (.aload_n 0, 1) := dk_of ((dk_bind (dk_u1 (h 0 _ rfl))).trans rfl)
theorem dk_43 {code : ByteArray} {pc : Nat} (h : DkAt code pc [43]) : decode code pc = .ok (.aload_n 1, 1) := dk_of ((dk_bind (dk_u1 (h 0 _ rfl))).trans rfl)
theorem dk_44 {code : ByteArray} {pc : Nat} (h : DkAt code pc [44]) : decode code pc = .ok (.aload_n 2, 1) := dk_of ((dk_bind (dk_u1 (h 0 _ rfl))).trans rfl)
theorem dk_45 {code : ByteArray} {pc : Nat} (h : DkAt code pc [45]) : decode code pc = .ok (.aload_n 3, 1) := dk_of ((dk_bind (dk_u1 (h 0 _ rfl))).trans rfl)
theorem dk_46 {code : ByteArray} {pc : Nat} (h : DkAt code pc [46]) : decode code pc = .ok (.iaload, 1) := dk_of ((dk_bind (dk_u1 (h 0 _ rfl))).trans rfl)
theorem dk_50 {code : ByteArray} {pc : Nat} (h : DkAt code pc [50]) : decode code pc = .ok (.aaload, 1) := dk_of ((dk_bind (dk_u1 (h 0 _ rfl))).trans rfl)
theorem dk_51 {code : ByteArray} {pc : Nat} (h : DkAt code pc [51]) : decode code pc = .ok (.baload, 1) := dk_of ((dk_bind (dk_u1 (h 0 _ rfl))).trans rfl)
theorem dk_53 {code : ByteArray} {pc : Nat} (h : DkAt code pc [53]) : decode code pc = .ok (.saload, 1) := dk_of ((dk_bind (dk_u1 (h 0 _ rfl))).trans rfl)
theorem dk_54 {code : ByteArray} {pc : Nat} (a : UInt8) (h : DkAt code pc [54, a]) : decode code pc = .ok (.istore a.toNat, 2) := dk_of ((dk_bind (dk_u1 (h 0 _ rfl))).trans ((dk_bind (dk_u1 (h 1 _ rfl))).trans rfl))
theorem dk_55 {code : ByteArray} {pc : Nat} (a : UInt8) (h : DkAt code pc [55, a]) : decode code pc = .ok (.lstore a.toNat, 2) := dk_of ((dk_bind (dk_u1 (h 0 _ rfl))).trans ((dk_bind (dk_u1 (h 1 _ rfl))).trans rfl))
theorem dk_58 {code : ByteArray} {pc : Nat} (a : UInt8) (h : DkAt code pc [58, a]) : decode code pc = .ok (.astore a.toNat, 2) := dk_of ((dk_bind (dk_u1 (h 0 _ rfl))).trans ((dk_bind (dk_u1 (h 1 _ rfl))).trans rfl))
theorem dk_60 {code : ByteArray} {pc : Nat} (h : DkAt code pc [60]) : decode code pc = .ok (.istore_n 1, 1) := dk_of ((dk_bind (dk_u1 (h 0 _ rfl))).trans rfl)
theorem dk_61 {code : ByteArray} {pc : Nat} (h : DkAt code pc [61]) : decode code pc = .ok (.istore_n 2, 1) := dk_of ((dk_bind (dk_u1 (h 0 _ rfl))).trans rfl)
theorem dk_62 {code : ByteArray} {pc : Nat} (h : DkAt code pc [62]) : decode code pc = .ok (.istore_n 3, 1) := dk_of ((dk_bind (dk_u1 (h 0 _ rfl))).trans rfl)
theorem dk_64 {code : ByteArray} {pc : Nat} (h : DkAt code pc [64]) : decode code pc = .ok (.lstore_n 1, 1) := dk_of ((dk_bind (dk_u1 (h 0 _ rfl))).trans rfl)
theorem dk_76 {code : ByteArray} {pc : Nat} (h : DkAt code pc [76]) : decode code pc = .ok (.astore_n 1, 1) := dk_of ((dk_bind (dk_u1 (h 0 _ rfl))).trans rfl)
theorem dk_77 {code : ByteArray} {pc : Nat} (h : DkAt code pc [77]) : decode code pc = .ok (.astore_n 2, 1) := dk_of ((dk_bind (dk_u1 (h 0 _ rfl))).trans rfl)
theorem dk_78 {code : ByteArray} {pc : Nat} (h : DkAt code pc [78]) : decode code pc = .ok (.astore_n 3, 1) := dk_of ((dk_bind (dk_u1 (h 0 _ rfl))).trans rfl)
theorem dk_79 {code : ByteArray} {pc : Nat} (h : DkAt code pc [79]) : decode code pc = .ok (.iastore, 1) := dk_of ((dk_bind (dk_u1 (h 0 _ rfl))).trans rfl)
theorem dk_83 {code : ByteArray} {pc : Nat} (h : DkAt code pc [83]) : decode code pc = .ok (.aastore, 1) := dk_of ((dk_bind (dk_u1 (h 0 _ rfl))).trans rfl)
theorem dk_84 {code : ByteArray} {pc : Nat} (h : DkAt code pc [84]) : decode code pc = .ok (.bastore, 1) := dk_of ((dk_bind (dk_u1 (h 0 _ rfl))).trans rfl)
theorem dk_86 {code : ByteArray} {pc : Nat} (h : DkAt code pc [86]) : decode code pc = .ok (.sastore, 1) := dk_of ((dk_bind (dk_u1 (h 0 _ rfl))).trans rfl)
theorem dk_87 {code : ByteArray} {pc : Nat} (h : DkAt code pc [87]) : decode code pc = .ok (.pop, 1) := dk_of ((dk_bind (dk_u1 (h 0 _ rfl))).trans rfl)
theorem dk_89 {code : ByteArray} {pc : Nat} (h : DkAt code pc [89]) : decode code pc = .ok (.dup, 1) := dk_of ((dk_bind (dk_u1 (h 0 _ rfl))).trans rfl)
theorem dk_90 {code : ByteArray} {pc : Nat} (h : DkAt code pc [90]) : decode code pc = .ok (.dup_x1, 1) := dk_of ((dk_bind (dk_u1 (h 0 _ rfl))).trans rfl)
theorem dk_92 {code : ByteArray} {pc : Nat} (h : DkAt code pc [92]) : decode code pc = .ok (.dup2, 1) := dk_of ((dk_bind (dk_u1 (h 0 _ rfl))).trans rfl)
theorem dk_96 {code : ByteArray} {pc : Nat} (h : DkAt code pc [96]) : decode code pc = .ok (.iadd, 1) := dk_of ((dk_bind (dk_u1 (h 0 _ rfl))).trans rfl)
theorem dk_97 {code : ByteArray} {pc : Nat} (h : DkAt code pc [97]) : decode code pc = .ok (.ladd, 1) := dk_of ((dk_bind (dk_u1 (h 0 _ rfl))).trans rfl)
theorem dk_100 {code : ByteArray} {pc : Nat} (h : DkAt code pc [100]) : decode code pc = .ok (.isub, 1) := dk_of ((dk_bind (dk_u1 (h 0 _ rfl))).trans rfl)
theorem dk_101 {code : ByteArray} {pc : Nat} (h : DkAt code pc [101]) : decode code pc = .ok (.lsub, 1) := dk_of ((dk_bind (dk_u1 (h 0 _ rfl))).trans rfl)
theorem dk_104 {code : ByteArray} {pc : Nat} (h : DkAt code pc [104]) : decode code pc = .ok (.imul, 1) := dk_of ((dk_bind (dk_u1 (h 0 _ rfl))).trans rfl)
theorem dk_105 {code : ByteArray} {pc : Nat} (h : DkAt code pc [105]) : decode code pc = .ok (.lmul, 1) := dk_of ((dk_bind (dk_u1 (h 0 _ rfl))).trans rfl)
theorem dk_108 {code : ByteArray} {pc : Nat} (h : DkAt code pc [108]) : decode code pc = .ok (.idiv, 1) := dk_of ((dk_bind (dk_u1 (h 0 _ rfl))).trans rfl)
theorem dk_109 {code : ByteArray} {pc : Nat} (h : DkAt code pc [109]) : decode code pc = .ok (.ldiv, 1) := dk_of ((dk_bind (dk_u1 (h 0 _ rfl))).trans rfl)
theorem dk_112 {code : ByteArray} {pc : Nat} (h : DkAt code pc [112]) : decode code pc = .ok (.irem, 1) := dk_of ((dk_bind (dk_u1 (h 0 _ rfl))).trans rfl)
theorem dk_113 {code : ByteArray} {pc : Nat} (h : DkAt code pc [113]) : decode code pc = .ok (.lrem, 1) := dk_of ((dk_bind (dk_u1 (h 0 _ rfl))).trans rfl)
theorem dk_116 {code : ByteArray} {pc : Nat} (h : DkAt code pc [116]) : decode code pc = .ok (.ineg, 1) := dk_of ((dk_bind (dk_u1 (h 0 _ rfl))).trans rfl)
theorem dk_120 {code : ByteArray} {pc : Nat} (h : DkAt code pc [120]) : decode code pc = .ok (.ishl, 1) := dk_of ((dk_bind (dk_u1 (h 0 _ rfl))).trans rfl)
theorem dk_121 {code : ByteArray} {pc : Nat} (h : DkAt code pc [121]) : decode code pc = .ok (.lshl, 1) := dk_of ((dk_bind (dk_u1 (h 0 _ rfl))).trans rfl)
theorem dk_122 {code : ByteArray} {pc : Nat} (h : DkAt code pc [122]) : decode code pc = .ok (.ishr, 1) := dk_of ((dk_bind (dk_u1 (h 0 _ rfl))).trans rfl)
theorem dk_124 {code : ByteArray} {pc : Nat} (h : DkAt code pc [124]) : decode code pc = .ok (.iushr, 1) := dk_of ((dk_bind (dk_u1 (h 0 _ rfl))).trans rfl)
theorem dk_126 {code : ByteArray} {pc : Nat} (h : DkAt code pc [126]) : decode code pc = .ok (.iand, 1) := dk_of ((dk_bind (dk_u1 (h 0 _ rfl))).trans rfl)
theorem dk_128 {code : ByteArray} {pc : Nat} (h : DkAt code pc [128]) : decode code pc = .ok (.ior, 1) := dk_of ((dk_bind (dk_u1 (h 0 _ rfl))).trans rfl)
theorem dk_132 {code : ByteArray} {pc : Nat} (a b : UInt8) (h : DkAt code pc [132, a, b]) : decode code pc = .ok (.iinc a.toNat (Reader.signed 8 b.toNat), 3) := dk_of ((dk_bind (dk_u1 (h 0 _ rfl))).trans ((dk_bind (dk_u1 (h 1 _ rfl))).trans ((dk_bind (dk_map (dk_u1 (h 2 _ rfl)))).trans rfl)))
theorem dk_133 {code : ByteArray} {pc : Nat} (h : DkAt code pc [133]) : decode code pc = .ok (.i2l, 1) := dk_of ((dk_bind (dk_u1 (h 0 _ rfl))).trans rfl)
theorem dk_145 {code : ByteArray} {pc : Nat} (h : DkAt code pc [145]) : decode code pc = .ok (.i2b, 1) := dk_of ((dk_bind (dk_u1 (h 0 _ rfl))).trans rfl)
theorem dk_146 {code : ByteArray} {pc : Nat} (h : DkAt code pc [146]) : decode code pc = .ok (.i2c, 1) := dk_of ((dk_bind (dk_u1 (h 0 _ rfl))).trans rfl)
theorem dk_147 {code : ByteArray} {pc : Nat} (h : DkAt code pc [147]) : decode code pc = .ok (.i2s, 1) := dk_of ((dk_bind (dk_u1 (h 0 _ rfl))).trans rfl)
theorem dk_148 {code : ByteArray} {pc : Nat} (h : DkAt code pc [148]) : decode code pc = .ok (.lcmp, 1) := dk_of ((dk_bind (dk_u1 (h 0 _ rfl))).trans rfl)
theorem dk_153 {code : ByteArray} {pc : Nat} (a b : UInt8) (h : DkAt code pc [153, a, b]) : decode code pc = .ok (.ifCond .eq (Reader.signed 16 (a.toNat * 256 + b.toNat)), 3) := dk_of ((dk_bind (dk_u1 (h 0 _ rfl))).trans ((dk_bind (dk_map (dk_u2 (h 1 _ rfl) (h 2 _ rfl)))).trans rfl))
theorem dk_154 {code : ByteArray} {pc : Nat} (a b : UInt8) (h : DkAt code pc [154, a, b]) : decode code pc = .ok (.ifCond .ne (Reader.signed 16 (a.toNat * 256 + b.toNat)), 3) := dk_of ((dk_bind (dk_u1 (h 0 _ rfl))).trans ((dk_bind (dk_map (dk_u2 (h 1 _ rfl) (h 2 _ rfl)))).trans rfl))
theorem dk_155 {code : ByteArray} {pc : Nat} (a b : UInt8) (h : DkAt code pc [155, a, b]) : decode code pc = .ok (.ifCond .lt (Reader.signed 16 (a.toNat * 256 + b.toNat)), 3) := dk_of ((dk_bind (dk_u1 (h 0 _ rfl))).trans ((dk_bind (dk_map (dk_u2 (h 1 _ rfl) (h 2 _ rfl)))).trans rfl))
theorem dk_156 {code : ByteArray} {pc : Nat} (a b : UInt8) (h : DkAt code pc [156, a, b]) : decode code pc = .ok (.ifCond .ge (Reader.signed 16 (a.toNat * 256 + b.toNat)), 3) := dk_of ((dk_bind (dk_u1 (h 0 _ rfl))).trans ((dk_bind (dk_map (dk_u2 (h 1 _ rfl) (h 2 _ rfl)))).trans rfl))
theorem dk_157 {code : ByteArray} {pc : Nat} (a b : UInt8) (h : DkAt code pc [157, a, b]) : decode code pc = .ok (.ifCond .gt (Reader.signed 16 (a.toNat * 256 + b.toNat)), 3) := dk_of ((dk_bind (dk_u1 (h 0 _ rfl))).trans ((dk_bind (dk_map (dk_u2 (h 1 _ rfl) (h 2 _ rfl)))).trans rfl))
theorem dk_158 {code : ByteArray} {pc : Nat} (a b : UInt8) (h : DkAt code pc [158, a, b]) : decode code pc = .ok (.ifCond .le (Reader.signed 16 (a.toNat * 256 + b.toNat)), 3) := dk_of ((dk_bind (dk_u1 (h 0 _ rfl))).trans ((dk_bind (dk_map (dk_u2 (h 1 _ rfl) (h 2 _ rfl)))).trans rfl))
theorem dk_159 {code : ByteArray} {pc : Nat} (a b : UInt8) (h : DkAt code pc [159, a, b]) : decode code pc = .ok (.if_icmp .eq (Reader.signed 16 (a.toNat * 256 + b.toNat)), 3) := dk_of ((dk_bind (dk_u1 (h 0 _ rfl))).trans ((dk_bind (dk_map (dk_u2 (h 1 _ rfl) (h 2 _ rfl)))).trans rfl))
theorem dk_160 {code : ByteArray} {pc : Nat} (a b : UInt8) (h : DkAt code pc [160, a, b]) : decode code pc = .ok (.if_icmp .ne (Reader.signed 16 (a.toNat * 256 + b.toNat)), 3) := dk_of ((dk_bind (dk_u1 (h 0 _ rfl))).trans ((dk_bind (dk_map (dk_u2 (h 1 _ rfl) (h 2 _ rfl)))).trans rfl))
theorem dk_161 {code : ByteArray} {pc : Nat} (a b : UInt8) (h : DkAt code pc [161, a, b]) : decode code pc = .ok (.if_icmp .lt (Reader.signed 16 (a.toNat * 256 + b.toNat)), 3) := dk_of ((dk_bind (dk_u1 (h 0 _ rfl))).trans ((dk_bind (dk_map (dk_u2 (h 1 _ rfl) (h 2 _ rfl)))).trans rfl))
theorem dk_162 {code : ByteArray} {pc : Nat} (a b : UInt8) (h : DkAt code pc [162, a, b]) : decode code pc = .ok (.if_icmp .ge (Reader.signed 16 (a.toNat * 256 + b.toNat)), 3) := dk_of ((dk_bind (dk_u1 (h 0 _ rfl))).trans ((dk_bind (dk_map (dk_u2 (h 1 _ rfl) (h 2 _ rfl)))).trans rfl))
theorem dk_163 {code : ByteArray} {pc : Nat} (a b : UInt8) (h : DkAt code pc [163, a, b]) : decode code pc = .ok (.if_icmp .gt (Reader.signed 16 (a.toNat * 256 + b.toNat)), 3) := dk_of ((dk_bind (dk_u1 (h 0 _ rfl))).trans ((dk_bind (dk_map (dk_u2 (h 1 _ rfl) (h 2 _ rfl)))).trans rfl))
theorem dk_164 {code : ByteArray} {pc : Nat} (a b : UInt8) (h : DkAt code pc [164, a, b]) : decode code pc = .ok (.if_icmp .le (Reader.signed 16 (a.toNat * 256 + b.toNat)), 3) := dk_of ((dk_bind (dk_u1 (h 0 _ rfl))).trans ((dk_bind (dk_map (dk_u2 (h 1 _ rfl) (h 2 _ rfl)))).trans rfl))
theorem dk_165 {code : ByteArray} {pc : Nat} (a b : UInt8) (h : DkAt code pc [165, a, b]) : decode code pc = .ok (.if_acmp .eq (Reader.signed 16 (a.toNat * 256 + b.toNat)), 3) := dk_of ((dk_bind (dk_u1 (h 0 _ rfl))).trans ((dk_bind (dk_map (dk_u2 (h 1 _ rfl) (h 2 _ rfl)))).trans rfl))
theorem dk_166 {code : ByteArray} {pc : Nat} (a b : UInt8) (h : DkAt code pc [166, a, b]) : decode code pc = .ok (.if_acmp .ne (Reader.signed 16 (a.toNat * 256 + b.toNat)), 3) := dk_of ((dk_bind (dk_u1 (h 0 _ rfl))).trans ((dk_bind (dk_map (dk_u2 (h 1 _ rfl) (h 2 _ rfl)))).trans rfl))
theorem dk_167 {code : ByteArray} {pc : Nat} (a b : UInt8) (h : DkAt code pc [167, a, b]) : decode code pc = .ok (.goto (Reader.signed 16 (a.toNat * 256 + b.toNat)), 3) := dk_of ((dk_bind (dk_u1 (h 0 _ rfl))).trans ((dk_bind (dk_map (dk_u2 (h 1 _ rfl) (h 2 _ rfl)))).trans rfl))
theorem dk_172 {code : ByteArray} {pc : Nat} (h : DkAt code pc [172]) : decode code pc = .ok (.ireturn, 1) := dk_of ((dk_bind (dk_u1 (h 0 _ rfl))).trans rfl)
theorem dk_173 {code : ByteArray} {pc : Nat} (h : DkAt code pc [173]) : decode code pc = .ok (.lreturn, 1) := dk_of ((dk_bind (dk_u1 (h 0 _ rfl))).trans rfl)
theorem dk_176 {code : ByteArray} {pc : Nat} (h : DkAt code pc [176]) : decode code pc = .ok (.areturn, 1) := dk_of ((dk_bind (dk_u1 (h 0 _ rfl))).trans rfl)
theorem dk_177 {code : ByteArray} {pc : Nat} (h : DkAt code pc [177]) : decode code pc = .ok (.return_, 1) := dk_of ((dk_bind (dk_u1 (h 0 _ rfl))).trans rfl)
theorem dk_178 {code : ByteArray} {pc : Nat} (a b : UInt8) (h : DkAt code pc [178, a, b]) : decode code pc = .ok (.getstatic (a.toNat * 256 + b.toNat), 3) := dk_of ((dk_bind (dk_u1 (h 0 _ rfl))).trans ((dk_bind (dk_u2 (h 1 _ rfl) (h 2 _ rfl))).trans rfl))
theorem dk_180 {code : ByteArray} {pc : Nat} (a b : UInt8) (h : DkAt code pc [180, a, b]) : decode code pc = .ok (.getfield (a.toNat * 256 + b.toNat), 3) := dk_of ((dk_bind (dk_u1 (h 0 _ rfl))).trans ((dk_bind (dk_u2 (h 1 _ rfl) (h 2 _ rfl))).trans rfl))
theorem dk_181 {code : ByteArray} {pc : Nat} (a b : UInt8) (h : DkAt code pc [181, a, b]) : decode code pc = .ok (.putfield (a.toNat * 256 + b.toNat), 3) := dk_of ((dk_bind (dk_u1 (h 0 _ rfl))).trans ((dk_bind (dk_u2 (h 1 _ rfl) (h 2 _ rfl))).trans rfl))
theorem dk_182 {code : ByteArray} {pc : Nat} (a b : UInt8) (h : DkAt code pc [182, a, b]) : decode code pc = .ok (.invokevirtual (a.toNat * 256 + b.toNat), 3) := dk_of ((dk_bind (dk_u1 (h 0 _ rfl))).trans ((dk_bind (dk_u2 (h 1 _ rfl) (h 2 _ rfl))).trans rfl))
theorem dk_183 {code : ByteArray} {pc : Nat} (a b : UInt8) (h : DkAt code pc [183, a, b]) : decode code pc = .ok (.invokespecial (a.toNat * 256 + b.toNat), 3) := dk_of ((dk_bind (dk_u1 (h 0 _ rfl))).trans ((dk_bind (dk_u2 (h 1 _ rfl) (h 2 _ rfl))).trans rfl))
theorem dk_184 {code : ByteArray} {pc : Nat} (a b : UInt8) (h : DkAt code pc [184, a, b]) : decode code pc = .ok (.invokestatic (a.toNat * 256 + b.toNat), 3) := dk_of ((dk_bind (dk_u1 (h 0 _ rfl))).trans ((dk_bind (dk_u2 (h 1 _ rfl) (h 2 _ rfl))).trans rfl))
theorem dk_187 {code : ByteArray} {pc : Nat} (a b : UInt8) (h : DkAt code pc [187, a, b]) : decode code pc = .ok (.new (a.toNat * 256 + b.toNat), 3) := dk_of ((dk_bind (dk_u1 (h 0 _ rfl))).trans ((dk_bind (dk_u2 (h 1 _ rfl) (h 2 _ rfl))).trans rfl))
theorem dk_188_4 {code : ByteArray} {pc : Nat} (h : DkAt code pc [188, 4]) : decode code pc = .ok (.newarray .boolean, 2) := dk_of ((dk_bind (dk_u1 (h 0 _ rfl))).trans ((dk_bind (dk_u1 (h 1 _ rfl))).trans rfl))
theorem dk_188_8 {code : ByteArray} {pc : Nat} (h : DkAt code pc [188, 8]) : decode code pc = .ok (.newarray .byte, 2) := dk_of ((dk_bind (dk_u1 (h 0 _ rfl))).trans ((dk_bind (dk_u1 (h 1 _ rfl))).trans rfl))
theorem dk_188_9 {code : ByteArray} {pc : Nat} (h : DkAt code pc [188, 9]) : decode code pc = .ok (.newarray .short, 2) := dk_of ((dk_bind (dk_u1 (h 0 _ rfl))).trans ((dk_bind (dk_u1 (h 1 _ rfl))).trans rfl))
theorem dk_188_10 {code : ByteArray} {pc : Nat} (h : DkAt code pc [188, 10]) : decode code pc = .ok (.newarray .int, 2) := dk_of ((dk_bind (dk_u1 (h 0 _ rfl))).trans ((dk_bind (dk_u1 (h 1 _ rfl))).trans rfl))
theorem dk_189 {code : ByteArray} {pc : Nat} (a b : UInt8) (h : DkAt code pc [189, a, b]) : decode code pc = .ok (.anewarray (a.toNat * 256 + b.toNat), 3) := dk_of ((dk_bind (dk_u1 (h 0 _ rfl))).trans ((dk_bind (dk_u2 (h 1 _ rfl) (h 2 _ rfl))).trans rfl))
theorem dk_190 {code : ByteArray} {pc : Nat} (h : DkAt code pc [190]) : decode code pc = .ok (.arraylength, 1) := dk_of ((dk_bind (dk_u1 (h 0 _ rfl))).trans rfl)
theorem dk_191 {code : ByteArray} {pc : Nat} (h : DkAt code pc [191]) : decode code pc = .ok (.athrow, 1) := dk_of ((dk_bind (dk_u1 (h 0 _ rfl))).trans rfl)
theorem dk_192 {code : ByteArray} {pc : Nat} (a b : UInt8) (h : DkAt code pc [192, a, b]) : decode code pc = .ok (.checkcast (a.toNat * 256 + b.toNat), 3) := dk_of ((dk_bind (dk_u1 (h 0 _ rfl))).trans ((dk_bind (dk_u2 (h 1 _ rfl) (h 2 _ rfl))).trans rfl))
theorem dk_193 {code : ByteArray} {pc : Nat} (a b : UInt8) (h : DkAt code pc [193, a, b]) : decode code pc = .ok (.instanceof (a.toNat * 256 + b.toNat), 3) := dk_of ((dk_bind (dk_u1 (h 0 _ rfl))).trans ((dk_bind (dk_u2 (h 1 _ rfl) (h 2 _ rfl))).trans rfl))
theorem dk_198 {code : ByteArray} {pc : Nat} (a b : UInt8) (h : DkAt code pc [198, a, b]) : decode code pc = .ok (.ifnull (Reader.signed 16 (a.toNat * 256 + b.toNat)), 3) := dk_of ((dk_bind (dk_u1 (h 0 _ rfl))).trans ((dk_bind (dk_map (dk_u2 (h 1 _ rfl) (h 2 _ rfl)))).trans rfl))
theorem dk_199 {code : ByteArray} {pc : Nat} (a b : UInt8) (h : DkAt code pc [199, a, b]) : decode code pc = .ok (.ifnonnull (Reader.signed 16 (a.toNat * 256 + b.toNat)), 3) := dk_of ((dk_bind (dk_u1 (h 0 _ rfl))).trans ((dk_bind (dk_map (dk_u2 (h 1 _ rfl) (h 2 _ rfl)))).trans rfl))
theorem q93 : (Jvm.Cond.initialized "TugOfWarLaw") ∈ lw_all := lw_g (lw_at lw_m1 0 rfl) rfl
set_option maxRecDepth 100000
theorem q122 : (Jvm.Cond.classLink "TugOfWarLaw" (7 : Nat) "TugOfWar") ∈ lw_all := lw_g (lw_at lw_m1 29 rfl) rfl
theorem q124 : (Jvm.Cond.methodLink "TugOfWarLaw" (9 : Nat) ({ cls := "TugOfWar", name := "<init>", desc := "()V" } : Jvm.MethodName)) ∈ lw_all := lw_g (lw_at lw_m1 31 rfl) rfl
theorem q302 : (Jvm.Cond.methodLink "TugOfWarLaw" (13 : Nat) ({ cls := "TugOfWar", name := "type", desc := "(II)I" } : Jvm.MethodName)) ∈ lw_all := lw_g (lw_at lw_m1 209 rfl) rfl
theorem q320 : (Jvm.Cond.methodLink "TugOfWarLaw" (18 : Nat) ({ cls := "TugOfWar", name := "wipe", desc := "(I)I" } : Jvm.MethodName)) ∈ lw_all := lw_g (lw_at lw_m1 227 rfl) rfl
theorem q330 : (Jvm.Cond.methodLink "TugOfWarLaw" (23 : Nat) ({ cls := "TugOfWar", name := "undo", desc := "(I)I" } : Jvm.MethodName)) ∈ lw_all := lw_g (lw_at lw_m1 237 rfl) rfl
theorem q340 : (Jvm.Cond.methodLink "TugOfWarLaw" (27 : Nat) ({ cls := "TugOfWar", name := "fault", desc := "(I)I" } : Jvm.MethodName)) ∈ lw_all := lw_g (lw_at lw_m2 7 rfl) rfl
theorem q647 : (Jvm.Cond.methodLink "TugOfWarLaw" (31 : Nat) ({ cls := "TugOfWar", name := "puller", desc := "(II)I" } : Jvm.MethodName)) ∈ lw_all := lw_g (lw_at lw_m3 74 rfl) rfl
theorem q703 : (Jvm.Cond.methodLink "TugOfWarLaw" (35 : Nat) ({ cls := "TugOfWar", name := "call", desc := "(II)I" } : Jvm.MethodName)) ∈ lw_all := lw_g (lw_at lw_m3 130 rfl) rfl
theorem q721 : (Jvm.Cond.methodLink "TugOfWarLaw" (39 : Nat) ({ cls := "TugOfWar", name := "mud", desc := "(I)I" } : Jvm.MethodName)) ∈ lw_all := lw_g (lw_at lw_m3 148 rfl) rfl
theorem q726 : (Jvm.Cond.methodLink "TugOfWarLaw" (43 : Nat) ({ cls := "TugOfWar", name := "event", desc := "(III)I" } : Jvm.MethodName)) ∈ lw_all := lw_g (lw_at lw_m3 153 rfl) rfl
theorem q732 : (Jvm.Cond.methodLink "TugOfWarLaw" (48 : Nat) ({ cls := "TugOfWar", name := "back", desc := "()I" } : Jvm.MethodName)) ∈ lw_all := lw_g (lw_at lw_m3 159 rfl) rfl
theorem q749 : (Jvm.Cond.methodLink "TugOfWarLaw" (53 : Nat) ({ cls := "TugOfWar", name := "read", desc := "(I)I" } : Jvm.MethodName)) ∈ lw_all := lw_g (lw_at lw_m3 176 rfl) rfl
theorem q777 : (Jvm.Cond.methodLink "TugOfWarLaw" (57 : Nat) ({ cls := "TugOfWar", name := "rope", desc := "(II)I" } : Jvm.MethodName)) ∈ lw_all := lw_g (lw_at lw_m3 204 rfl) rfl
theorem q874 : (Jvm.Cond.methodLink "TugOfWarLaw" (61 : Nat) ({ cls := "TugOfWar", name := "at", desc := "(III)I" } : Jvm.MethodName)) ∈ lw_all := lw_g (lw_at lw_m4 61 rfl) rfl
theorem q882 : (Jvm.Cond.methodLink "TugOfWarLaw" (65 : Nat) ({ cls := "TugOfWar", name := "won", desc := "(I)I" } : Jvm.MethodName)) ∈ lw_all := lw_g (lw_at lw_m4 69 rfl) rfl
theorem q890 : (Jvm.Cond.methodLink "TugOfWarLaw" (69 : Nat) ({ cls := "TugOfWar", name := "furthest", desc := "(I)I" } : Jvm.MethodName)) ∈ lw_all := lw_g (lw_at lw_m4 77 rfl) rfl
theorem q899 : (Jvm.Cond.methodLink "TugOfWarLaw" (73 : Nat) ({ cls := "TugOfWar", name := "done", desc := "(I)I" } : Jvm.MethodName)) ∈ lw_all := lw_g (lw_at lw_m4 86 rfl) rfl
theorem q903 : (Jvm.Cond.methodLink "TugOfWarLaw" (77 : Nat) ({ cls := "TugOfWar", name := "spent", desc := "()I" } : Jvm.MethodName)) ∈ lw_all := lw_g (lw_at lw_m4 90 rfl) rfl
theorem q911 : (Jvm.Cond.methodLink "TugOfWarLaw" (81 : Nat) ({ cls := "TugOfWar", name := "best", desc := "()I" } : Jvm.MethodName)) ∈ lw_all := lw_g (lw_at lw_m4 98 rfl) rfl
theorem q919 : (Jvm.Cond.methodLink "TugOfWarLaw" (85 : Nat) ({ cls := "TugOfWar", name := "level", desc := "()I" } : Jvm.MethodName)) ∈ lw_all := lw_g (lw_at lw_m4 106 rfl) rfl
theorem q923 : (Jvm.Cond.methodLink "TugOfWarLaw" (89 : Nat) ({ cls := "TugOfWar", name := "better", desc := "(III)I" } : Jvm.MethodName)) ∈ lw_all := lw_g (lw_at lw_m4 110 rfl) rfl
theorem q938 : (Jvm.Cond.methodLink "TugOfWarLaw" (93 : Nat) ({ cls := "TugOfWar", name := "swap", desc := "(II)I" } : Jvm.MethodName)) ∈ lw_all := lw_g (lw_at lw_m4 125 rfl) rfl
theorem q946 : (Jvm.Cond.methodLink "TugOfWarLaw" (97 : Nat) ({ cls := "TugOfWar", name := "out", desc := "(II)I" } : Jvm.MethodName)) ∈ lw_all := lw_g (lw_at lw_m4 133 rfl) rfl
theorem q954 : (Jvm.Cond.methodLink "TugOfWarLaw" (101 : Nat) ({ cls := "TugOfWar", name := "spare", desc := "(I)I" } : Jvm.MethodName)) ∈ lw_all := lw_g (lw_at lw_m4 141 rfl) rfl
theorem q967 : (Jvm.Cond.methodLink "TugOfWarLaw" (105 : Nat) ({ cls := "TugOfWar", name := "seen", desc := "(II)I" } : Jvm.MethodName)) ∈ lw_all := lw_g (lw_at lw_m4 154 rfl) rfl
theorem q972 : (Jvm.Cond.methodLink "TugOfWarLaw" (109 : Nat) ({ cls := "TugOfWar", name := "forget", desc := "()I" } : Jvm.MethodName)) ∈ lw_all := lw_g (lw_at lw_m4 159 rfl) rfl
theorem q977 : (Jvm.Cond.methodLink "TugOfWarLaw" (113 : Nat) ({ cls := "TugOfWar", name := "never", desc := "()I" } : Jvm.MethodName)) ∈ lw_all := lw_g (lw_at lw_m4 164 rfl) rfl
theorem q989 : (Jvm.Cond.methodLink "TugOfWarLaw" (117 : Nat) ({ cls := "TugOfWar", name := "was", desc := "(II)I" } : Jvm.MethodName)) ∈ lw_all := lw_g (lw_at lw_m4 176 rfl) rfl
theorem q1006 : (Jvm.Cond.methodLink "TugOfWarLaw" (121 : Nat) ({ cls := "TugOfWar", name := "ask", desc := "(I)I" } : Jvm.MethodName)) ∈ lw_all := lw_g (lw_at lw_m4 193 rfl) rfl
theorem q1018 : (Jvm.Cond.methodLink "TugOfWarLaw" (125 : Nat) ({ cls := "TugOfWar", name := "chance", desc := "(III)J" } : Jvm.MethodName)) ∈ lw_all := lw_g (lw_at lw_m4 205 rfl) rfl
theorem q1037 : (Jvm.Cond.methodLink "TugOfWarLaw" (130 : Nat) ({ cls := "TugOfWar", name := "years", desc := "(III)I" } : Jvm.MethodName)) ∈ lw_all := lw_g (lw_at lw_m4 224 rfl) rfl
theorem q1050 : (Jvm.Cond.methodLink "TugOfWarLaw" (134 : Nat) ({ cls := "TugOfWar", name := "sheet", desc := "(III)I" } : Jvm.MethodName)) ∈ lw_all := lw_g (lw_at lw_m4 237 rfl) rfl
theorem q1087 : (Jvm.Cond.methodLink "TugOfWarLaw" (138 : Nat) ({ cls := "TugOfWar", name := "lose", desc := "(I)I" } : Jvm.MethodName)) ∈ lw_all := lw_g (lw_at lw_m5 34 rfl) rfl
theorem q1091 : (Jvm.Cond.methodLink "TugOfWarLaw" (142 : Nat) ({ cls := "TugOfWar", name := "put", desc := "(IIII)I" } : Jvm.MethodName)) ∈ lw_all := lw_g (lw_at lw_m5 38 rfl) rfl
theorem q1132 : (Jvm.Cond.methodLink "TugOfWarLaw" (147 : Nat) ({ cls := "TugOfWar", name := "get", desc := "(III)I" } : Jvm.MethodName)) ∈ lw_all := lw_g (lw_at lw_m5 79 rfl) rfl
theorem q1141 : (Jvm.Cond.methodLink "TugOfWarLaw" (151 : Nat) ({ cls := "TugOfWar", name := "copy", desc := "(IIIII)I" } : Jvm.MethodName)) ∈ lw_all := lw_g (lw_at lw_m5 88 rfl) rfl
theorem q1146 : (Jvm.Cond.methodLink "TugOfWarLaw" (156 : Nat) ({ cls := "TugOfWar", name := "write", desc := "(I)I" } : Jvm.MethodName)) ∈ lw_all := lw_g (lw_at lw_m5 93 rfl) rfl
theorem q1150 : (Jvm.Cond.methodLink "TugOfWarLaw" (160 : Nat) ({ cls := "TugOfWar", name := "count", desc := "(I)I" } : Jvm.MethodName)) ∈ lw_all := lw_g (lw_at lw_m5 97 rfl) rfl
theorem q1172 : (Jvm.Cond.methodLink "TugOfWarLaw" (164 : Nat) ({ cls := "TugOfWar", name := "digest", desc := "()J" } : Jvm.MethodName)) ∈ lw_all := lw_g (lw_at lw_m5 119 rfl) rfl
theorem q1187 : (Jvm.Cond.classLink "TugOfWarLaw" (10 : Nat) "TugOfWarModel") ∈ lw_all := lw_g (lw_at lw_m5 134 rfl) rfl
theorem q1189 : (Jvm.Cond.methodLink "TugOfWarLaw" (12 : Nat) ({ cls := "TugOfWarModel", name := "<init>", desc := "()V" } : Jvm.MethodName)) ∈ lw_all := lw_g (lw_at lw_m5 136 rfl) rfl
theorem q1336 : (Jvm.Cond.methodLink "TugOfWarLaw" (17 : Nat) ({ cls := "TugOfWarModel", name := "type", desc := "(II)I" } : Jvm.MethodName)) ∈ lw_all := lw_g (lw_at lw_m6 43 rfl) rfl
theorem q1346 : (Jvm.Cond.methodLink "TugOfWarLaw" (22 : Nat) ({ cls := "TugOfWarModel", name := "wipe", desc := "(I)I" } : Jvm.MethodName)) ∈ lw_all := lw_g (lw_at lw_m6 53 rfl) rfl
theorem q1350 : (Jvm.Cond.methodLink "TugOfWarLaw" (26 : Nat) ({ cls := "TugOfWarModel", name := "undo", desc := "(I)I" } : Jvm.MethodName)) ∈ lw_all := lw_g (lw_at lw_m6 57 rfl) rfl
theorem q1354 : (Jvm.Cond.methodLink "TugOfWarLaw" (30 : Nat) ({ cls := "TugOfWarModel", name := "fault", desc := "(I)I" } : Jvm.MethodName)) ∈ lw_all := lw_g (lw_at lw_m6 61 rfl) rfl
theorem q1381 : (Jvm.Cond.methodLink "TugOfWarLaw" (34 : Nat) ({ cls := "TugOfWarModel", name := "puller", desc := "(II)I" } : Jvm.MethodName)) ∈ lw_all := lw_g (lw_at lw_m6 88 rfl) rfl
theorem q1404 : (Jvm.Cond.methodLink "TugOfWarLaw" (38 : Nat) ({ cls := "TugOfWarModel", name := "call", desc := "(II)I" } : Jvm.MethodName)) ∈ lw_all := lw_g (lw_at lw_m6 111 rfl) rfl
theorem q1418 : (Jvm.Cond.methodLink "TugOfWarLaw" (42 : Nat) ({ cls := "TugOfWarModel", name := "mud", desc := "(I)I" } : Jvm.MethodName)) ∈ lw_all := lw_g (lw_at lw_m6 125 rfl) rfl
theorem q1422 : (Jvm.Cond.methodLink "TugOfWarLaw" (47 : Nat) ({ cls := "TugOfWarModel", name := "event", desc := "(III)I" } : Jvm.MethodName)) ∈ lw_all := lw_g (lw_at lw_m6 129 rfl) rfl
theorem q1426 : (Jvm.Cond.methodLink "TugOfWarLaw" (52 : Nat) ({ cls := "TugOfWarModel", name := "back", desc := "()I" } : Jvm.MethodName)) ∈ lw_all := lw_g (lw_at lw_m6 133 rfl) rfl
theorem q1430 : (Jvm.Cond.methodLink "TugOfWarLaw" (56 : Nat) ({ cls := "TugOfWarModel", name := "read", desc := "(I)I" } : Jvm.MethodName)) ∈ lw_all := lw_g (lw_at lw_m6 137 rfl) rfl
theorem q1442 : (Jvm.Cond.methodLink "TugOfWarLaw" (60 : Nat) ({ cls := "TugOfWarModel", name := "rope", desc := "(II)I" } : Jvm.MethodName)) ∈ lw_all := lw_g (lw_at lw_m6 149 rfl) rfl
theorem q1489 : (Jvm.Cond.methodLink "TugOfWarLaw" (64 : Nat) ({ cls := "TugOfWarModel", name := "at", desc := "(III)I" } : Jvm.MethodName)) ∈ lw_all := lw_g (lw_at lw_m6 196 rfl) rfl
theorem q1497 : (Jvm.Cond.methodLink "TugOfWarLaw" (68 : Nat) ({ cls := "TugOfWarModel", name := "won", desc := "(I)I" } : Jvm.MethodName)) ∈ lw_all := lw_g (lw_at lw_m6 204 rfl) rfl
theorem q1505 : (Jvm.Cond.methodLink "TugOfWarLaw" (72 : Nat) ({ cls := "TugOfWarModel", name := "furthest", desc := "(I)I" } : Jvm.MethodName)) ∈ lw_all := lw_g (lw_at lw_m6 212 rfl) rfl
theorem q1513 : (Jvm.Cond.methodLink "TugOfWarLaw" (76 : Nat) ({ cls := "TugOfWarModel", name := "done", desc := "(I)I" } : Jvm.MethodName)) ∈ lw_all := lw_g (lw_at lw_m6 220 rfl) rfl
theorem q1521 : (Jvm.Cond.methodLink "TugOfWarLaw" (80 : Nat) ({ cls := "TugOfWarModel", name := "spent", desc := "()I" } : Jvm.MethodName)) ∈ lw_all := lw_g (lw_at lw_m6 228 rfl) rfl
theorem q1529 : (Jvm.Cond.methodLink "TugOfWarLaw" (84 : Nat) ({ cls := "TugOfWarModel", name := "best", desc := "()I" } : Jvm.MethodName)) ∈ lw_all := lw_g (lw_at lw_m6 236 rfl) rfl
theorem q1537 : (Jvm.Cond.methodLink "TugOfWarLaw" (88 : Nat) ({ cls := "TugOfWarModel", name := "level", desc := "()I" } : Jvm.MethodName)) ∈ lw_all := lw_g (lw_at lw_m7 4 rfl) rfl
theorem q1545 : (Jvm.Cond.methodLink "TugOfWarLaw" (92 : Nat) ({ cls := "TugOfWarModel", name := "better", desc := "(III)I" } : Jvm.MethodName)) ∈ lw_all := lw_g (lw_at lw_m7 12 rfl) rfl
theorem q1561 : (Jvm.Cond.methodLink "TugOfWarLaw" (96 : Nat) ({ cls := "TugOfWarModel", name := "swap", desc := "(II)I" } : Jvm.MethodName)) ∈ lw_all := lw_g (lw_at lw_m7 28 rfl) rfl
theorem q1569 : (Jvm.Cond.methodLink "TugOfWarLaw" (100 : Nat) ({ cls := "TugOfWarModel", name := "out", desc := "(II)I" } : Jvm.MethodName)) ∈ lw_all := lw_g (lw_at lw_m7 36 rfl) rfl
theorem q1577 : (Jvm.Cond.methodLink "TugOfWarLaw" (104 : Nat) ({ cls := "TugOfWarModel", name := "spare", desc := "(I)I" } : Jvm.MethodName)) ∈ lw_all := lw_g (lw_at lw_m7 44 rfl) rfl
theorem q1593 : (Jvm.Cond.methodLink "TugOfWarLaw" (108 : Nat) ({ cls := "TugOfWarModel", name := "seen", desc := "(II)I" } : Jvm.MethodName)) ∈ lw_all := lw_g (lw_at lw_m7 60 rfl) rfl
theorem q1597 : (Jvm.Cond.methodLink "TugOfWarLaw" (112 : Nat) ({ cls := "TugOfWarModel", name := "forget", desc := "()I" } : Jvm.MethodName)) ∈ lw_all := lw_g (lw_at lw_m7 64 rfl) rfl
theorem q1601 : (Jvm.Cond.methodLink "TugOfWarLaw" (116 : Nat) ({ cls := "TugOfWarModel", name := "never", desc := "()I" } : Jvm.MethodName)) ∈ lw_all := lw_g (lw_at lw_m7 68 rfl) rfl
theorem q1613 : (Jvm.Cond.methodLink "TugOfWarLaw" (120 : Nat) ({ cls := "TugOfWarModel", name := "was", desc := "(II)I" } : Jvm.MethodName)) ∈ lw_all := lw_g (lw_at lw_m7 80 rfl) rfl
theorem q1625 : (Jvm.Cond.methodLink "TugOfWarLaw" (124 : Nat) ({ cls := "TugOfWarModel", name := "ask", desc := "(I)I" } : Jvm.MethodName)) ∈ lw_all := lw_g (lw_at lw_m7 92 rfl) rfl
theorem q1633 : (Jvm.Cond.methodLink "TugOfWarLaw" (129 : Nat) ({ cls := "TugOfWarModel", name := "chance", desc := "(III)J" } : Jvm.MethodName)) ∈ lw_all := lw_g (lw_at lw_m7 100 rfl) rfl
theorem q1648 : (Jvm.Cond.methodLink "TugOfWarLaw" (133 : Nat) ({ cls := "TugOfWarModel", name := "years", desc := "(III)I" } : Jvm.MethodName)) ∈ lw_all := lw_g (lw_at lw_m7 115 rfl) rfl
theorem q1657 : (Jvm.Cond.methodLink "TugOfWarLaw" (137 : Nat) ({ cls := "TugOfWarModel", name := "sheet", desc := "(III)I" } : Jvm.MethodName)) ∈ lw_all := lw_g (lw_at lw_m7 124 rfl) rfl
theorem q1661 : (Jvm.Cond.methodLink "TugOfWarLaw" (141 : Nat) ({ cls := "TugOfWarModel", name := "lose", desc := "(I)I" } : Jvm.MethodName)) ∈ lw_all := lw_g (lw_at lw_m7 128 rfl) rfl
theorem q1665 : (Jvm.Cond.methodLink "TugOfWarLaw" (146 : Nat) ({ cls := "TugOfWarModel", name := "put", desc := "(IIII)I" } : Jvm.MethodName)) ∈ lw_all := lw_g (lw_at lw_m7 132 rfl) rfl
theorem q1677 : (Jvm.Cond.methodLink "TugOfWarLaw" (150 : Nat) ({ cls := "TugOfWarModel", name := "get", desc := "(III)I" } : Jvm.MethodName)) ∈ lw_all := lw_g (lw_at lw_m7 144 rfl) rfl
theorem q1682 : (Jvm.Cond.methodLink "TugOfWarLaw" (155 : Nat) ({ cls := "TugOfWarModel", name := "copy", desc := "(IIIII)I" } : Jvm.MethodName)) ∈ lw_all := lw_g (lw_at lw_m7 149 rfl) rfl
theorem q1686 : (Jvm.Cond.methodLink "TugOfWarLaw" (159 : Nat) ({ cls := "TugOfWarModel", name := "write", desc := "(I)I" } : Jvm.MethodName)) ∈ lw_all := lw_g (lw_at lw_m7 153 rfl) rfl
theorem q1690 : (Jvm.Cond.methodLink "TugOfWarLaw" (163 : Nat) ({ cls := "TugOfWarModel", name := "count", desc := "(I)I" } : Jvm.MethodName)) ∈ lw_all := lw_g (lw_at lw_m7 157 rfl) rfl
theorem q1698 : (Jvm.Cond.methodLink "TugOfWarLaw" (168 : Nat) ({ cls := "TugOfWarModel", name := "digest", desc := "()J" } : Jvm.MethodName)) ∈ lw_all := lw_g (lw_at lw_m7 165 rfl) rfl
theorem q1748 : (Jvm.Cond.castable "[B" "java/lang/Object") ∈ lw_tbl := lw_at lw_m7 215 rfl
set_option maxRecDepth 100000
theorem q1750 : (Jvm.Cond.castable "[I" "java/lang/Object") ∈ lw_tbl := lw_at lw_m7 217 rfl
set_option maxRecDepth 100000
theorem q1749 : (Jvm.Cond.castable "[LTugOfWar$Captain;" "java/lang/Object") ∈ lw_tbl := lw_at lw_m7 216 rfl
set_option maxRecDepth 100000
theorem q1753 : (Jvm.Cond.castable "[LTugOfWar$Sheet;" "java/lang/Object") ∈ lw_tbl := lw_at lw_m7 220 rfl
set_option maxRecDepth 100000
theorem q1757 : (Jvm.Cond.castable "[LTugOfWar$Sort;" "java/lang/Object") ∈ lw_tbl := lw_at lw_m7 224 rfl
set_option maxRecDepth 100000
theorem q1747 : (Jvm.Cond.castable "[LTugOfWar$Team;" "java/lang/Object") ∈ lw_tbl := lw_at lw_m7 214 rfl
set_option maxRecDepth 100000
theorem q1751 : (Jvm.Cond.castable "[LTugOfWar$Text;" "java/lang/Object") ∈ lw_tbl := lw_at lw_m7 218 rfl
set_option maxRecDepth 100000
theorem q1744 : (Jvm.Cond.sameMethod "[Ljava/lang/Object;" "java/lang/Object" "getClass" "()Ljava/lang/Class;") ∈ lw_all := lw_g (lw_at lw_m7 211 rfl) rfl
set_option maxRecDepth 100000
theorem q1745 : (Jvm.Cond.selects "[Ljava/lang/Object;" ({ cls := "java/lang/Object", name := "getClass", desc := "()Ljava/lang/Class;" } : Jvm.MethodName) ({ cls := "java/lang/Object", name := "getClass", desc := "()Ljava/lang/Class;" } : Jvm.MethodName)) ∈ lw_all := lw_g (lw_at lw_m7 212 rfl) rfl
theorem q1754 : (Jvm.Cond.castable "[Ljava/lang/Object;" "java/lang/Object") ∈ lw_tbl := lw_at lw_m7 221 rfl
theorem q1755 : (Jvm.Cond.castable "[S" "java/lang/Object") ∈ lw_tbl := lw_at lw_m7 222 rfl
set_option maxRecDepth 100000
theorem q1756 : (Jvm.Cond.castable "[Z" "java/lang/Object") ∈ lw_tbl := lw_at lw_m7 223 rfl
set_option maxRecDepth 100000
theorem q1752 : (Jvm.Cond.castable "[[I" "java/lang/Object") ∈ lw_tbl := lw_at lw_m7 219 rfl
set_option maxRecDepth 100000
theorem q115 : (Jvm.Cond.initialized "java/lang/System") ∈ lw_all := lw_g (lw_at lw_m1 22 rfl) rfl
set_option maxRecDepth 100000
theorem q634 : (Jvm.Cond.static ({ cls := "java/lang/System", name := "arraycopy", desc := "(Ljava/lang/Object;ILjava/lang/Object;II)V" } : Jvm.MethodName)) ∈ lw_all := lw_g (lw_at lw_m3 61 rfl) rfl
theorem q635 : (Jvm.Cond.native ({ cls := "java/lang/System", name := "arraycopy", desc := "(Ljava/lang/Object;ILjava/lang/Object;II)V" } : Jvm.MethodName)) ∈ lw_all := lw_g (lw_at lw_m3 62 rfl) rfl
theorem q131 : (Jvm.Cond.arrayOver (Jvm.ClassFile.FieldType.object "TugOfWar$Team")) ∈ lw_tbl := lw_at lw_m1 38 rfl
set_option maxRecDepth 100000
theorem q166 : (Jvm.Cond.arrayClass Jvm.ClassFile.FieldType.byte) ∈ lw_all := lw_g (lw_at lw_m1 73 rfl) rfl
theorem q188 : (Jvm.Cond.arrayOver (Jvm.ClassFile.FieldType.object "TugOfWar$Captain")) ∈ lw_tbl := lw_at lw_m1 95 rfl
theorem q207 : (Jvm.Cond.arrayClass Jvm.ClassFile.FieldType.int) ∈ lw_all := lw_g (lw_at lw_m1 114 rfl) rfl
theorem q209 : (Jvm.Cond.arrayOver (Jvm.ClassFile.FieldType.object "TugOfWar$Text")) ∈ lw_tbl := lw_at lw_m1 116 rfl
theorem q213 : (Jvm.Cond.arrayOver (Jvm.ClassFile.FieldType.array Jvm.ClassFile.FieldType.int)) ∈ lw_tbl := lw_at lw_m1 120 rfl
theorem q215 : (Jvm.Cond.arrayOver (Jvm.ClassFile.FieldType.object "TugOfWar$Sheet")) ∈ lw_tbl := lw_at lw_m1 122 rfl
theorem q630 : (Jvm.Cond.arrayOver (Jvm.ClassFile.FieldType.object "java/lang/Object")) ∈ lw_tbl := lw_at lw_m3 57 rfl
theorem q1086 : (Jvm.Cond.arrayClass Jvm.ClassFile.FieldType.short) ∈ lw_all := lw_g (lw_at lw_m5 33 rfl) rfl
theorem q1335 : (Jvm.Cond.arrayClass Jvm.ClassFile.FieldType.boolean) ∈ lw_all := lw_g (lw_at lw_m6 42 rfl) rfl
/-! TugOfWar$Text -/
set_option maxRecDepth 100000
def RX1 : String := "TugOfWar$Text"
abbrev cX1_init : ByteArray := prog_9_method_1_code
def yX1_init : MethodName := ⟨RX1, "<init>", "(I)V"⟩
def dkwX1_init_0 : List UInt8 := [42, 183, 0, 3, 42, 27, 188, 8, 181, 0, 9, 177]
abbrev dktX1_init_0 : List UInt8 := dkwX1_init_0 ++ []
theorem dksX1_init_0 : cX1_init.data.toList.drop 0 = dktX1_init_0 := by decide +kernel
theorem dX1_init_0 : decode cX1_init 0 = .ok (.aload_n 0, 1) := dk_42 (dk_at dksX1_init_0 0 rfl rfl)
theorem dX1_init_1 : decode cX1_init 1 = .ok (.invokespecial 3, 3) := dk_183 0 3 (dk_at dksX1_init_0 1 rfl rfl)
theorem dX1_init_4 : decode cX1_init 4 = .ok (.aload_n 0, 1) := dk_42 (dk_at dksX1_init_0 4 rfl rfl)
theorem dX1_init_5 : decode cX1_init 5 = .ok (.iload_n 1, 1) := dk_27 (dk_at dksX1_init_0 5 rfl rfl)
theorem dX1_init_6 : decode cX1_init 6 = .ok (.newarray .byte, 2) := dk_188_8 (dk_at dksX1_init_0 6 rfl rfl)
theorem dX1_init_8 : decode cX1_init 8 = .ok (.putfield 9, 3) := dk_181 0 9 (dk_at dksX1_init_0 8 rfl rfl)
theorem dX1_init_11 : decode cX1_init 11 = .ok (.return_, 1) := dk_177 (dk_at dksX1_init_0 11 rfl rfl)
abbrev cX1_type : ByteArray := prog_9_method_7_code
def yX1_type : MethodName := ⟨RX1, "type", "(I)I"⟩
def dkwX1_type_1 : List UInt8 := [145, 84, 42, 89, 180, 0, 15, 4, 96, 181, 0, 15, 42, 3, 181, 0, 19, 42, 180, 0, 15, 172]
abbrev dktX1_type_1 : List UInt8 := dkwX1_type_1 ++ []
def dkwX1_type_0 : List UInt8 := [42, 180, 0, 15, 42, 180, 0, 9, 190, 160, 0, 6, 16, 252, 172, 42, 180, 0, 9, 42, 180, 0, 15, 27]
abbrev dktX1_type_0 : List UInt8 := dkwX1_type_0 ++ dktX1_type_1
theorem dksX1_type_0 : cX1_type.data.toList.drop 0 = dktX1_type_0 := by decide +kernel
theorem dksX1_type_1 : cX1_type.data.toList.drop 24 = dktX1_type_1 := dk_seg dksX1_type_0 24 rfl rfl
theorem dX1_type_0 : decode cX1_type 0 = .ok (.aload_n 0, 1) := dk_42 (dk_at dksX1_type_0 0 rfl rfl)
theorem dX1_type_1 : decode cX1_type 1 = .ok (.getfield 15, 3) := dk_180 0 15 (dk_at dksX1_type_0 1 rfl rfl)
theorem dX1_type_4 : decode cX1_type 4 = .ok (.aload_n 0, 1) := dk_42 (dk_at dksX1_type_0 4 rfl rfl)
theorem dX1_type_5 : decode cX1_type 5 = .ok (.getfield 9, 3) := dk_180 0 9 (dk_at dksX1_type_0 5 rfl rfl)
theorem dX1_type_8 : decode cX1_type 8 = .ok (.arraylength, 1) := dk_190 (dk_at dksX1_type_0 8 rfl rfl)
theorem dX1_type_9 : decode cX1_type 9 = .ok (.if_icmp .ne 6, 3) := dk_160 0 6 (dk_at dksX1_type_0 9 rfl rfl)
theorem dX1_type_12 : decode cX1_type 12 = .ok (.bipush (-4), 2) := dk_16 252 (dk_at dksX1_type_0 12 rfl rfl)
theorem dX1_type_14 : decode cX1_type 14 = .ok (.ireturn, 1) := dk_172 (dk_at dksX1_type_0 14 rfl rfl)
theorem dX1_type_15 : decode cX1_type 15 = .ok (.aload_n 0, 1) := dk_42 (dk_at dksX1_type_0 15 rfl rfl)
theorem dX1_type_16 : decode cX1_type 16 = .ok (.getfield 9, 3) := dk_180 0 9 (dk_at dksX1_type_0 16 rfl rfl)
theorem dX1_type_19 : decode cX1_type 19 = .ok (.aload_n 0, 1) := dk_42 (dk_at dksX1_type_0 19 rfl rfl)
theorem dX1_type_20 : decode cX1_type 20 = .ok (.getfield 15, 3) := dk_180 0 15 (dk_at dksX1_type_0 20 rfl rfl)
theorem dX1_type_23 : decode cX1_type 23 = .ok (.iload_n 1, 1) := dk_27 (dk_at dksX1_type_0 23 rfl rfl)
theorem dX1_type_24 : decode cX1_type 24 = .ok (.i2b, 1) := dk_145 (dk_at dksX1_type_1 0 rfl rfl)
theorem dX1_type_25 : decode cX1_type 25 = .ok (.bastore, 1) := dk_84 (dk_at dksX1_type_1 1 rfl rfl)
theorem dX1_type_26 : decode cX1_type 26 = .ok (.aload_n 0, 1) := dk_42 (dk_at dksX1_type_1 2 rfl rfl)
theorem dX1_type_27 : decode cX1_type 27 = .ok (.dup, 1) := dk_89 (dk_at dksX1_type_1 3 rfl rfl)
theorem dX1_type_28 : decode cX1_type 28 = .ok (.getfield 15, 3) := dk_180 0 15 (dk_at dksX1_type_1 4 rfl rfl)
theorem dX1_type_31 : decode cX1_type 31 = .ok (.iconst 1, 1) := dk_4 (dk_at dksX1_type_1 7 rfl rfl)
theorem dX1_type_32 : decode cX1_type 32 = .ok (.iadd, 1) := dk_96 (dk_at dksX1_type_1 8 rfl rfl)
theorem dX1_type_33 : decode cX1_type 33 = .ok (.putfield 15, 3) := dk_181 0 15 (dk_at dksX1_type_1 9 rfl rfl)
theorem dX1_type_36 : decode cX1_type 36 = .ok (.aload_n 0, 1) := dk_42 (dk_at dksX1_type_1 12 rfl rfl)
theorem dX1_type_37 : decode cX1_type 37 = .ok (.iconst 0, 1) := dk_3 (dk_at dksX1_type_1 13 rfl rfl)
theorem dX1_type_38 : decode cX1_type 38 = .ok (.putfield 19, 3) := dk_181 0 19 (dk_at dksX1_type_1 14 rfl rfl)
theorem dX1_type_41 : decode cX1_type 41 = .ok (.aload_n 0, 1) := dk_42 (dk_at dksX1_type_1 17 rfl rfl)
theorem dX1_type_42 : decode cX1_type 42 = .ok (.getfield 15, 3) := dk_180 0 15 (dk_at dksX1_type_1 18 rfl rfl)
theorem dX1_type_45 : decode cX1_type 45 = .ok (.ireturn, 1) := dk_172 (dk_at dksX1_type_1 21 rfl rfl)
abbrev cX1_wipe : ByteArray := prog_9_method_8_code
def yX1_wipe : MethodName := ⟨RX1, "wipe", "()I"⟩
def dkwX1_wipe_0 : List UInt8 := [42, 180, 0, 15, 60, 42, 3, 181, 0, 15, 42, 3, 181, 0, 19, 27, 172]
abbrev dktX1_wipe_0 : List UInt8 := dkwX1_wipe_0 ++ []
theorem dksX1_wipe_0 : cX1_wipe.data.toList.drop 0 = dktX1_wipe_0 := by decide +kernel
theorem dX1_wipe_0 : decode cX1_wipe 0 = .ok (.aload_n 0, 1) := dk_42 (dk_at dksX1_wipe_0 0 rfl rfl)
theorem dX1_wipe_1 : decode cX1_wipe 1 = .ok (.getfield 15, 3) := dk_180 0 15 (dk_at dksX1_wipe_0 1 rfl rfl)
theorem dX1_wipe_4 : decode cX1_wipe 4 = .ok (.istore_n 1, 1) := dk_60 (dk_at dksX1_wipe_0 4 rfl rfl)
theorem dX1_wipe_5 : decode cX1_wipe 5 = .ok (.aload_n 0, 1) := dk_42 (dk_at dksX1_wipe_0 5 rfl rfl)
theorem dX1_wipe_6 : decode cX1_wipe 6 = .ok (.iconst 0, 1) := dk_3 (dk_at dksX1_wipe_0 6 rfl rfl)
theorem dX1_wipe_7 : decode cX1_wipe 7 = .ok (.putfield 15, 3) := dk_181 0 15 (dk_at dksX1_wipe_0 7 rfl rfl)
theorem dX1_wipe_10 : decode cX1_wipe 10 = .ok (.aload_n 0, 1) := dk_42 (dk_at dksX1_wipe_0 10 rfl rfl)
theorem dX1_wipe_11 : decode cX1_wipe 11 = .ok (.iconst 0, 1) := dk_3 (dk_at dksX1_wipe_0 11 rfl rfl)
theorem dX1_wipe_12 : decode cX1_wipe 12 = .ok (.putfield 19, 3) := dk_181 0 19 (dk_at dksX1_wipe_0 12 rfl rfl)
theorem dX1_wipe_15 : decode cX1_wipe 15 = .ok (.iload_n 1, 1) := dk_27 (dk_at dksX1_wipe_0 15 rfl rfl)
theorem dX1_wipe_16 : decode cX1_wipe 16 = .ok (.ireturn, 1) := dk_172 (dk_at dksX1_wipe_0 16 rfl rfl)
abbrev cX1_undo : ByteArray := prog_9_method_9_code
def yX1_undo : MethodName := ⟨RX1, "undo", "()I"⟩
def dkwX1_undo_1 : List UInt8 := [181, 0, 19, 42, 180, 0, 15, 172]
abbrev dktX1_undo_1 : List UInt8 := dkwX1_undo_1 ++ []
def dkwX1_undo_0 : List UInt8 := [42, 180, 0, 15, 154, 0, 6, 16, 253, 172, 42, 89, 180, 0, 15, 4, 100, 181, 0, 15, 42, 3]
abbrev dktX1_undo_0 : List UInt8 := dkwX1_undo_0 ++ dktX1_undo_1
theorem dksX1_undo_0 : cX1_undo.data.toList.drop 0 = dktX1_undo_0 := by decide +kernel
theorem dksX1_undo_1 : cX1_undo.data.toList.drop 22 = dktX1_undo_1 := dk_seg dksX1_undo_0 22 rfl rfl
theorem dX1_undo_0 : decode cX1_undo 0 = .ok (.aload_n 0, 1) := dk_42 (dk_at dksX1_undo_0 0 rfl rfl)
theorem dX1_undo_1 : decode cX1_undo 1 = .ok (.getfield 15, 3) := dk_180 0 15 (dk_at dksX1_undo_0 1 rfl rfl)
theorem dX1_undo_4 : decode cX1_undo 4 = .ok (.ifCond .ne 6, 3) := dk_154 0 6 (dk_at dksX1_undo_0 4 rfl rfl)
theorem dX1_undo_7 : decode cX1_undo 7 = .ok (.bipush (-3), 2) := dk_16 253 (dk_at dksX1_undo_0 7 rfl rfl)
theorem dX1_undo_9 : decode cX1_undo 9 = .ok (.ireturn, 1) := dk_172 (dk_at dksX1_undo_0 9 rfl rfl)
theorem dX1_undo_10 : decode cX1_undo 10 = .ok (.aload_n 0, 1) := dk_42 (dk_at dksX1_undo_0 10 rfl rfl)
theorem dX1_undo_11 : decode cX1_undo 11 = .ok (.dup, 1) := dk_89 (dk_at dksX1_undo_0 11 rfl rfl)
theorem dX1_undo_12 : decode cX1_undo 12 = .ok (.getfield 15, 3) := dk_180 0 15 (dk_at dksX1_undo_0 12 rfl rfl)
theorem dX1_undo_15 : decode cX1_undo 15 = .ok (.iconst 1, 1) := dk_4 (dk_at dksX1_undo_0 15 rfl rfl)
theorem dX1_undo_16 : decode cX1_undo 16 = .ok (.isub, 1) := dk_100 (dk_at dksX1_undo_0 16 rfl rfl)
theorem dX1_undo_17 : decode cX1_undo 17 = .ok (.putfield 15, 3) := dk_181 0 15 (dk_at dksX1_undo_0 17 rfl rfl)
theorem dX1_undo_20 : decode cX1_undo 20 = .ok (.aload_n 0, 1) := dk_42 (dk_at dksX1_undo_0 20 rfl rfl)
theorem dX1_undo_21 : decode cX1_undo 21 = .ok (.iconst 0, 1) := dk_3 (dk_at dksX1_undo_0 21 rfl rfl)
theorem dX1_undo_22 : decode cX1_undo 22 = .ok (.putfield 19, 3) := dk_181 0 19 (dk_at dksX1_undo_1 0 rfl rfl)
theorem dX1_undo_25 : decode cX1_undo 25 = .ok (.aload_n 0, 1) := dk_42 (dk_at dksX1_undo_1 3 rfl rfl)
theorem dX1_undo_26 : decode cX1_undo 26 = .ok (.getfield 15, 3) := dk_180 0 15 (dk_at dksX1_undo_1 4 rfl rfl)
theorem dX1_undo_29 : decode cX1_undo 29 = .ok (.ireturn, 1) := dk_172 (dk_at dksX1_undo_1 7 rfl rfl)
abbrev cX1_read : ByteArray := prog_9_method_14_code
def yX1_read : MethodName := ⟨RX1, "read", "()I"⟩
def dkwX1_read_1 : List UInt8 := [172]
abbrev dktX1_read_1 : List UInt8 := dkwX1_read_1 ++ []
def dkwX1_read_0 : List UInt8 := [42, 180, 0, 19, 154, 0, 11, 42, 42, 182, 0, 56, 181, 0, 60, 42, 4, 181, 0, 19, 42, 180, 0, 60]
abbrev dktX1_read_0 : List UInt8 := dkwX1_read_0 ++ dktX1_read_1
theorem dksX1_read_0 : cX1_read.data.toList.drop 0 = dktX1_read_0 := by decide +kernel
theorem dksX1_read_1 : cX1_read.data.toList.drop 24 = dktX1_read_1 := dk_seg dksX1_read_0 24 rfl rfl
theorem dX1_read_0 : decode cX1_read 0 = .ok (.aload_n 0, 1) := dk_42 (dk_at dksX1_read_0 0 rfl rfl)
theorem dX1_read_1 : decode cX1_read 1 = .ok (.getfield 19, 3) := dk_180 0 19 (dk_at dksX1_read_0 1 rfl rfl)
theorem dX1_read_4 : decode cX1_read 4 = .ok (.ifCond .ne 11, 3) := dk_154 0 11 (dk_at dksX1_read_0 4 rfl rfl)
theorem dX1_read_7 : decode cX1_read 7 = .ok (.aload_n 0, 1) := dk_42 (dk_at dksX1_read_0 7 rfl rfl)
theorem dX1_read_8 : decode cX1_read 8 = .ok (.aload_n 0, 1) := dk_42 (dk_at dksX1_read_0 8 rfl rfl)
theorem dX1_read_9 : decode cX1_read 9 = .ok (.invokevirtual 56, 3) := dk_182 0 56 (dk_at dksX1_read_0 9 rfl rfl)
theorem dX1_read_12 : decode cX1_read 12 = .ok (.putfield 60, 3) := dk_181 0 60 (dk_at dksX1_read_0 12 rfl rfl)
theorem dX1_read_15 : decode cX1_read 15 = .ok (.aload_n 0, 1) := dk_42 (dk_at dksX1_read_0 15 rfl rfl)
theorem dX1_read_16 : decode cX1_read 16 = .ok (.iconst 1, 1) := dk_4 (dk_at dksX1_read_0 16 rfl rfl)
theorem dX1_read_17 : decode cX1_read 17 = .ok (.putfield 19, 3) := dk_181 0 19 (dk_at dksX1_read_0 17 rfl rfl)
theorem dX1_read_20 : decode cX1_read 20 = .ok (.aload_n 0, 1) := dk_42 (dk_at dksX1_read_0 20 rfl rfl)
theorem dX1_read_21 : decode cX1_read 21 = .ok (.getfield 60, 3) := dk_180 0 60 (dk_at dksX1_read_0 21 rfl rfl)
theorem dX1_read_24 : decode cX1_read 24 = .ok (.ireturn, 1) := dk_172 (dk_at dksX1_read_1 0 rfl rfl)
abbrev cX1_reads : ByteArray := prog_9_method_13_code
def yX1_reads : MethodName := ⟨RX1, "reads", "()I"⟩
def dkwX1_reads_2 : List UInt8 := [182, 0, 44, 43, 180, 0, 53, 172]
abbrev dktX1_reads_2 : List UInt8 := dkwX1_reads_2 ++ []
def dkwX1_reads_1 : List UInt8 := [42, 180, 0, 15, 162, 0, 14, 42, 182, 0, 50, 42, 182, 0, 47, 167, 255, 237, 2, 172, 76, 42]
abbrev dktX1_reads_1 : List UInt8 := dkwX1_reads_1 ++ dktX1_reads_2
def dkwX1_reads_0 : List UInt8 := [42, 3, 181, 0, 23, 42, 182, 0, 44, 42, 180, 0, 15, 158, 0, 7, 42, 182, 0, 47, 42, 180, 0, 23]
abbrev dktX1_reads_0 : List UInt8 := dkwX1_reads_0 ++ dktX1_reads_1
theorem dksX1_reads_0 : cX1_reads.data.toList.drop 0 = dktX1_reads_0 := by decide +kernel
theorem dksX1_reads_1 : cX1_reads.data.toList.drop 24 = dktX1_reads_1 := dk_seg dksX1_reads_0 24 rfl rfl
theorem dksX1_reads_2 : cX1_reads.data.toList.drop 46 = dktX1_reads_2 := dk_seg dksX1_reads_1 22 rfl rfl
theorem dX1_reads_0 : decode cX1_reads 0 = .ok (.aload_n 0, 1) := dk_42 (dk_at dksX1_reads_0 0 rfl rfl)
theorem dX1_reads_1 : decode cX1_reads 1 = .ok (.iconst 0, 1) := dk_3 (dk_at dksX1_reads_0 1 rfl rfl)
theorem dX1_reads_2 : decode cX1_reads 2 = .ok (.putfield 23, 3) := dk_181 0 23 (dk_at dksX1_reads_0 2 rfl rfl)
theorem dX1_reads_5 : decode cX1_reads 5 = .ok (.aload_n 0, 1) := dk_42 (dk_at dksX1_reads_0 5 rfl rfl)
theorem dX1_reads_6 : decode cX1_reads 6 = .ok (.invokevirtual 44, 3) := dk_182 0 44 (dk_at dksX1_reads_0 6 rfl rfl)
theorem dX1_reads_9 : decode cX1_reads 9 = .ok (.aload_n 0, 1) := dk_42 (dk_at dksX1_reads_0 9 rfl rfl)
theorem dX1_reads_10 : decode cX1_reads 10 = .ok (.getfield 15, 3) := dk_180 0 15 (dk_at dksX1_reads_0 10 rfl rfl)
theorem dX1_reads_13 : decode cX1_reads 13 = .ok (.ifCond .le 7, 3) := dk_158 0 7 (dk_at dksX1_reads_0 13 rfl rfl)
theorem dX1_reads_16 : decode cX1_reads 16 = .ok (.aload_n 0, 1) := dk_42 (dk_at dksX1_reads_0 16 rfl rfl)
theorem dX1_reads_17 : decode cX1_reads 17 = .ok (.invokevirtual 47, 3) := dk_182 0 47 (dk_at dksX1_reads_0 17 rfl rfl)
theorem dX1_reads_20 : decode cX1_reads 20 = .ok (.aload_n 0, 1) := dk_42 (dk_at dksX1_reads_0 20 rfl rfl)
theorem dX1_reads_21 : decode cX1_reads 21 = .ok (.getfield 23, 3) := dk_180 0 23 (dk_at dksX1_reads_0 21 rfl rfl)
theorem dX1_reads_24 : decode cX1_reads 24 = .ok (.aload_n 0, 1) := dk_42 (dk_at dksX1_reads_1 0 rfl rfl)
theorem dX1_reads_25 : decode cX1_reads 25 = .ok (.getfield 15, 3) := dk_180 0 15 (dk_at dksX1_reads_1 1 rfl rfl)
theorem dX1_reads_28 : decode cX1_reads 28 = .ok (.if_icmp .ge 14, 3) := dk_162 0 14 (dk_at dksX1_reads_1 4 rfl rfl)
theorem dX1_reads_31 : decode cX1_reads 31 = .ok (.aload_n 0, 1) := dk_42 (dk_at dksX1_reads_1 7 rfl rfl)
theorem dX1_reads_32 : decode cX1_reads 32 = .ok (.invokevirtual 50, 3) := dk_182 0 50 (dk_at dksX1_reads_1 8 rfl rfl)
theorem dX1_reads_35 : decode cX1_reads 35 = .ok (.aload_n 0, 1) := dk_42 (dk_at dksX1_reads_1 11 rfl rfl)
theorem dX1_reads_36 : decode cX1_reads 36 = .ok (.invokevirtual 47, 3) := dk_182 0 47 (dk_at dksX1_reads_1 12 rfl rfl)
theorem dX1_reads_39 : decode cX1_reads 39 = .ok (.goto (-19), 3) := dk_167 255 237 (dk_at dksX1_reads_1 15 rfl rfl)
theorem dX1_reads_42 : decode cX1_reads 42 = .ok (.iconst (-1), 1) := dk_2 (dk_at dksX1_reads_1 18 rfl rfl)
theorem dX1_reads_43 : decode cX1_reads 43 = .ok (.ireturn, 1) := dk_172 (dk_at dksX1_reads_1 19 rfl rfl)
theorem dX1_reads_44 : decode cX1_reads 44 = .ok (.astore_n 1, 1) := dk_76 (dk_at dksX1_reads_1 20 rfl rfl)
theorem dX1_reads_45 : decode cX1_reads 45 = .ok (.aload_n 0, 1) := dk_42 (dk_at dksX1_reads_1 21 rfl rfl)
theorem dX1_reads_46 : decode cX1_reads 46 = .ok (.invokevirtual 44, 3) := dk_182 0 44 (dk_at dksX1_reads_2 0 rfl rfl)
theorem dX1_reads_49 : decode cX1_reads 49 = .ok (.aload_n 1, 1) := dk_43 (dk_at dksX1_reads_2 3 rfl rfl)
theorem dX1_reads_50 : decode cX1_reads 50 = .ok (.getfield 53, 3) := dk_180 0 53 (dk_at dksX1_reads_2 4 rfl rfl)
theorem dX1_reads_53 : decode cX1_reads 53 = .ok (.ireturn, 1) := dk_172 (dk_at dksX1_reads_2 7 rfl rfl)
abbrev cX1_next : ByteArray := prog_9_method_12_code
def yX1_next : MethodName := ⟨RX1, "next", "()V"⟩
def dkwX1_next_0 : List UInt8 := [42, 182, 0, 37, 153, 0, 15, 187, 0, 32, 89, 42, 180, 0, 23, 183, 0, 34, 191, 42, 182, 0, 41, 177]
abbrev dktX1_next_0 : List UInt8 := dkwX1_next_0 ++ []
theorem dksX1_next_0 : cX1_next.data.toList.drop 0 = dktX1_next_0 := by decide +kernel
theorem dX1_next_0 : decode cX1_next 0 = .ok (.aload_n 0, 1) := dk_42 (dk_at dksX1_next_0 0 rfl rfl)
theorem dX1_next_1 : decode cX1_next 1 = .ok (.invokevirtual 37, 3) := dk_182 0 37 (dk_at dksX1_next_0 1 rfl rfl)
theorem dX1_next_4 : decode cX1_next 4 = .ok (.ifCond .eq 15, 3) := dk_153 0 15 (dk_at dksX1_next_0 4 rfl rfl)
theorem dX1_next_7 : decode cX1_next 7 = .ok (.new 32, 3) := dk_187 0 32 (dk_at dksX1_next_0 7 rfl rfl)
theorem dX1_next_10 : decode cX1_next 10 = .ok (.dup, 1) := dk_89 (dk_at dksX1_next_0 10 rfl rfl)
theorem dX1_next_11 : decode cX1_next 11 = .ok (.aload_n 0, 1) := dk_42 (dk_at dksX1_next_0 11 rfl rfl)
theorem dX1_next_12 : decode cX1_next 12 = .ok (.getfield 23, 3) := dk_180 0 23 (dk_at dksX1_next_0 12 rfl rfl)
theorem dX1_next_15 : decode cX1_next 15 = .ok (.invokespecial 34, 3) := dk_183 0 34 (dk_at dksX1_next_0 15 rfl rfl)
theorem dX1_next_18 : decode cX1_next 18 = .ok (.athrow, 1) := dk_191 (dk_at dksX1_next_0 18 rfl rfl)
theorem dX1_next_19 : decode cX1_next 19 = .ok (.aload_n 0, 1) := dk_42 (dk_at dksX1_next_0 19 rfl rfl)
theorem dX1_next_20 : decode cX1_next 20 = .ok (.invokevirtual 41, 3) := dk_182 0 41 (dk_at dksX1_next_0 20 rfl rfl)
theorem dX1_next_23 : decode cX1_next 23 = .ok (.return_, 1) := dk_177 (dk_at dksX1_next_0 23 rfl rfl)
abbrev cX1_passes : ByteArray := prog_9_method_11_code
def yX1_passes : MethodName := ⟨RX1, "passes", "(Ljava/lang/String;)I"⟩
def dkwX1_passes_2 : List UInt8 := [183, 0, 34, 191, 42, 89, 180, 0, 23, 4, 96, 181, 0, 23, 28, 172]
abbrev dktX1_passes_2 : List UInt8 := dkwX1_passes_2 ++ []
def dkwX1_passes_1 : List UInt8 := [51, 17, 0, 255, 126, 182, 0, 26, 61, 28, 2, 160, 0, 15, 187, 0, 32, 89, 42, 180, 0, 23]
abbrev dktX1_passes_1 : List UInt8 := dkwX1_passes_1 ++ dktX1_passes_2
def dkwX1_passes_0 : List UInt8 := [42, 180, 0, 23, 42, 180, 0, 15, 160, 0, 7, 2, 167, 0, 20, 43, 42, 180, 0, 9, 42, 180, 0, 23]
abbrev dktX1_passes_0 : List UInt8 := dkwX1_passes_0 ++ dktX1_passes_1
theorem dksX1_passes_0 : cX1_passes.data.toList.drop 0 = dktX1_passes_0 := by decide +kernel
theorem dksX1_passes_1 : cX1_passes.data.toList.drop 24 = dktX1_passes_1 := dk_seg dksX1_passes_0 24 rfl rfl
theorem dksX1_passes_2 : cX1_passes.data.toList.drop 46 = dktX1_passes_2 := dk_seg dksX1_passes_1 22 rfl rfl
theorem dX1_passes_0 : decode cX1_passes 0 = .ok (.aload_n 0, 1) := dk_42 (dk_at dksX1_passes_0 0 rfl rfl)
theorem dX1_passes_1 : decode cX1_passes 1 = .ok (.getfield 23, 3) := dk_180 0 23 (dk_at dksX1_passes_0 1 rfl rfl)
theorem dX1_passes_4 : decode cX1_passes 4 = .ok (.aload_n 0, 1) := dk_42 (dk_at dksX1_passes_0 4 rfl rfl)
theorem dX1_passes_5 : decode cX1_passes 5 = .ok (.getfield 15, 3) := dk_180 0 15 (dk_at dksX1_passes_0 5 rfl rfl)
theorem dX1_passes_8 : decode cX1_passes 8 = .ok (.if_icmp .ne 7, 3) := dk_160 0 7 (dk_at dksX1_passes_0 8 rfl rfl)
theorem dX1_passes_11 : decode cX1_passes 11 = .ok (.iconst (-1), 1) := dk_2 (dk_at dksX1_passes_0 11 rfl rfl)
theorem dX1_passes_12 : decode cX1_passes 12 = .ok (.goto 20, 3) := dk_167 0 20 (dk_at dksX1_passes_0 12 rfl rfl)
theorem dX1_passes_15 : decode cX1_passes 15 = .ok (.aload_n 1, 1) := dk_43 (dk_at dksX1_passes_0 15 rfl rfl)
theorem dX1_passes_16 : decode cX1_passes 16 = .ok (.aload_n 0, 1) := dk_42 (dk_at dksX1_passes_0 16 rfl rfl)
theorem dX1_passes_17 : decode cX1_passes 17 = .ok (.getfield 9, 3) := dk_180 0 9 (dk_at dksX1_passes_0 17 rfl rfl)
theorem dX1_passes_20 : decode cX1_passes 20 = .ok (.aload_n 0, 1) := dk_42 (dk_at dksX1_passes_0 20 rfl rfl)
theorem dX1_passes_21 : decode cX1_passes 21 = .ok (.getfield 23, 3) := dk_180 0 23 (dk_at dksX1_passes_0 21 rfl rfl)
theorem dX1_passes_24 : decode cX1_passes 24 = .ok (.baload, 1) := dk_51 (dk_at dksX1_passes_1 0 rfl rfl)
theorem dX1_passes_25 : decode cX1_passes 25 = .ok (.sipush 255, 3) := dk_17 0 255 (dk_at dksX1_passes_1 1 rfl rfl)
theorem dX1_passes_28 : decode cX1_passes 28 = .ok (.iand, 1) := dk_126 (dk_at dksX1_passes_1 4 rfl rfl)
theorem dX1_passes_29 : decode cX1_passes 29 = .ok (.invokevirtual 26, 3) := dk_182 0 26 (dk_at dksX1_passes_1 5 rfl rfl)
theorem dX1_passes_32 : decode cX1_passes 32 = .ok (.istore_n 2, 1) := dk_61 (dk_at dksX1_passes_1 8 rfl rfl)
theorem dX1_passes_33 : decode cX1_passes 33 = .ok (.iload_n 2, 1) := dk_28 (dk_at dksX1_passes_1 9 rfl rfl)
theorem dX1_passes_34 : decode cX1_passes 34 = .ok (.iconst (-1), 1) := dk_2 (dk_at dksX1_passes_1 10 rfl rfl)
theorem dX1_passes_35 : decode cX1_passes 35 = .ok (.if_icmp .ne 15, 3) := dk_160 0 15 (dk_at dksX1_passes_1 11 rfl rfl)
theorem dX1_passes_38 : decode cX1_passes 38 = .ok (.new 32, 3) := dk_187 0 32 (dk_at dksX1_passes_1 14 rfl rfl)
theorem dX1_passes_41 : decode cX1_passes 41 = .ok (.dup, 1) := dk_89 (dk_at dksX1_passes_1 17 rfl rfl)
theorem dX1_passes_42 : decode cX1_passes 42 = .ok (.aload_n 0, 1) := dk_42 (dk_at dksX1_passes_1 18 rfl rfl)
theorem dX1_passes_43 : decode cX1_passes 43 = .ok (.getfield 23, 3) := dk_180 0 23 (dk_at dksX1_passes_1 19 rfl rfl)
theorem dX1_passes_46 : decode cX1_passes 46 = .ok (.invokespecial 34, 3) := dk_183 0 34 (dk_at dksX1_passes_2 0 rfl rfl)
theorem dX1_passes_49 : decode cX1_passes 49 = .ok (.athrow, 1) := dk_191 (dk_at dksX1_passes_2 3 rfl rfl)
theorem dX1_passes_50 : decode cX1_passes 50 = .ok (.aload_n 0, 1) := dk_42 (dk_at dksX1_passes_2 4 rfl rfl)
theorem dX1_passes_51 : decode cX1_passes 51 = .ok (.dup, 1) := dk_89 (dk_at dksX1_passes_2 5 rfl rfl)
theorem dX1_passes_52 : decode cX1_passes 52 = .ok (.getfield 23, 3) := dk_180 0 23 (dk_at dksX1_passes_2 6 rfl rfl)
theorem dX1_passes_55 : decode cX1_passes 55 = .ok (.iconst 1, 1) := dk_4 (dk_at dksX1_passes_2 9 rfl rfl)
theorem dX1_passes_56 : decode cX1_passes 56 = .ok (.iadd, 1) := dk_96 (dk_at dksX1_passes_2 10 rfl rfl)
theorem dX1_passes_57 : decode cX1_passes 57 = .ok (.putfield 23, 3) := dk_181 0 23 (dk_at dksX1_passes_2 11 rfl rfl)
theorem dX1_passes_60 : decode cX1_passes 60 = .ok (.iload_n 2, 1) := dk_28 (dk_at dksX1_passes_2 14 rfl rfl)
theorem dX1_passes_61 : decode cX1_passes 61 = .ok (.ireturn, 1) := dk_172 (dk_at dksX1_passes_2 15 rfl rfl)
abbrev cX1_between : ByteArray := prog_9_method_6_code
def yX1_between : MethodName := ⟨RX1, "between", "()V"⟩
theorem dX1_between_0 : decode cX1_between 0 = .ok (.return_, 1) := by decide +kernel
abbrev cX1_length : ByteArray := prog_9_method_10_code
def yX1_length : MethodName := ⟨RX1, "length", "()I"⟩
theorem dX1_length_0 : decode cX1_length 0 = .ok (.aload_n 0, 1) := by decide +kernel
theorem dX1_length_1 : decode cX1_length 1 = .ok (.getfield 15, 3) := by decide +kernel
theorem dX1_length_4 : decode cX1_length 4 = .ok (.ireturn, 1) := by decide +kernel
theorem q95 : (Jvm.Cond.initialized "TugOfWar$Text") ∈ lw_all := lw_g (lw_at lw_m1 2 rfl) rfl
theorem q137 : (Jvm.Cond.instanceMethod ({ cls := "TugOfWar$Text", name := "<init>", desc := "(I)V" } : Jvm.MethodName)) ∈ lw_all := lw_g (lw_at lw_m1 44 rfl) rfl
theorem q138 : (Jvm.Cond.code ({ cls := "TugOfWar$Text", name := "<init>", desc := "(I)V" } : Jvm.MethodName) prog_9_method_1_code (2 : Nat) (Option.none : Option Jvm.ClassFile.FieldType)) ∈ lw_all := lw_g (lw_at lw_m1 45 rfl) rfl
theorem q139 : (Jvm.Cond.methodLink "TugOfWar$Text" (3 : Nat) ({ cls := "java/lang/Object", name := "<init>", desc := "()V" } : Jvm.MethodName)) ∈ lw_all := lw_g (lw_at lw_m1 46 rfl) rfl
theorem q169 : (Jvm.Cond.fieldLink "TugOfWar$Text" (9 : Nat) "TugOfWar$Text" "bytes" "[B") ∈ lw_all := lw_g (lw_at lw_m1 76 rfl) rfl
theorem q170 : (Jvm.Cond.fieldLink "TugOfWar$Text" (15 : Nat) "TugOfWar$Text" "typed" "I") ∈ lw_all := lw_g (lw_at lw_m1 77 rfl) rfl
theorem q171 : (Jvm.Cond.fieldLink "TugOfWar$Text" (23 : Nat) "TugOfWar$Text" "at" "I") ∈ lw_all := lw_g (lw_at lw_m1 78 rfl) rfl
theorem q172 : (Jvm.Cond.fieldLink "TugOfWar$Text" (19 : Nat) "TugOfWar$Text" "fresh" "Z") ∈ lw_all := lw_g (lw_at lw_m1 79 rfl) rfl
theorem q173 : (Jvm.Cond.fieldLink "TugOfWar$Text" (60 : Nat) "TugOfWar$Text" "fault" "I") ∈ lw_all := lw_g (lw_at lw_m1 80 rfl) rfl
theorem q177 : (Jvm.Cond.soleField "TugOfWar$Text" "bytes") ∈ lw_all := lw_g (lw_at lw_m1 84 rfl) rfl
theorem q179 : (Jvm.Cond.soleField "TugOfWar$Text" "typed") ∈ lw_all := lw_g (lw_at lw_m1 86 rfl) rfl
theorem q181 : (Jvm.Cond.soleField "TugOfWar$Text" "at") ∈ lw_all := lw_g (lw_at lw_m1 88 rfl) rfl
theorem q183 : (Jvm.Cond.soleField "TugOfWar$Text" "fresh") ∈ lw_all := lw_g (lw_at lw_m1 90 rfl) rfl
theorem q185 : (Jvm.Cond.soleField "TugOfWar$Text" "fault") ∈ lw_all := lw_g (lw_at lw_m1 92 rfl) rfl
theorem q315 : (Jvm.Cond.instanceMethod ({ cls := "TugOfWar$Text", name := "type", desc := "(I)I" } : Jvm.MethodName)) ∈ lw_all := lw_g (lw_at lw_m1 222 rfl) rfl
theorem q316 : (Jvm.Cond.sameMethod "TugOfWar$Text" "TugOfWar$Text" "type" "(I)I") ∈ lw_all := lw_g (lw_at lw_m1 223 rfl) rfl
theorem q319 : (Jvm.Cond.code ({ cls := "TugOfWar$Text", name := "type", desc := "(I)I" } : Jvm.MethodName) prog_9_method_7_code (2 : Nat) (Option.some Jvm.ClassFile.FieldType.int)) ∈ lw_all := lw_g (lw_at lw_m1 226 rfl) rfl
theorem q325 : (Jvm.Cond.instanceMethod ({ cls := "TugOfWar$Text", name := "wipe", desc := "()I" } : Jvm.MethodName)) ∈ lw_all := lw_g (lw_at lw_m1 232 rfl) rfl
theorem q326 : (Jvm.Cond.sameMethod "TugOfWar$Text" "TugOfWar$Text" "wipe" "()I") ∈ lw_all := lw_g (lw_at lw_m1 233 rfl) rfl
theorem q329 : (Jvm.Cond.code ({ cls := "TugOfWar$Text", name := "wipe", desc := "()I" } : Jvm.MethodName) prog_9_method_8_code (2 : Nat) (Option.some Jvm.ClassFile.FieldType.int)) ∈ lw_all := lw_g (lw_at lw_m1 236 rfl) rfl
theorem q335 : (Jvm.Cond.instanceMethod ({ cls := "TugOfWar$Text", name := "undo", desc := "()I" } : Jvm.MethodName)) ∈ lw_all := lw_g (lw_at lw_m2 2 rfl) rfl
theorem q336 : (Jvm.Cond.sameMethod "TugOfWar$Text" "TugOfWar$Text" "undo" "()I") ∈ lw_all := lw_g (lw_at lw_m2 3 rfl) rfl
theorem q339 : (Jvm.Cond.code ({ cls := "TugOfWar$Text", name := "undo", desc := "()I" } : Jvm.MethodName) prog_9_method_9_code (1 : Nat) (Option.some Jvm.ClassFile.FieldType.int)) ∈ lw_all := lw_g (lw_at lw_m2 6 rfl) rfl
theorem q345 : (Jvm.Cond.instanceMethod ({ cls := "TugOfWar$Text", name := "read", desc := "()I" } : Jvm.MethodName)) ∈ lw_all := lw_g (lw_at lw_m2 12 rfl) rfl
theorem q346 : (Jvm.Cond.sameMethod "TugOfWar$Text" "TugOfWar$Text" "read" "()I") ∈ lw_all := lw_g (lw_at lw_m2 13 rfl) rfl
theorem q349 : (Jvm.Cond.code ({ cls := "TugOfWar$Text", name := "read", desc := "()I" } : Jvm.MethodName) prog_9_method_14_code (1 : Nat) (Option.some Jvm.ClassFile.FieldType.int)) ∈ lw_all := lw_g (lw_at lw_m2 16 rfl) rfl
theorem q350 : (Jvm.Cond.methodLink "TugOfWar$Text" (56 : Nat) ({ cls := "TugOfWar$Text", name := "reads", desc := "()I" } : Jvm.MethodName)) ∈ lw_all := lw_g (lw_at lw_m2 17 rfl) rfl
theorem q351 : (Jvm.Cond.privateMethod ({ cls := "TugOfWar$Text", name := "reads", desc := "()I" } : Jvm.MethodName)) ∈ lw_tbl := lw_at lw_m2 18 rfl
theorem q352 : (Jvm.Cond.instanceMethod ({ cls := "TugOfWar$Text", name := "reads", desc := "()I" } : Jvm.MethodName)) ∈ lw_all := lw_g (lw_at lw_m2 19 rfl) rfl
theorem q353 : (Jvm.Cond.codeWith ({ cls := "TugOfWar$Text", name := "reads", desc := "()I" } : Jvm.MethodName) prog_9_method_13_code (2 : Nat) (Option.some Jvm.ClassFile.FieldType.int) [((9 : Nat), (43 : Nat), (44 : Nat), (32 : Nat))]) ∈ lw_all := lw_g (lw_at lw_m2 20 rfl) rfl
theorem q354 : (Jvm.Cond.classLink "TugOfWar$Text" (32 : Nat) "TugOfWar$Torn") ∈ lw_all := lw_g (lw_at lw_m2 21 rfl) rfl
theorem q355 : (Jvm.Cond.methodLink "TugOfWar$Text" (44 : Nat) ({ cls := "TugOfWar$Text", name := "clear", desc := "()V" } : Jvm.MethodName)) ∈ lw_all := lw_g (lw_at lw_m2 22 rfl) rfl
theorem q356 : (Jvm.Cond.declares ({ cls := "TugOfWar$Text", name := "clear", desc := "()V" } : Jvm.MethodName)) ∈ lw_tbl := lw_at lw_m2 23 rfl
theorem q357 : (Jvm.Cond.sameMethod "TugOfWar$Text" "TugOfWar$Text" "clear" "()V") ∈ lw_all := lw_g (lw_at lw_m2 24 rfl) rfl
theorem q371 : (Jvm.Cond.methodLink "TugOfWar$Text" (47 : Nat) ({ cls := "TugOfWar$Text", name := "next", desc := "()V" } : Jvm.MethodName)) ∈ lw_all := lw_g (lw_at lw_m2 38 rfl) rfl
theorem q372 : (Jvm.Cond.privateMethod ({ cls := "TugOfWar$Text", name := "next", desc := "()V" } : Jvm.MethodName)) ∈ lw_tbl := lw_at lw_m2 39 rfl
theorem q373 : (Jvm.Cond.instanceMethod ({ cls := "TugOfWar$Text", name := "next", desc := "()V" } : Jvm.MethodName)) ∈ lw_all := lw_g (lw_at lw_m2 40 rfl) rfl
theorem q374 : (Jvm.Cond.code ({ cls := "TugOfWar$Text", name := "next", desc := "()V" } : Jvm.MethodName) prog_9_method_12_code (1 : Nat) (Option.none : Option Jvm.ClassFile.FieldType)) ∈ lw_all := lw_g (lw_at lw_m2 41 rfl) rfl
theorem q375 : (Jvm.Cond.methodLink "TugOfWar$Text" (37 : Nat) ({ cls := "TugOfWar$Text", name := "isFull", desc := "()Z" } : Jvm.MethodName)) ∈ lw_all := lw_g (lw_at lw_m2 42 rfl) rfl
theorem q376 : (Jvm.Cond.declares ({ cls := "TugOfWar$Text", name := "isFull", desc := "()Z" } : Jvm.MethodName)) ∈ lw_tbl := lw_at lw_m2 43 rfl
theorem q377 : (Jvm.Cond.sameMethod "TugOfWar$Text" "TugOfWar$Text" "isFull" "()Z") ∈ lw_all := lw_g (lw_at lw_m2 44 rfl) rfl
theorem q427 : (Jvm.Cond.methodLink "TugOfWar$Text" (34 : Nat) ({ cls := "TugOfWar$Torn", name := "<init>", desc := "(I)V" } : Jvm.MethodName)) ∈ lw_all := lw_g (lw_at lw_m2 94 rfl) rfl
theorem q437 : (Jvm.Cond.fieldLinkNest "TugOfWar$Text" (53 : Nat) "TugOfWar$Torn" "place" "I" "TugOfWar") ∈ lw_tbl := lw_at lw_m2 104 rfl
theorem q453 : (Jvm.Cond.methodLink "TugOfWar$Text" (41 : Nat) ({ cls := "TugOfWar$Text", name := "part", desc := "()V" } : Jvm.MethodName)) ∈ lw_all := lw_g (lw_at lw_m2 120 rfl) rfl
theorem q454 : (Jvm.Cond.declares ({ cls := "TugOfWar$Text", name := "part", desc := "()V" } : Jvm.MethodName)) ∈ lw_tbl := lw_at lw_m2 121 rfl
theorem q455 : (Jvm.Cond.sameMethod "TugOfWar$Text" "TugOfWar$Text" "part" "()V") ∈ lw_all := lw_g (lw_at lw_m2 122 rfl) rfl
theorem q462 : (Jvm.Cond.declares ({ cls := "TugOfWar$Text", name := "passes", desc := "(Ljava/lang/String;)I" } : Jvm.MethodName)) ∈ lw_tbl := lw_at lw_m2 129 rfl
theorem q464 : (Jvm.Cond.instanceMethod ({ cls := "TugOfWar$Text", name := "passes", desc := "(Ljava/lang/String;)I" } : Jvm.MethodName)) ∈ lw_all := lw_g (lw_at lw_m2 131 rfl) rfl
theorem q465 : (Jvm.Cond.code ({ cls := "TugOfWar$Text", name := "passes", desc := "(Ljava/lang/String;)I" } : Jvm.MethodName) prog_9_method_11_code (3 : Nat) (Option.some Jvm.ClassFile.FieldType.int)) ∈ lw_all := lw_g (lw_at lw_m2 132 rfl) rfl
theorem q466 : (Jvm.Cond.methodLink "TugOfWar$Text" (26 : Nat) ({ cls := "java/lang/String", name := "indexOf", desc := "(I)I" } : Jvm.MethodName)) ∈ lw_all := lw_g (lw_at lw_m2 133 rfl) rfl
theorem q638 : (Jvm.Cond.methodLink "TugOfWar$Text" (50 : Nat) ({ cls := "TugOfWar$Text", name := "between", desc := "()V" } : Jvm.MethodName)) ∈ lw_all := lw_g (lw_at lw_m3 65 rfl) rfl
theorem q639 : (Jvm.Cond.instanceMethod ({ cls := "TugOfWar$Text", name := "between", desc := "()V" } : Jvm.MethodName)) ∈ lw_all := lw_g (lw_at lw_m3 66 rfl) rfl
theorem q640 : (Jvm.Cond.sameMethod "TugOfWar$Text" "TugOfWar$Text" "between" "()V") ∈ lw_all := lw_g (lw_at lw_m3 67 rfl) rfl
theorem q646 : (Jvm.Cond.code ({ cls := "TugOfWar$Text", name := "between", desc := "()V" } : Jvm.MethodName) prog_9_method_6_code (1 : Nat) (Option.none : Option Jvm.ClassFile.FieldType)) ∈ lw_all := lw_g (lw_at lw_m3 73 rfl) rfl
theorem q662 : (Jvm.Cond.declares ({ cls := "TugOfWar$Text", name := "read", desc := "()I" } : Jvm.MethodName)) ∈ lw_tbl := lw_at lw_m3 89 rfl
theorem q1155 : (Jvm.Cond.declares ({ cls := "TugOfWar$Text", name := "many", desc := "()I" } : Jvm.MethodName)) ∈ lw_tbl := lw_at lw_m5 102 rfl
theorem q1156 : (Jvm.Cond.sameMethod "TugOfWar$Text" "TugOfWar$Text" "many" "()I") ∈ lw_all := lw_g (lw_at lw_m5 103 rfl) rfl
theorem q1167 : (Jvm.Cond.instanceMethod ({ cls := "TugOfWar$Text", name := "length", desc := "()I" } : Jvm.MethodName)) ∈ lw_all := lw_g (lw_at lw_m5 114 rfl) rfl
theorem q1168 : (Jvm.Cond.sameMethod "TugOfWar$Text" "TugOfWar$Text" "length" "()I") ∈ lw_all := lw_g (lw_at lw_m5 115 rfl) rfl
theorem q1171 : (Jvm.Cond.code ({ cls := "TugOfWar$Text", name := "length", desc := "()I" } : Jvm.MethodName) prog_9_method_10_code (1 : Nat) (Option.some Jvm.ClassFile.FieldType.int)) ∈ lw_all := lw_g (lw_at lw_m5 118 rfl) rfl
theorem q1717 : (Jvm.Cond.sameMethod "TugOfWar$Text" "TugOfWar$Text" "reads" "()I") ∈ lw_all := lw_g (lw_at lw_m7 184 rfl) rfl
theorem q1718 : (Jvm.Cond.sameMethod "TugOfWar$Text" "TugOfWar$Text" "next" "()V") ∈ lw_all := lw_g (lw_at lw_m7 185 rfl) rfl
theorem q1727 : (Jvm.Cond.castable "TugOfWar$Text" "java/lang/Object") ∈ lw_tbl := lw_at lw_m7 194 rfl
/-! TugOfWar$Sort -/
set_option maxRecDepth 100000
def RX10 : String := "TugOfWar$Sort"
abbrev cX10_number : ByteArray := prog_7_method_2_code
def yX10_number : MethodName := ⟨RX10, "number", "()I"⟩
theorem dX10_number_0 : decode cX10_number 0 = .ok (.iconst 0, 1) := by decide +kernel
theorem dX10_number_1 : decode cX10_number 1 = .ok (.ireturn, 1) := by decide +kernel
abbrev cX10_isAnchor : ByteArray := prog_7_method_6_code
def yX10_isAnchor : MethodName := ⟨RX10, "isAnchor", "()Z"⟩
theorem dX10_isAnchor_0 : decode cX10_isAnchor 0 = .ok (.iconst 0, 1) := by decide +kernel
theorem dX10_isAnchor_1 : decode cX10_isAnchor 1 = .ok (.ireturn, 1) := by decide +kernel
abbrev cX10_gains : ByteArray := prog_7_method_3_code
def yX10_gains : MethodName := ⟨RX10, "gains", "()I"⟩
theorem dX10_gains_0 : decode cX10_gains 0 = .ok (.iconst 1, 1) := by decide +kernel
theorem dX10_gains_1 : decode cX10_gains 1 = .ok (.ireturn, 1) := by decide +kernel
abbrev cX10_heaves : ByteArray := prog_7_method_4_code
def yX10_heaves : MethodName := ⟨RX10, "heaves", "()I"⟩
theorem dX10_heaves_0 : decode cX10_heaves 0 = .ok (.iconst 1, 1) := by decide +kernel
theorem dX10_heaves_1 : decode cX10_heaves 1 = .ok (.ireturn, 1) := by decide +kernel
abbrev cX10_slides : ByteArray := prog_7_method_5_code
def yX10_slides : MethodName := ⟨RX10, "slides", "(II)I"⟩
def dkwX10_slides_0 : List UInt8 := [27, 28, 100, 3, 184, 0, 7, 172]
abbrev dktX10_slides_0 : List UInt8 := dkwX10_slides_0 ++ []
theorem dksX10_slides_0 : cX10_slides.data.toList.drop 0 = dktX10_slides_0 := by decide +kernel
theorem dX10_slides_0 : decode cX10_slides 0 = .ok (.iload_n 1, 1) := dk_27 (dk_at dksX10_slides_0 0 rfl rfl)
theorem dX10_slides_1 : decode cX10_slides 1 = .ok (.iload_n 2, 1) := dk_28 (dk_at dksX10_slides_0 1 rfl rfl)
theorem dX10_slides_2 : decode cX10_slides 2 = .ok (.isub, 1) := dk_100 (dk_at dksX10_slides_0 2 rfl rfl)
theorem dX10_slides_3 : decode cX10_slides 3 = .ok (.iconst 0, 1) := dk_3 (dk_at dksX10_slides_0 3 rfl rfl)
theorem dX10_slides_4 : decode cX10_slides 4 = .ok (.invokestatic 7, 3) := dk_184 0 7 (dk_at dksX10_slides_0 4 rfl rfl)
theorem dX10_slides_7 : decode cX10_slides 7 = .ok (.ireturn, 1) := dk_172 (dk_at dksX10_slides_0 7 rfl rfl)
theorem q617 : (Jvm.Cond.selects "TugOfWar$Sort" ({ cls := "java/lang/Object", name := "getClass", desc := "()Ljava/lang/Class;" } : Jvm.MethodName) ({ cls := "java/lang/Object", name := "getClass", desc := "()Ljava/lang/Class;" } : Jvm.MethodName)) ∈ lw_all := lw_g (lw_at lw_m3 44 rfl) rfl
theorem q689 : (Jvm.Cond.instanceMethod ({ cls := "TugOfWar$Sort", name := "number", desc := "()I" } : Jvm.MethodName)) ∈ lw_all := lw_g (lw_at lw_m3 116 rfl) rfl
theorem q690 : (Jvm.Cond.selects "TugOfWar$Sort" ({ cls := "TugOfWar$Sort", name := "number", desc := "()I" } : Jvm.MethodName) ({ cls := "TugOfWar$Sort", name := "number", desc := "()I" } : Jvm.MethodName)) ∈ lw_all := lw_g (lw_at lw_m3 117 rfl) rfl
theorem q691 : (Jvm.Cond.sameMethod "TugOfWar$Sort" "TugOfWar$Sort" "number" "()I") ∈ lw_all := lw_g (lw_at lw_m3 118 rfl) rfl
theorem q697 : (Jvm.Cond.code ({ cls := "TugOfWar$Sort", name := "number", desc := "()I" } : Jvm.MethodName) prog_7_method_2_code (1 : Nat) (Option.some Jvm.ClassFile.FieldType.int)) ∈ lw_all := lw_g (lw_at lw_m3 124 rfl) rfl
theorem q824 : (Jvm.Cond.instanceMethod ({ cls := "TugOfWar$Sort", name := "isAnchor", desc := "()Z" } : Jvm.MethodName)) ∈ lw_all := lw_g (lw_at lw_m4 11 rfl) rfl
theorem q825 : (Jvm.Cond.selects "TugOfWar$Sort" ({ cls := "TugOfWar$Sort", name := "isAnchor", desc := "()Z" } : Jvm.MethodName) ({ cls := "TugOfWar$Sort", name := "isAnchor", desc := "()Z" } : Jvm.MethodName)) ∈ lw_all := lw_g (lw_at lw_m4 12 rfl) rfl
theorem q826 : (Jvm.Cond.sameMethod "TugOfWar$Sort" "TugOfWar$Sort" "isAnchor" "()Z") ∈ lw_all := lw_g (lw_at lw_m4 13 rfl) rfl
theorem q831 : (Jvm.Cond.code ({ cls := "TugOfWar$Sort", name := "isAnchor", desc := "()Z" } : Jvm.MethodName) prog_7_method_6_code (1 : Nat) (Option.some Jvm.ClassFile.FieldType.boolean)) ∈ lw_all := lw_g (lw_at lw_m4 18 rfl) rfl
theorem q833 : (Jvm.Cond.instanceMethod ({ cls := "TugOfWar$Sort", name := "gains", desc := "()I" } : Jvm.MethodName)) ∈ lw_all := lw_g (lw_at lw_m4 20 rfl) rfl
theorem q834 : (Jvm.Cond.selects "TugOfWar$Sort" ({ cls := "TugOfWar$Sort", name := "gains", desc := "()I" } : Jvm.MethodName) ({ cls := "TugOfWar$Sort", name := "gains", desc := "()I" } : Jvm.MethodName)) ∈ lw_all := lw_g (lw_at lw_m4 21 rfl) rfl
theorem q835 : (Jvm.Cond.sameMethod "TugOfWar$Sort" "TugOfWar$Sort" "gains" "()I") ∈ lw_all := lw_g (lw_at lw_m4 22 rfl) rfl
theorem q841 : (Jvm.Cond.code ({ cls := "TugOfWar$Sort", name := "gains", desc := "()I" } : Jvm.MethodName) prog_7_method_3_code (1 : Nat) (Option.some Jvm.ClassFile.FieldType.int)) ∈ lw_all := lw_g (lw_at lw_m4 28 rfl) rfl
theorem q847 : (Jvm.Cond.instanceMethod ({ cls := "TugOfWar$Sort", name := "heaves", desc := "()I" } : Jvm.MethodName)) ∈ lw_all := lw_g (lw_at lw_m4 34 rfl) rfl
theorem q848 : (Jvm.Cond.selects "TugOfWar$Sort" ({ cls := "TugOfWar$Sort", name := "heaves", desc := "()I" } : Jvm.MethodName) ({ cls := "TugOfWar$Sort", name := "heaves", desc := "()I" } : Jvm.MethodName)) ∈ lw_all := lw_g (lw_at lw_m4 35 rfl) rfl
theorem q849 : (Jvm.Cond.sameMethod "TugOfWar$Sort" "TugOfWar$Sort" "heaves" "()I") ∈ lw_all := lw_g (lw_at lw_m4 36 rfl) rfl
theorem q854 : (Jvm.Cond.code ({ cls := "TugOfWar$Sort", name := "heaves", desc := "()I" } : Jvm.MethodName) prog_7_method_4_code (1 : Nat) (Option.some Jvm.ClassFile.FieldType.int)) ∈ lw_all := lw_g (lw_at lw_m4 41 rfl) rfl
theorem q860 : (Jvm.Cond.instanceMethod ({ cls := "TugOfWar$Sort", name := "slides", desc := "(II)I" } : Jvm.MethodName)) ∈ lw_all := lw_g (lw_at lw_m4 47 rfl) rfl
theorem q861 : (Jvm.Cond.selects "TugOfWar$Sort" ({ cls := "TugOfWar$Sort", name := "slides", desc := "(II)I" } : Jvm.MethodName) ({ cls := "TugOfWar$Sort", name := "slides", desc := "(II)I" } : Jvm.MethodName)) ∈ lw_all := lw_g (lw_at lw_m4 48 rfl) rfl
theorem q862 : (Jvm.Cond.sameMethod "TugOfWar$Sort" "TugOfWar$Sort" "slides" "(II)I") ∈ lw_all := lw_g (lw_at lw_m4 49 rfl) rfl
theorem q867 : (Jvm.Cond.code ({ cls := "TugOfWar$Sort", name := "slides", desc := "(II)I" } : Jvm.MethodName) prog_7_method_5_code (3 : Nat) (Option.some Jvm.ClassFile.FieldType.int)) ∈ lw_all := lw_g (lw_at lw_m4 54 rfl) rfl
theorem q868 : (Jvm.Cond.methodLink "TugOfWar$Sort" (7 : Nat) ({ cls := "java/lang/Math", name := "max", desc := "(II)I" } : Jvm.MethodName)) ∈ lw_all := lw_g (lw_at lw_m4 55 rfl) rfl
theorem q1722 : (Jvm.Cond.initialized "TugOfWar$Sort") ∈ lw_all := lw_g (lw_at lw_m7 189 rfl) rfl
theorem q1729 : (Jvm.Cond.castable "TugOfWar$Sort" "java/lang/Object") ∈ lw_tbl := lw_at lw_m7 196 rfl
/-! TugOfWar$Team -/
set_option maxRecDepth 100000
def RX2 : String := "TugOfWar$Team"
def TX2 : u_T := fun k => match k with
  | 0 => ("TugOfWar$Text", "bytes", "[B", true)
  | 1 => ("TugOfWar$Text", "typed", "I", false)
  | 2 => ("TugOfWar$Text", "at", "I", false)
  | 3 => ("TugOfWar$Text", "fresh", "Z", false)
  | 4 => ("TugOfWar$Text", "fault", "I", false)
  | _ => ("TugOfWar$Team", "all", "Ljava/util/ArrayList;", true)
def tyX2 : Nat → FieldType := fun k => match k with
  | 0 => .array .byte
  | 1 => .int
  | 2 => .int
  | 3 => .boolean
  | 4 => .int
  | _ => .object "java/util/ArrayList"
abbrev wsX20 : List Cond := u_ws RX2 TX2 6
theorem nmX2 : ∀ a, a < 6 → ∀ b, b < 6 → a ≠ b → (TX2 a).2.1 ≠ (TX2 b).2.1 := by decide +kernel
theorem tyX2_ok : ∀ k, k < 6 → parseFieldDescriptor (TX2 k).2.2.1 = some (tyX2 k) := by decide +kernel
abbrev cX2_init : ByteArray := prog_8_method_1_code
def yX2_init : MethodName := ⟨RX2, "<init>", "()V"⟩
def dkwX2_init_0 : List UInt8 := [42, 16, 31, 183, 0, 3, 42, 187, 0, 9, 89, 183, 0, 11, 181, 0, 14, 177]
abbrev dktX2_init_0 : List UInt8 := dkwX2_init_0 ++ []
theorem dksX2_init_0 : cX2_init.data.toList.drop 0 = dktX2_init_0 := by decide +kernel
theorem dX2_init_0 : decode cX2_init 0 = .ok (.aload_n 0, 1) := dk_42 (dk_at dksX2_init_0 0 rfl rfl)
theorem dX2_init_1 : decode cX2_init 1 = .ok (.bipush 31, 2) := dk_16 31 (dk_at dksX2_init_0 1 rfl rfl)
theorem dX2_init_3 : decode cX2_init 3 = .ok (.invokespecial 3, 3) := dk_183 0 3 (dk_at dksX2_init_0 3 rfl rfl)
theorem dX2_init_6 : decode cX2_init 6 = .ok (.aload_n 0, 1) := dk_42 (dk_at dksX2_init_0 6 rfl rfl)
theorem dX2_init_7 : decode cX2_init 7 = .ok (.new 9, 3) := dk_187 0 9 (dk_at dksX2_init_0 7 rfl rfl)
theorem dX2_init_10 : decode cX2_init 10 = .ok (.dup, 1) := dk_89 (dk_at dksX2_init_0 10 rfl rfl)
theorem dX2_init_11 : decode cX2_init 11 = .ok (.invokespecial 11, 3) := dk_183 0 11 (dk_at dksX2_init_0 11 rfl rfl)
theorem dX2_init_14 : decode cX2_init 14 = .ok (.putfield 14, 3) := dk_181 0 14 (dk_at dksX2_init_0 14 rfl rfl)
theorem dX2_init_17 : decode cX2_init 17 = .ok (.return_, 1) := dk_177 (dk_at dksX2_init_0 17 rfl rfl)
abbrev cX2_clear : ByteArray := prog_8_method_2_code
def yX2_clear : MethodName := ⟨RX2, "clear", "()V"⟩
def dkwX2_clear_0 : List UInt8 := [42, 180, 0, 14, 182, 0, 20, 177]
abbrev dktX2_clear_0 : List UInt8 := dkwX2_clear_0 ++ []
theorem dksX2_clear_0 : cX2_clear.data.toList.drop 0 = dktX2_clear_0 := by decide +kernel
theorem dX2_clear_0 : decode cX2_clear 0 = .ok (.aload_n 0, 1) := dk_42 (dk_at dksX2_clear_0 0 rfl rfl)
theorem dX2_clear_1 : decode cX2_clear 1 = .ok (.getfield 14, 3) := dk_180 0 14 (dk_at dksX2_clear_0 1 rfl rfl)
theorem dX2_clear_4 : decode cX2_clear 4 = .ok (.invokevirtual 20, 3) := dk_182 0 20 (dk_at dksX2_clear_0 4 rfl rfl)
theorem dX2_clear_7 : decode cX2_clear 7 = .ok (.return_, 1) := dk_177 (dk_at dksX2_clear_0 7 rfl rfl)
abbrev cX2_isFull : ByteArray := prog_8_method_3_code
def yX2_isFull : MethodName := ⟨RX2, "isFull", "()Z"⟩
def dkwX2_isFull_0 : List UInt8 := [42, 180, 0, 14, 182, 0, 23, 16, 8, 160, 0, 7, 4, 167, 0, 4, 3, 172]
abbrev dktX2_isFull_0 : List UInt8 := dkwX2_isFull_0 ++ []
theorem dksX2_isFull_0 : cX2_isFull.data.toList.drop 0 = dktX2_isFull_0 := by decide +kernel
theorem dX2_isFull_0 : decode cX2_isFull 0 = .ok (.aload_n 0, 1) := dk_42 (dk_at dksX2_isFull_0 0 rfl rfl)
theorem dX2_isFull_1 : decode cX2_isFull 1 = .ok (.getfield 14, 3) := dk_180 0 14 (dk_at dksX2_isFull_0 1 rfl rfl)
theorem dX2_isFull_4 : decode cX2_isFull 4 = .ok (.invokevirtual 23, 3) := dk_182 0 23 (dk_at dksX2_isFull_0 4 rfl rfl)
theorem dX2_isFull_7 : decode cX2_isFull 7 = .ok (.bipush 8, 2) := dk_16 8 (dk_at dksX2_isFull_0 7 rfl rfl)
theorem dX2_isFull_9 : decode cX2_isFull 9 = .ok (.if_icmp .ne 7, 3) := dk_160 0 7 (dk_at dksX2_isFull_0 9 rfl rfl)
theorem dX2_isFull_12 : decode cX2_isFull 12 = .ok (.iconst 1, 1) := dk_4 (dk_at dksX2_isFull_0 12 rfl rfl)
theorem dX2_isFull_13 : decode cX2_isFull 13 = .ok (.goto 4, 3) := dk_167 0 4 (dk_at dksX2_isFull_0 13 rfl rfl)
theorem dX2_isFull_16 : decode cX2_isFull 16 = .ok (.iconst 0, 1) := dk_3 (dk_at dksX2_isFull_0 16 rfl rfl)
theorem dX2_isFull_17 : decode cX2_isFull 17 = .ok (.ireturn, 1) := dk_172 (dk_at dksX2_isFull_0 17 rfl rfl)
abbrev cX2_part : ByteArray := prog_8_method_6_code
def yX2_part : MethodName := ⟨RX2, "part", "()V"⟩
def dkwX2_part_1 : List UInt8 := [187, 0, 44, 89, 43, 28, 4, 42, 18, 42, 182, 0, 32, 96, 183, 0, 46, 182, 0, 49, 87, 177]
abbrev dktX2_part_1 : List UInt8 := dkwX2_part_1 ++ []
def dkwX2_part_0 : List UInt8 := [178, 0, 36, 42, 18, 40, 182, 0, 32, 50, 76, 4, 42, 18, 42, 182, 0, 32, 96, 61, 42, 180, 0, 14]
abbrev dktX2_part_0 : List UInt8 := dkwX2_part_0 ++ dktX2_part_1
theorem dksX2_part_0 : cX2_part.data.toList.drop 0 = dktX2_part_0 := by decide +kernel
theorem dksX2_part_1 : cX2_part.data.toList.drop 24 = dktX2_part_1 := dk_seg dksX2_part_0 24 rfl rfl
theorem dX2_part_0 : decode cX2_part 0 = .ok (.getstatic 36, 3) := dk_178 0 36 (dk_at dksX2_part_0 0 rfl rfl)
theorem dX2_part_3 : decode cX2_part 3 = .ok (.aload_n 0, 1) := dk_42 (dk_at dksX2_part_0 3 rfl rfl)
theorem dX2_part_4 : decode cX2_part 4 = .ok (.ldc 40, 2) := dk_18 40 (dk_at dksX2_part_0 4 rfl rfl)
theorem dX2_part_6 : decode cX2_part 6 = .ok (.invokevirtual 32, 3) := dk_182 0 32 (dk_at dksX2_part_0 6 rfl rfl)
theorem dX2_part_9 : decode cX2_part 9 = .ok (.aaload, 1) := dk_50 (dk_at dksX2_part_0 9 rfl rfl)
theorem dX2_part_10 : decode cX2_part 10 = .ok (.astore_n 1, 1) := dk_76 (dk_at dksX2_part_0 10 rfl rfl)
theorem dX2_part_11 : decode cX2_part 11 = .ok (.iconst 1, 1) := dk_4 (dk_at dksX2_part_0 11 rfl rfl)
theorem dX2_part_12 : decode cX2_part 12 = .ok (.aload_n 0, 1) := dk_42 (dk_at dksX2_part_0 12 rfl rfl)
theorem dX2_part_13 : decode cX2_part 13 = .ok (.ldc 42, 2) := dk_18 42 (dk_at dksX2_part_0 13 rfl rfl)
theorem dX2_part_15 : decode cX2_part 15 = .ok (.invokevirtual 32, 3) := dk_182 0 32 (dk_at dksX2_part_0 15 rfl rfl)
theorem dX2_part_18 : decode cX2_part 18 = .ok (.iadd, 1) := dk_96 (dk_at dksX2_part_0 18 rfl rfl)
theorem dX2_part_19 : decode cX2_part 19 = .ok (.istore_n 2, 1) := dk_61 (dk_at dksX2_part_0 19 rfl rfl)
theorem dX2_part_20 : decode cX2_part 20 = .ok (.aload_n 0, 1) := dk_42 (dk_at dksX2_part_0 20 rfl rfl)
theorem dX2_part_21 : decode cX2_part 21 = .ok (.getfield 14, 3) := dk_180 0 14 (dk_at dksX2_part_0 21 rfl rfl)
theorem dX2_part_24 : decode cX2_part 24 = .ok (.new 44, 3) := dk_187 0 44 (dk_at dksX2_part_1 0 rfl rfl)
theorem dX2_part_27 : decode cX2_part 27 = .ok (.dup, 1) := dk_89 (dk_at dksX2_part_1 3 rfl rfl)
theorem dX2_part_28 : decode cX2_part 28 = .ok (.aload_n 1, 1) := dk_43 (dk_at dksX2_part_1 4 rfl rfl)
theorem dX2_part_29 : decode cX2_part 29 = .ok (.iload_n 2, 1) := dk_28 (dk_at dksX2_part_1 5 rfl rfl)
theorem dX2_part_30 : decode cX2_part 30 = .ok (.iconst 1, 1) := dk_4 (dk_at dksX2_part_1 6 rfl rfl)
theorem dX2_part_31 : decode cX2_part 31 = .ok (.aload_n 0, 1) := dk_42 (dk_at dksX2_part_1 7 rfl rfl)
theorem dX2_part_32 : decode cX2_part 32 = .ok (.ldc 42, 2) := dk_18 42 (dk_at dksX2_part_1 8 rfl rfl)
theorem dX2_part_34 : decode cX2_part 34 = .ok (.invokevirtual 32, 3) := dk_182 0 32 (dk_at dksX2_part_1 10 rfl rfl)
theorem dX2_part_37 : decode cX2_part 37 = .ok (.iadd, 1) := dk_96 (dk_at dksX2_part_1 13 rfl rfl)
theorem dX2_part_38 : decode cX2_part 38 = .ok (.invokespecial 46, 3) := dk_183 0 46 (dk_at dksX2_part_1 14 rfl rfl)
theorem dX2_part_41 : decode cX2_part 41 = .ok (.invokevirtual 49, 3) := dk_182 0 49 (dk_at dksX2_part_1 17 rfl rfl)
theorem dX2_part_44 : decode cX2_part 44 = .ok (.pop, 1) := dk_87 (dk_at dksX2_part_1 20 rfl rfl)
theorem dX2_part_45 : decode cX2_part 45 = .ok (.return_, 1) := dk_177 (dk_at dksX2_part_1 21 rfl rfl)
abbrev cX2_between : ByteArray := prog_8_method_5_code
def yX2_between : MethodName := ⟨RX2, "between", "()V"⟩
def dkwX2_between_0 : List UInt8 := [42, 18, 30, 182, 0, 32, 87, 177]
abbrev dktX2_between_0 : List UInt8 := dkwX2_between_0 ++ []
theorem dksX2_between_0 : cX2_between.data.toList.drop 0 = dktX2_between_0 := by decide +kernel
theorem dX2_between_0 : decode cX2_between 0 = .ok (.aload_n 0, 1) := dk_42 (dk_at dksX2_between_0 0 rfl rfl)
theorem dX2_between_1 : decode cX2_between 1 = .ok (.ldc 30, 2) := dk_18 30 (dk_at dksX2_between_0 1 rfl rfl)
theorem dX2_between_3 : decode cX2_between 3 = .ok (.invokevirtual 32, 3) := dk_182 0 32 (dk_at dksX2_between_0 3 rfl rfl)
theorem dX2_between_6 : decode cX2_between 6 = .ok (.pop, 1) := dk_87 (dk_at dksX2_between_0 6 rfl rfl)
theorem dX2_between_7 : decode cX2_between 7 = .ok (.return_, 1) := dk_177 (dk_at dksX2_between_0 7 rfl rfl)
abbrev cX2_many : ByteArray := prog_8_method_4_code
def yX2_many : MethodName := ⟨RX2, "many", "()I"⟩
def dkwX2_many_0 : List UInt8 := [42, 182, 0, 27, 87, 42, 180, 0, 14, 182, 0, 23, 172]
abbrev dktX2_many_0 : List UInt8 := dkwX2_many_0 ++ []
theorem dksX2_many_0 : cX2_many.data.toList.drop 0 = dktX2_many_0 := by decide +kernel
theorem dX2_many_0 : decode cX2_many 0 = .ok (.aload_n 0, 1) := dk_42 (dk_at dksX2_many_0 0 rfl rfl)
theorem dX2_many_1 : decode cX2_many 1 = .ok (.invokevirtual 27, 3) := dk_182 0 27 (dk_at dksX2_many_0 1 rfl rfl)
theorem dX2_many_4 : decode cX2_many 4 = .ok (.pop, 1) := dk_87 (dk_at dksX2_many_0 4 rfl rfl)
theorem dX2_many_5 : decode cX2_many 5 = .ok (.aload_n 0, 1) := dk_42 (dk_at dksX2_many_0 5 rfl rfl)
theorem dX2_many_6 : decode cX2_many 6 = .ok (.getfield 14, 3) := dk_180 0 14 (dk_at dksX2_many_0 6 rfl rfl)
theorem dX2_many_9 : decode cX2_many 9 = .ok (.invokevirtual 23, 3) := dk_182 0 23 (dk_at dksX2_many_0 9 rfl rfl)
theorem dX2_many_12 : decode cX2_many 12 = .ok (.ireturn, 1) := dk_172 (dk_at dksX2_many_0 12 rfl rfl)
theorem q96 : (Jvm.Cond.initialized "TugOfWar$Team") ∈ lw_all := lw_g (lw_at lw_m1 3 rfl) rfl
theorem q132 : (Jvm.Cond.instantiable "TugOfWar$Team" (6 : Nat)) ∈ lw_all := lw_g (lw_at lw_m1 39 rfl) rfl
theorem q134 : (Jvm.Cond.instanceMethod ({ cls := "TugOfWar$Team", name := "<init>", desc := "()V" } : Jvm.MethodName)) ∈ lw_all := lw_g (lw_at lw_m1 41 rfl) rfl
theorem q135 : (Jvm.Cond.code ({ cls := "TugOfWar$Team", name := "<init>", desc := "()V" } : Jvm.MethodName) prog_8_method_1_code (1 : Nat) (Option.none : Option Jvm.ClassFile.FieldType)) ∈ lw_all := lw_g (lw_at lw_m1 42 rfl) rfl
theorem q136 : (Jvm.Cond.methodLink "TugOfWar$Team" (3 : Nat) ({ cls := "TugOfWar$Text", name := "<init>", desc := "(I)V" } : Jvm.MethodName)) ∈ lw_all := lw_g (lw_at lw_m1 43 rfl) rfl
theorem q140 : (Jvm.Cond.classLink "TugOfWar$Team" (9 : Nat) "java/util/ArrayList") ∈ lw_all := lw_g (lw_at lw_m1 47 rfl) rfl
theorem q142 : (Jvm.Cond.methodLink "TugOfWar$Team" (11 : Nat) ({ cls := "java/util/ArrayList", name := "<init>", desc := "()V" } : Jvm.MethodName)) ∈ lw_all := lw_g (lw_at lw_m1 49 rfl) rfl
theorem q167 : (Jvm.Cond.fieldLink "TugOfWar$Team" (14 : Nat) "TugOfWar$Team" "all" "Ljava/util/ArrayList;") ∈ lw_all := lw_g (lw_at lw_m1 74 rfl) rfl
theorem q174 : (Jvm.Cond.laysFinal "TugOfWar$Team" "TugOfWar$Team" "all" "Ljava/util/ArrayList;") ∈ lw_all := lw_g (lw_at lw_m1 81 rfl) rfl
theorem q175 : (Jvm.Cond.soleField "TugOfWar$Team" "all") ∈ lw_all := lw_g (lw_at lw_m1 82 rfl) rfl
theorem q176 : (Jvm.Cond.laysFinal "TugOfWar$Team" "TugOfWar$Text" "bytes" "[B") ∈ lw_all := lw_g (lw_at lw_m1 83 rfl) rfl
theorem q178 : (Jvm.Cond.lays "TugOfWar$Team" "TugOfWar$Text" "typed" "I") ∈ lw_all := lw_g (lw_at lw_m1 85 rfl) rfl
theorem q180 : (Jvm.Cond.lays "TugOfWar$Team" "TugOfWar$Text" "at" "I") ∈ lw_all := lw_g (lw_at lw_m1 87 rfl) rfl
theorem q182 : (Jvm.Cond.lays "TugOfWar$Team" "TugOfWar$Text" "fresh" "Z") ∈ lw_all := lw_g (lw_at lw_m1 89 rfl) rfl
theorem q184 : (Jvm.Cond.lays "TugOfWar$Team" "TugOfWar$Text" "fault" "I") ∈ lw_all := lw_g (lw_at lw_m1 91 rfl) rfl
theorem q186 : (Jvm.Cond.superclass "TugOfWar$Team" "TugOfWar$Text") ∈ lw_all := lw_g (lw_at lw_m1 93 rfl) rfl
theorem q318 : (Jvm.Cond.selects "TugOfWar$Team" ({ cls := "TugOfWar$Text", name := "type", desc := "(I)I" } : Jvm.MethodName) ({ cls := "TugOfWar$Text", name := "type", desc := "(I)I" } : Jvm.MethodName)) ∈ lw_all := lw_g (lw_at lw_m1 225 rfl) rfl
theorem q328 : (Jvm.Cond.selects "TugOfWar$Team" ({ cls := "TugOfWar$Text", name := "wipe", desc := "()I" } : Jvm.MethodName) ({ cls := "TugOfWar$Text", name := "wipe", desc := "()I" } : Jvm.MethodName)) ∈ lw_all := lw_g (lw_at lw_m1 235 rfl) rfl
theorem q338 : (Jvm.Cond.selects "TugOfWar$Team" ({ cls := "TugOfWar$Text", name := "undo", desc := "()I" } : Jvm.MethodName) ({ cls := "TugOfWar$Text", name := "undo", desc := "()I" } : Jvm.MethodName)) ∈ lw_all := lw_g (lw_at lw_m2 5 rfl) rfl
theorem q348 : (Jvm.Cond.selects "TugOfWar$Team" ({ cls := "TugOfWar$Text", name := "read", desc := "()I" } : Jvm.MethodName) ({ cls := "TugOfWar$Text", name := "read", desc := "()I" } : Jvm.MethodName)) ∈ lw_all := lw_g (lw_at lw_m2 15 rfl) rfl
theorem q364 : (Jvm.Cond.selects "TugOfWar$Team" ({ cls := "TugOfWar$Text", name := "clear", desc := "()V" } : Jvm.MethodName) ({ cls := "TugOfWar$Team", name := "clear", desc := "()V" } : Jvm.MethodName)) ∈ lw_all := lw_g (lw_at lw_m2 31 rfl) rfl
theorem q365 : (Jvm.Cond.instanceMethod ({ cls := "TugOfWar$Team", name := "clear", desc := "()V" } : Jvm.MethodName)) ∈ lw_all := lw_g (lw_at lw_m2 32 rfl) rfl
theorem q366 : (Jvm.Cond.code ({ cls := "TugOfWar$Team", name := "clear", desc := "()V" } : Jvm.MethodName) prog_8_method_2_code (1 : Nat) (Option.none : Option Jvm.ClassFile.FieldType)) ∈ lw_all := lw_g (lw_at lw_m2 33 rfl) rfl
theorem q367 : (Jvm.Cond.methodLink "TugOfWar$Team" (20 : Nat) ({ cls := "java/util/ArrayList", name := "clear", desc := "()V" } : Jvm.MethodName)) ∈ lw_all := lw_g (lw_at lw_m2 34 rfl) rfl
theorem q381 : (Jvm.Cond.selects "TugOfWar$Team" ({ cls := "TugOfWar$Text", name := "isFull", desc := "()Z" } : Jvm.MethodName) ({ cls := "TugOfWar$Team", name := "isFull", desc := "()Z" } : Jvm.MethodName)) ∈ lw_all := lw_g (lw_at lw_m2 48 rfl) rfl
theorem q382 : (Jvm.Cond.instanceMethod ({ cls := "TugOfWar$Team", name := "isFull", desc := "()Z" } : Jvm.MethodName)) ∈ lw_all := lw_g (lw_at lw_m2 49 rfl) rfl
theorem q383 : (Jvm.Cond.code ({ cls := "TugOfWar$Team", name := "isFull", desc := "()Z" } : Jvm.MethodName) prog_8_method_3_code (1 : Nat) (Option.some Jvm.ClassFile.FieldType.boolean)) ∈ lw_all := lw_g (lw_at lw_m2 50 rfl) rfl
theorem q384 : (Jvm.Cond.methodLink "TugOfWar$Team" (23 : Nat) ({ cls := "java/util/ArrayList", name := "size", desc := "()I" } : Jvm.MethodName)) ∈ lw_all := lw_g (lw_at lw_m2 51 rfl) rfl
theorem q552 : (Jvm.Cond.selects "TugOfWar$Team" ({ cls := "TugOfWar$Text", name := "part", desc := "()V" } : Jvm.MethodName) ({ cls := "TugOfWar$Team", name := "part", desc := "()V" } : Jvm.MethodName)) ∈ lw_all := lw_g (lw_at lw_m2 219 rfl) rfl
theorem q553 : (Jvm.Cond.instanceMethod ({ cls := "TugOfWar$Team", name := "part", desc := "()V" } : Jvm.MethodName)) ∈ lw_all := lw_g (lw_at lw_m2 220 rfl) rfl
theorem q554 : (Jvm.Cond.code ({ cls := "TugOfWar$Team", name := "part", desc := "()V" } : Jvm.MethodName) prog_8_method_6_code (3 : Nat) (Option.none : Option Jvm.ClassFile.FieldType)) ∈ lw_all := lw_g (lw_at lw_m2 221 rfl) rfl
theorem q555 : (Jvm.Cond.fieldLinkNest "TugOfWar$Team" (36 : Nat) "TugOfWar" "SORT" "[LTugOfWar$Sort;" "TugOfWar") ∈ lw_tbl := lw_at lw_m2 222 rfl
theorem q557 : (Jvm.Cond.stringRef "TugOfWar$Team" (40 : Nat) "hla") ∈ lw_tbl := lw_at lw_m2 224 rfl
theorem q558 : (Jvm.Cond.methodLink "TugOfWar$Team" (32 : Nat) ({ cls := "TugOfWar$Team", name := "passes", desc := "(Ljava/lang/String;)I" } : Jvm.MethodName)) ∈ lw_all := lw_g (lw_at lw_m2 225 rfl) rfl
theorem q559 : (Jvm.Cond.sameMethod "TugOfWar$Team" "TugOfWar$Text" "passes" "(Ljava/lang/String;)I") ∈ lw_all := lw_g (lw_at lw_m2 226 rfl) rfl
theorem q560 : (Jvm.Cond.selects "TugOfWar$Team" ({ cls := "TugOfWar$Team", name := "passes", desc := "(Ljava/lang/String;)I" } : Jvm.MethodName) ({ cls := "TugOfWar$Text", name := "passes", desc := "(Ljava/lang/String;)I" } : Jvm.MethodName)) ∈ lw_all := lw_g (lw_at lw_m2 227 rfl) rfl
theorem q561 : (Jvm.Cond.stringRef "TugOfWar$Team" (42 : Nat) "123456789") ∈ lw_tbl := lw_at lw_m2 228 rfl
theorem q562 : (Jvm.Cond.classLink "TugOfWar$Team" (44 : Nat) "TugOfWar$Puller") ∈ lw_all := lw_g (lw_at lw_m2 229 rfl) rfl
theorem q564 : (Jvm.Cond.methodLink "TugOfWar$Team" (46 : Nat) ({ cls := "TugOfWar$Puller", name := "<init>", desc := "(LTugOfWar$Sort;II)V" } : Jvm.MethodName)) ∈ lw_all := lw_g (lw_at lw_m2 231 rfl) rfl
theorem q581 : (Jvm.Cond.methodLink "TugOfWar$Team" (49 : Nat) ({ cls := "java/util/ArrayList", name := "add", desc := "(Ljava/lang/Object;)Z" } : Jvm.MethodName)) ∈ lw_all := lw_g (lw_at lw_m3 8 rfl) rfl
theorem q618 : (Jvm.Cond.selects "TugOfWar$Team" ({ cls := "java/lang/Object", name := "getClass", desc := "()Ljava/lang/Class;" } : Jvm.MethodName) ({ cls := "java/lang/Object", name := "getClass", desc := "()Ljava/lang/Class;" } : Jvm.MethodName)) ∈ lw_all := lw_g (lw_at lw_m3 45 rfl) rfl
theorem q642 : (Jvm.Cond.selects "TugOfWar$Team" ({ cls := "TugOfWar$Text", name := "between", desc := "()V" } : Jvm.MethodName) ({ cls := "TugOfWar$Team", name := "between", desc := "()V" } : Jvm.MethodName)) ∈ lw_all := lw_g (lw_at lw_m3 69 rfl) rfl
theorem q643 : (Jvm.Cond.instanceMethod ({ cls := "TugOfWar$Team", name := "between", desc := "()V" } : Jvm.MethodName)) ∈ lw_all := lw_g (lw_at lw_m3 70 rfl) rfl
theorem q644 : (Jvm.Cond.code ({ cls := "TugOfWar$Team", name := "between", desc := "()V" } : Jvm.MethodName) prog_8_method_5_code (1 : Nat) (Option.none : Option Jvm.ClassFile.FieldType)) ∈ lw_all := lw_g (lw_at lw_m3 71 rfl) rfl
theorem q645 : (Jvm.Cond.stringRef "TugOfWar$Team" (30 : Nat) ";") ∈ lw_tbl := lw_at lw_m3 72 rfl
theorem q657 : (Jvm.Cond.instanceMethod ({ cls := "TugOfWar$Team", name := "many", desc := "()I" } : Jvm.MethodName)) ∈ lw_all := lw_g (lw_at lw_m3 84 rfl) rfl
theorem q658 : (Jvm.Cond.selects "TugOfWar$Team" ({ cls := "TugOfWar$Team", name := "many", desc := "()I" } : Jvm.MethodName) ({ cls := "TugOfWar$Team", name := "many", desc := "()I" } : Jvm.MethodName)) ∈ lw_all := lw_g (lw_at lw_m3 85 rfl) rfl
theorem q659 : (Jvm.Cond.code ({ cls := "TugOfWar$Team", name := "many", desc := "()I" } : Jvm.MethodName) prog_8_method_4_code (1 : Nat) (Option.some Jvm.ClassFile.FieldType.int)) ∈ lw_all := lw_g (lw_at lw_m3 86 rfl) rfl
theorem q660 : (Jvm.Cond.methodLink "TugOfWar$Team" (27 : Nat) ({ cls := "TugOfWar$Team", name := "read", desc := "()I" } : Jvm.MethodName)) ∈ lw_all := lw_g (lw_at lw_m3 87 rfl) rfl
theorem q661 : (Jvm.Cond.sameMethod "TugOfWar$Team" "TugOfWar$Text" "read" "()I") ∈ lw_all := lw_g (lw_at lw_m3 88 rfl) rfl
theorem q663 : (Jvm.Cond.selects "TugOfWar$Team" ({ cls := "TugOfWar$Team", name := "read", desc := "()I" } : Jvm.MethodName) ({ cls := "TugOfWar$Text", name := "read", desc := "()I" } : Jvm.MethodName)) ∈ lw_all := lw_g (lw_at lw_m3 90 rfl) rfl
theorem q1161 : (Jvm.Cond.selects "TugOfWar$Team" ({ cls := "TugOfWar$Text", name := "many", desc := "()I" } : Jvm.MethodName) ({ cls := "TugOfWar$Team", name := "many", desc := "()I" } : Jvm.MethodName)) ∈ lw_all := lw_g (lw_at lw_m5 108 rfl) rfl
theorem q1170 : (Jvm.Cond.selects "TugOfWar$Team" ({ cls := "TugOfWar$Text", name := "length", desc := "()I" } : Jvm.MethodName) ({ cls := "TugOfWar$Text", name := "length", desc := "()I" } : Jvm.MethodName)) ∈ lw_all := lw_g (lw_at lw_m5 117 rfl) rfl
theorem q1725 : (Jvm.Cond.castable "TugOfWar$Team" "java/lang/Object") ∈ lw_tbl := lw_at lw_m7 192 rfl
theorem q1742 : (Jvm.Cond.castable "TugOfWar$Team" "TugOfWar$Text") ∈ lw_tbl := lw_at lw_m7 209 rfl
theorem in_X2 : ∀ w ∈ wsX20, w ∈ lw_all := lw_in wsX20 [176, 178, 180, 182, 184, 174] (by decide +kernel) (by decide +kernel)
/-! TugOfWar$Captain -/
set_option maxRecDepth 100000
def RX3 : String := "TugOfWar$Captain"
def TX3 : u_T := fun k => match k with
  | 0 => ("TugOfWar$Text", "bytes", "[B", true)
  | 1 => ("TugOfWar$Text", "typed", "I", false)
  | 2 => ("TugOfWar$Text", "at", "I", false)
  | 3 => ("TugOfWar$Text", "fresh", "Z", false)
  | 4 => ("TugOfWar$Text", "fault", "I", false)
  | 5 => ("TugOfWar$Captain", "all", "[I", true)
  | _ => ("TugOfWar$Captain", "n", "I", false)
def tyX3 : Nat → FieldType := fun k => match k with
  | 0 => .array .byte
  | 1 => .int
  | 2 => .int
  | 3 => .boolean
  | 4 => .int
  | 5 => .array .int
  | _ => .int
abbrev wsX30 : List Cond := u_ws RX3 TX3 7
theorem nmX3 : ∀ a, a < 7 → ∀ b, b < 7 → a ≠ b → (TX3 a).2.1 ≠ (TX3 b).2.1 := by decide +kernel
theorem tyX3_ok : ∀ k, k < 7 → parseFieldDescriptor (TX3 k).2.2.1 = some (tyX3 k) := by decide +kernel
abbrev cX3_init : ByteArray := prog_3_method_1_code
def yX3_init : MethodName := ⟨RX3, "<init>", "()V"⟩
def dkwX3_init_0 : List UInt8 := [42, 16, 24, 183, 0, 3, 42, 16, 24, 188, 10, 181, 0, 9, 177]
abbrev dktX3_init_0 : List UInt8 := dkwX3_init_0 ++ []
theorem dksX3_init_0 : cX3_init.data.toList.drop 0 = dktX3_init_0 := by decide +kernel
theorem dX3_init_0 : decode cX3_init 0 = .ok (.aload_n 0, 1) := dk_42 (dk_at dksX3_init_0 0 rfl rfl)
theorem dX3_init_1 : decode cX3_init 1 = .ok (.bipush 24, 2) := dk_16 24 (dk_at dksX3_init_0 1 rfl rfl)
theorem dX3_init_3 : decode cX3_init 3 = .ok (.invokespecial 3, 3) := dk_183 0 3 (dk_at dksX3_init_0 3 rfl rfl)
theorem dX3_init_6 : decode cX3_init 6 = .ok (.aload_n 0, 1) := dk_42 (dk_at dksX3_init_0 6 rfl rfl)
theorem dX3_init_7 : decode cX3_init 7 = .ok (.bipush 24, 2) := dk_16 24 (dk_at dksX3_init_0 7 rfl rfl)
theorem dX3_init_9 : decode cX3_init 9 = .ok (.newarray .int, 2) := dk_188_10 (dk_at dksX3_init_0 9 rfl rfl)
theorem dX3_init_11 : decode cX3_init 11 = .ok (.putfield 9, 3) := dk_181 0 9 (dk_at dksX3_init_0 11 rfl rfl)
theorem dX3_init_14 : decode cX3_init 14 = .ok (.return_, 1) := dk_177 (dk_at dksX3_init_0 14 rfl rfl)
abbrev cX3_clear : ByteArray := prog_3_method_2_code
def yX3_clear : MethodName := ⟨RX3, "clear", "()V"⟩
def dkwX3_clear_0 : List UInt8 := [42, 180, 0, 9, 4, 184, 0, 15, 42, 3, 181, 0, 21, 177]
abbrev dktX3_clear_0 : List UInt8 := dkwX3_clear_0 ++ []
theorem dksX3_clear_0 : cX3_clear.data.toList.drop 0 = dktX3_clear_0 := by decide +kernel
theorem dX3_clear_0 : decode cX3_clear 0 = .ok (.aload_n 0, 1) := dk_42 (dk_at dksX3_clear_0 0 rfl rfl)
theorem dX3_clear_1 : decode cX3_clear 1 = .ok (.getfield 9, 3) := dk_180 0 9 (dk_at dksX3_clear_0 1 rfl rfl)
theorem dX3_clear_4 : decode cX3_clear 4 = .ok (.iconst 1, 1) := dk_4 (dk_at dksX3_clear_0 4 rfl rfl)
theorem dX3_clear_5 : decode cX3_clear 5 = .ok (.invokestatic 15, 3) := dk_184 0 15 (dk_at dksX3_clear_0 5 rfl rfl)
theorem dX3_clear_8 : decode cX3_clear 8 = .ok (.aload_n 0, 1) := dk_42 (dk_at dksX3_clear_0 8 rfl rfl)
theorem dX3_clear_9 : decode cX3_clear 9 = .ok (.iconst 0, 1) := dk_3 (dk_at dksX3_clear_0 9 rfl rfl)
theorem dX3_clear_10 : decode cX3_clear 10 = .ok (.putfield 21, 3) := dk_181 0 21 (dk_at dksX3_clear_0 10 rfl rfl)
theorem dX3_clear_13 : decode cX3_clear 13 = .ok (.return_, 1) := dk_177 (dk_at dksX3_clear_0 13 rfl rfl)
abbrev cX3_isFull : ByteArray := prog_3_method_3_code
def yX3_isFull : MethodName := ⟨RX3, "isFull", "()Z"⟩
def dkwX3_isFull_0 : List UInt8 := [42, 180, 0, 21, 16, 24, 160, 0, 7, 4, 167, 0, 4, 3, 172]
abbrev dktX3_isFull_0 : List UInt8 := dkwX3_isFull_0 ++ []
theorem dksX3_isFull_0 : cX3_isFull.data.toList.drop 0 = dktX3_isFull_0 := by decide +kernel
theorem dX3_isFull_0 : decode cX3_isFull 0 = .ok (.aload_n 0, 1) := dk_42 (dk_at dksX3_isFull_0 0 rfl rfl)
theorem dX3_isFull_1 : decode cX3_isFull 1 = .ok (.getfield 21, 3) := dk_180 0 21 (dk_at dksX3_isFull_0 1 rfl rfl)
theorem dX3_isFull_4 : decode cX3_isFull 4 = .ok (.bipush 24, 2) := dk_16 24 (dk_at dksX3_isFull_0 4 rfl rfl)
theorem dX3_isFull_6 : decode cX3_isFull 6 = .ok (.if_icmp .ne 7, 3) := dk_160 0 7 (dk_at dksX3_isFull_0 6 rfl rfl)
theorem dX3_isFull_9 : decode cX3_isFull 9 = .ok (.iconst 1, 1) := dk_4 (dk_at dksX3_isFull_0 9 rfl rfl)
theorem dX3_isFull_10 : decode cX3_isFull 10 = .ok (.goto 4, 3) := dk_167 0 4 (dk_at dksX3_isFull_0 10 rfl rfl)
theorem dX3_isFull_13 : decode cX3_isFull 13 = .ok (.iconst 0, 1) := dk_3 (dk_at dksX3_isFull_0 13 rfl rfl)
theorem dX3_isFull_14 : decode cX3_isFull 14 = .ok (.ireturn, 1) := dk_172 (dk_at dksX3_isFull_0 14 rfl rfl)
abbrev cX3_part : ByteArray := prog_3_method_5_code
def yX3_part : MethodName := ⟨RX3, "part", "()V"⟩
def dkwX3_part_1 : List UInt8 := [181, 0, 21, 177]
abbrev dktX3_part_1 : List UInt8 := dkwX3_part_1 ++ []
def dkwX3_part_0 : List UInt8 := [42, 180, 0, 9, 42, 180, 0, 21, 42, 18, 29, 182, 0, 31, 79, 42, 89, 180, 0, 21, 4, 96]
abbrev dktX3_part_0 : List UInt8 := dkwX3_part_0 ++ dktX3_part_1
theorem dksX3_part_0 : cX3_part.data.toList.drop 0 = dktX3_part_0 := by decide +kernel
theorem dksX3_part_1 : cX3_part.data.toList.drop 22 = dktX3_part_1 := dk_seg dksX3_part_0 22 rfl rfl
theorem dX3_part_0 : decode cX3_part 0 = .ok (.aload_n 0, 1) := dk_42 (dk_at dksX3_part_0 0 rfl rfl)
theorem dX3_part_1 : decode cX3_part 1 = .ok (.getfield 9, 3) := dk_180 0 9 (dk_at dksX3_part_0 1 rfl rfl)
theorem dX3_part_4 : decode cX3_part 4 = .ok (.aload_n 0, 1) := dk_42 (dk_at dksX3_part_0 4 rfl rfl)
theorem dX3_part_5 : decode cX3_part 5 = .ok (.getfield 21, 3) := dk_180 0 21 (dk_at dksX3_part_0 5 rfl rfl)
theorem dX3_part_8 : decode cX3_part 8 = .ok (.aload_n 0, 1) := dk_42 (dk_at dksX3_part_0 8 rfl rfl)
theorem dX3_part_9 : decode cX3_part 9 = .ok (.ldc 29, 2) := dk_18 29 (dk_at dksX3_part_0 9 rfl rfl)
theorem dX3_part_11 : decode cX3_part 11 = .ok (.invokevirtual 31, 3) := dk_182 0 31 (dk_at dksX3_part_0 11 rfl rfl)
theorem dX3_part_14 : decode cX3_part 14 = .ok (.iastore, 1) := dk_79 (dk_at dksX3_part_0 14 rfl rfl)
theorem dX3_part_15 : decode cX3_part 15 = .ok (.aload_n 0, 1) := dk_42 (dk_at dksX3_part_0 15 rfl rfl)
theorem dX3_part_16 : decode cX3_part 16 = .ok (.dup, 1) := dk_89 (dk_at dksX3_part_0 16 rfl rfl)
theorem dX3_part_17 : decode cX3_part 17 = .ok (.getfield 21, 3) := dk_180 0 21 (dk_at dksX3_part_0 17 rfl rfl)
theorem dX3_part_20 : decode cX3_part 20 = .ok (.iconst 1, 1) := dk_4 (dk_at dksX3_part_0 20 rfl rfl)
theorem dX3_part_21 : decode cX3_part 21 = .ok (.iadd, 1) := dk_96 (dk_at dksX3_part_0 21 rfl rfl)
theorem dX3_part_22 : decode cX3_part 22 = .ok (.putfield 21, 3) := dk_181 0 21 (dk_at dksX3_part_1 0 rfl rfl)
theorem dX3_part_25 : decode cX3_part 25 = .ok (.return_, 1) := dk_177 (dk_at dksX3_part_1 3 rfl rfl)
abbrev cX3_many : ByteArray := prog_3_method_4_code
def yX3_many : MethodName := ⟨RX3, "many", "()I"⟩
def dkwX3_many_0 : List UInt8 := [42, 182, 0, 25, 87, 42, 180, 0, 21, 172]
abbrev dktX3_many_0 : List UInt8 := dkwX3_many_0 ++ []
theorem dksX3_many_0 : cX3_many.data.toList.drop 0 = dktX3_many_0 := by decide +kernel
theorem dX3_many_0 : decode cX3_many 0 = .ok (.aload_n 0, 1) := dk_42 (dk_at dksX3_many_0 0 rfl rfl)
theorem dX3_many_1 : decode cX3_many 1 = .ok (.invokevirtual 25, 3) := dk_182 0 25 (dk_at dksX3_many_0 1 rfl rfl)
theorem dX3_many_4 : decode cX3_many 4 = .ok (.pop, 1) := dk_87 (dk_at dksX3_many_0 4 rfl rfl)
theorem dX3_many_5 : decode cX3_many 5 = .ok (.aload_n 0, 1) := dk_42 (dk_at dksX3_many_0 5 rfl rfl)
theorem dX3_many_6 : decode cX3_many 6 = .ok (.getfield 21, 3) := dk_180 0 21 (dk_at dksX3_many_0 6 rfl rfl)
theorem dX3_many_9 : decode cX3_many 9 = .ok (.ireturn, 1) := dk_172 (dk_at dksX3_many_0 9 rfl rfl)
theorem q100 : (Jvm.Cond.initialized "TugOfWar$Captain") ∈ lw_all := lw_g (lw_at lw_m1 7 rfl) rfl
theorem q189 : (Jvm.Cond.instantiable "TugOfWar$Captain" (7 : Nat)) ∈ lw_all := lw_g (lw_at lw_m1 96 rfl) rfl
theorem q191 : (Jvm.Cond.instanceMethod ({ cls := "TugOfWar$Captain", name := "<init>", desc := "()V" } : Jvm.MethodName)) ∈ lw_all := lw_g (lw_at lw_m1 98 rfl) rfl
theorem q192 : (Jvm.Cond.code ({ cls := "TugOfWar$Captain", name := "<init>", desc := "()V" } : Jvm.MethodName) prog_3_method_1_code (1 : Nat) (Option.none : Option Jvm.ClassFile.FieldType)) ∈ lw_all := lw_g (lw_at lw_m1 99 rfl) rfl
theorem q193 : (Jvm.Cond.methodLink "TugOfWar$Captain" (3 : Nat) ({ cls := "TugOfWar$Text", name := "<init>", desc := "(I)V" } : Jvm.MethodName)) ∈ lw_all := lw_g (lw_at lw_m1 100 rfl) rfl
theorem q194 : (Jvm.Cond.fieldLink "TugOfWar$Captain" (9 : Nat) "TugOfWar$Captain" "all" "[I") ∈ lw_all := lw_g (lw_at lw_m1 101 rfl) rfl
theorem q196 : (Jvm.Cond.fieldLink "TugOfWar$Captain" (21 : Nat) "TugOfWar$Captain" "n" "I") ∈ lw_all := lw_g (lw_at lw_m1 103 rfl) rfl
theorem q197 : (Jvm.Cond.laysFinal "TugOfWar$Captain" "TugOfWar$Captain" "all" "[I") ∈ lw_all := lw_g (lw_at lw_m1 104 rfl) rfl
theorem q198 : (Jvm.Cond.soleField "TugOfWar$Captain" "all") ∈ lw_all := lw_g (lw_at lw_m1 105 rfl) rfl
theorem q199 : (Jvm.Cond.lays "TugOfWar$Captain" "TugOfWar$Captain" "n" "I") ∈ lw_all := lw_g (lw_at lw_m1 106 rfl) rfl
theorem q200 : (Jvm.Cond.soleField "TugOfWar$Captain" "n") ∈ lw_all := lw_g (lw_at lw_m1 107 rfl) rfl
theorem q201 : (Jvm.Cond.laysFinal "TugOfWar$Captain" "TugOfWar$Text" "bytes" "[B") ∈ lw_all := lw_g (lw_at lw_m1 108 rfl) rfl
theorem q202 : (Jvm.Cond.lays "TugOfWar$Captain" "TugOfWar$Text" "typed" "I") ∈ lw_all := lw_g (lw_at lw_m1 109 rfl) rfl
theorem q203 : (Jvm.Cond.lays "TugOfWar$Captain" "TugOfWar$Text" "at" "I") ∈ lw_all := lw_g (lw_at lw_m1 110 rfl) rfl
theorem q204 : (Jvm.Cond.lays "TugOfWar$Captain" "TugOfWar$Text" "fresh" "Z") ∈ lw_all := lw_g (lw_at lw_m1 111 rfl) rfl
theorem q205 : (Jvm.Cond.lays "TugOfWar$Captain" "TugOfWar$Text" "fault" "I") ∈ lw_all := lw_g (lw_at lw_m1 112 rfl) rfl
theorem q206 : (Jvm.Cond.superclass "TugOfWar$Captain" "TugOfWar$Text") ∈ lw_all := lw_g (lw_at lw_m1 113 rfl) rfl
theorem q317 : (Jvm.Cond.selects "TugOfWar$Captain" ({ cls := "TugOfWar$Text", name := "type", desc := "(I)I" } : Jvm.MethodName) ({ cls := "TugOfWar$Text", name := "type", desc := "(I)I" } : Jvm.MethodName)) ∈ lw_all := lw_g (lw_at lw_m1 224 rfl) rfl
theorem q327 : (Jvm.Cond.selects "TugOfWar$Captain" ({ cls := "TugOfWar$Text", name := "wipe", desc := "()I" } : Jvm.MethodName) ({ cls := "TugOfWar$Text", name := "wipe", desc := "()I" } : Jvm.MethodName)) ∈ lw_all := lw_g (lw_at lw_m1 234 rfl) rfl
theorem q337 : (Jvm.Cond.selects "TugOfWar$Captain" ({ cls := "TugOfWar$Text", name := "undo", desc := "()I" } : Jvm.MethodName) ({ cls := "TugOfWar$Text", name := "undo", desc := "()I" } : Jvm.MethodName)) ∈ lw_all := lw_g (lw_at lw_m2 4 rfl) rfl
theorem q347 : (Jvm.Cond.selects "TugOfWar$Captain" ({ cls := "TugOfWar$Text", name := "read", desc := "()I" } : Jvm.MethodName) ({ cls := "TugOfWar$Text", name := "read", desc := "()I" } : Jvm.MethodName)) ∈ lw_all := lw_g (lw_at lw_m2 14 rfl) rfl
theorem q358 : (Jvm.Cond.selects "TugOfWar$Captain" ({ cls := "TugOfWar$Text", name := "clear", desc := "()V" } : Jvm.MethodName) ({ cls := "TugOfWar$Captain", name := "clear", desc := "()V" } : Jvm.MethodName)) ∈ lw_all := lw_g (lw_at lw_m2 25 rfl) rfl
theorem q359 : (Jvm.Cond.instanceMethod ({ cls := "TugOfWar$Captain", name := "clear", desc := "()V" } : Jvm.MethodName)) ∈ lw_all := lw_g (lw_at lw_m2 26 rfl) rfl
theorem q360 : (Jvm.Cond.code ({ cls := "TugOfWar$Captain", name := "clear", desc := "()V" } : Jvm.MethodName) prog_3_method_2_code (1 : Nat) (Option.none : Option Jvm.ClassFile.FieldType)) ∈ lw_all := lw_g (lw_at lw_m2 27 rfl) rfl
theorem q361 : (Jvm.Cond.methodLink "TugOfWar$Captain" (15 : Nat) ({ cls := "java/util/Arrays", name := "fill", desc := "([II)V" } : Jvm.MethodName)) ∈ lw_all := lw_g (lw_at lw_m2 28 rfl) rfl
theorem q378 : (Jvm.Cond.selects "TugOfWar$Captain" ({ cls := "TugOfWar$Text", name := "isFull", desc := "()Z" } : Jvm.MethodName) ({ cls := "TugOfWar$Captain", name := "isFull", desc := "()Z" } : Jvm.MethodName)) ∈ lw_all := lw_g (lw_at lw_m2 45 rfl) rfl
theorem q379 : (Jvm.Cond.instanceMethod ({ cls := "TugOfWar$Captain", name := "isFull", desc := "()Z" } : Jvm.MethodName)) ∈ lw_all := lw_g (lw_at lw_m2 46 rfl) rfl
theorem q380 : (Jvm.Cond.code ({ cls := "TugOfWar$Captain", name := "isFull", desc := "()Z" } : Jvm.MethodName) prog_3_method_3_code (1 : Nat) (Option.some Jvm.ClassFile.FieldType.boolean)) ∈ lw_all := lw_g (lw_at lw_m2 47 rfl) rfl
theorem q456 : (Jvm.Cond.selects "TugOfWar$Captain" ({ cls := "TugOfWar$Text", name := "part", desc := "()V" } : Jvm.MethodName) ({ cls := "TugOfWar$Captain", name := "part", desc := "()V" } : Jvm.MethodName)) ∈ lw_all := lw_g (lw_at lw_m2 123 rfl) rfl
theorem q457 : (Jvm.Cond.instanceMethod ({ cls := "TugOfWar$Captain", name := "part", desc := "()V" } : Jvm.MethodName)) ∈ lw_all := lw_g (lw_at lw_m2 124 rfl) rfl
theorem q458 : (Jvm.Cond.code ({ cls := "TugOfWar$Captain", name := "part", desc := "()V" } : Jvm.MethodName) prog_3_method_5_code (1 : Nat) (Option.none : Option Jvm.ClassFile.FieldType)) ∈ lw_all := lw_g (lw_at lw_m2 125 rfl) rfl
theorem q459 : (Jvm.Cond.stringRef "TugOfWar$Captain" (29 : Nat) "rph") ∈ lw_tbl := lw_at lw_m2 126 rfl
theorem q460 : (Jvm.Cond.methodLink "TugOfWar$Captain" (31 : Nat) ({ cls := "TugOfWar$Captain", name := "passes", desc := "(Ljava/lang/String;)I" } : Jvm.MethodName)) ∈ lw_all := lw_g (lw_at lw_m2 127 rfl) rfl
theorem q461 : (Jvm.Cond.sameMethod "TugOfWar$Captain" "TugOfWar$Text" "passes" "(Ljava/lang/String;)I") ∈ lw_all := lw_g (lw_at lw_m2 128 rfl) rfl
theorem q463 : (Jvm.Cond.selects "TugOfWar$Captain" ({ cls := "TugOfWar$Captain", name := "passes", desc := "(Ljava/lang/String;)I" } : Jvm.MethodName) ({ cls := "TugOfWar$Text", name := "passes", desc := "(Ljava/lang/String;)I" } : Jvm.MethodName)) ∈ lw_all := lw_g (lw_at lw_m2 130 rfl) rfl
theorem q613 : (Jvm.Cond.selects "TugOfWar$Captain" ({ cls := "java/lang/Object", name := "getClass", desc := "()Ljava/lang/Class;" } : Jvm.MethodName) ({ cls := "java/lang/Object", name := "getClass", desc := "()Ljava/lang/Class;" } : Jvm.MethodName)) ∈ lw_all := lw_g (lw_at lw_m3 40 rfl) rfl
theorem q641 : (Jvm.Cond.selects "TugOfWar$Captain" ({ cls := "TugOfWar$Text", name := "between", desc := "()V" } : Jvm.MethodName) ({ cls := "TugOfWar$Text", name := "between", desc := "()V" } : Jvm.MethodName)) ∈ lw_all := lw_g (lw_at lw_m3 68 rfl) rfl
theorem q719 : (Jvm.Cond.sameMethod "TugOfWar$Captain" "TugOfWar$Text" "read" "()I") ∈ lw_all := lw_g (lw_at lw_m3 146 rfl) rfl
theorem q720 : (Jvm.Cond.selects "TugOfWar$Captain" ({ cls := "TugOfWar$Captain", name := "read", desc := "()I" } : Jvm.MethodName) ({ cls := "TugOfWar$Text", name := "read", desc := "()I" } : Jvm.MethodName)) ∈ lw_all := lw_g (lw_at lw_m3 147 rfl) rfl
theorem q1157 : (Jvm.Cond.selects "TugOfWar$Captain" ({ cls := "TugOfWar$Text", name := "many", desc := "()I" } : Jvm.MethodName) ({ cls := "TugOfWar$Captain", name := "many", desc := "()I" } : Jvm.MethodName)) ∈ lw_all := lw_g (lw_at lw_m5 104 rfl) rfl
theorem q1158 : (Jvm.Cond.instanceMethod ({ cls := "TugOfWar$Captain", name := "many", desc := "()I" } : Jvm.MethodName)) ∈ lw_all := lw_g (lw_at lw_m5 105 rfl) rfl
theorem q1159 : (Jvm.Cond.code ({ cls := "TugOfWar$Captain", name := "many", desc := "()I" } : Jvm.MethodName) prog_3_method_4_code (1 : Nat) (Option.some Jvm.ClassFile.FieldType.int)) ∈ lw_all := lw_g (lw_at lw_m5 106 rfl) rfl
theorem q1160 : (Jvm.Cond.methodLink "TugOfWar$Captain" (25 : Nat) ({ cls := "TugOfWar$Captain", name := "read", desc := "()I" } : Jvm.MethodName)) ∈ lw_all := lw_g (lw_at lw_m5 107 rfl) rfl
theorem q1169 : (Jvm.Cond.selects "TugOfWar$Captain" ({ cls := "TugOfWar$Text", name := "length", desc := "()I" } : Jvm.MethodName) ({ cls := "TugOfWar$Text", name := "length", desc := "()I" } : Jvm.MethodName)) ∈ lw_all := lw_g (lw_at lw_m5 116 rfl) rfl
theorem q1726 : (Jvm.Cond.castable "TugOfWar$Captain" "java/lang/Object") ∈ lw_tbl := lw_at lw_m7 193 rfl
theorem q1743 : (Jvm.Cond.castable "TugOfWar$Captain" "TugOfWar$Text") ∈ lw_tbl := lw_at lw_m7 210 rfl
theorem in_X3 : ∀ w ∈ wsX30, w ∈ lw_all := lw_in wsX30 [201, 202, 203, 204, 205, 197, 199] (by decide +kernel) (by decide +kernel)
/-! TugOfWar$Sheet -/
set_option maxRecDepth 100000
def RX4 : String := "TugOfWar$Sheet"
def TX4 : u_T := fun k => match k with
  | _ => ("TugOfWar$Sheet", "row", "Ljava/lang/Object;", false)
def tyX4 : Nat → FieldType := fun k => match k with
  | _ => .object "java/lang/Object"
abbrev wsX40 : List Cond := u_ws RX4 TX4 1
theorem nmX4 : ∀ a, a < 1 → ∀ b, b < 1 → a ≠ b → (TX4 a).2.1 ≠ (TX4 b).2.1 := by decide +kernel
theorem tyX4_ok : ∀ k, k < 1 → parseFieldDescriptor (TX4 k).2.2.1 = some (tyX4 k) := by decide +kernel
abbrev cX4_init : ByteArray := prog_6_method_1_code
def yX4_init : MethodName := ⟨RX4, "<init>", "()V"⟩
theorem dX4_init_0 : decode cX4_init 0 = .ok (.aload_n 0, 1) := by decide +kernel
theorem dX4_init_1 : decode cX4_init 1 = .ok (.invokespecial 1, 3) := by decide +kernel
theorem dX4_init_4 : decode cX4_init 4 = .ok (.return_, 1) := by decide +kernel
abbrev cX4_size : ByteArray := prog_6_method_3_code
def yX4_size : MethodName := ⟨RX4, "size", "()I"⟩
def dkwX4_size_3 : List UInt8 := [192, 0, 21, 190, 172]
abbrev dktX4_size_3 : List UInt8 := dkwX4_size_3 ++ []
def dkwX4_size_2 : List UInt8 := [42, 180, 0, 7, 192, 0, 13, 190, 172, 42, 180, 0, 7, 192, 0, 15, 190, 172, 42, 180, 0, 7]
abbrev dktX4_size_2 : List UInt8 := dkwX4_size_2 ++ dktX4_size_3
def dkwX4_size_1 : List UInt8 := [171, 0, 0, 0, 0, 0, 0, 46, 0, 0, 0, 2, 0, 0, 0, 0, 0, 0, 0, 28, 0, 0, 0, 1, 0, 0, 0, 37]
abbrev dktX4_size_1 : List UInt8 := dkwX4_size_1 ++ dktX4_size_2
def dkwX4_size_0 : List UInt8 := [42, 182, 0, 17]
abbrev dktX4_size_0 : List UInt8 := dkwX4_size_0 ++ dktX4_size_1
theorem dksX4_size_0 : cX4_size.data.toList.drop 0 = dktX4_size_0 := by decide +kernel
theorem dksX4_size_1 : cX4_size.data.toList.drop 4 = dktX4_size_1 := dk_seg dksX4_size_0 4 rfl rfl
theorem dksX4_size_2 : cX4_size.data.toList.drop 32 = dktX4_size_2 := dk_seg dksX4_size_1 28 rfl rfl
theorem dksX4_size_3 : cX4_size.data.toList.drop 54 = dktX4_size_3 := dk_seg dksX4_size_2 22 rfl rfl
theorem dX4_size_0 : decode cX4_size 0 = .ok (.aload_n 0, 1) := dk_42 (dk_at dksX4_size_0 0 rfl rfl)
theorem dX4_size_1 : decode cX4_size 1 = .ok (.invokevirtual 17, 3) := dk_182 0 17 (dk_at dksX4_size_0 1 rfl rfl)
theorem dX4_size_4 : decode cX4_size 4 = .ok (.lookupswitch 46 #[(0, 28), (1, 37)], 28) := by decide +kernel
theorem dX4_size_32 : decode cX4_size 32 = .ok (.aload_n 0, 1) := dk_42 (dk_at dksX4_size_2 0 rfl rfl)
theorem dX4_size_33 : decode cX4_size 33 = .ok (.getfield 7, 3) := dk_180 0 7 (dk_at dksX4_size_2 1 rfl rfl)
theorem dX4_size_36 : decode cX4_size 36 = .ok (.checkcast 13, 3) := dk_192 0 13 (dk_at dksX4_size_2 4 rfl rfl)
theorem dX4_size_39 : decode cX4_size 39 = .ok (.arraylength, 1) := dk_190 (dk_at dksX4_size_2 7 rfl rfl)
theorem dX4_size_40 : decode cX4_size 40 = .ok (.ireturn, 1) := dk_172 (dk_at dksX4_size_2 8 rfl rfl)
theorem dX4_size_41 : decode cX4_size 41 = .ok (.aload_n 0, 1) := dk_42 (dk_at dksX4_size_2 9 rfl rfl)
theorem dX4_size_42 : decode cX4_size 42 = .ok (.getfield 7, 3) := dk_180 0 7 (dk_at dksX4_size_2 10 rfl rfl)
theorem dX4_size_45 : decode cX4_size 45 = .ok (.checkcast 15, 3) := dk_192 0 15 (dk_at dksX4_size_2 13 rfl rfl)
theorem dX4_size_48 : decode cX4_size 48 = .ok (.arraylength, 1) := dk_190 (dk_at dksX4_size_2 16 rfl rfl)
theorem dX4_size_49 : decode cX4_size 49 = .ok (.ireturn, 1) := dk_172 (dk_at dksX4_size_2 17 rfl rfl)
theorem dX4_size_50 : decode cX4_size 50 = .ok (.aload_n 0, 1) := dk_42 (dk_at dksX4_size_2 18 rfl rfl)
theorem dX4_size_51 : decode cX4_size 51 = .ok (.getfield 7, 3) := dk_180 0 7 (dk_at dksX4_size_2 19 rfl rfl)
theorem dX4_size_54 : decode cX4_size 54 = .ok (.checkcast 21, 3) := dk_192 0 21 (dk_at dksX4_size_3 0 rfl rfl)
theorem dX4_size_57 : decode cX4_size 57 = .ok (.arraylength, 1) := dk_190 (dk_at dksX4_size_3 3 rfl rfl)
theorem dX4_size_58 : decode cX4_size 58 = .ok (.ireturn, 1) := dk_172 (dk_at dksX4_size_3 4 rfl rfl)
abbrev cX4_type : ByteArray := prog_6_method_2_code
def yX4_type : MethodName := ⟨RX4, "type", "()I"⟩
def dkwX4_type_1 : List UInt8 := [4, 167, 0, 4, 5, 172]
abbrev dktX4_type_1 : List UInt8 := dkwX4_type_1 ++ []
def dkwX4_type_0 : List UInt8 := [42, 180, 0, 7, 193, 0, 13, 153, 0, 7, 3, 167, 0, 18, 42, 180, 0, 7, 193, 0, 15, 153, 0, 7]
abbrev dktX4_type_0 : List UInt8 := dkwX4_type_0 ++ dktX4_type_1
theorem dksX4_type_0 : cX4_type.data.toList.drop 0 = dktX4_type_0 := by decide +kernel
theorem dksX4_type_1 : cX4_type.data.toList.drop 24 = dktX4_type_1 := dk_seg dksX4_type_0 24 rfl rfl
theorem dX4_type_0 : decode cX4_type 0 = .ok (.aload_n 0, 1) := dk_42 (dk_at dksX4_type_0 0 rfl rfl)
theorem dX4_type_1 : decode cX4_type 1 = .ok (.getfield 7, 3) := dk_180 0 7 (dk_at dksX4_type_0 1 rfl rfl)
theorem dX4_type_4 : decode cX4_type 4 = .ok (.instanceof 13, 3) := dk_193 0 13 (dk_at dksX4_type_0 4 rfl rfl)
theorem dX4_type_7 : decode cX4_type 7 = .ok (.ifCond .eq 7, 3) := dk_153 0 7 (dk_at dksX4_type_0 7 rfl rfl)
theorem dX4_type_10 : decode cX4_type 10 = .ok (.iconst 0, 1) := dk_3 (dk_at dksX4_type_0 10 rfl rfl)
theorem dX4_type_11 : decode cX4_type 11 = .ok (.goto 18, 3) := dk_167 0 18 (dk_at dksX4_type_0 11 rfl rfl)
theorem dX4_type_14 : decode cX4_type 14 = .ok (.aload_n 0, 1) := dk_42 (dk_at dksX4_type_0 14 rfl rfl)
theorem dX4_type_15 : decode cX4_type 15 = .ok (.getfield 7, 3) := dk_180 0 7 (dk_at dksX4_type_0 15 rfl rfl)
theorem dX4_type_18 : decode cX4_type 18 = .ok (.instanceof 15, 3) := dk_193 0 15 (dk_at dksX4_type_0 18 rfl rfl)
theorem dX4_type_21 : decode cX4_type 21 = .ok (.ifCond .eq 7, 3) := dk_153 0 7 (dk_at dksX4_type_0 21 rfl rfl)
theorem dX4_type_24 : decode cX4_type 24 = .ok (.iconst 1, 1) := dk_4 (dk_at dksX4_type_1 0 rfl rfl)
theorem dX4_type_25 : decode cX4_type 25 = .ok (.goto 4, 3) := dk_167 0 4 (dk_at dksX4_type_1 1 rfl rfl)
theorem dX4_type_28 : decode cX4_type 28 = .ok (.iconst 2, 1) := dk_5 (dk_at dksX4_type_1 4 rfl rfl)
theorem dX4_type_29 : decode cX4_type 29 = .ok (.ireturn, 1) := dk_172 (dk_at dksX4_type_1 5 rfl rfl)
abbrev cX4_item : ByteArray := prog_6_method_4_code
def yX4_item : MethodName := ⟨RX4, "item", "(II)I"⟩
def dkwX4_item_3 : List UInt8 := [192, 0, 21, 28, 46, 172]
abbrev dktX4_item_3 : List UInt8 := dkwX4_item_3 ++ []
def dkwX4_item_2 : List UInt8 := [42, 180, 0, 7, 192, 0, 13, 28, 51, 172, 42, 180, 0, 7, 192, 0, 15, 28, 53, 172, 42, 180, 0, 7]
abbrev dktX4_item_2 : List UInt8 := dkwX4_item_2 ++ dktX4_item_3
def dkwX4_item_1 : List UInt8 := [171, 0, 0, 0, 0, 0, 47, 0, 0, 0, 2, 0, 0, 0, 0, 0, 0, 0, 27, 0, 0, 0, 1, 0, 0, 0, 37]
abbrev dktX4_item_1 : List UInt8 := dkwX4_item_1 ++ dktX4_item_2
def dkwX4_item_0 : List UInt8 := [27]
abbrev dktX4_item_0 : List UInt8 := dkwX4_item_0 ++ dktX4_item_1
theorem dksX4_item_0 : cX4_item.data.toList.drop 0 = dktX4_item_0 := by decide +kernel
theorem dksX4_item_1 : cX4_item.data.toList.drop 1 = dktX4_item_1 := dk_seg dksX4_item_0 1 rfl rfl
theorem dksX4_item_2 : cX4_item.data.toList.drop 28 = dktX4_item_2 := dk_seg dksX4_item_1 27 rfl rfl
theorem dksX4_item_3 : cX4_item.data.toList.drop 52 = dktX4_item_3 := dk_seg dksX4_item_2 24 rfl rfl
theorem dX4_item_0 : decode cX4_item 0 = .ok (.iload_n 1, 1) := dk_27 (dk_at dksX4_item_0 0 rfl rfl)
theorem dX4_item_1 : decode cX4_item 1 = .ok (.lookupswitch 47 #[(0, 27), (1, 37)], 27) := by decide +kernel
theorem dX4_item_28 : decode cX4_item 28 = .ok (.aload_n 0, 1) := dk_42 (dk_at dksX4_item_2 0 rfl rfl)
theorem dX4_item_29 : decode cX4_item 29 = .ok (.getfield 7, 3) := dk_180 0 7 (dk_at dksX4_item_2 1 rfl rfl)
theorem dX4_item_32 : decode cX4_item 32 = .ok (.checkcast 13, 3) := dk_192 0 13 (dk_at dksX4_item_2 4 rfl rfl)
theorem dX4_item_35 : decode cX4_item 35 = .ok (.iload_n 2, 1) := dk_28 (dk_at dksX4_item_2 7 rfl rfl)
theorem dX4_item_36 : decode cX4_item 36 = .ok (.baload, 1) := dk_51 (dk_at dksX4_item_2 8 rfl rfl)
theorem dX4_item_37 : decode cX4_item 37 = .ok (.ireturn, 1) := dk_172 (dk_at dksX4_item_2 9 rfl rfl)
theorem dX4_item_38 : decode cX4_item 38 = .ok (.aload_n 0, 1) := dk_42 (dk_at dksX4_item_2 10 rfl rfl)
theorem dX4_item_39 : decode cX4_item 39 = .ok (.getfield 7, 3) := dk_180 0 7 (dk_at dksX4_item_2 11 rfl rfl)
theorem dX4_item_42 : decode cX4_item 42 = .ok (.checkcast 15, 3) := dk_192 0 15 (dk_at dksX4_item_2 14 rfl rfl)
theorem dX4_item_45 : decode cX4_item 45 = .ok (.iload_n 2, 1) := dk_28 (dk_at dksX4_item_2 17 rfl rfl)
theorem dX4_item_46 : decode cX4_item 46 = .ok (.saload, 1) := dk_53 (dk_at dksX4_item_2 18 rfl rfl)
theorem dX4_item_47 : decode cX4_item 47 = .ok (.ireturn, 1) := dk_172 (dk_at dksX4_item_2 19 rfl rfl)
theorem dX4_item_48 : decode cX4_item 48 = .ok (.aload_n 0, 1) := dk_42 (dk_at dksX4_item_2 20 rfl rfl)
theorem dX4_item_49 : decode cX4_item 49 = .ok (.getfield 7, 3) := dk_180 0 7 (dk_at dksX4_item_2 21 rfl rfl)
theorem dX4_item_52 : decode cX4_item 52 = .ok (.checkcast 21, 3) := dk_192 0 21 (dk_at dksX4_item_3 0 rfl rfl)
theorem dX4_item_55 : decode cX4_item 55 = .ok (.iload_n 2, 1) := dk_28 (dk_at dksX4_item_3 3 rfl rfl)
theorem dX4_item_56 : decode cX4_item 56 = .ok (.iaload, 1) := dk_46 (dk_at dksX4_item_3 4 rfl rfl)
theorem dX4_item_57 : decode cX4_item 57 = .ok (.ireturn, 1) := dk_172 (dk_at dksX4_item_3 5 rfl rfl)
abbrev cX4_lay : ByteArray := prog_6_method_5_code
def yX4_lay : MethodName := ⟨RX4, "lay", "(III)V"⟩
def dkwX4_lay_3 : List UInt8 := [86, 167, 0, 13, 42, 180, 0, 7, 192, 0, 21, 28, 29, 79, 177]
abbrev dktX4_lay_3 : List UInt8 := dkwX4_lay_3 ++ []
def dkwX4_lay_2 : List UInt8 := [42, 180, 0, 7, 192, 0, 13, 28, 29, 145, 84, 167, 0, 27, 42, 180, 0, 7, 192, 0, 15, 28, 29, 147]
abbrev dktX4_lay_2 : List UInt8 := dkwX4_lay_2 ++ dktX4_lay_3
def dkwX4_lay_1 : List UInt8 := [171, 0, 0, 0, 0, 0, 55, 0, 0, 0, 2, 0, 0, 0, 0, 0, 0, 0, 27, 0, 0, 0, 1, 0, 0, 0, 41]
abbrev dktX4_lay_1 : List UInt8 := dkwX4_lay_1 ++ dktX4_lay_2
def dkwX4_lay_0 : List UInt8 := [27]
abbrev dktX4_lay_0 : List UInt8 := dkwX4_lay_0 ++ dktX4_lay_1
theorem dksX4_lay_0 : cX4_lay.data.toList.drop 0 = dktX4_lay_0 := by decide +kernel
theorem dksX4_lay_1 : cX4_lay.data.toList.drop 1 = dktX4_lay_1 := dk_seg dksX4_lay_0 1 rfl rfl
theorem dksX4_lay_2 : cX4_lay.data.toList.drop 28 = dktX4_lay_2 := dk_seg dksX4_lay_1 27 rfl rfl
theorem dksX4_lay_3 : cX4_lay.data.toList.drop 52 = dktX4_lay_3 := dk_seg dksX4_lay_2 24 rfl rfl
theorem dX4_lay_0 : decode cX4_lay 0 = .ok (.iload_n 1, 1) := dk_27 (dk_at dksX4_lay_0 0 rfl rfl)
theorem dX4_lay_1 : decode cX4_lay 1 = .ok (.lookupswitch 55 #[(0, 27), (1, 41)], 27) := by decide +kernel
theorem dX4_lay_28 : decode cX4_lay 28 = .ok (.aload_n 0, 1) := dk_42 (dk_at dksX4_lay_2 0 rfl rfl)
theorem dX4_lay_29 : decode cX4_lay 29 = .ok (.getfield 7, 3) := dk_180 0 7 (dk_at dksX4_lay_2 1 rfl rfl)
theorem dX4_lay_32 : decode cX4_lay 32 = .ok (.checkcast 13, 3) := dk_192 0 13 (dk_at dksX4_lay_2 4 rfl rfl)
theorem dX4_lay_35 : decode cX4_lay 35 = .ok (.iload_n 2, 1) := dk_28 (dk_at dksX4_lay_2 7 rfl rfl)
theorem dX4_lay_36 : decode cX4_lay 36 = .ok (.iload_n 3, 1) := dk_29 (dk_at dksX4_lay_2 8 rfl rfl)
theorem dX4_lay_37 : decode cX4_lay 37 = .ok (.i2b, 1) := dk_145 (dk_at dksX4_lay_2 9 rfl rfl)
theorem dX4_lay_38 : decode cX4_lay 38 = .ok (.bastore, 1) := dk_84 (dk_at dksX4_lay_2 10 rfl rfl)
theorem dX4_lay_39 : decode cX4_lay 39 = .ok (.goto 27, 3) := dk_167 0 27 (dk_at dksX4_lay_2 11 rfl rfl)
theorem dX4_lay_42 : decode cX4_lay 42 = .ok (.aload_n 0, 1) := dk_42 (dk_at dksX4_lay_2 14 rfl rfl)
theorem dX4_lay_43 : decode cX4_lay 43 = .ok (.getfield 7, 3) := dk_180 0 7 (dk_at dksX4_lay_2 15 rfl rfl)
theorem dX4_lay_46 : decode cX4_lay 46 = .ok (.checkcast 15, 3) := dk_192 0 15 (dk_at dksX4_lay_2 18 rfl rfl)
theorem dX4_lay_49 : decode cX4_lay 49 = .ok (.iload_n 2, 1) := dk_28 (dk_at dksX4_lay_2 21 rfl rfl)
theorem dX4_lay_50 : decode cX4_lay 50 = .ok (.iload_n 3, 1) := dk_29 (dk_at dksX4_lay_2 22 rfl rfl)
theorem dX4_lay_51 : decode cX4_lay 51 = .ok (.i2s, 1) := dk_147 (dk_at dksX4_lay_2 23 rfl rfl)
theorem dX4_lay_52 : decode cX4_lay 52 = .ok (.sastore, 1) := dk_86 (dk_at dksX4_lay_3 0 rfl rfl)
theorem dX4_lay_53 : decode cX4_lay 53 = .ok (.goto 13, 3) := dk_167 0 13 (dk_at dksX4_lay_3 1 rfl rfl)
theorem dX4_lay_56 : decode cX4_lay 56 = .ok (.aload_n 0, 1) := dk_42 (dk_at dksX4_lay_3 4 rfl rfl)
theorem dX4_lay_57 : decode cX4_lay 57 = .ok (.getfield 7, 3) := dk_180 0 7 (dk_at dksX4_lay_3 5 rfl rfl)
theorem dX4_lay_60 : decode cX4_lay 60 = .ok (.checkcast 21, 3) := dk_192 0 21 (dk_at dksX4_lay_3 8 rfl rfl)
theorem dX4_lay_63 : decode cX4_lay 63 = .ok (.iload_n 2, 1) := dk_28 (dk_at dksX4_lay_3 11 rfl rfl)
theorem dX4_lay_64 : decode cX4_lay 64 = .ok (.iload_n 3, 1) := dk_29 (dk_at dksX4_lay_3 12 rfl rfl)
theorem dX4_lay_65 : decode cX4_lay 65 = .ok (.iastore, 1) := dk_79 (dk_at dksX4_lay_3 13 rfl rfl)
theorem dX4_lay_66 : decode cX4_lay 66 = .ok (.return_, 1) := dk_177 (dk_at dksX4_lay_3 14 rfl rfl)
theorem q101 : (Jvm.Cond.initialized "TugOfWar$Sheet") ∈ lw_all := lw_g (lw_at lw_m1 8 rfl) rfl
theorem q216 : (Jvm.Cond.instantiable "TugOfWar$Sheet" (1 : Nat)) ∈ lw_all := lw_g (lw_at lw_m1 123 rfl) rfl
theorem q218 : (Jvm.Cond.instanceMethod ({ cls := "TugOfWar$Sheet", name := "<init>", desc := "()V" } : Jvm.MethodName)) ∈ lw_all := lw_g (lw_at lw_m1 125 rfl) rfl
theorem q219 : (Jvm.Cond.code ({ cls := "TugOfWar$Sheet", name := "<init>", desc := "()V" } : Jvm.MethodName) prog_6_method_1_code (1 : Nat) (Option.none : Option Jvm.ClassFile.FieldType)) ∈ lw_all := lw_g (lw_at lw_m1 126 rfl) rfl
theorem q220 : (Jvm.Cond.methodLink "TugOfWar$Sheet" (1 : Nat) ({ cls := "java/lang/Object", name := "<init>", desc := "()V" } : Jvm.MethodName)) ∈ lw_all := lw_g (lw_at lw_m1 127 rfl) rfl
theorem q221 : (Jvm.Cond.fieldLink "TugOfWar$Sheet" (7 : Nat) "TugOfWar$Sheet" "row" "Ljava/lang/Object;") ∈ lw_all := lw_g (lw_at lw_m1 128 rfl) rfl
theorem q223 : (Jvm.Cond.lays "TugOfWar$Sheet" "TugOfWar$Sheet" "row" "Ljava/lang/Object;") ∈ lw_all := lw_g (lw_at lw_m1 130 rfl) rfl
theorem q224 : (Jvm.Cond.soleField "TugOfWar$Sheet" "row") ∈ lw_all := lw_g (lw_at lw_m1 131 rfl) rfl
theorem q225 : (Jvm.Cond.superclass "TugOfWar$Sheet" "java/lang/Object") ∈ lw_all := lw_g (lw_at lw_m1 132 rfl) rfl
theorem q616 : (Jvm.Cond.selects "TugOfWar$Sheet" ({ cls := "java/lang/Object", name := "getClass", desc := "()Ljava/lang/Class;" } : Jvm.MethodName) ({ cls := "java/lang/Object", name := "getClass", desc := "()Ljava/lang/Class;" } : Jvm.MethodName)) ∈ lw_all := lw_g (lw_at lw_m3 43 rfl) rfl
theorem q761 : (Jvm.Cond.instanceMethod ({ cls := "TugOfWar$Sheet", name := "size", desc := "()I" } : Jvm.MethodName)) ∈ lw_all := lw_g (lw_at lw_m3 188 rfl) rfl
theorem q762 : (Jvm.Cond.selects "TugOfWar$Sheet" ({ cls := "TugOfWar$Sheet", name := "size", desc := "()I" } : Jvm.MethodName) ({ cls := "TugOfWar$Sheet", name := "size", desc := "()I" } : Jvm.MethodName)) ∈ lw_all := lw_g (lw_at lw_m3 189 rfl) rfl
theorem q763 : (Jvm.Cond.code ({ cls := "TugOfWar$Sheet", name := "size", desc := "()I" } : Jvm.MethodName) prog_6_method_3_code (1 : Nat) (Option.some Jvm.ClassFile.FieldType.int)) ∈ lw_all := lw_g (lw_at lw_m3 190 rfl) rfl
theorem q764 : (Jvm.Cond.methodLink "TugOfWar$Sheet" (17 : Nat) ({ cls := "TugOfWar$Sheet", name := "type", desc := "()I" } : Jvm.MethodName)) ∈ lw_all := lw_g (lw_at lw_m3 191 rfl) rfl
theorem q765 : (Jvm.Cond.instanceMethod ({ cls := "TugOfWar$Sheet", name := "type", desc := "()I" } : Jvm.MethodName)) ∈ lw_all := lw_g (lw_at lw_m3 192 rfl) rfl
theorem q766 : (Jvm.Cond.selects "TugOfWar$Sheet" ({ cls := "TugOfWar$Sheet", name := "type", desc := "()I" } : Jvm.MethodName) ({ cls := "TugOfWar$Sheet", name := "type", desc := "()I" } : Jvm.MethodName)) ∈ lw_all := lw_g (lw_at lw_m3 193 rfl) rfl
theorem q767 : (Jvm.Cond.code ({ cls := "TugOfWar$Sheet", name := "type", desc := "()I" } : Jvm.MethodName) prog_6_method_2_code (1 : Nat) (Option.some Jvm.ClassFile.FieldType.int)) ∈ lw_all := lw_g (lw_at lw_m3 194 rfl) rfl
theorem q768 : (Jvm.Cond.classLink "TugOfWar$Sheet" (13 : Nat) "[B") ∈ lw_all := lw_g (lw_at lw_m3 195 rfl) rfl
theorem q769 : (Jvm.Cond.classLink "TugOfWar$Sheet" (15 : Nat) "[S") ∈ lw_all := lw_g (lw_at lw_m3 196 rfl) rfl
theorem q770 : (Jvm.Cond.classLink "TugOfWar$Sheet" (21 : Nat) "[I") ∈ lw_all := lw_g (lw_at lw_m3 197 rfl) rfl
theorem q773 : (Jvm.Cond.instanceMethod ({ cls := "TugOfWar$Sheet", name := "item", desc := "(II)I" } : Jvm.MethodName)) ∈ lw_all := lw_g (lw_at lw_m3 200 rfl) rfl
theorem q774 : (Jvm.Cond.selects "TugOfWar$Sheet" ({ cls := "TugOfWar$Sheet", name := "item", desc := "(II)I" } : Jvm.MethodName) ({ cls := "TugOfWar$Sheet", name := "item", desc := "(II)I" } : Jvm.MethodName)) ∈ lw_all := lw_g (lw_at lw_m3 201 rfl) rfl
theorem q775 : (Jvm.Cond.code ({ cls := "TugOfWar$Sheet", name := "item", desc := "(II)I" } : Jvm.MethodName) prog_6_method_4_code (3 : Nat) (Option.some Jvm.ClassFile.FieldType.int)) ∈ lw_all := lw_g (lw_at lw_m3 202 rfl) rfl
theorem q1129 : (Jvm.Cond.instanceMethod ({ cls := "TugOfWar$Sheet", name := "lay", desc := "(III)V" } : Jvm.MethodName)) ∈ lw_all := lw_g (lw_at lw_m5 76 rfl) rfl
theorem q1130 : (Jvm.Cond.selects "TugOfWar$Sheet" ({ cls := "TugOfWar$Sheet", name := "lay", desc := "(III)V" } : Jvm.MethodName) ({ cls := "TugOfWar$Sheet", name := "lay", desc := "(III)V" } : Jvm.MethodName)) ∈ lw_all := lw_g (lw_at lw_m5 77 rfl) rfl
theorem q1131 : (Jvm.Cond.code ({ cls := "TugOfWar$Sheet", name := "lay", desc := "(III)V" } : Jvm.MethodName) prog_6_method_5_code (4 : Nat) (Option.none : Option Jvm.ClassFile.FieldType)) ∈ lw_all := lw_g (lw_at lw_m5 78 rfl) rfl
theorem q1728 : (Jvm.Cond.castable "TugOfWar$Sheet" "java/lang/Object") ∈ lw_tbl := lw_at lw_m7 195 rfl
theorem in_X4 : ∀ w ∈ wsX40, w ∈ lw_all := lw_in wsX40 [223] (by decide +kernel) (by decide +kernel)
/-! TugOfWar$Torn -/
set_option maxRecDepth 100000
def RX6 : String := "TugOfWar$Torn"
def TX6 : u_T := fun k => match k with
  | 0 => ("java/lang/Throwable", "cause", "Ljava/lang/Throwable;", false)
  | 1 => ("java/lang/Throwable", "stackTrace", "[Ljava/lang/StackTraceElement;", false)
  | 2 => ("java/lang/Throwable", "suppressedExceptions", "Ljava/util/List;", false)
  | 3 => ("java/lang/Throwable", "detailMessage", "Ljava/lang/String;", false)
  | 4 => ("java/lang/Throwable", "backtrace", "Ljava/lang/Object;", false)
  | 5 => ("java/lang/Throwable", "depth", "I", false)
  | _ => ("TugOfWar$Torn", "place", "I", true)
def tyX6 : Nat → FieldType := fun k => match k with
  | 0 => .object "java/lang/Throwable"
  | 1 => .array (.object "java/lang/StackTraceElement")
  | 2 => .object "java/util/List"
  | 3 => .object "java/lang/String"
  | 4 => .object "java/lang/Object"
  | 5 => .int
  | _ => .int
abbrev wsX60 : List Cond := u_ws RX6 TX6 7
theorem nmX6 : ∀ a, a < 7 → ∀ b, b < 7 → a ≠ b → (TX6 a).2.1 ≠ (TX6 b).2.1 := by decide +kernel
theorem tyX6_ok : ∀ k, k < 7 → parseFieldDescriptor (TX6 k).2.2.1 = some (tyX6 k) := by decide +kernel
abbrev cX6_init : ByteArray := prog_10_method_1_code
def yX6_init : MethodName := ⟨RX6, "<init>", "(I)V"⟩
def dkwX6_init_0 : List UInt8 := [42, 1, 1, 3, 3, 183, 0, 1, 42, 27, 181, 0, 7, 177]
abbrev dktX6_init_0 : List UInt8 := dkwX6_init_0 ++ []
theorem dksX6_init_0 : cX6_init.data.toList.drop 0 = dktX6_init_0 := by decide +kernel
theorem dX6_init_0 : decode cX6_init 0 = .ok (.aload_n 0, 1) := dk_42 (dk_at dksX6_init_0 0 rfl rfl)
theorem dX6_init_1 : decode cX6_init 1 = .ok (.aconst_null, 1) := dk_1 (dk_at dksX6_init_0 1 rfl rfl)
theorem dX6_init_2 : decode cX6_init 2 = .ok (.aconst_null, 1) := dk_1 (dk_at dksX6_init_0 2 rfl rfl)
theorem dX6_init_3 : decode cX6_init 3 = .ok (.iconst 0, 1) := dk_3 (dk_at dksX6_init_0 3 rfl rfl)
theorem dX6_init_4 : decode cX6_init 4 = .ok (.iconst 0, 1) := dk_3 (dk_at dksX6_init_0 4 rfl rfl)
theorem dX6_init_5 : decode cX6_init 5 = .ok (.invokespecial 1, 3) := dk_183 0 1 (dk_at dksX6_init_0 5 rfl rfl)
theorem dX6_init_8 : decode cX6_init 8 = .ok (.aload_n 0, 1) := dk_42 (dk_at dksX6_init_0 8 rfl rfl)
theorem dX6_init_9 : decode cX6_init 9 = .ok (.iload_n 1, 1) := dk_27 (dk_at dksX6_init_0 9 rfl rfl)
theorem dX6_init_10 : decode cX6_init 10 = .ok (.putfield 7, 3) := dk_181 0 7 (dk_at dksX6_init_0 10 rfl rfl)
theorem dX6_init_13 : decode cX6_init 13 = .ok (.return_, 1) := dk_177 (dk_at dksX6_init_0 13 rfl rfl)
theorem q106 : (Jvm.Cond.initialized "TugOfWar$Torn") ∈ lw_all := lw_g (lw_at lw_m1 13 rfl) rfl
theorem q388 : (Jvm.Cond.instantiable "TugOfWar$Torn" (7 : Nat)) ∈ lw_all := lw_g (lw_at lw_m2 55 rfl) rfl
theorem q389 : (Jvm.Cond.castable "TugOfWar$Torn" "TugOfWar$Torn") ∈ lw_tbl := lw_at lw_m2 56 rfl
theorem q394 : (Jvm.Cond.selects "TugOfWar$Torn" ({ cls := "java/lang/Throwable", name := "fillInStackTrace", desc := "(I)Ljava/lang/Throwable;" } : Jvm.MethodName) ({ cls := "java/lang/Throwable", name := "fillInStackTrace", desc := "(I)Ljava/lang/Throwable;" } : Jvm.MethodName)) ∈ lw_all := lw_g (lw_at lw_m2 61 rfl) rfl
theorem q395 : (Jvm.Cond.selects "TugOfWar$Torn" ({ cls := "java/lang/Throwable", name := "fillInStackTrace", desc := "()Ljava/lang/Throwable;" } : Jvm.MethodName) ({ cls := "java/lang/Throwable", name := "fillInStackTrace", desc := "()Ljava/lang/Throwable;" } : Jvm.MethodName)) ∈ lw_all := lw_g (lw_at lw_m2 62 rfl) rfl
theorem q396 : (Jvm.Cond.lays "TugOfWar$Torn" "java/lang/Throwable" "cause" "Ljava/lang/Throwable;") ∈ lw_all := lw_g (lw_at lw_m2 63 rfl) rfl
theorem q398 : (Jvm.Cond.lays "TugOfWar$Torn" "java/lang/Throwable" "stackTrace" "[Ljava/lang/StackTraceElement;") ∈ lw_all := lw_g (lw_at lw_m2 65 rfl) rfl
theorem q400 : (Jvm.Cond.lays "TugOfWar$Torn" "java/lang/Throwable" "suppressedExceptions" "Ljava/util/List;") ∈ lw_all := lw_g (lw_at lw_m2 67 rfl) rfl
theorem q402 : (Jvm.Cond.lays "TugOfWar$Torn" "java/lang/Throwable" "detailMessage" "Ljava/lang/String;") ∈ lw_all := lw_g (lw_at lw_m2 69 rfl) rfl
theorem q404 : (Jvm.Cond.lays "TugOfWar$Torn" "java/lang/Throwable" "backtrace" "Ljava/lang/Object;") ∈ lw_all := lw_g (lw_at lw_m2 71 rfl) rfl
theorem q428 : (Jvm.Cond.instanceMethod ({ cls := "TugOfWar$Torn", name := "<init>", desc := "(I)V" } : Jvm.MethodName)) ∈ lw_all := lw_g (lw_at lw_m2 95 rfl) rfl
theorem q429 : (Jvm.Cond.code ({ cls := "TugOfWar$Torn", name := "<init>", desc := "(I)V" } : Jvm.MethodName) prog_10_method_1_code (2 : Nat) (Option.none : Option Jvm.ClassFile.FieldType)) ∈ lw_all := lw_g (lw_at lw_m2 96 rfl) rfl
theorem q430 : (Jvm.Cond.methodLink "TugOfWar$Torn" (1 : Nat) ({ cls := "java/lang/Exception", name := "<init>", desc := "(Ljava/lang/String;Ljava/lang/Throwable;ZZ)V" } : Jvm.MethodName)) ∈ lw_all := lw_g (lw_at lw_m2 97 rfl) rfl
theorem q436 : (Jvm.Cond.fieldLink "TugOfWar$Torn" (7 : Nat) "TugOfWar$Torn" "place" "I") ∈ lw_all := lw_g (lw_at lw_m2 103 rfl) rfl
theorem q443 : (Jvm.Cond.laysFinal "TugOfWar$Torn" "TugOfWar$Torn" "place" "I") ∈ lw_all := lw_g (lw_at lw_m2 110 rfl) rfl
theorem q444 : (Jvm.Cond.soleField "TugOfWar$Torn" "place") ∈ lw_all := lw_g (lw_at lw_m2 111 rfl) rfl
theorem q449 : (Jvm.Cond.lays "TugOfWar$Torn" "java/lang/Throwable" "depth" "I") ∈ lw_all := lw_g (lw_at lw_m2 116 rfl) rfl
theorem q452 : (Jvm.Cond.superclass "TugOfWar$Torn" "java/lang/Exception") ∈ lw_all := lw_g (lw_at lw_m2 119 rfl) rfl
theorem q619 : (Jvm.Cond.selects "TugOfWar$Torn" ({ cls := "java/lang/Object", name := "getClass", desc := "()Ljava/lang/Class;" } : Jvm.MethodName) ({ cls := "java/lang/Object", name := "getClass", desc := "()Ljava/lang/Class;" } : Jvm.MethodName)) ∈ lw_all := lw_g (lw_at lw_m3 46 rfl) rfl
theorem q1733 : (Jvm.Cond.castable "TugOfWar$Torn" "java/lang/Object") ∈ lw_tbl := lw_at lw_m7 200 rfl
theorem in_X6 : ∀ w ∈ wsX60, w ∈ lw_all := lw_in wsX60 [396, 398, 400, 402, 404, 449, 443] (by decide +kernel) (by decide +kernel)
/-! TugOfWar$Puller -/
set_option maxRecDepth 100000
def RX7 : String := "TugOfWar$Puller"
def TX7 : u_T := fun k => match k with
  | 0 => ("TugOfWar$Puller", "sort", "LTugOfWar$Sort;", false)
  | 1 => ("TugOfWar$Puller", "weight", "I", false)
  | _ => ("TugOfWar$Puller", "wind", "I", true)
def tyX7 : Nat → FieldType := fun k => match k with
  | 0 => .object "TugOfWar$Sort"
  | 1 => .int
  | _ => .int
abbrev wsX70 : List Cond := u_ws RX7 TX7 3
theorem nmX7 : ∀ a, a < 3 → ∀ b, b < 3 → a ≠ b → (TX7 a).2.1 ≠ (TX7 b).2.1 := by decide +kernel
theorem tyX7_ok : ∀ k, k < 3 → parseFieldDescriptor (TX7 k).2.2.1 = some (tyX7 k) := by decide +kernel
abbrev cX7_init : ByteArray := prog_5_method_1_code
def yX7_init : MethodName := ⟨RX7, "<init>", "(LTugOfWar$Sort;II)V"⟩
def dkwX7_init_0 : List UInt8 := [42, 183, 0, 1, 42, 43, 181, 0, 7, 42, 28, 181, 0, 13, 42, 29, 181, 0, 17, 177]
abbrev dktX7_init_0 : List UInt8 := dkwX7_init_0 ++ []
theorem dksX7_init_0 : cX7_init.data.toList.drop 0 = dktX7_init_0 := by decide +kernel
theorem dX7_init_0 : decode cX7_init 0 = .ok (.aload_n 0, 1) := dk_42 (dk_at dksX7_init_0 0 rfl rfl)
theorem dX7_init_1 : decode cX7_init 1 = .ok (.invokespecial 1, 3) := dk_183 0 1 (dk_at dksX7_init_0 1 rfl rfl)
theorem dX7_init_4 : decode cX7_init 4 = .ok (.aload_n 0, 1) := dk_42 (dk_at dksX7_init_0 4 rfl rfl)
theorem dX7_init_5 : decode cX7_init 5 = .ok (.aload_n 1, 1) := dk_43 (dk_at dksX7_init_0 5 rfl rfl)
theorem dX7_init_6 : decode cX7_init 6 = .ok (.putfield 7, 3) := dk_181 0 7 (dk_at dksX7_init_0 6 rfl rfl)
theorem dX7_init_9 : decode cX7_init 9 = .ok (.aload_n 0, 1) := dk_42 (dk_at dksX7_init_0 9 rfl rfl)
theorem dX7_init_10 : decode cX7_init 10 = .ok (.iload_n 2, 1) := dk_28 (dk_at dksX7_init_0 10 rfl rfl)
theorem dX7_init_11 : decode cX7_init 11 = .ok (.putfield 13, 3) := dk_181 0 13 (dk_at dksX7_init_0 11 rfl rfl)
theorem dX7_init_14 : decode cX7_init 14 = .ok (.aload_n 0, 1) := dk_42 (dk_at dksX7_init_0 14 rfl rfl)
theorem dX7_init_15 : decode cX7_init 15 = .ok (.iload_n 3, 1) := dk_29 (dk_at dksX7_init_0 15 rfl rfl)
theorem dX7_init_16 : decode cX7_init 16 = .ok (.putfield 17, 3) := dk_181 0 17 (dk_at dksX7_init_0 16 rfl rfl)
theorem dX7_init_19 : decode cX7_init 19 = .ok (.return_, 1) := dk_177 (dk_at dksX7_init_0 19 rfl rfl)
abbrev cX7_by : ByteArray := prog_5_method_2_code
def yX7_by : MethodName := ⟨RX7, "by", "(I)I"⟩
def dkwX7_by_1 : List UInt8 := [167, 0, 7, 42, 180, 0, 17, 172]
abbrev dktX7_by_1 : List UInt8 := dkwX7_by_1 ++ []
def dkwX7_by_0 : List UInt8 := [27, 154, 0, 13, 42, 180, 0, 7, 182, 0, 20, 167, 0, 19, 27, 4, 160, 0, 10, 42, 180, 0, 13]
abbrev dktX7_by_0 : List UInt8 := dkwX7_by_0 ++ dktX7_by_1
theorem dksX7_by_0 : cX7_by.data.toList.drop 0 = dktX7_by_0 := by decide +kernel
theorem dksX7_by_1 : cX7_by.data.toList.drop 23 = dktX7_by_1 := dk_seg dksX7_by_0 23 rfl rfl
theorem dX7_by_0 : decode cX7_by 0 = .ok (.iload_n 1, 1) := dk_27 (dk_at dksX7_by_0 0 rfl rfl)
theorem dX7_by_1 : decode cX7_by 1 = .ok (.ifCond .ne 13, 3) := dk_154 0 13 (dk_at dksX7_by_0 1 rfl rfl)
theorem dX7_by_4 : decode cX7_by 4 = .ok (.aload_n 0, 1) := dk_42 (dk_at dksX7_by_0 4 rfl rfl)
theorem dX7_by_5 : decode cX7_by 5 = .ok (.getfield 7, 3) := dk_180 0 7 (dk_at dksX7_by_0 5 rfl rfl)
theorem dX7_by_8 : decode cX7_by 8 = .ok (.invokevirtual 20, 3) := dk_182 0 20 (dk_at dksX7_by_0 8 rfl rfl)
theorem dX7_by_11 : decode cX7_by 11 = .ok (.goto 19, 3) := dk_167 0 19 (dk_at dksX7_by_0 11 rfl rfl)
theorem dX7_by_14 : decode cX7_by 14 = .ok (.iload_n 1, 1) := dk_27 (dk_at dksX7_by_0 14 rfl rfl)
theorem dX7_by_15 : decode cX7_by 15 = .ok (.iconst 1, 1) := dk_4 (dk_at dksX7_by_0 15 rfl rfl)
theorem dX7_by_16 : decode cX7_by 16 = .ok (.if_icmp .ne 10, 3) := dk_160 0 10 (dk_at dksX7_by_0 16 rfl rfl)
theorem dX7_by_19 : decode cX7_by 19 = .ok (.aload_n 0, 1) := dk_42 (dk_at dksX7_by_0 19 rfl rfl)
theorem dX7_by_20 : decode cX7_by 20 = .ok (.getfield 13, 3) := dk_180 0 13 (dk_at dksX7_by_0 20 rfl rfl)
theorem dX7_by_23 : decode cX7_by 23 = .ok (.goto 7, 3) := dk_167 0 7 (dk_at dksX7_by_1 0 rfl rfl)
theorem dX7_by_26 : decode cX7_by 26 = .ok (.aload_n 0, 1) := dk_42 (dk_at dksX7_by_1 3 rfl rfl)
theorem dX7_by_27 : decode cX7_by 27 = .ok (.getfield 17, 3) := dk_180 0 17 (dk_at dksX7_by_1 4 rfl rfl)
theorem dX7_by_30 : decode cX7_by 30 = .ok (.ireturn, 1) := dk_172 (dk_at dksX7_by_1 7 rfl rfl)
theorem q113 : (Jvm.Cond.initialized "TugOfWar$Puller") ∈ lw_all := lw_g (lw_at lw_m1 20 rfl) rfl
theorem q563 : (Jvm.Cond.instantiable "TugOfWar$Puller" (3 : Nat)) ∈ lw_all := lw_g (lw_at lw_m2 230 rfl) rfl
theorem q565 : (Jvm.Cond.instanceMethod ({ cls := "TugOfWar$Puller", name := "<init>", desc := "(LTugOfWar$Sort;II)V" } : Jvm.MethodName)) ∈ lw_all := lw_g (lw_at lw_m2 232 rfl) rfl
theorem q566 : (Jvm.Cond.code ({ cls := "TugOfWar$Puller", name := "<init>", desc := "(LTugOfWar$Sort;II)V" } : Jvm.MethodName) prog_5_method_1_code (4 : Nat) (Option.none : Option Jvm.ClassFile.FieldType)) ∈ lw_all := lw_g (lw_at lw_m2 233 rfl) rfl
theorem q567 : (Jvm.Cond.methodLink "TugOfWar$Puller" (1 : Nat) ({ cls := "java/lang/Object", name := "<init>", desc := "()V" } : Jvm.MethodName)) ∈ lw_all := lw_g (lw_at lw_m2 234 rfl) rfl
theorem q568 : (Jvm.Cond.fieldLink "TugOfWar$Puller" (7 : Nat) "TugOfWar$Puller" "sort" "LTugOfWar$Sort;") ∈ lw_all := lw_g (lw_at lw_m2 235 rfl) rfl
theorem q570 : (Jvm.Cond.fieldLink "TugOfWar$Puller" (13 : Nat) "TugOfWar$Puller" "weight" "I") ∈ lw_all := lw_g (lw_at lw_m2 237 rfl) rfl
theorem q572 : (Jvm.Cond.fieldLink "TugOfWar$Puller" (17 : Nat) "TugOfWar$Puller" "wind" "I") ∈ lw_all := lw_g (lw_at lw_m2 239 rfl) rfl
theorem q574 : (Jvm.Cond.lays "TugOfWar$Puller" "TugOfWar$Puller" "sort" "LTugOfWar$Sort;") ∈ lw_all := lw_g (lw_at lw_m3 1 rfl) rfl
theorem q575 : (Jvm.Cond.soleField "TugOfWar$Puller" "sort") ∈ lw_all := lw_g (lw_at lw_m3 2 rfl) rfl
theorem q576 : (Jvm.Cond.lays "TugOfWar$Puller" "TugOfWar$Puller" "weight" "I") ∈ lw_all := lw_g (lw_at lw_m3 3 rfl) rfl
theorem q577 : (Jvm.Cond.soleField "TugOfWar$Puller" "weight") ∈ lw_all := lw_g (lw_at lw_m3 4 rfl) rfl
theorem q578 : (Jvm.Cond.laysFinal "TugOfWar$Puller" "TugOfWar$Puller" "wind" "I") ∈ lw_all := lw_g (lw_at lw_m3 5 rfl) rfl
theorem q579 : (Jvm.Cond.soleField "TugOfWar$Puller" "wind") ∈ lw_all := lw_g (lw_at lw_m3 6 rfl) rfl
theorem q580 : (Jvm.Cond.superclass "TugOfWar$Puller" "java/lang/Object") ∈ lw_all := lw_g (lw_at lw_m3 7 rfl) rfl
theorem q615 : (Jvm.Cond.selects "TugOfWar$Puller" ({ cls := "java/lang/Object", name := "getClass", desc := "()Ljava/lang/Class;" } : Jvm.MethodName) ({ cls := "java/lang/Object", name := "getClass", desc := "()Ljava/lang/Class;" } : Jvm.MethodName)) ∈ lw_all := lw_g (lw_at lw_m3 42 rfl) rfl
theorem q685 : (Jvm.Cond.instanceMethod ({ cls := "TugOfWar$Puller", name := "by", desc := "(I)I" } : Jvm.MethodName)) ∈ lw_all := lw_g (lw_at lw_m3 112 rfl) rfl
theorem q686 : (Jvm.Cond.selects "TugOfWar$Puller" ({ cls := "TugOfWar$Puller", name := "by", desc := "(I)I" } : Jvm.MethodName) ({ cls := "TugOfWar$Puller", name := "by", desc := "(I)I" } : Jvm.MethodName)) ∈ lw_all := lw_g (lw_at lw_m3 113 rfl) rfl
theorem q687 : (Jvm.Cond.code ({ cls := "TugOfWar$Puller", name := "by", desc := "(I)I" } : Jvm.MethodName) prog_5_method_2_code (2 : Nat) (Option.some Jvm.ClassFile.FieldType.int)) ∈ lw_all := lw_g (lw_at lw_m3 114 rfl) rfl
theorem q688 : (Jvm.Cond.methodLink "TugOfWar$Puller" (20 : Nat) ({ cls := "TugOfWar$Sort", name := "number", desc := "()I" } : Jvm.MethodName)) ∈ lw_all := lw_g (lw_at lw_m3 115 rfl) rfl
theorem q1736 : (Jvm.Cond.castable "TugOfWar$Puller" "java/lang/Object") ∈ lw_tbl := lw_at lw_m7 203 rfl
theorem in_X7 : ∀ w ∈ wsX70, w ∈ lw_all := lw_in wsX70 [574, 576, 578] (by decide +kernel) (by decide +kernel)
/-! TugOfWar$Anchor -/
set_option maxRecDepth 100000
def RX8 : String := "TugOfWar$Anchor"
abbrev cX8_number : ByteArray := prog_2_method_2_code
def yX8_number : MethodName := ⟨RX8, "number", "()I"⟩
def dkwX8_number_0 : List UInt8 := [42, 183, 0, 7, 5, 96, 172]
abbrev dktX8_number_0 : List UInt8 := dkwX8_number_0 ++ []
theorem dksX8_number_0 : cX8_number.data.toList.drop 0 = dktX8_number_0 := by decide +kernel
theorem dX8_number_0 : decode cX8_number 0 = .ok (.aload_n 0, 1) := dk_42 (dk_at dksX8_number_0 0 rfl rfl)
theorem dX8_number_1 : decode cX8_number 1 = .ok (.invokespecial 7, 3) := dk_183 0 7 (dk_at dksX8_number_0 1 rfl rfl)
theorem dX8_number_4 : decode cX8_number 4 = .ok (.iconst 2, 1) := dk_5 (dk_at dksX8_number_0 4 rfl rfl)
theorem dX8_number_5 : decode cX8_number 5 = .ok (.iadd, 1) := dk_96 (dk_at dksX8_number_0 5 rfl rfl)
theorem dX8_number_6 : decode cX8_number 6 = .ok (.ireturn, 1) := dk_172 (dk_at dksX8_number_0 6 rfl rfl)
abbrev cX8_isAnchor : ByteArray := prog_2_method_5_code
def yX8_isAnchor : MethodName := ⟨RX8, "isAnchor", "()Z"⟩
theorem dX8_isAnchor_0 : decode cX8_isAnchor 0 = .ok (.iconst 1, 1) := by decide +kernel
theorem dX8_isAnchor_1 : decode cX8_isAnchor 1 = .ok (.ireturn, 1) := by decide +kernel
abbrev cX8_heaves : ByteArray := prog_2_method_3_code
def yX8_heaves : MethodName := ⟨RX8, "heaves", "()I"⟩
def dkwX8_heaves_0 : List UInt8 := [42, 183, 0, 11, 4, 96, 172]
abbrev dktX8_heaves_0 : List UInt8 := dkwX8_heaves_0 ++ []
theorem dksX8_heaves_0 : cX8_heaves.data.toList.drop 0 = dktX8_heaves_0 := by decide +kernel
theorem dX8_heaves_0 : decode cX8_heaves 0 = .ok (.aload_n 0, 1) := dk_42 (dk_at dksX8_heaves_0 0 rfl rfl)
theorem dX8_heaves_1 : decode cX8_heaves 1 = .ok (.invokespecial 11, 3) := dk_183 0 11 (dk_at dksX8_heaves_0 1 rfl rfl)
theorem dX8_heaves_4 : decode cX8_heaves 4 = .ok (.iconst 1, 1) := dk_4 (dk_at dksX8_heaves_0 4 rfl rfl)
theorem dX8_heaves_5 : decode cX8_heaves 5 = .ok (.iadd, 1) := dk_96 (dk_at dksX8_heaves_0 5 rfl rfl)
theorem dX8_heaves_6 : decode cX8_heaves 6 = .ok (.ireturn, 1) := dk_172 (dk_at dksX8_heaves_0 6 rfl rfl)
abbrev cX8_slides : ByteArray := prog_2_method_4_code
def yX8_slides : MethodName := ⟨RX8, "slides", "(II)I"⟩
def dkwX8_slides_0 : List UInt8 := [42, 27, 3, 183, 0, 14, 172]
abbrev dktX8_slides_0 : List UInt8 := dkwX8_slides_0 ++ []
theorem dksX8_slides_0 : cX8_slides.data.toList.drop 0 = dktX8_slides_0 := by decide +kernel
theorem dX8_slides_0 : decode cX8_slides 0 = .ok (.aload_n 0, 1) := dk_42 (dk_at dksX8_slides_0 0 rfl rfl)
theorem dX8_slides_1 : decode cX8_slides 1 = .ok (.iload_n 1, 1) := dk_27 (dk_at dksX8_slides_0 1 rfl rfl)
theorem dX8_slides_2 : decode cX8_slides 2 = .ok (.iconst 0, 1) := dk_3 (dk_at dksX8_slides_0 2 rfl rfl)
theorem dX8_slides_3 : decode cX8_slides 3 = .ok (.invokespecial 14, 3) := dk_183 0 14 (dk_at dksX8_slides_0 3 rfl rfl)
theorem dX8_slides_6 : decode cX8_slides 6 = .ok (.ireturn, 1) := dk_172 (dk_at dksX8_slides_0 6 rfl rfl)
theorem q612 : (Jvm.Cond.selects "TugOfWar$Anchor" ({ cls := "java/lang/Object", name := "getClass", desc := "()Ljava/lang/Class;" } : Jvm.MethodName) ({ cls := "java/lang/Object", name := "getClass", desc := "()Ljava/lang/Class;" } : Jvm.MethodName)) ∈ lw_all := lw_g (lw_at lw_m3 39 rfl) rfl
theorem q692 : (Jvm.Cond.selects "TugOfWar$Anchor" ({ cls := "TugOfWar$Sort", name := "number", desc := "()I" } : Jvm.MethodName) ({ cls := "TugOfWar$Anchor", name := "number", desc := "()I" } : Jvm.MethodName)) ∈ lw_all := lw_g (lw_at lw_m3 119 rfl) rfl
theorem q693 : (Jvm.Cond.instanceMethod ({ cls := "TugOfWar$Anchor", name := "number", desc := "()I" } : Jvm.MethodName)) ∈ lw_all := lw_g (lw_at lw_m3 120 rfl) rfl
theorem q694 : (Jvm.Cond.code ({ cls := "TugOfWar$Anchor", name := "number", desc := "()I" } : Jvm.MethodName) prog_2_method_2_code (1 : Nat) (Option.some Jvm.ClassFile.FieldType.int)) ∈ lw_all := lw_g (lw_at lw_m3 121 rfl) rfl
theorem q695 : (Jvm.Cond.methodLink "TugOfWar$Anchor" (7 : Nat) ({ cls := "TugOfWar$Sort", name := "number", desc := "()I" } : Jvm.MethodName)) ∈ lw_all := lw_g (lw_at lw_m3 122 rfl) rfl
theorem q696 : (Jvm.Cond.superclass "TugOfWar$Anchor" "TugOfWar$Sort") ∈ lw_all := lw_g (lw_at lw_m3 123 rfl) rfl
theorem q827 : (Jvm.Cond.selects "TugOfWar$Anchor" ({ cls := "TugOfWar$Sort", name := "isAnchor", desc := "()Z" } : Jvm.MethodName) ({ cls := "TugOfWar$Anchor", name := "isAnchor", desc := "()Z" } : Jvm.MethodName)) ∈ lw_all := lw_g (lw_at lw_m4 14 rfl) rfl
theorem q828 : (Jvm.Cond.instanceMethod ({ cls := "TugOfWar$Anchor", name := "isAnchor", desc := "()Z" } : Jvm.MethodName)) ∈ lw_all := lw_g (lw_at lw_m4 15 rfl) rfl
theorem q829 : (Jvm.Cond.code ({ cls := "TugOfWar$Anchor", name := "isAnchor", desc := "()Z" } : Jvm.MethodName) prog_2_method_5_code (1 : Nat) (Option.some Jvm.ClassFile.FieldType.boolean)) ∈ lw_all := lw_g (lw_at lw_m4 16 rfl) rfl
theorem q836 : (Jvm.Cond.selects "TugOfWar$Anchor" ({ cls := "TugOfWar$Sort", name := "gains", desc := "()I" } : Jvm.MethodName) ({ cls := "TugOfWar$Sort", name := "gains", desc := "()I" } : Jvm.MethodName)) ∈ lw_all := lw_g (lw_at lw_m4 23 rfl) rfl
theorem q850 : (Jvm.Cond.selects "TugOfWar$Anchor" ({ cls := "TugOfWar$Sort", name := "heaves", desc := "()I" } : Jvm.MethodName) ({ cls := "TugOfWar$Anchor", name := "heaves", desc := "()I" } : Jvm.MethodName)) ∈ lw_all := lw_g (lw_at lw_m4 37 rfl) rfl
theorem q851 : (Jvm.Cond.instanceMethod ({ cls := "TugOfWar$Anchor", name := "heaves", desc := "()I" } : Jvm.MethodName)) ∈ lw_all := lw_g (lw_at lw_m4 38 rfl) rfl
theorem q852 : (Jvm.Cond.code ({ cls := "TugOfWar$Anchor", name := "heaves", desc := "()I" } : Jvm.MethodName) prog_2_method_3_code (1 : Nat) (Option.some Jvm.ClassFile.FieldType.int)) ∈ lw_all := lw_g (lw_at lw_m4 39 rfl) rfl
theorem q853 : (Jvm.Cond.methodLink "TugOfWar$Anchor" (11 : Nat) ({ cls := "TugOfWar$Sort", name := "heaves", desc := "()I" } : Jvm.MethodName)) ∈ lw_all := lw_g (lw_at lw_m4 40 rfl) rfl
theorem q863 : (Jvm.Cond.selects "TugOfWar$Anchor" ({ cls := "TugOfWar$Sort", name := "slides", desc := "(II)I" } : Jvm.MethodName) ({ cls := "TugOfWar$Anchor", name := "slides", desc := "(II)I" } : Jvm.MethodName)) ∈ lw_all := lw_g (lw_at lw_m4 50 rfl) rfl
theorem q864 : (Jvm.Cond.instanceMethod ({ cls := "TugOfWar$Anchor", name := "slides", desc := "(II)I" } : Jvm.MethodName)) ∈ lw_all := lw_g (lw_at lw_m4 51 rfl) rfl
theorem q865 : (Jvm.Cond.code ({ cls := "TugOfWar$Anchor", name := "slides", desc := "(II)I" } : Jvm.MethodName) prog_2_method_4_code (3 : Nat) (Option.some Jvm.ClassFile.FieldType.int)) ∈ lw_all := lw_g (lw_at lw_m4 52 rfl) rfl
theorem q866 : (Jvm.Cond.methodLink "TugOfWar$Anchor" (14 : Nat) ({ cls := "TugOfWar$Sort", name := "slides", desc := "(II)I" } : Jvm.MethodName)) ∈ lw_all := lw_g (lw_at lw_m4 53 rfl) rfl
theorem q1721 : (Jvm.Cond.initialized "TugOfWar$Anchor") ∈ lw_all := lw_g (lw_at lw_m7 188 rfl) rfl
theorem q1735 : (Jvm.Cond.castable "TugOfWar$Anchor" "java/lang/Object") ∈ lw_tbl := lw_at lw_m7 202 rfl
/-! TugOfWar$Limber -/
set_option maxRecDepth 100000
def RX9 : String := "TugOfWar$Limber"
abbrev cX9_number : ByteArray := prog_4_method_2_code
def yX9_number : MethodName := ⟨RX9, "number", "()I"⟩
def dkwX9_number_0 : List UInt8 := [42, 183, 0, 7, 4, 96, 172]
abbrev dktX9_number_0 : List UInt8 := dkwX9_number_0 ++ []
theorem dksX9_number_0 : cX9_number.data.toList.drop 0 = dktX9_number_0 := by decide +kernel
theorem dX9_number_0 : decode cX9_number 0 = .ok (.aload_n 0, 1) := dk_42 (dk_at dksX9_number_0 0 rfl rfl)
theorem dX9_number_1 : decode cX9_number 1 = .ok (.invokespecial 7, 3) := dk_183 0 7 (dk_at dksX9_number_0 1 rfl rfl)
theorem dX9_number_4 : decode cX9_number 4 = .ok (.iconst 1, 1) := dk_4 (dk_at dksX9_number_0 4 rfl rfl)
theorem dX9_number_5 : decode cX9_number 5 = .ok (.iadd, 1) := dk_96 (dk_at dksX9_number_0 5 rfl rfl)
theorem dX9_number_6 : decode cX9_number 6 = .ok (.ireturn, 1) := dk_172 (dk_at dksX9_number_0 6 rfl rfl)
abbrev cX9_gains : ByteArray := prog_4_method_3_code
def yX9_gains : MethodName := ⟨RX9, "gains", "()I"⟩
def dkwX9_gains_0 : List UInt8 := [5, 42, 183, 0, 11, 104, 172]
abbrev dktX9_gains_0 : List UInt8 := dkwX9_gains_0 ++ []
theorem dksX9_gains_0 : cX9_gains.data.toList.drop 0 = dktX9_gains_0 := by decide +kernel
theorem dX9_gains_0 : decode cX9_gains 0 = .ok (.iconst 2, 1) := dk_5 (dk_at dksX9_gains_0 0 rfl rfl)
theorem dX9_gains_1 : decode cX9_gains 1 = .ok (.aload_n 0, 1) := dk_42 (dk_at dksX9_gains_0 1 rfl rfl)
theorem dX9_gains_2 : decode cX9_gains 2 = .ok (.invokespecial 11, 3) := dk_183 0 11 (dk_at dksX9_gains_0 2 rfl rfl)
theorem dX9_gains_5 : decode cX9_gains 5 = .ok (.imul, 1) := dk_104 (dk_at dksX9_gains_0 5 rfl rfl)
theorem dX9_gains_6 : decode cX9_gains 6 = .ok (.ireturn, 1) := dk_172 (dk_at dksX9_gains_0 6 rfl rfl)
abbrev cX9_heaves : ByteArray := prog_4_method_4_code
def yX9_heaves : MethodName := ⟨RX9, "heaves", "()I"⟩
def dkwX9_heaves_0 : List UInt8 := [42, 183, 0, 14, 4, 96, 172]
abbrev dktX9_heaves_0 : List UInt8 := dkwX9_heaves_0 ++ []
theorem dksX9_heaves_0 : cX9_heaves.data.toList.drop 0 = dktX9_heaves_0 := by decide +kernel
theorem dX9_heaves_0 : decode cX9_heaves 0 = .ok (.aload_n 0, 1) := dk_42 (dk_at dksX9_heaves_0 0 rfl rfl)
theorem dX9_heaves_1 : decode cX9_heaves 1 = .ok (.invokespecial 14, 3) := dk_183 0 14 (dk_at dksX9_heaves_0 1 rfl rfl)
theorem dX9_heaves_4 : decode cX9_heaves 4 = .ok (.iconst 1, 1) := dk_4 (dk_at dksX9_heaves_0 4 rfl rfl)
theorem dX9_heaves_5 : decode cX9_heaves 5 = .ok (.iadd, 1) := dk_96 (dk_at dksX9_heaves_0 5 rfl rfl)
theorem dX9_heaves_6 : decode cX9_heaves 6 = .ok (.ireturn, 1) := dk_172 (dk_at dksX9_heaves_0 6 rfl rfl)
theorem q614 : (Jvm.Cond.selects "TugOfWar$Limber" ({ cls := "java/lang/Object", name := "getClass", desc := "()Ljava/lang/Class;" } : Jvm.MethodName) ({ cls := "java/lang/Object", name := "getClass", desc := "()Ljava/lang/Class;" } : Jvm.MethodName)) ∈ lw_all := lw_g (lw_at lw_m3 41 rfl) rfl
theorem q698 : (Jvm.Cond.selects "TugOfWar$Limber" ({ cls := "TugOfWar$Sort", name := "number", desc := "()I" } : Jvm.MethodName) ({ cls := "TugOfWar$Limber", name := "number", desc := "()I" } : Jvm.MethodName)) ∈ lw_all := lw_g (lw_at lw_m3 125 rfl) rfl
theorem q699 : (Jvm.Cond.instanceMethod ({ cls := "TugOfWar$Limber", name := "number", desc := "()I" } : Jvm.MethodName)) ∈ lw_all := lw_g (lw_at lw_m3 126 rfl) rfl
theorem q700 : (Jvm.Cond.code ({ cls := "TugOfWar$Limber", name := "number", desc := "()I" } : Jvm.MethodName) prog_4_method_2_code (1 : Nat) (Option.some Jvm.ClassFile.FieldType.int)) ∈ lw_all := lw_g (lw_at lw_m3 127 rfl) rfl
theorem q701 : (Jvm.Cond.methodLink "TugOfWar$Limber" (7 : Nat) ({ cls := "TugOfWar$Sort", name := "number", desc := "()I" } : Jvm.MethodName)) ∈ lw_all := lw_g (lw_at lw_m3 128 rfl) rfl
theorem q702 : (Jvm.Cond.superclass "TugOfWar$Limber" "TugOfWar$Sort") ∈ lw_all := lw_g (lw_at lw_m3 129 rfl) rfl
theorem q830 : (Jvm.Cond.selects "TugOfWar$Limber" ({ cls := "TugOfWar$Sort", name := "isAnchor", desc := "()Z" } : Jvm.MethodName) ({ cls := "TugOfWar$Sort", name := "isAnchor", desc := "()Z" } : Jvm.MethodName)) ∈ lw_all := lw_g (lw_at lw_m4 17 rfl) rfl
theorem q837 : (Jvm.Cond.selects "TugOfWar$Limber" ({ cls := "TugOfWar$Sort", name := "gains", desc := "()I" } : Jvm.MethodName) ({ cls := "TugOfWar$Limber", name := "gains", desc := "()I" } : Jvm.MethodName)) ∈ lw_all := lw_g (lw_at lw_m4 24 rfl) rfl
theorem q838 : (Jvm.Cond.instanceMethod ({ cls := "TugOfWar$Limber", name := "gains", desc := "()I" } : Jvm.MethodName)) ∈ lw_all := lw_g (lw_at lw_m4 25 rfl) rfl
theorem q839 : (Jvm.Cond.code ({ cls := "TugOfWar$Limber", name := "gains", desc := "()I" } : Jvm.MethodName) prog_4_method_3_code (1 : Nat) (Option.some Jvm.ClassFile.FieldType.int)) ∈ lw_all := lw_g (lw_at lw_m4 26 rfl) rfl
theorem q840 : (Jvm.Cond.methodLink "TugOfWar$Limber" (11 : Nat) ({ cls := "TugOfWar$Sort", name := "gains", desc := "()I" } : Jvm.MethodName)) ∈ lw_all := lw_g (lw_at lw_m4 27 rfl) rfl
theorem q855 : (Jvm.Cond.selects "TugOfWar$Limber" ({ cls := "TugOfWar$Sort", name := "heaves", desc := "()I" } : Jvm.MethodName) ({ cls := "TugOfWar$Limber", name := "heaves", desc := "()I" } : Jvm.MethodName)) ∈ lw_all := lw_g (lw_at lw_m4 42 rfl) rfl
theorem q856 : (Jvm.Cond.instanceMethod ({ cls := "TugOfWar$Limber", name := "heaves", desc := "()I" } : Jvm.MethodName)) ∈ lw_all := lw_g (lw_at lw_m4 43 rfl) rfl
theorem q857 : (Jvm.Cond.code ({ cls := "TugOfWar$Limber", name := "heaves", desc := "()I" } : Jvm.MethodName) prog_4_method_4_code (1 : Nat) (Option.some Jvm.ClassFile.FieldType.int)) ∈ lw_all := lw_g (lw_at lw_m4 44 rfl) rfl
theorem q858 : (Jvm.Cond.methodLink "TugOfWar$Limber" (14 : Nat) ({ cls := "TugOfWar$Sort", name := "heaves", desc := "()I" } : Jvm.MethodName)) ∈ lw_all := lw_g (lw_at lw_m4 45 rfl) rfl
theorem q869 : (Jvm.Cond.selects "TugOfWar$Limber" ({ cls := "TugOfWar$Sort", name := "slides", desc := "(II)I" } : Jvm.MethodName) ({ cls := "TugOfWar$Sort", name := "slides", desc := "(II)I" } : Jvm.MethodName)) ∈ lw_all := lw_g (lw_at lw_m4 56 rfl) rfl
theorem q1723 : (Jvm.Cond.initialized "TugOfWar$Limber") ∈ lw_all := lw_g (lw_at lw_m7 190 rfl) rfl
theorem q1734 : (Jvm.Cond.castable "TugOfWar$Limber" "java/lang/Object") ∈ lw_tbl := lw_at lw_m7 201 rfl
