/-! DECODE ROWS BY BYTES: one lemma an opcode; a method's code is cut into short pieces once, and a row reads its own piece alone. -/
set_option maxRecDepth 100000
/-- the code has just these bytes from pc on -/
def DkAt (code : ByteArray) (pc : Nat) (bs : List UInt8) : Prop := ∀ (j : Nat) (b : UInt8), bs[j]? = some b → code.data.toList[pc + j]? = some b
/-- the piece W has the bytes bs from its place j on -/
def dkIn (W : List UInt8) (j : Nat) (bs : List UInt8) : Bool := decide ((W.drop j).take bs.length = bs)
theorem dk_seg {l W T : List UInt8} {o o2 : Nat} (h : l.drop o = W ++ T) (n : Nat) (hn : W.length = n) (ho : o + n = o2) : l.drop o2 = T := by
  subst ho
  rw [← List.drop_drop, h, List.drop_left' hn]
theorem dk_at {code : ByteArray} {W T bs : List UInt8} {o pc : Nat} (h : code.data.toList.drop o = W ++ T) (j : Nat) (hp : o + j = pc) (hw : dkIn W j bs = true) : DkAt code pc bs := by
  subst hp
  intro i b e
  have h1 := of_decide_eq_true hw
  have h2 : i < bs.length := (List.getElem?_eq_some_iff.mp e).1
  have h3 : W[j + i]? = some b := by
    rw [← h1, List.getElem?_take, if_pos h2, List.getElem?_drop] at e
    exact e
  have h4 : j + i < W.length := (List.getElem?_eq_some_iff.mp h3).1
  have h5 : (code.data.toList.drop o)[j + i]? = some b := by
    rw [h, List.getElem?_append_left h4]
    exact h3
  rw [List.getElem?_drop, ← Nat.add_assoc] at h5
  exact h5
theorem dk_u1 {A : ByteArray} {p : Nat} {b : UInt8} (h : A.data.toList[p]? = some b) : (Reader.u1 : Reader DecodeError Nat) A p = .ok (b.toNat, p + 1) := by
  obtain ⟨h1, h2⟩ := List.getElem?_eq_some_iff.mp h
  have h3 : p < A.size := by simpa using h1
  have h4 : A[p]'h3 = b := h2
  have e : (Reader.u1 : Reader DecodeError Nat) A p = (if h : p < A.size then .ok (A[p].toNat, p + 1) else .error (HasTruncated.truncated p)) := by
    show (do if h : p < A.size then do set (p + 1); Pure.pure A[p].toNat else MonadExcept.throw (HasTruncated.truncated p) : Reader DecodeError Nat) A p = _
    by_cases hi : p < A.size
    · rw [dif_pos hi, dif_pos hi]; rfl
    · rw [dif_neg hi, dif_neg hi]; rfl
  rw [e, dif_pos h3, h4]
theorem dk_bind {α β : Type} {r : Reader DecodeError α} {f : α → Reader DecodeError β} {A : ByteArray} {p s : Nat} {a : α} (h : r A p = .ok (a, s)) : (r >>= f) A p = f a A s := by
  show (do let (a, s) ← r A p; f a A s : Except DecodeError (β × Nat)) = _
  rw [h]
  rfl
theorem dk_map {α β : Type} {r : Reader DecodeError α} {g : α → β} {A : ByteArray} {p s : Nat} {a : α} (h : r A p = .ok (a, s)) : (g <$> r) A p = .ok (g a, s) := by
  show (do let (a, s) ← r A p; .ok (g a, s) : Except DecodeError (β × Nat)) = _
  rw [h]
  rfl
theorem dk_u2 {A : ByteArray} {p : Nat} {a b : UInt8} (h : A.data.toList[p]? = some a) (h2 : A.data.toList[p + 1]? = some b) : (Reader.u2 : Reader DecodeError Nat) A p = .ok (a.toNat * 256 + b.toNat, p + 2) := by
  show (Reader.u1 >>= fun hi => Reader.u1 >>= fun lo => Pure.pure (hi * 256 + lo) : Reader DecodeError Nat) A p = _
  rw [dk_bind (dk_u1 h), dk_bind (dk_u1 h2)]
  rfl
theorem dk_of {code : ByteArray} {pc n : Nat} {i : Instr} (h : Decoder.instr pc code pc = .ok (i, pc + n)) : decode code pc = .ok (i, n) := by
  have e : decode code pc = (match Decoder.instr pc code pc with | .error x => .error x | .ok (j, s) => .ok (j, s - pc)) := by
    show (do let (j, s) ← Decoder.instr pc code pc; Pure.pure (j, s - pc) : Except DecodeError (Instr × Nat)) = _
    cases Decoder.instr pc code pc <;> rfl
  rw [e, h]
  show Except.ok (i, pc + n - pc) = _
  rw [Nat.add_sub_cancel_left]
theorem dk_1 {code : ByteArray} {pc : Nat} (h : DkAt code pc [1]) : decode code pc = .ok (.aconst_null, 1) := dk_of ((dk_bind (dk_u1 (h 0 _ rfl))).trans rfl)
theorem dk_2 {code : ByteArray} {pc : Nat} (h : DkAt code pc [2]) : decode code pc = .ok (.iconst (-1), 1) := dk_of ((dk_bind (dk_u1 (h 0 _ rfl))).trans rfl)
theorem dk_3 {code : ByteArray} {pc : Nat} (h : DkAt code pc [3]) : decode code pc = .ok (.iconst 0, 1) := dk_of ((dk_bind (dk_u1 (h 0 _ rfl))).trans rfl)
theorem dk_4 {code : ByteArray} {pc : Nat} (h : DkAt code pc [4]) : decode code pc = .ok (.iconst 1, 1) := dk_of ((dk_bind (dk_u1 (h 0 _ rfl))).trans rfl)
theorem dk_5 {code : ByteArray} {pc : Nat} (h : DkAt code pc [5]) : decode code pc = .ok (.iconst 2, 1) := dk_of ((dk_bind (dk_u1 (h 0 _ rfl))).trans rfl)
theorem dk_6 {code : ByteArray} {pc : Nat} (h : DkAt code pc [6]) : decode code pc = .ok (.iconst 3, 1) := dk_of ((dk_bind (dk_u1 (h 0 _ rfl))).trans rfl)
theorem dk_7 {code : ByteArray} {pc : Nat} (h : DkAt code pc [7]) : decode code pc = .ok (.iconst 4, 1) := dk_of ((dk_bind (dk_u1 (h 0 _ rfl))).trans rfl)
theorem dk_8 {code : ByteArray} {pc : Nat} (h : DkAt code pc [8]) : decode code pc = .ok (.iconst 5, 1) := dk_of ((dk_bind (dk_u1 (h 0 _ rfl))).trans rfl)
theorem dk_9 {code : ByteArray} {pc : Nat} (h : DkAt code pc [9]) : decode code pc = .ok (.lconst 0, 1) := dk_of ((dk_bind (dk_u1 (h 0 _ rfl))).trans rfl)
theorem dk_10 {code : ByteArray} {pc : Nat} (h : DkAt code pc [10]) : decode code pc = .ok (.lconst 1, 1) := dk_of ((dk_bind (dk_u1 (h 0 _ rfl))).trans rfl)
theorem dk_16 {code : ByteArray} {pc : Nat} (a : UInt8) (h : DkAt code pc [16, a]) : decode code pc = .ok (.bipush (Reader.signed 8 a.toNat), 2) := dk_of ((dk_bind (dk_u1 (h 0 _ rfl))).trans ((dk_bind (dk_map (dk_u1 (h 1 _ rfl)))).trans rfl))
theorem dk_17 {code : ByteArray} {pc : Nat} (a b : UInt8) (h : DkAt code pc [17, a, b]) : decode code pc = .ok (.sipush (Reader.signed 16 (a.toNat * 256 + b.toNat)), 3) := dk_of ((dk_bind (dk_u1 (h 0 _ rfl))).trans ((dk_bind (dk_map (dk_u2 (h 1 _ rfl) (h 2 _ rfl)))).trans rfl))
theorem dk_18 {code : ByteArray} {pc : Nat} (a : UInt8) (h : DkAt code pc [18, a]) : decode code pc = .ok (.ldc a.toNat, 2) := dk_of ((dk_bind (dk_u1 (h 0 _ rfl))).trans ((dk_bind (dk_u1 (h 1 _ rfl))).trans rfl))
theorem dk_19 {code : ByteArray} {pc : Nat} (a b : UInt8) (h : DkAt code pc [19, a, b]) : decode code pc = .ok (.ldc_w (a.toNat * 256 + b.toNat), 3) := dk_of ((dk_bind (dk_u1 (h 0 _ rfl))).trans ((dk_bind (dk_u2 (h 1 _ rfl) (h 2 _ rfl))).trans rfl))
theorem dk_20 {code : ByteArray} {pc : Nat} (a b : UInt8) (h : DkAt code pc [20, a, b]) : decode code pc = .ok (.ldc2_w (a.toNat * 256 + b.toNat), 3) := dk_of ((dk_bind (dk_u1 (h 0 _ rfl))).trans ((dk_bind (dk_u2 (h 1 _ rfl) (h 2 _ rfl))).trans rfl))
theorem dk_21 {code : ByteArray} {pc : Nat} (a : UInt8) (h : DkAt code pc [21, a]) : decode code pc = .ok (.iload a.toNat, 2) := dk_of ((dk_bind (dk_u1 (h 0 _ rfl))).trans ((dk_bind (dk_u1 (h 1 _ rfl))).trans rfl))
theorem dk_22 {code : ByteArray} {pc : Nat} (a : UInt8) (h : DkAt code pc [22, a]) : decode code pc = .ok (.lload a.toNat, 2) := dk_of ((dk_bind (dk_u1 (h 0 _ rfl))).trans ((dk_bind (dk_u1 (h 1 _ rfl))).trans rfl))
theorem dk_25 {code : ByteArray} {pc : Nat} (a : UInt8) (h : DkAt code pc [25, a]) : decode code pc = .ok (.aload a.toNat, 2) := dk_of ((dk_bind (dk_u1 (h 0 _ rfl))).trans ((dk_bind (dk_u1 (h 1 _ rfl))).trans rfl))
theorem dk_26 {code : ByteArray} {pc : Nat} (h : DkAt code pc [26]) : decode code pc = .ok (.iload_n 0, 1) := dk_of ((dk_bind (dk_u1 (h 0 _ rfl))).trans rfl)
theorem dk_27 {code : ByteArray} {pc : Nat} (h : DkAt code pc [27]) : decode code pc = .ok (.iload_n 1, 1) := dk_of ((dk_bind (dk_u1 (h 0 _ rfl))).trans rfl)
theorem dk_28 {code : ByteArray} {pc : Nat} (h : DkAt code pc [28]) : decode code pc = .ok (.iload_n 2, 1) := dk_of ((dk_bind (dk_u1 (h 0 _ rfl))).trans rfl)
theorem dk_29 {code : ByteArray} {pc : Nat} (h : DkAt code pc [29]) : decode code pc = .ok (.iload_n 3, 1) := dk_of ((dk_bind (dk_u1 (h 0 _ rfl))).trans rfl)
theorem dk_30 {code : ByteArray} {pc : Nat} (h : DkAt code pc [30]) : decode code pc = .ok (.lload_n 0, 1) := dk_of ((dk_bind (dk_u1 (h 0 _ rfl))).trans rfl)
theorem dk_32 {code : ByteArray} {pc : Nat} (h : DkAt code pc [32]) : decode code pc = .ok (.lload_n 2, 1) := dk_of ((dk_bind (dk_u1 (h 0 _ rfl))).trans rfl)
theorem dk_33 {code : ByteArray} {pc : Nat} (h : DkAt code pc [33]) : decode code pc = .ok (.lload_n 3, 1) := dk_of ((dk_bind (dk_u1 (h 0 _ rfl))).trans rfl)
theorem dk_42 {code : ByteArray} {pc : Nat} (h : DkAt code pc [42]) : decode code pc = .ok (.aload_n 0, 1) := dk_of ((dk_bind (dk_u1 (h 0 _ rfl))).trans rfl)
theorem dk_43 {code : ByteArray} {pc : Nat} (h : DkAt code pc [43]) : decode code pc = .ok (.aload_n 1, 1) := dk_of ((dk_bind (dk_u1 (h 0 _ rfl))).trans rfl)
theorem dk_44 {code : ByteArray} {pc : Nat} (h : DkAt code pc [44]) : decode code pc = .ok (.aload_n 2, 1) := dk_of ((dk_bind (dk_u1 (h 0 _ rfl))).trans rfl)
theorem dk_45 {code : ByteArray} {pc : Nat} (h : DkAt code pc [45]) : decode code pc = .ok (.aload_n 3, 1) := dk_of ((dk_bind (dk_u1 (h 0 _ rfl))).trans rfl)
theorem dk_46 {code : ByteArray} {pc : Nat} (h : DkAt code pc [46]) : decode code pc = .ok (.iaload, 1) := dk_of ((dk_bind (dk_u1 (h 0 _ rfl))).trans rfl)
theorem dk_47 {code : ByteArray} {pc : Nat} (h : DkAt code pc [47]) : decode code pc = .ok (.laload, 1) := dk_of ((dk_bind (dk_u1 (h 0 _ rfl))).trans rfl)
theorem dk_50 {code : ByteArray} {pc : Nat} (h : DkAt code pc [50]) : decode code pc = .ok (.aaload, 1) := dk_of ((dk_bind (dk_u1 (h 0 _ rfl))).trans rfl)
theorem dk_51 {code : ByteArray} {pc : Nat} (h : DkAt code pc [51]) : decode code pc = .ok (.baload, 1) := dk_of ((dk_bind (dk_u1 (h 0 _ rfl))).trans rfl)
theorem dk_53 {code : ByteArray} {pc : Nat} (h : DkAt code pc [53]) : decode code pc = .ok (.saload, 1) := dk_of ((dk_bind (dk_u1 (h 0 _ rfl))).trans rfl)
theorem dk_54 {code : ByteArray} {pc : Nat} (a : UInt8) (h : DkAt code pc [54, a]) : decode code pc = .ok (.istore a.toNat, 2) := dk_of ((dk_bind (dk_u1 (h 0 _ rfl))).trans ((dk_bind (dk_u1 (h 1 _ rfl))).trans rfl))
theorem dk_58 {code : ByteArray} {pc : Nat} (a : UInt8) (h : DkAt code pc [58, a]) : decode code pc = .ok (.astore a.toNat, 2) := dk_of ((dk_bind (dk_u1 (h 0 _ rfl))).trans ((dk_bind (dk_u1 (h 1 _ rfl))).trans rfl))
theorem dk_59 {code : ByteArray} {pc : Nat} (h : DkAt code pc [59]) : decode code pc = .ok (.istore_n 0, 1) := dk_of ((dk_bind (dk_u1 (h 0 _ rfl))).trans rfl)
theorem dk_60 {code : ByteArray} {pc : Nat} (h : DkAt code pc [60]) : decode code pc = .ok (.istore_n 1, 1) := dk_of ((dk_bind (dk_u1 (h 0 _ rfl))).trans rfl)
theorem dk_61 {code : ByteArray} {pc : Nat} (h : DkAt code pc [61]) : decode code pc = .ok (.istore_n 2, 1) := dk_of ((dk_bind (dk_u1 (h 0 _ rfl))).trans rfl)
theorem dk_62 {code : ByteArray} {pc : Nat} (h : DkAt code pc [62]) : decode code pc = .ok (.istore_n 3, 1) := dk_of ((dk_bind (dk_u1 (h 0 _ rfl))).trans rfl)
theorem dk_76 {code : ByteArray} {pc : Nat} (h : DkAt code pc [76]) : decode code pc = .ok (.astore_n 1, 1) := dk_of ((dk_bind (dk_u1 (h 0 _ rfl))).trans rfl)
theorem dk_77 {code : ByteArray} {pc : Nat} (h : DkAt code pc [77]) : decode code pc = .ok (.astore_n 2, 1) := dk_of ((dk_bind (dk_u1 (h 0 _ rfl))).trans rfl)
theorem dk_78 {code : ByteArray} {pc : Nat} (h : DkAt code pc [78]) : decode code pc = .ok (.astore_n 3, 1) := dk_of ((dk_bind (dk_u1 (h 0 _ rfl))).trans rfl)
theorem dk_79 {code : ByteArray} {pc : Nat} (h : DkAt code pc [79]) : decode code pc = .ok (.iastore, 1) := dk_of ((dk_bind (dk_u1 (h 0 _ rfl))).trans rfl)
theorem dk_80 {code : ByteArray} {pc : Nat} (h : DkAt code pc [80]) : decode code pc = .ok (.lastore, 1) := dk_of ((dk_bind (dk_u1 (h 0 _ rfl))).trans rfl)
theorem dk_83 {code : ByteArray} {pc : Nat} (h : DkAt code pc [83]) : decode code pc = .ok (.aastore, 1) := dk_of ((dk_bind (dk_u1 (h 0 _ rfl))).trans rfl)
theorem dk_84 {code : ByteArray} {pc : Nat} (h : DkAt code pc [84]) : decode code pc = .ok (.bastore, 1) := dk_of ((dk_bind (dk_u1 (h 0 _ rfl))).trans rfl)
theorem dk_86 {code : ByteArray} {pc : Nat} (h : DkAt code pc [86]) : decode code pc = .ok (.sastore, 1) := dk_of ((dk_bind (dk_u1 (h 0 _ rfl))).trans rfl)
theorem dk_87 {code : ByteArray} {pc : Nat} (h : DkAt code pc [87]) : decode code pc = .ok (.pop, 1) := dk_of ((dk_bind (dk_u1 (h 0 _ rfl))).trans rfl)
theorem dk_89 {code : ByteArray} {pc : Nat} (h : DkAt code pc [89]) : decode code pc = .ok (.dup, 1) := dk_of ((dk_bind (dk_u1 (h 0 _ rfl))).trans rfl)
theorem dk_90 {code : ByteArray} {pc : Nat} (h : DkAt code pc [90]) : decode code pc = .ok (.dup_x1, 1) := dk_of ((dk_bind (dk_u1 (h 0 _ rfl))).trans rfl)
theorem dk_92 {code : ByteArray} {pc : Nat} (h : DkAt code pc [92]) : decode code pc = .ok (.dup2, 1) := dk_of ((dk_bind (dk_u1 (h 0 _ rfl))).trans rfl)
theorem dk_96 {code : ByteArray} {pc : Nat} (h : DkAt code pc [96]) : decode code pc = .ok (.iadd, 1) := dk_of ((dk_bind (dk_u1 (h 0 _ rfl))).trans rfl)
theorem dk_97 {code : ByteArray} {pc : Nat} (h : DkAt code pc [97]) : decode code pc = .ok (.ladd, 1) := dk_of ((dk_bind (dk_u1 (h 0 _ rfl))).trans rfl)
theorem dk_100 {code : ByteArray} {pc : Nat} (h : DkAt code pc [100]) : decode code pc = .ok (.isub, 1) := dk_of ((dk_bind (dk_u1 (h 0 _ rfl))).trans rfl)
theorem dk_104 {code : ByteArray} {pc : Nat} (h : DkAt code pc [104]) : decode code pc = .ok (.imul, 1) := dk_of ((dk_bind (dk_u1 (h 0 _ rfl))).trans rfl)
theorem dk_108 {code : ByteArray} {pc : Nat} (h : DkAt code pc [108]) : decode code pc = .ok (.idiv, 1) := dk_of ((dk_bind (dk_u1 (h 0 _ rfl))).trans rfl)
theorem dk_112 {code : ByteArray} {pc : Nat} (h : DkAt code pc [112]) : decode code pc = .ok (.irem, 1) := dk_of ((dk_bind (dk_u1 (h 0 _ rfl))).trans rfl)
theorem dk_116 {code : ByteArray} {pc : Nat} (h : DkAt code pc [116]) : decode code pc = .ok (.ineg, 1) := dk_of ((dk_bind (dk_u1 (h 0 _ rfl))).trans rfl)
theorem dk_120 {code : ByteArray} {pc : Nat} (h : DkAt code pc [120]) : decode code pc = .ok (.ishl, 1) := dk_of ((dk_bind (dk_u1 (h 0 _ rfl))).trans rfl)
theorem dk_121 {code : ByteArray} {pc : Nat} (h : DkAt code pc [121]) : decode code pc = .ok (.lshl, 1) := dk_of ((dk_bind (dk_u1 (h 0 _ rfl))).trans rfl)
theorem dk_122 {code : ByteArray} {pc : Nat} (h : DkAt code pc [122]) : decode code pc = .ok (.ishr, 1) := dk_of ((dk_bind (dk_u1 (h 0 _ rfl))).trans rfl)
theorem dk_124 {code : ByteArray} {pc : Nat} (h : DkAt code pc [124]) : decode code pc = .ok (.iushr, 1) := dk_of ((dk_bind (dk_u1 (h 0 _ rfl))).trans rfl)
theorem dk_126 {code : ByteArray} {pc : Nat} (h : DkAt code pc [126]) : decode code pc = .ok (.iand, 1) := dk_of ((dk_bind (dk_u1 (h 0 _ rfl))).trans rfl)
theorem dk_127 {code : ByteArray} {pc : Nat} (h : DkAt code pc [127]) : decode code pc = .ok (.land, 1) := dk_of ((dk_bind (dk_u1 (h 0 _ rfl))).trans rfl)
theorem dk_128 {code : ByteArray} {pc : Nat} (h : DkAt code pc [128]) : decode code pc = .ok (.ior, 1) := dk_of ((dk_bind (dk_u1 (h 0 _ rfl))).trans rfl)
theorem dk_129 {code : ByteArray} {pc : Nat} (h : DkAt code pc [129]) : decode code pc = .ok (.lor, 1) := dk_of ((dk_bind (dk_u1 (h 0 _ rfl))).trans rfl)
theorem dk_130 {code : ByteArray} {pc : Nat} (h : DkAt code pc [130]) : decode code pc = .ok (.ixor, 1) := dk_of ((dk_bind (dk_u1 (h 0 _ rfl))).trans rfl)
theorem dk_132 {code : ByteArray} {pc : Nat} (a b : UInt8) (h : DkAt code pc [132, a, b]) : decode code pc = .ok (.iinc a.toNat (Reader.signed 8 b.toNat), 3) := dk_of ((dk_bind (dk_u1 (h 0 _ rfl))).trans ((dk_bind (dk_u1 (h 1 _ rfl))).trans ((dk_bind (dk_map (dk_u1 (h 2 _ rfl)))).trans rfl)))
theorem dk_133 {code : ByteArray} {pc : Nat} (h : DkAt code pc [133]) : decode code pc = .ok (.i2l, 1) := dk_of ((dk_bind (dk_u1 (h 0 _ rfl))).trans rfl)
theorem dk_136 {code : ByteArray} {pc : Nat} (h : DkAt code pc [136]) : decode code pc = .ok (.l2i, 1) := dk_of ((dk_bind (dk_u1 (h 0 _ rfl))).trans rfl)
theorem dk_145 {code : ByteArray} {pc : Nat} (h : DkAt code pc [145]) : decode code pc = .ok (.i2b, 1) := dk_of ((dk_bind (dk_u1 (h 0 _ rfl))).trans rfl)
theorem dk_146 {code : ByteArray} {pc : Nat} (h : DkAt code pc [146]) : decode code pc = .ok (.i2c, 1) := dk_of ((dk_bind (dk_u1 (h 0 _ rfl))).trans rfl)
theorem dk_147 {code : ByteArray} {pc : Nat} (h : DkAt code pc [147]) : decode code pc = .ok (.i2s, 1) := dk_of ((dk_bind (dk_u1 (h 0 _ rfl))).trans rfl)
theorem dk_148 {code : ByteArray} {pc : Nat} (h : DkAt code pc [148]) : decode code pc = .ok (.lcmp, 1) := dk_of ((dk_bind (dk_u1 (h 0 _ rfl))).trans rfl)
theorem dk_153 {code : ByteArray} {pc : Nat} (a b : UInt8) (h : DkAt code pc [153, a, b]) : decode code pc = .ok (.ifCond .eq (Reader.signed 16 (a.toNat * 256 + b.toNat)), 3) := dk_of ((dk_bind (dk_u1 (h 0 _ rfl))).trans ((dk_bind (dk_map (dk_u2 (h 1 _ rfl) (h 2 _ rfl)))).trans rfl))
theorem dk_154 {code : ByteArray} {pc : Nat} (a b : UInt8) (h : DkAt code pc [154, a, b]) : decode code pc = .ok (.ifCond .ne (Reader.signed 16 (a.toNat * 256 + b.toNat)), 3) := dk_of ((dk_bind (dk_u1 (h 0 _ rfl))).trans ((dk_bind (dk_map (dk_u2 (h 1 _ rfl) (h 2 _ rfl)))).trans rfl))
theorem dk_155 {code : ByteArray} {pc : Nat} (a b : UInt8) (h : DkAt code pc [155, a, b]) : decode code pc = .ok (.ifCond .lt (Reader.signed 16 (a.toNat * 256 + b.toNat)), 3) := dk_of ((dk_bind (dk_u1 (h 0 _ rfl))).trans ((dk_bind (dk_map (dk_u2 (h 1 _ rfl) (h 2 _ rfl)))).trans rfl))
theorem dk_156 {code : ByteArray} {pc : Nat} (a b : UInt8) (h : DkAt code pc [156, a, b]) : decode code pc = .ok (.ifCond .ge (Reader.signed 16 (a.toNat * 256 + b.toNat)), 3) := dk_of ((dk_bind (dk_u1 (h 0 _ rfl))).trans ((dk_bind (dk_map (dk_u2 (h 1 _ rfl) (h 2 _ rfl)))).trans rfl))
theorem dk_157 {code : ByteArray} {pc : Nat} (a b : UInt8) (h : DkAt code pc [157, a, b]) : decode code pc = .ok (.ifCond .gt (Reader.signed 16 (a.toNat * 256 + b.toNat)), 3) := dk_of ((dk_bind (dk_u1 (h 0 _ rfl))).trans ((dk_bind (dk_map (dk_u2 (h 1 _ rfl) (h 2 _ rfl)))).trans rfl))
theorem dk_158 {code : ByteArray} {pc : Nat} (a b : UInt8) (h : DkAt code pc [158, a, b]) : decode code pc = .ok (.ifCond .le (Reader.signed 16 (a.toNat * 256 + b.toNat)), 3) := dk_of ((dk_bind (dk_u1 (h 0 _ rfl))).trans ((dk_bind (dk_map (dk_u2 (h 1 _ rfl) (h 2 _ rfl)))).trans rfl))
theorem dk_159 {code : ByteArray} {pc : Nat} (a b : UInt8) (h : DkAt code pc [159, a, b]) : decode code pc = .ok (.if_icmp .eq (Reader.signed 16 (a.toNat * 256 + b.toNat)), 3) := dk_of ((dk_bind (dk_u1 (h 0 _ rfl))).trans ((dk_bind (dk_map (dk_u2 (h 1 _ rfl) (h 2 _ rfl)))).trans rfl))
theorem dk_160 {code : ByteArray} {pc : Nat} (a b : UInt8) (h : DkAt code pc [160, a, b]) : decode code pc = .ok (.if_icmp .ne (Reader.signed 16 (a.toNat * 256 + b.toNat)), 3) := dk_of ((dk_bind (dk_u1 (h 0 _ rfl))).trans ((dk_bind (dk_map (dk_u2 (h 1 _ rfl) (h 2 _ rfl)))).trans rfl))
theorem dk_161 {code : ByteArray} {pc : Nat} (a b : UInt8) (h : DkAt code pc [161, a, b]) : decode code pc = .ok (.if_icmp .lt (Reader.signed 16 (a.toNat * 256 + b.toNat)), 3) := dk_of ((dk_bind (dk_u1 (h 0 _ rfl))).trans ((dk_bind (dk_map (dk_u2 (h 1 _ rfl) (h 2 _ rfl)))).trans rfl))
theorem dk_162 {code : ByteArray} {pc : Nat} (a b : UInt8) (h : DkAt code pc [162, a, b]) : decode code pc = .ok (.if_icmp .ge (Reader.signed 16 (a.toNat * 256 + b.toNat)), 3) := dk_of ((dk_bind (dk_u1 (h 0 _ rfl))).trans ((dk_bind (dk_map (dk_u2 (h 1 _ rfl) (h 2 _ rfl)))).trans rfl))
theorem dk_163 {code : ByteArray} {pc : Nat} (a b : UInt8) (h : DkAt code pc [163, a, b]) : decode code pc = .ok (.if_icmp .gt (Reader.signed 16 (a.toNat * 256 + b.toNat)), 3) := dk_of ((dk_bind (dk_u1 (h 0 _ rfl))).trans ((dk_bind (dk_map (dk_u2 (h 1 _ rfl) (h 2 _ rfl)))).trans rfl))
theorem dk_164 {code : ByteArray} {pc : Nat} (a b : UInt8) (h : DkAt code pc [164, a, b]) : decode code pc = .ok (.if_icmp .le (Reader.signed 16 (a.toNat * 256 + b.toNat)), 3) := dk_of ((dk_bind (dk_u1 (h 0 _ rfl))).trans ((dk_bind (dk_map (dk_u2 (h 1 _ rfl) (h 2 _ rfl)))).trans rfl))
theorem dk_167 {code : ByteArray} {pc : Nat} (a b : UInt8) (h : DkAt code pc [167, a, b]) : decode code pc = .ok (.goto (Reader.signed 16 (a.toNat * 256 + b.toNat)), 3) := dk_of ((dk_bind (dk_u1 (h 0 _ rfl))).trans ((dk_bind (dk_map (dk_u2 (h 1 _ rfl) (h 2 _ rfl)))).trans rfl))
theorem dk_172 {code : ByteArray} {pc : Nat} (h : DkAt code pc [172]) : decode code pc = .ok (.ireturn, 1) := dk_of ((dk_bind (dk_u1 (h 0 _ rfl))).trans rfl)
theorem dk_173 {code : ByteArray} {pc : Nat} (h : DkAt code pc [173]) : decode code pc = .ok (.lreturn, 1) := dk_of ((dk_bind (dk_u1 (h 0 _ rfl))).trans rfl)
theorem dk_176 {code : ByteArray} {pc : Nat} (h : DkAt code pc [176]) : decode code pc = .ok (.areturn, 1) := dk_of ((dk_bind (dk_u1 (h 0 _ rfl))).trans rfl)
theorem dk_177 {code : ByteArray} {pc : Nat} (h : DkAt code pc [177]) : decode code pc = .ok (.return_, 1) := dk_of ((dk_bind (dk_u1 (h 0 _ rfl))).trans rfl)
theorem dk_178 {code : ByteArray} {pc : Nat} (a b : UInt8) (h : DkAt code pc [178, a, b]) : decode code pc = .ok (.getstatic (a.toNat * 256 + b.toNat), 3) := dk_of ((dk_bind (dk_u1 (h 0 _ rfl))).trans ((dk_bind (dk_u2 (h 1 _ rfl) (h 2 _ rfl))).trans rfl))
theorem dk_180 {code : ByteArray} {pc : Nat} (a b : UInt8) (h : DkAt code pc [180, a, b]) : decode code pc = .ok (.getfield (a.toNat * 256 + b.toNat), 3) := dk_of ((dk_bind (dk_u1 (h 0 _ rfl))).trans ((dk_bind (dk_u2 (h 1 _ rfl) (h 2 _ rfl))).trans rfl))
theorem dk_181 {code : ByteArray} {pc : Nat} (a b : UInt8) (h : DkAt code pc [181, a, b]) : decode code pc = .ok (.putfield (a.toNat * 256 + b.toNat), 3) := dk_of ((dk_bind (dk_u1 (h 0 _ rfl))).trans ((dk_bind (dk_u2 (h 1 _ rfl) (h 2 _ rfl))).trans rfl))
theorem dk_182 {code : ByteArray} {pc : Nat} (a b : UInt8) (h : DkAt code pc [182, a, b]) : decode code pc = .ok (.invokevirtual (a.toNat * 256 + b.toNat), 3) := dk_of ((dk_bind (dk_u1 (h 0 _ rfl))).trans ((dk_bind (dk_u2 (h 1 _ rfl) (h 2 _ rfl))).trans rfl))
theorem dk_183 {code : ByteArray} {pc : Nat} (a b : UInt8) (h : DkAt code pc [183, a, b]) : decode code pc = .ok (.invokespecial (a.toNat * 256 + b.toNat), 3) := dk_of ((dk_bind (dk_u1 (h 0 _ rfl))).trans ((dk_bind (dk_u2 (h 1 _ rfl) (h 2 _ rfl))).trans rfl))
theorem dk_184 {code : ByteArray} {pc : Nat} (a b : UInt8) (h : DkAt code pc [184, a, b]) : decode code pc = .ok (.invokestatic (a.toNat * 256 + b.toNat), 3) := dk_of ((dk_bind (dk_u1 (h 0 _ rfl))).trans ((dk_bind (dk_u2 (h 1 _ rfl) (h 2 _ rfl))).trans rfl))
theorem dk_187 {code : ByteArray} {pc : Nat} (a b : UInt8) (h : DkAt code pc [187, a, b]) : decode code pc = .ok (.new (a.toNat * 256 + b.toNat), 3) := dk_of ((dk_bind (dk_u1 (h 0 _ rfl))).trans ((dk_bind (dk_u2 (h 1 _ rfl) (h 2 _ rfl))).trans rfl))
theorem dk_188_8 {code : ByteArray} {pc : Nat} (h : DkAt code pc [188, 8]) : decode code pc = .ok (.newarray .byte, 2) := dk_of ((dk_bind (dk_u1 (h 0 _ rfl))).trans ((dk_bind (dk_u1 (h 1 _ rfl))).trans rfl))
theorem dk_188_9 {code : ByteArray} {pc : Nat} (h : DkAt code pc [188, 9]) : decode code pc = .ok (.newarray .short, 2) := dk_of ((dk_bind (dk_u1 (h 0 _ rfl))).trans ((dk_bind (dk_u1 (h 1 _ rfl))).trans rfl))
theorem dk_188_10 {code : ByteArray} {pc : Nat} (h : DkAt code pc [188, 10]) : decode code pc = .ok (.newarray .int, 2) := dk_of ((dk_bind (dk_u1 (h 0 _ rfl))).trans ((dk_bind (dk_u1 (h 1 _ rfl))).trans rfl))
theorem dk_188_11 {code : ByteArray} {pc : Nat} (h : DkAt code pc [188, 11]) : decode code pc = .ok (.newarray .long, 2) := dk_of ((dk_bind (dk_u1 (h 0 _ rfl))).trans ((dk_bind (dk_u1 (h 1 _ rfl))).trans rfl))
theorem dk_189 {code : ByteArray} {pc : Nat} (a b : UInt8) (h : DkAt code pc [189, a, b]) : decode code pc = .ok (.anewarray (a.toNat * 256 + b.toNat), 3) := dk_of ((dk_bind (dk_u1 (h 0 _ rfl))).trans ((dk_bind (dk_u2 (h 1 _ rfl) (h 2 _ rfl))).trans rfl))
theorem dk_190 {code : ByteArray} {pc : Nat} (h : DkAt code pc [190]) : decode code pc = .ok (.arraylength, 1) := dk_of ((dk_bind (dk_u1 (h 0 _ rfl))).trans rfl)
theorem dk_191 {code : ByteArray} {pc : Nat} (h : DkAt code pc [191]) : decode code pc = .ok (.athrow, 1) := dk_of ((dk_bind (dk_u1 (h 0 _ rfl))).trans rfl)
theorem dk_192 {code : ByteArray} {pc : Nat} (a b : UInt8) (h : DkAt code pc [192, a, b]) : decode code pc = .ok (.checkcast (a.toNat * 256 + b.toNat), 3) := dk_of ((dk_bind (dk_u1 (h 0 _ rfl))).trans ((dk_bind (dk_u2 (h 1 _ rfl) (h 2 _ rfl))).trans rfl))
theorem dk_193 {code : ByteArray} {pc : Nat} (a b : UInt8) (h : DkAt code pc [193, a, b]) : decode code pc = .ok (.instanceof (a.toNat * 256 + b.toNat), 3) := dk_of ((dk_bind (dk_u1 (h 0 _ rfl))).trans ((dk_bind (dk_u2 (h 1 _ rfl) (h 2 _ rfl))).trans rfl))
theorem dk_198 {code : ByteArray} {pc : Nat} (a b : UInt8) (h : DkAt code pc [198, a, b]) : decode code pc = .ok (.ifnull (Reader.signed 16 (a.toNat * 256 + b.toNat)), 3) := dk_of ((dk_bind (dk_u1 (h 0 _ rfl))).trans ((dk_bind (dk_map (dk_u2 (h 1 _ rfl) (h 2 _ rfl)))).trans rfl))
theorem dk_199 {code : ByteArray} {pc : Nat} (a b : UInt8) (h : DkAt code pc [199, a, b]) : decode code pc = .ok (.ifnonnull (Reader.signed 16 (a.toNat * 256 + b.toNat)), 3) := dk_of ((dk_bind (dk_u1 (h 0 _ rfl))).trans ((dk_bind (dk_map (dk_u2 (h 1 _ rfl) (h 2 _ rfl)))).trans rfl))
/-! WhichOneAllKnow$Trace -/
set_option maxRecDepth 100000
def RX1 : String := "WhichOneAllKnow$Trace"
def TX1 : u_T := fun k => match k with
  | 0 => ("WhichOneAllKnow$Trace", "bodies", "[I", true)
  | _ => ("WhichOneAllKnow$Trace", "many", "I", false)
def tyX1 : Nat → FieldType := fun k => match k with
  | 0 => .array .int
  | _ => .int
abbrev wsX10 : List Cond := u_ws RX1 TX1 2
theorem nmX1 : ∀ a, a < 2 → ∀ b, b < 2 → a ≠ b → (TX1 a).2.1 ≠ (TX1 b).2.1 := by decide +kernel
theorem tyX1_ok : ∀ k, k < 2 → parseFieldDescriptor (TX1 k).2.2.1 = some (tyX1 k) := by decide +kernel
abbrev cX1_init : ByteArray := prog_19_method_1_code
def yX1_init : MethodName := ⟨RX1, "<init>", "()V"⟩
def dkwX1_init_0 : List UInt8 := [42, 183, 0, 3, 42, 16, 20, 188, 10, 181, 0, 9, 177]
abbrev dktX1_init_0 : List UInt8 := dkwX1_init_0 ++ []
theorem dksX1_init_0 : cX1_init.data.toList.drop 0 = dktX1_init_0 := by decide +kernel
theorem dX1_init_0 : decode cX1_init 0 = .ok (.aload_n 0, 1) := dk_42 (dk_at dksX1_init_0 0 rfl rfl)
theorem dX1_init_1 : decode cX1_init 1 = .ok (.invokespecial 3, 3) := dk_183 0 3 (dk_at dksX1_init_0 1 rfl rfl)
theorem dX1_init_4 : decode cX1_init 4 = .ok (.aload_n 0, 1) := dk_42 (dk_at dksX1_init_0 4 rfl rfl)
theorem dX1_init_5 : decode cX1_init 5 = .ok (.bipush 20, 2) := dk_16 20 (dk_at dksX1_init_0 5 rfl rfl)
theorem dX1_init_7 : decode cX1_init 7 = .ok (.newarray .int, 2) := dk_188_10 (dk_at dksX1_init_0 7 rfl rfl)
theorem dX1_init_9 : decode cX1_init 9 = .ok (.putfield 9, 3) := dk_181 0 9 (dk_at dksX1_init_0 9 rfl rfl)
theorem dX1_init_12 : decode cX1_init 12 = .ok (.return_, 1) := dk_177 (dk_at dksX1_init_0 12 rfl rfl)
abbrev cX1_runs : ByteArray := prog_19_method_2_code
def yX1_runs : MethodName := ⟨RX1, "runs", "(I)V"⟩
def dkwX1_runs_1 : List UInt8 := [4, 96, 181, 0, 15, 177]
abbrev dktX1_runs_1 : List UInt8 := dkwX1_runs_1 ++ []
def dkwX1_runs_0 : List UInt8 := [42, 180, 0, 15, 16, 20, 162, 0, 13, 42, 180, 0, 9, 42, 180, 0, 15, 27, 79, 42, 89, 180, 0, 15]
abbrev dktX1_runs_0 : List UInt8 := dkwX1_runs_0 ++ dktX1_runs_1
theorem dksX1_runs_0 : cX1_runs.data.toList.drop 0 = dktX1_runs_0 := by decide +kernel
theorem dksX1_runs_1 : cX1_runs.data.toList.drop 24 = dktX1_runs_1 := dk_seg dksX1_runs_0 24 rfl rfl
theorem dX1_runs_0 : decode cX1_runs 0 = .ok (.aload_n 0, 1) := dk_42 (dk_at dksX1_runs_0 0 rfl rfl)
theorem dX1_runs_1 : decode cX1_runs 1 = .ok (.getfield 15, 3) := dk_180 0 15 (dk_at dksX1_runs_0 1 rfl rfl)
theorem dX1_runs_4 : decode cX1_runs 4 = .ok (.bipush 20, 2) := dk_16 20 (dk_at dksX1_runs_0 4 rfl rfl)
theorem dX1_runs_6 : decode cX1_runs 6 = .ok (.if_icmp .ge 13, 3) := dk_162 0 13 (dk_at dksX1_runs_0 6 rfl rfl)
theorem dX1_runs_9 : decode cX1_runs 9 = .ok (.aload_n 0, 1) := dk_42 (dk_at dksX1_runs_0 9 rfl rfl)
theorem dX1_runs_10 : decode cX1_runs 10 = .ok (.getfield 9, 3) := dk_180 0 9 (dk_at dksX1_runs_0 10 rfl rfl)
theorem dX1_runs_13 : decode cX1_runs 13 = .ok (.aload_n 0, 1) := dk_42 (dk_at dksX1_runs_0 13 rfl rfl)
theorem dX1_runs_14 : decode cX1_runs 14 = .ok (.getfield 15, 3) := dk_180 0 15 (dk_at dksX1_runs_0 14 rfl rfl)
theorem dX1_runs_17 : decode cX1_runs 17 = .ok (.iload_n 1, 1) := dk_27 (dk_at dksX1_runs_0 17 rfl rfl)
theorem dX1_runs_18 : decode cX1_runs 18 = .ok (.iastore, 1) := dk_79 (dk_at dksX1_runs_0 18 rfl rfl)
theorem dX1_runs_19 : decode cX1_runs 19 = .ok (.aload_n 0, 1) := dk_42 (dk_at dksX1_runs_0 19 rfl rfl)
theorem dX1_runs_20 : decode cX1_runs 20 = .ok (.dup, 1) := dk_89 (dk_at dksX1_runs_0 20 rfl rfl)
theorem dX1_runs_21 : decode cX1_runs 21 = .ok (.getfield 15, 3) := dk_180 0 15 (dk_at dksX1_runs_0 21 rfl rfl)
theorem dX1_runs_24 : decode cX1_runs 24 = .ok (.iconst 1, 1) := dk_4 (dk_at dksX1_runs_1 0 rfl rfl)
theorem dX1_runs_25 : decode cX1_runs 25 = .ok (.iadd, 1) := dk_96 (dk_at dksX1_runs_1 1 rfl rfl)
theorem dX1_runs_26 : decode cX1_runs 26 = .ok (.putfield 15, 3) := dk_181 0 15 (dk_at dksX1_runs_1 2 rfl rfl)
theorem dX1_runs_29 : decode cX1_runs 29 = .ok (.return_, 1) := dk_177 (dk_at dksX1_runs_1 5 rfl rfl)
theorem q84 : (Jvm.Cond.initialized "WhichOneAllKnow$Trace") ∈ lw_all := lw_g (lw_at lw_m1 2 rfl) rfl
theorem q129 : (Jvm.Cond.instantiable "WhichOneAllKnow$Trace" (2 : Nat)) ∈ lw_all := lw_g (lw_at lw_m1 47 rfl) rfl
theorem q131 : (Jvm.Cond.instanceMethod ({ cls := "WhichOneAllKnow$Trace", name := "<init>", desc := "()V" } : Jvm.MethodName)) ∈ lw_all := lw_g (lw_at lw_m1 49 rfl) rfl
theorem q132 : (Jvm.Cond.code ({ cls := "WhichOneAllKnow$Trace", name := "<init>", desc := "()V" } : Jvm.MethodName) prog_19_method_1_code (1 : Nat) (Option.none : Option Jvm.ClassFile.FieldType)) ∈ lw_all := lw_g (lw_at lw_m1 50 rfl) rfl
theorem q133 : (Jvm.Cond.methodLink "WhichOneAllKnow$Trace" (3 : Nat) ({ cls := "java/lang/Object", name := "<init>", desc := "()V" } : Jvm.MethodName)) ∈ lw_all := lw_g (lw_at lw_m1 51 rfl) rfl
theorem q134 : (Jvm.Cond.fieldLink "WhichOneAllKnow$Trace" (9 : Nat) "WhichOneAllKnow$Trace" "bodies" "[I") ∈ lw_all := lw_g (lw_at lw_m1 52 rfl) rfl
theorem q136 : (Jvm.Cond.fieldLink "WhichOneAllKnow$Trace" (15 : Nat) "WhichOneAllKnow$Trace" "many" "I") ∈ lw_all := lw_g (lw_at lw_m1 54 rfl) rfl
theorem q138 : (Jvm.Cond.laysFinal "WhichOneAllKnow$Trace" "WhichOneAllKnow$Trace" "bodies" "[I") ∈ lw_all := lw_g (lw_at lw_m1 56 rfl) rfl
theorem q139 : (Jvm.Cond.soleField "WhichOneAllKnow$Trace" "bodies") ∈ lw_all := lw_g (lw_at lw_m1 57 rfl) rfl
theorem q140 : (Jvm.Cond.lays "WhichOneAllKnow$Trace" "WhichOneAllKnow$Trace" "many" "I") ∈ lw_all := lw_g (lw_at lw_m1 58 rfl) rfl
theorem q141 : (Jvm.Cond.soleField "WhichOneAllKnow$Trace" "many") ∈ lw_all := lw_g (lw_at lw_m1 59 rfl) rfl
theorem q142 : (Jvm.Cond.superclass "WhichOneAllKnow$Trace" "java/lang/Object") ∈ lw_all := lw_g (lw_at lw_m1 60 rfl) rfl
theorem q1267 : (Jvm.Cond.instanceMethod ({ cls := "WhichOneAllKnow$Trace", name := "runs", desc := "(I)V" } : Jvm.MethodName)) ∈ lw_all := lw_g (lw_at lw_m5 225 rfl) rfl
theorem q1268 : (Jvm.Cond.selects "WhichOneAllKnow$Trace" ({ cls := "WhichOneAllKnow$Trace", name := "runs", desc := "(I)V" } : Jvm.MethodName) ({ cls := "WhichOneAllKnow$Trace", name := "runs", desc := "(I)V" } : Jvm.MethodName)) ∈ lw_all := lw_g (lw_at lw_m5 226 rfl) rfl
theorem q1269 : (Jvm.Cond.code ({ cls := "WhichOneAllKnow$Trace", name := "runs", desc := "(I)V" } : Jvm.MethodName) prog_19_method_2_code (2 : Nat) (Option.none : Option Jvm.ClassFile.FieldType)) ∈ lw_all := lw_g (lw_at lw_m5 227 rfl) rfl
theorem in_X1 : ∀ w ∈ wsX10, w ∈ lw_all := lw_in wsX10 [138, 140] (by decide +kernel) (by decide +kernel)
/-! WhichOneAllKnow$Church -/
set_option maxRecDepth 100000
def RX2 : String := "WhichOneAllKnow$Church"
def TX2 : u_T := fun k => match k with
  | 0 => ("WhichOneAllKnow$Church", "many", "I", false)
  | 1 => ("WhichOneAllKnow$Church", "tunes", "I", false)
  | 2 => ("WhichOneAllKnow$Church", "wait", "I", false)
  | 3 => ("WhichOneAllKnow$Church", "hymns", "I", false)
  | 4 => ("WhichOneAllKnow$Church", "seed", "I", false)
  | 5 => ("WhichOneAllKnow$Church", "high", "[I", true)
  | 6 => ("WhichOneAllKnow$Church", "voices", "[LWhichOneAllKnow$Voice;", true)
  | 7 => ("WhichOneAllKnow$Church", "place", "[I", true)
  | _ => ("WhichOneAllKnow$Church", "knows", "[I", true)
def tyX2 : Nat → FieldType := fun k => match k with
  | 0 => .int
  | 1 => .int
  | 2 => .int
  | 3 => .int
  | 4 => .int
  | 5 => .array .int
  | 6 => .array (.object "WhichOneAllKnow$Voice")
  | 7 => .array .int
  | _ => .array .int
abbrev wsX20 : List Cond := u_ws RX2 TX2 9
theorem nmX2 : ∀ a, a < 9 → ∀ b, b < 9 → a ≠ b → (TX2 a).2.1 ≠ (TX2 b).2.1 := by decide +kernel
theorem tyX2_ok : ∀ k, k < 9 → parseFieldDescriptor (TX2 k).2.2.1 = some (tyX2 k) := by decide +kernel
abbrev cX2_init : ByteArray := prog_5_method_1_code
def yX2_init : MethodName := ⟨RX2, "<init>", "()V"⟩
def dkwX2_init_2 : List UInt8 := [177]
abbrev dktX2_init_2 : List UInt8 := dkwX2_init_2 ++ []
def dkwX2_init_1 : List UInt8 := [16, 14, 189, 0, 22, 181, 0, 24, 42, 16, 14, 188, 10, 181, 0, 28, 42, 16, 14, 188, 10, 181, 0, 31]
abbrev dktX2_init_1 : List UInt8 := dkwX2_init_1 ++ dktX2_init_2
def dkwX2_init_0 : List UInt8 := [42, 183, 0, 3, 42, 5, 181, 0, 9, 42, 4, 181, 0, 15, 42, 16, 6, 188, 10, 181, 0, 18, 42]
abbrev dktX2_init_0 : List UInt8 := dkwX2_init_0 ++ dktX2_init_1
theorem dksX2_init_0 : cX2_init.data.toList.drop 0 = dktX2_init_0 := by decide +kernel
theorem dksX2_init_1 : cX2_init.data.toList.drop 23 = dktX2_init_1 := dk_seg dksX2_init_0 23 rfl rfl
theorem dksX2_init_2 : cX2_init.data.toList.drop 47 = dktX2_init_2 := dk_seg dksX2_init_1 24 rfl rfl
theorem dX2_init_0 : decode cX2_init 0 = .ok (.aload_n 0, 1) := dk_42 (dk_at dksX2_init_0 0 rfl rfl)
theorem dX2_init_1 : decode cX2_init 1 = .ok (.invokespecial 3, 3) := dk_183 0 3 (dk_at dksX2_init_0 1 rfl rfl)
theorem dX2_init_4 : decode cX2_init 4 = .ok (.aload_n 0, 1) := dk_42 (dk_at dksX2_init_0 4 rfl rfl)
theorem dX2_init_5 : decode cX2_init 5 = .ok (.iconst 2, 1) := dk_5 (dk_at dksX2_init_0 5 rfl rfl)
theorem dX2_init_6 : decode cX2_init 6 = .ok (.putfield 9, 3) := dk_181 0 9 (dk_at dksX2_init_0 6 rfl rfl)
theorem dX2_init_9 : decode cX2_init 9 = .ok (.aload_n 0, 1) := dk_42 (dk_at dksX2_init_0 9 rfl rfl)
theorem dX2_init_10 : decode cX2_init 10 = .ok (.iconst 1, 1) := dk_4 (dk_at dksX2_init_0 10 rfl rfl)
theorem dX2_init_11 : decode cX2_init 11 = .ok (.putfield 15, 3) := dk_181 0 15 (dk_at dksX2_init_0 11 rfl rfl)
theorem dX2_init_14 : decode cX2_init 14 = .ok (.aload_n 0, 1) := dk_42 (dk_at dksX2_init_0 14 rfl rfl)
theorem dX2_init_15 : decode cX2_init 15 = .ok (.bipush 6, 2) := dk_16 6 (dk_at dksX2_init_0 15 rfl rfl)
theorem dX2_init_17 : decode cX2_init 17 = .ok (.newarray .int, 2) := dk_188_10 (dk_at dksX2_init_0 17 rfl rfl)
theorem dX2_init_19 : decode cX2_init 19 = .ok (.putfield 18, 3) := dk_181 0 18 (dk_at dksX2_init_0 19 rfl rfl)
theorem dX2_init_22 : decode cX2_init 22 = .ok (.aload_n 0, 1) := dk_42 (dk_at dksX2_init_0 22 rfl rfl)
theorem dX2_init_23 : decode cX2_init 23 = .ok (.bipush 14, 2) := dk_16 14 (dk_at dksX2_init_1 0 rfl rfl)
theorem dX2_init_25 : decode cX2_init 25 = .ok (.anewarray 22, 3) := dk_189 0 22 (dk_at dksX2_init_1 2 rfl rfl)
theorem dX2_init_28 : decode cX2_init 28 = .ok (.putfield 24, 3) := dk_181 0 24 (dk_at dksX2_init_1 5 rfl rfl)
theorem dX2_init_31 : decode cX2_init 31 = .ok (.aload_n 0, 1) := dk_42 (dk_at dksX2_init_1 8 rfl rfl)
theorem dX2_init_32 : decode cX2_init 32 = .ok (.bipush 14, 2) := dk_16 14 (dk_at dksX2_init_1 9 rfl rfl)
theorem dX2_init_34 : decode cX2_init 34 = .ok (.newarray .int, 2) := dk_188_10 (dk_at dksX2_init_1 11 rfl rfl)
theorem dX2_init_36 : decode cX2_init 36 = .ok (.putfield 28, 3) := dk_181 0 28 (dk_at dksX2_init_1 13 rfl rfl)
theorem dX2_init_39 : decode cX2_init 39 = .ok (.aload_n 0, 1) := dk_42 (dk_at dksX2_init_1 16 rfl rfl)
theorem dX2_init_40 : decode cX2_init 40 = .ok (.bipush 14, 2) := dk_16 14 (dk_at dksX2_init_1 17 rfl rfl)
theorem dX2_init_42 : decode cX2_init 42 = .ok (.newarray .int, 2) := dk_188_10 (dk_at dksX2_init_1 19 rfl rfl)
theorem dX2_init_44 : decode cX2_init 44 = .ok (.putfield 31, 3) := dk_181 0 31 (dk_at dksX2_init_1 21 rfl rfl)
theorem dX2_init_47 : decode cX2_init 47 = .ok (.return_, 1) := dk_177 (dk_at dksX2_init_2 0 rfl rfl)
abbrev cX2_isVoice : ByteArray := prog_5_method_5_code
def yX2_isVoice : MethodName := ⟨RX2, "isVoice", "(I)Z"⟩
def dkwX2_isVoice_0 : List UInt8 := [27, 155, 0, 15, 27, 42, 180, 0, 34, 162, 0, 7, 4, 167, 0, 4, 3, 172]
abbrev dktX2_isVoice_0 : List UInt8 := dkwX2_isVoice_0 ++ []
theorem dksX2_isVoice_0 : cX2_isVoice.data.toList.drop 0 = dktX2_isVoice_0 := by decide +kernel
theorem dX2_isVoice_0 : decode cX2_isVoice 0 = .ok (.iload_n 1, 1) := dk_27 (dk_at dksX2_isVoice_0 0 rfl rfl)
theorem dX2_isVoice_1 : decode cX2_isVoice 1 = .ok (.ifCond .lt 15, 3) := dk_155 0 15 (dk_at dksX2_isVoice_0 1 rfl rfl)
theorem dX2_isVoice_4 : decode cX2_isVoice 4 = .ok (.iload_n 1, 1) := dk_27 (dk_at dksX2_isVoice_0 4 rfl rfl)
theorem dX2_isVoice_5 : decode cX2_isVoice 5 = .ok (.aload_n 0, 1) := dk_42 (dk_at dksX2_isVoice_0 5 rfl rfl)
theorem dX2_isVoice_6 : decode cX2_isVoice 6 = .ok (.getfield 34, 3) := dk_180 0 34 (dk_at dksX2_isVoice_0 6 rfl rfl)
theorem dX2_isVoice_9 : decode cX2_isVoice 9 = .ok (.if_icmp .ge 7, 3) := dk_162 0 7 (dk_at dksX2_isVoice_0 9 rfl rfl)
theorem dX2_isVoice_12 : decode cX2_isVoice 12 = .ok (.iconst 1, 1) := dk_4 (dk_at dksX2_isVoice_0 12 rfl rfl)
theorem dX2_isVoice_13 : decode cX2_isVoice 13 = .ok (.goto 4, 3) := dk_167 0 4 (dk_at dksX2_isVoice_0 13 rfl rfl)
theorem dX2_isVoice_16 : decode cX2_isVoice 16 = .ok (.iconst 0, 1) := dk_3 (dk_at dksX2_isVoice_0 16 rfl rfl)
theorem dX2_isVoice_17 : decode cX2_isVoice 17 = .ok (.ireturn, 1) := dk_172 (dk_at dksX2_isVoice_0 17 rfl rfl)
abbrev cX2_manyKnown : ByteArray := prog_5_method_9_code
def yX2_manyKnown : MethodName := ⟨RX2, "manyKnown", "(I)I"⟩
def dkwX2_manyKnown_0 : List UInt8 := [42, 180, 0, 31, 27, 46, 184, 0, 49, 172]
abbrev dktX2_manyKnown_0 : List UInt8 := dkwX2_manyKnown_0 ++ []
theorem dksX2_manyKnown_0 : cX2_manyKnown.data.toList.drop 0 = dktX2_manyKnown_0 := by decide +kernel
theorem dX2_manyKnown_0 : decode cX2_manyKnown 0 = .ok (.aload_n 0, 1) := dk_42 (dk_at dksX2_manyKnown_0 0 rfl rfl)
theorem dX2_manyKnown_1 : decode cX2_manyKnown 1 = .ok (.getfield 31, 3) := dk_180 0 31 (dk_at dksX2_manyKnown_0 1 rfl rfl)
theorem dX2_manyKnown_4 : decode cX2_manyKnown 4 = .ok (.iload_n 1, 1) := dk_27 (dk_at dksX2_manyKnown_0 4 rfl rfl)
theorem dX2_manyKnown_5 : decode cX2_manyKnown 5 = .ok (.iaload, 1) := dk_46 (dk_at dksX2_manyKnown_0 5 rfl rfl)
theorem dX2_manyKnown_6 : decode cX2_manyKnown 6 = .ok (.invokestatic 49, 3) := dk_184 0 49 (dk_at dksX2_manyKnown_0 6 rfl rfl)
theorem dX2_manyKnown_9 : decode cX2_manyKnown 9 = .ok (.ireturn, 1) := dk_172 (dk_at dksX2_manyKnown_0 9 rfl rfl)
abbrev cX2_addTune : ByteArray := prog_5_method_3_code
def yX2_addTune : MethodName := ⟨RX2, "addTune", "(I)V"⟩
def dkwX2_addTune_0 : List UInt8 := [42, 180, 0, 18, 42, 89, 180, 0, 37, 90, 4, 96, 181, 0, 37, 27, 79, 177]
abbrev dktX2_addTune_0 : List UInt8 := dkwX2_addTune_0 ++ []
theorem dksX2_addTune_0 : cX2_addTune.data.toList.drop 0 = dktX2_addTune_0 := by decide +kernel
theorem dX2_addTune_0 : decode cX2_addTune 0 = .ok (.aload_n 0, 1) := dk_42 (dk_at dksX2_addTune_0 0 rfl rfl)
theorem dX2_addTune_1 : decode cX2_addTune 1 = .ok (.getfield 18, 3) := dk_180 0 18 (dk_at dksX2_addTune_0 1 rfl rfl)
theorem dX2_addTune_4 : decode cX2_addTune 4 = .ok (.aload_n 0, 1) := dk_42 (dk_at dksX2_addTune_0 4 rfl rfl)
theorem dX2_addTune_5 : decode cX2_addTune 5 = .ok (.dup, 1) := dk_89 (dk_at dksX2_addTune_0 5 rfl rfl)
theorem dX2_addTune_6 : decode cX2_addTune 6 = .ok (.getfield 37, 3) := dk_180 0 37 (dk_at dksX2_addTune_0 6 rfl rfl)
theorem dX2_addTune_9 : decode cX2_addTune 9 = .ok (.dup_x1, 1) := dk_90 (dk_at dksX2_addTune_0 9 rfl rfl)
theorem dX2_addTune_10 : decode cX2_addTune 10 = .ok (.iconst 1, 1) := dk_4 (dk_at dksX2_addTune_0 10 rfl rfl)
theorem dX2_addTune_11 : decode cX2_addTune 11 = .ok (.iadd, 1) := dk_96 (dk_at dksX2_addTune_0 11 rfl rfl)
theorem dX2_addTune_12 : decode cX2_addTune 12 = .ok (.putfield 37, 3) := dk_181 0 37 (dk_at dksX2_addTune_0 12 rfl rfl)
theorem dX2_addTune_15 : decode cX2_addTune 15 = .ok (.iload_n 1, 1) := dk_27 (dk_at dksX2_addTune_0 15 rfl rfl)
theorem dX2_addTune_16 : decode cX2_addTune 16 = .ok (.iastore, 1) := dk_79 (dk_at dksX2_addTune_0 16 rfl rfl)
theorem dX2_addTune_17 : decode cX2_addTune 17 = .ok (.return_, 1) := dk_177 (dk_at dksX2_addTune_0 17 rfl rfl)
abbrev cX2_isFree : ByteArray := prog_5_method_7_code
def yX2_isFree : MethodName := ⟨RX2, "isFree", "(I)Z"⟩
def dkwX2_isFree_1 : List UInt8 := [180, 0, 28, 28, 46, 27, 160, 0, 5, 3, 172, 132, 2, 1, 167, 255, 233, 4, 172]
abbrev dktX2_isFree_1 : List UInt8 := dkwX2_isFree_1 ++ []
def dkwX2_isFree_0 : List UInt8 := [27, 155, 0, 9, 27, 16, 24, 161, 0, 5, 3, 172, 3, 61, 28, 42, 180, 0, 34, 162, 0, 21, 42]
abbrev dktX2_isFree_0 : List UInt8 := dkwX2_isFree_0 ++ dktX2_isFree_1
theorem dksX2_isFree_0 : cX2_isFree.data.toList.drop 0 = dktX2_isFree_0 := by decide +kernel
theorem dksX2_isFree_1 : cX2_isFree.data.toList.drop 23 = dktX2_isFree_1 := dk_seg dksX2_isFree_0 23 rfl rfl
theorem dX2_isFree_0 : decode cX2_isFree 0 = .ok (.iload_n 1, 1) := dk_27 (dk_at dksX2_isFree_0 0 rfl rfl)
theorem dX2_isFree_1 : decode cX2_isFree 1 = .ok (.ifCond .lt 9, 3) := dk_155 0 9 (dk_at dksX2_isFree_0 1 rfl rfl)
theorem dX2_isFree_4 : decode cX2_isFree 4 = .ok (.iload_n 1, 1) := dk_27 (dk_at dksX2_isFree_0 4 rfl rfl)
theorem dX2_isFree_5 : decode cX2_isFree 5 = .ok (.bipush 24, 2) := dk_16 24 (dk_at dksX2_isFree_0 5 rfl rfl)
theorem dX2_isFree_7 : decode cX2_isFree 7 = .ok (.if_icmp .lt 5, 3) := dk_161 0 5 (dk_at dksX2_isFree_0 7 rfl rfl)
theorem dX2_isFree_10 : decode cX2_isFree 10 = .ok (.iconst 0, 1) := dk_3 (dk_at dksX2_isFree_0 10 rfl rfl)
theorem dX2_isFree_11 : decode cX2_isFree 11 = .ok (.ireturn, 1) := dk_172 (dk_at dksX2_isFree_0 11 rfl rfl)
theorem dX2_isFree_12 : decode cX2_isFree 12 = .ok (.iconst 0, 1) := dk_3 (dk_at dksX2_isFree_0 12 rfl rfl)
theorem dX2_isFree_13 : decode cX2_isFree 13 = .ok (.istore_n 2, 1) := dk_61 (dk_at dksX2_isFree_0 13 rfl rfl)
theorem dX2_isFree_14 : decode cX2_isFree 14 = .ok (.iload_n 2, 1) := dk_28 (dk_at dksX2_isFree_0 14 rfl rfl)
theorem dX2_isFree_15 : decode cX2_isFree 15 = .ok (.aload_n 0, 1) := dk_42 (dk_at dksX2_isFree_0 15 rfl rfl)
theorem dX2_isFree_16 : decode cX2_isFree 16 = .ok (.getfield 34, 3) := dk_180 0 34 (dk_at dksX2_isFree_0 16 rfl rfl)
theorem dX2_isFree_19 : decode cX2_isFree 19 = .ok (.if_icmp .ge 21, 3) := dk_162 0 21 (dk_at dksX2_isFree_0 19 rfl rfl)
theorem dX2_isFree_22 : decode cX2_isFree 22 = .ok (.aload_n 0, 1) := dk_42 (dk_at dksX2_isFree_0 22 rfl rfl)
theorem dX2_isFree_23 : decode cX2_isFree 23 = .ok (.getfield 28, 3) := dk_180 0 28 (dk_at dksX2_isFree_1 0 rfl rfl)
theorem dX2_isFree_26 : decode cX2_isFree 26 = .ok (.iload_n 2, 1) := dk_28 (dk_at dksX2_isFree_1 3 rfl rfl)
theorem dX2_isFree_27 : decode cX2_isFree 27 = .ok (.iaload, 1) := dk_46 (dk_at dksX2_isFree_1 4 rfl rfl)
theorem dX2_isFree_28 : decode cX2_isFree 28 = .ok (.iload_n 1, 1) := dk_27 (dk_at dksX2_isFree_1 5 rfl rfl)
theorem dX2_isFree_29 : decode cX2_isFree 29 = .ok (.if_icmp .ne 5, 3) := dk_160 0 5 (dk_at dksX2_isFree_1 6 rfl rfl)
theorem dX2_isFree_32 : decode cX2_isFree 32 = .ok (.iconst 0, 1) := dk_3 (dk_at dksX2_isFree_1 9 rfl rfl)
theorem dX2_isFree_33 : decode cX2_isFree 33 = .ok (.ireturn, 1) := dk_172 (dk_at dksX2_isFree_1 10 rfl rfl)
theorem dX2_isFree_34 : decode cX2_isFree 34 = .ok (.iinc 2 1, 3) := dk_132 2 1 (dk_at dksX2_isFree_1 11 rfl rfl)
theorem dX2_isFree_37 : decode cX2_isFree 37 = .ok (.goto (-23), 3) := dk_167 255 233 (dk_at dksX2_isFree_1 14 rfl rfl)
theorem dX2_isFree_40 : decode cX2_isFree 40 = .ok (.iconst 1, 1) := dk_4 (dk_at dksX2_isFree_1 17 rfl rfl)
theorem dX2_isFree_41 : decode cX2_isFree 41 = .ok (.ireturn, 1) := dk_172 (dk_at dksX2_isFree_1 18 rfl rfl)
abbrev cX2_addVoice : ByteArray := prog_5_method_4_code
def yX2_addVoice : MethodName := ⟨RX2, "addVoice", "(LWhichOneAllKnow$Voice;I)V"⟩
def dkwX2_addVoice_1 : List UInt8 := [42, 180, 0, 34, 3, 79, 42, 89, 180, 0, 34, 4, 96, 181, 0, 34, 177]
abbrev dktX2_addVoice_1 : List UInt8 := dkwX2_addVoice_1 ++ []
def dkwX2_addVoice_0 : List UInt8 := [42, 180, 0, 24, 42, 180, 0, 34, 43, 83, 42, 180, 0, 28, 42, 180, 0, 34, 28, 79, 42, 180, 0, 31]
abbrev dktX2_addVoice_0 : List UInt8 := dkwX2_addVoice_0 ++ dktX2_addVoice_1
theorem dksX2_addVoice_0 : cX2_addVoice.data.toList.drop 0 = dktX2_addVoice_0 := by decide +kernel
theorem dksX2_addVoice_1 : cX2_addVoice.data.toList.drop 24 = dktX2_addVoice_1 := dk_seg dksX2_addVoice_0 24 rfl rfl
theorem dX2_addVoice_0 : decode cX2_addVoice 0 = .ok (.aload_n 0, 1) := dk_42 (dk_at dksX2_addVoice_0 0 rfl rfl)
theorem dX2_addVoice_1 : decode cX2_addVoice 1 = .ok (.getfield 24, 3) := dk_180 0 24 (dk_at dksX2_addVoice_0 1 rfl rfl)
theorem dX2_addVoice_4 : decode cX2_addVoice 4 = .ok (.aload_n 0, 1) := dk_42 (dk_at dksX2_addVoice_0 4 rfl rfl)
theorem dX2_addVoice_5 : decode cX2_addVoice 5 = .ok (.getfield 34, 3) := dk_180 0 34 (dk_at dksX2_addVoice_0 5 rfl rfl)
theorem dX2_addVoice_8 : decode cX2_addVoice 8 = .ok (.aload_n 1, 1) := dk_43 (dk_at dksX2_addVoice_0 8 rfl rfl)
theorem dX2_addVoice_9 : decode cX2_addVoice 9 = .ok (.aastore, 1) := dk_83 (dk_at dksX2_addVoice_0 9 rfl rfl)
theorem dX2_addVoice_10 : decode cX2_addVoice 10 = .ok (.aload_n 0, 1) := dk_42 (dk_at dksX2_addVoice_0 10 rfl rfl)
theorem dX2_addVoice_11 : decode cX2_addVoice 11 = .ok (.getfield 28, 3) := dk_180 0 28 (dk_at dksX2_addVoice_0 11 rfl rfl)
theorem dX2_addVoice_14 : decode cX2_addVoice 14 = .ok (.aload_n 0, 1) := dk_42 (dk_at dksX2_addVoice_0 14 rfl rfl)
theorem dX2_addVoice_15 : decode cX2_addVoice 15 = .ok (.getfield 34, 3) := dk_180 0 34 (dk_at dksX2_addVoice_0 15 rfl rfl)
theorem dX2_addVoice_18 : decode cX2_addVoice 18 = .ok (.iload_n 2, 1) := dk_28 (dk_at dksX2_addVoice_0 18 rfl rfl)
theorem dX2_addVoice_19 : decode cX2_addVoice 19 = .ok (.iastore, 1) := dk_79 (dk_at dksX2_addVoice_0 19 rfl rfl)
theorem dX2_addVoice_20 : decode cX2_addVoice 20 = .ok (.aload_n 0, 1) := dk_42 (dk_at dksX2_addVoice_0 20 rfl rfl)
theorem dX2_addVoice_21 : decode cX2_addVoice 21 = .ok (.getfield 31, 3) := dk_180 0 31 (dk_at dksX2_addVoice_0 21 rfl rfl)
theorem dX2_addVoice_24 : decode cX2_addVoice 24 = .ok (.aload_n 0, 1) := dk_42 (dk_at dksX2_addVoice_1 0 rfl rfl)
theorem dX2_addVoice_25 : decode cX2_addVoice 25 = .ok (.getfield 34, 3) := dk_180 0 34 (dk_at dksX2_addVoice_1 1 rfl rfl)
theorem dX2_addVoice_28 : decode cX2_addVoice 28 = .ok (.iconst 0, 1) := dk_3 (dk_at dksX2_addVoice_1 4 rfl rfl)
theorem dX2_addVoice_29 : decode cX2_addVoice 29 = .ok (.iastore, 1) := dk_79 (dk_at dksX2_addVoice_1 5 rfl rfl)
theorem dX2_addVoice_30 : decode cX2_addVoice 30 = .ok (.aload_n 0, 1) := dk_42 (dk_at dksX2_addVoice_1 6 rfl rfl)
theorem dX2_addVoice_31 : decode cX2_addVoice 31 = .ok (.dup, 1) := dk_89 (dk_at dksX2_addVoice_1 7 rfl rfl)
theorem dX2_addVoice_32 : decode cX2_addVoice 32 = .ok (.getfield 34, 3) := dk_180 0 34 (dk_at dksX2_addVoice_1 8 rfl rfl)
theorem dX2_addVoice_35 : decode cX2_addVoice 35 = .ok (.iconst 1, 1) := dk_4 (dk_at dksX2_addVoice_1 11 rfl rfl)
theorem dX2_addVoice_36 : decode cX2_addVoice 36 = .ok (.iadd, 1) := dk_96 (dk_at dksX2_addVoice_1 12 rfl rfl)
theorem dX2_addVoice_37 : decode cX2_addVoice 37 = .ok (.putfield 34, 3) := dk_181 0 34 (dk_at dksX2_addVoice_1 13 rfl rfl)
theorem dX2_addVoice_40 : decode cX2_addVoice 40 = .ok (.return_, 1) := dk_177 (dk_at dksX2_addVoice_1 16 rfl rfl)
abbrev cX2_isTune : ByteArray := prog_5_method_6_code
def yX2_isTune : MethodName := ⟨RX2, "isTune", "(I)Z"⟩
def dkwX2_isTune_0 : List UInt8 := [27, 155, 0, 15, 27, 42, 180, 0, 37, 162, 0, 7, 4, 167, 0, 4, 3, 172]
abbrev dktX2_isTune_0 : List UInt8 := dkwX2_isTune_0 ++ []
theorem dksX2_isTune_0 : cX2_isTune.data.toList.drop 0 = dktX2_isTune_0 := by decide +kernel
theorem dX2_isTune_0 : decode cX2_isTune 0 = .ok (.iload_n 1, 1) := dk_27 (dk_at dksX2_isTune_0 0 rfl rfl)
theorem dX2_isTune_1 : decode cX2_isTune 1 = .ok (.ifCond .lt 15, 3) := dk_155 0 15 (dk_at dksX2_isTune_0 1 rfl rfl)
theorem dX2_isTune_4 : decode cX2_isTune 4 = .ok (.iload_n 1, 1) := dk_27 (dk_at dksX2_isTune_0 4 rfl rfl)
theorem dX2_isTune_5 : decode cX2_isTune 5 = .ok (.aload_n 0, 1) := dk_42 (dk_at dksX2_isTune_0 5 rfl rfl)
theorem dX2_isTune_6 : decode cX2_isTune 6 = .ok (.getfield 37, 3) := dk_180 0 37 (dk_at dksX2_isTune_0 6 rfl rfl)
theorem dX2_isTune_9 : decode cX2_isTune 9 = .ok (.if_icmp .ge 7, 3) := dk_162 0 7 (dk_at dksX2_isTune_0 9 rfl rfl)
theorem dX2_isTune_12 : decode cX2_isTune 12 = .ok (.iconst 1, 1) := dk_4 (dk_at dksX2_isTune_0 12 rfl rfl)
theorem dX2_isTune_13 : decode cX2_isTune 13 = .ok (.goto 4, 3) := dk_167 0 4 (dk_at dksX2_isTune_0 13 rfl rfl)
theorem dX2_isTune_16 : decode cX2_isTune 16 = .ok (.iconst 0, 1) := dk_3 (dk_at dksX2_isTune_0 16 rfl rfl)
theorem dX2_isTune_17 : decode cX2_isTune 17 = .ok (.ireturn, 1) := dk_172 (dk_at dksX2_isTune_0 17 rfl rfl)
abbrev cX2_take : ByteArray := prog_5_method_2_code
def yX2_take : MethodName := ⟨RX2, "take", "(LWhichOneAllKnow$Church;)LWhichOneAllKnow$Church;"⟩
def dkwX2_take_4 : List UInt8 := [180, 0, 31, 3, 42, 180, 0, 31, 3, 42, 180, 0, 34, 184, 0, 43, 42, 176]
abbrev dktX2_take_4 : List UInt8 := dkwX2_take_4 ++ []
def dkwX2_take_3 : List UInt8 := [180, 0, 34, 184, 0, 43, 43, 180, 0, 28, 3, 42, 180, 0, 28, 3, 42, 180, 0, 34, 184, 0, 43, 43]
abbrev dktX2_take_3 : List UInt8 := dkwX2_take_3 ++ dktX2_take_4
def dkwX2_take_2 : List UInt8 := [180, 0, 18, 3, 42, 180, 0, 37, 184, 0, 43, 43, 180, 0, 24, 3, 42, 180, 0, 24, 3, 42]
abbrev dktX2_take_2 : List UInt8 := dkwX2_take_2 ++ dktX2_take_3
def dkwX2_take_1 : List UInt8 := [42, 43, 180, 0, 40, 181, 0, 40, 42, 43, 180, 0, 15, 181, 0, 15, 43, 180, 0, 18, 3, 42]
abbrev dktX2_take_1 : List UInt8 := dkwX2_take_1 ++ dktX2_take_2
def dkwX2_take_0 : List UInt8 := [42, 43, 180, 0, 34, 181, 0, 34, 42, 43, 180, 0, 37, 181, 0, 37, 42, 43, 180, 0, 9, 181, 0, 9]
abbrev dktX2_take_0 : List UInt8 := dkwX2_take_0 ++ dktX2_take_1
theorem dksX2_take_0 : cX2_take.data.toList.drop 0 = dktX2_take_0 := by decide +kernel
theorem dksX2_take_1 : cX2_take.data.toList.drop 24 = dktX2_take_1 := dk_seg dksX2_take_0 24 rfl rfl
theorem dksX2_take_2 : cX2_take.data.toList.drop 46 = dktX2_take_2 := dk_seg dksX2_take_1 22 rfl rfl
theorem dksX2_take_3 : cX2_take.data.toList.drop 68 = dktX2_take_3 := dk_seg dksX2_take_2 22 rfl rfl
theorem dksX2_take_4 : cX2_take.data.toList.drop 92 = dktX2_take_4 := dk_seg dksX2_take_3 24 rfl rfl
theorem dX2_take_0 : decode cX2_take 0 = .ok (.aload_n 0, 1) := dk_42 (dk_at dksX2_take_0 0 rfl rfl)
theorem dX2_take_1 : decode cX2_take 1 = .ok (.aload_n 1, 1) := dk_43 (dk_at dksX2_take_0 1 rfl rfl)
theorem dX2_take_2 : decode cX2_take 2 = .ok (.getfield 34, 3) := dk_180 0 34 (dk_at dksX2_take_0 2 rfl rfl)
theorem dX2_take_5 : decode cX2_take 5 = .ok (.putfield 34, 3) := dk_181 0 34 (dk_at dksX2_take_0 5 rfl rfl)
theorem dX2_take_8 : decode cX2_take 8 = .ok (.aload_n 0, 1) := dk_42 (dk_at dksX2_take_0 8 rfl rfl)
theorem dX2_take_9 : decode cX2_take 9 = .ok (.aload_n 1, 1) := dk_43 (dk_at dksX2_take_0 9 rfl rfl)
theorem dX2_take_10 : decode cX2_take 10 = .ok (.getfield 37, 3) := dk_180 0 37 (dk_at dksX2_take_0 10 rfl rfl)
theorem dX2_take_13 : decode cX2_take 13 = .ok (.putfield 37, 3) := dk_181 0 37 (dk_at dksX2_take_0 13 rfl rfl)
theorem dX2_take_16 : decode cX2_take 16 = .ok (.aload_n 0, 1) := dk_42 (dk_at dksX2_take_0 16 rfl rfl)
theorem dX2_take_17 : decode cX2_take 17 = .ok (.aload_n 1, 1) := dk_43 (dk_at dksX2_take_0 17 rfl rfl)
theorem dX2_take_18 : decode cX2_take 18 = .ok (.getfield 9, 3) := dk_180 0 9 (dk_at dksX2_take_0 18 rfl rfl)
theorem dX2_take_21 : decode cX2_take 21 = .ok (.putfield 9, 3) := dk_181 0 9 (dk_at dksX2_take_0 21 rfl rfl)
theorem dX2_take_24 : decode cX2_take 24 = .ok (.aload_n 0, 1) := dk_42 (dk_at dksX2_take_1 0 rfl rfl)
theorem dX2_take_25 : decode cX2_take 25 = .ok (.aload_n 1, 1) := dk_43 (dk_at dksX2_take_1 1 rfl rfl)
theorem dX2_take_26 : decode cX2_take 26 = .ok (.getfield 40, 3) := dk_180 0 40 (dk_at dksX2_take_1 2 rfl rfl)
theorem dX2_take_29 : decode cX2_take 29 = .ok (.putfield 40, 3) := dk_181 0 40 (dk_at dksX2_take_1 5 rfl rfl)
theorem dX2_take_32 : decode cX2_take 32 = .ok (.aload_n 0, 1) := dk_42 (dk_at dksX2_take_1 8 rfl rfl)
theorem dX2_take_33 : decode cX2_take 33 = .ok (.aload_n 1, 1) := dk_43 (dk_at dksX2_take_1 9 rfl rfl)
theorem dX2_take_34 : decode cX2_take 34 = .ok (.getfield 15, 3) := dk_180 0 15 (dk_at dksX2_take_1 10 rfl rfl)
theorem dX2_take_37 : decode cX2_take 37 = .ok (.putfield 15, 3) := dk_181 0 15 (dk_at dksX2_take_1 13 rfl rfl)
theorem dX2_take_40 : decode cX2_take 40 = .ok (.aload_n 1, 1) := dk_43 (dk_at dksX2_take_1 16 rfl rfl)
theorem dX2_take_41 : decode cX2_take 41 = .ok (.getfield 18, 3) := dk_180 0 18 (dk_at dksX2_take_1 17 rfl rfl)
theorem dX2_take_44 : decode cX2_take 44 = .ok (.iconst 0, 1) := dk_3 (dk_at dksX2_take_1 20 rfl rfl)
theorem dX2_take_45 : decode cX2_take 45 = .ok (.aload_n 0, 1) := dk_42 (dk_at dksX2_take_1 21 rfl rfl)
theorem dX2_take_46 : decode cX2_take 46 = .ok (.getfield 18, 3) := dk_180 0 18 (dk_at dksX2_take_2 0 rfl rfl)
theorem dX2_take_49 : decode cX2_take 49 = .ok (.iconst 0, 1) := dk_3 (dk_at dksX2_take_2 3 rfl rfl)
theorem dX2_take_50 : decode cX2_take 50 = .ok (.aload_n 0, 1) := dk_42 (dk_at dksX2_take_2 4 rfl rfl)
theorem dX2_take_51 : decode cX2_take 51 = .ok (.getfield 37, 3) := dk_180 0 37 (dk_at dksX2_take_2 5 rfl rfl)
theorem dX2_take_54 : decode cX2_take 54 = .ok (.invokestatic 43, 3) := dk_184 0 43 (dk_at dksX2_take_2 8 rfl rfl)
theorem dX2_take_57 : decode cX2_take 57 = .ok (.aload_n 1, 1) := dk_43 (dk_at dksX2_take_2 11 rfl rfl)
theorem dX2_take_58 : decode cX2_take 58 = .ok (.getfield 24, 3) := dk_180 0 24 (dk_at dksX2_take_2 12 rfl rfl)
theorem dX2_take_61 : decode cX2_take 61 = .ok (.iconst 0, 1) := dk_3 (dk_at dksX2_take_2 15 rfl rfl)
theorem dX2_take_62 : decode cX2_take 62 = .ok (.aload_n 0, 1) := dk_42 (dk_at dksX2_take_2 16 rfl rfl)
theorem dX2_take_63 : decode cX2_take 63 = .ok (.getfield 24, 3) := dk_180 0 24 (dk_at dksX2_take_2 17 rfl rfl)
theorem dX2_take_66 : decode cX2_take 66 = .ok (.iconst 0, 1) := dk_3 (dk_at dksX2_take_2 20 rfl rfl)
theorem dX2_take_67 : decode cX2_take 67 = .ok (.aload_n 0, 1) := dk_42 (dk_at dksX2_take_2 21 rfl rfl)
theorem dX2_take_68 : decode cX2_take 68 = .ok (.getfield 34, 3) := dk_180 0 34 (dk_at dksX2_take_3 0 rfl rfl)
theorem dX2_take_71 : decode cX2_take 71 = .ok (.invokestatic 43, 3) := dk_184 0 43 (dk_at dksX2_take_3 3 rfl rfl)
theorem dX2_take_74 : decode cX2_take 74 = .ok (.aload_n 1, 1) := dk_43 (dk_at dksX2_take_3 6 rfl rfl)
theorem dX2_take_75 : decode cX2_take 75 = .ok (.getfield 28, 3) := dk_180 0 28 (dk_at dksX2_take_3 7 rfl rfl)
theorem dX2_take_78 : decode cX2_take 78 = .ok (.iconst 0, 1) := dk_3 (dk_at dksX2_take_3 10 rfl rfl)
theorem dX2_take_79 : decode cX2_take 79 = .ok (.aload_n 0, 1) := dk_42 (dk_at dksX2_take_3 11 rfl rfl)
theorem dX2_take_80 : decode cX2_take 80 = .ok (.getfield 28, 3) := dk_180 0 28 (dk_at dksX2_take_3 12 rfl rfl)
theorem dX2_take_83 : decode cX2_take 83 = .ok (.iconst 0, 1) := dk_3 (dk_at dksX2_take_3 15 rfl rfl)
theorem dX2_take_84 : decode cX2_take 84 = .ok (.aload_n 0, 1) := dk_42 (dk_at dksX2_take_3 16 rfl rfl)
theorem dX2_take_85 : decode cX2_take 85 = .ok (.getfield 34, 3) := dk_180 0 34 (dk_at dksX2_take_3 17 rfl rfl)
theorem dX2_take_88 : decode cX2_take 88 = .ok (.invokestatic 43, 3) := dk_184 0 43 (dk_at dksX2_take_3 20 rfl rfl)
theorem dX2_take_91 : decode cX2_take 91 = .ok (.aload_n 1, 1) := dk_43 (dk_at dksX2_take_3 23 rfl rfl)
theorem dX2_take_92 : decode cX2_take 92 = .ok (.getfield 31, 3) := dk_180 0 31 (dk_at dksX2_take_4 0 rfl rfl)
theorem dX2_take_95 : decode cX2_take 95 = .ok (.iconst 0, 1) := dk_3 (dk_at dksX2_take_4 3 rfl rfl)
theorem dX2_take_96 : decode cX2_take 96 = .ok (.aload_n 0, 1) := dk_42 (dk_at dksX2_take_4 4 rfl rfl)
theorem dX2_take_97 : decode cX2_take 97 = .ok (.getfield 31, 3) := dk_180 0 31 (dk_at dksX2_take_4 5 rfl rfl)
theorem dX2_take_100 : decode cX2_take 100 = .ok (.iconst 0, 1) := dk_3 (dk_at dksX2_take_4 8 rfl rfl)
theorem dX2_take_101 : decode cX2_take 101 = .ok (.aload_n 0, 1) := dk_42 (dk_at dksX2_take_4 9 rfl rfl)
theorem dX2_take_102 : decode cX2_take 102 = .ok (.getfield 34, 3) := dk_180 0 34 (dk_at dksX2_take_4 10 rfl rfl)
theorem dX2_take_105 : decode cX2_take 105 = .ok (.invokestatic 43, 3) := dk_184 0 43 (dk_at dksX2_take_4 13 rfl rfl)
theorem dX2_take_108 : decode cX2_take 108 = .ok (.aload_n 0, 1) := dk_42 (dk_at dksX2_take_4 16 rfl rfl)
theorem dX2_take_109 : decode cX2_take 109 = .ok (.areturn, 1) := dk_176 (dk_at dksX2_take_4 17 rfl rfl)
abbrev cX2_nearTo : ByteArray := prog_5_method_12_code
def yX2_nearTo : MethodName := ⟨RX2, "nearTo", "(I)I"⟩
def dkwX2_nearTo_1 : List UInt8 := [46, 184, 0, 63, 153, 0, 9, 4, 29, 120, 167, 0, 4, 3, 128, 61, 132, 3, 1, 167, 255, 217, 28, 172]
abbrev dktX2_nearTo_1 : List UInt8 := dkwX2_nearTo_1 ++ []
def dkwX2_nearTo_0 : List UInt8 := [3, 61, 3, 62, 29, 42, 180, 0, 34, 162, 0, 37, 28, 42, 180, 0, 28, 27, 46, 42, 180, 0, 28, 29]
abbrev dktX2_nearTo_0 : List UInt8 := dkwX2_nearTo_0 ++ dktX2_nearTo_1
theorem dksX2_nearTo_0 : cX2_nearTo.data.toList.drop 0 = dktX2_nearTo_0 := by decide +kernel
theorem dksX2_nearTo_1 : cX2_nearTo.data.toList.drop 24 = dktX2_nearTo_1 := dk_seg dksX2_nearTo_0 24 rfl rfl
theorem dX2_nearTo_0 : decode cX2_nearTo 0 = .ok (.iconst 0, 1) := dk_3 (dk_at dksX2_nearTo_0 0 rfl rfl)
theorem dX2_nearTo_1 : decode cX2_nearTo 1 = .ok (.istore_n 2, 1) := dk_61 (dk_at dksX2_nearTo_0 1 rfl rfl)
theorem dX2_nearTo_2 : decode cX2_nearTo 2 = .ok (.iconst 0, 1) := dk_3 (dk_at dksX2_nearTo_0 2 rfl rfl)
theorem dX2_nearTo_3 : decode cX2_nearTo 3 = .ok (.istore_n 3, 1) := dk_62 (dk_at dksX2_nearTo_0 3 rfl rfl)
theorem dX2_nearTo_4 : decode cX2_nearTo 4 = .ok (.iload_n 3, 1) := dk_29 (dk_at dksX2_nearTo_0 4 rfl rfl)
theorem dX2_nearTo_5 : decode cX2_nearTo 5 = .ok (.aload_n 0, 1) := dk_42 (dk_at dksX2_nearTo_0 5 rfl rfl)
theorem dX2_nearTo_6 : decode cX2_nearTo 6 = .ok (.getfield 34, 3) := dk_180 0 34 (dk_at dksX2_nearTo_0 6 rfl rfl)
theorem dX2_nearTo_9 : decode cX2_nearTo 9 = .ok (.if_icmp .ge 37, 3) := dk_162 0 37 (dk_at dksX2_nearTo_0 9 rfl rfl)
theorem dX2_nearTo_12 : decode cX2_nearTo 12 = .ok (.iload_n 2, 1) := dk_28 (dk_at dksX2_nearTo_0 12 rfl rfl)
theorem dX2_nearTo_13 : decode cX2_nearTo 13 = .ok (.aload_n 0, 1) := dk_42 (dk_at dksX2_nearTo_0 13 rfl rfl)
theorem dX2_nearTo_14 : decode cX2_nearTo 14 = .ok (.getfield 28, 3) := dk_180 0 28 (dk_at dksX2_nearTo_0 14 rfl rfl)
theorem dX2_nearTo_17 : decode cX2_nearTo 17 = .ok (.iload_n 1, 1) := dk_27 (dk_at dksX2_nearTo_0 17 rfl rfl)
theorem dX2_nearTo_18 : decode cX2_nearTo 18 = .ok (.iaload, 1) := dk_46 (dk_at dksX2_nearTo_0 18 rfl rfl)
theorem dX2_nearTo_19 : decode cX2_nearTo 19 = .ok (.aload_n 0, 1) := dk_42 (dk_at dksX2_nearTo_0 19 rfl rfl)
theorem dX2_nearTo_20 : decode cX2_nearTo 20 = .ok (.getfield 28, 3) := dk_180 0 28 (dk_at dksX2_nearTo_0 20 rfl rfl)
theorem dX2_nearTo_23 : decode cX2_nearTo 23 = .ok (.iload_n 3, 1) := dk_29 (dk_at dksX2_nearTo_0 23 rfl rfl)
theorem dX2_nearTo_24 : decode cX2_nearTo 24 = .ok (.iaload, 1) := dk_46 (dk_at dksX2_nearTo_1 0 rfl rfl)
theorem dX2_nearTo_25 : decode cX2_nearTo 25 = .ok (.invokestatic 63, 3) := dk_184 0 63 (dk_at dksX2_nearTo_1 1 rfl rfl)
theorem dX2_nearTo_28 : decode cX2_nearTo 28 = .ok (.ifCond .eq 9, 3) := dk_153 0 9 (dk_at dksX2_nearTo_1 4 rfl rfl)
theorem dX2_nearTo_31 : decode cX2_nearTo 31 = .ok (.iconst 1, 1) := dk_4 (dk_at dksX2_nearTo_1 7 rfl rfl)
theorem dX2_nearTo_32 : decode cX2_nearTo 32 = .ok (.iload_n 3, 1) := dk_29 (dk_at dksX2_nearTo_1 8 rfl rfl)
theorem dX2_nearTo_33 : decode cX2_nearTo 33 = .ok (.ishl, 1) := dk_120 (dk_at dksX2_nearTo_1 9 rfl rfl)
theorem dX2_nearTo_34 : decode cX2_nearTo 34 = .ok (.goto 4, 3) := dk_167 0 4 (dk_at dksX2_nearTo_1 10 rfl rfl)
theorem dX2_nearTo_37 : decode cX2_nearTo 37 = .ok (.iconst 0, 1) := dk_3 (dk_at dksX2_nearTo_1 13 rfl rfl)
theorem dX2_nearTo_38 : decode cX2_nearTo 38 = .ok (.ior, 1) := dk_128 (dk_at dksX2_nearTo_1 14 rfl rfl)
theorem dX2_nearTo_39 : decode cX2_nearTo 39 = .ok (.istore_n 2, 1) := dk_61 (dk_at dksX2_nearTo_1 15 rfl rfl)
theorem dX2_nearTo_40 : decode cX2_nearTo 40 = .ok (.iinc 3 1, 3) := dk_132 3 1 (dk_at dksX2_nearTo_1 16 rfl rfl)
theorem dX2_nearTo_43 : decode cX2_nearTo 43 = .ok (.goto (-39), 3) := dk_167 255 217 (dk_at dksX2_nearTo_1 19 rfl rfl)
theorem dX2_nearTo_46 : decode cX2_nearTo 46 = .ok (.iload_n 2, 1) := dk_28 (dk_at dksX2_nearTo_1 22 rfl rfl)
theorem dX2_nearTo_47 : decode cX2_nearTo 47 = .ok (.ireturn, 1) := dk_172 (dk_at dksX2_nearTo_1 23 rfl rfl)
abbrev cX2_areNear : ByteArray := prog_5_method_11_code
def yX2_areNear : MethodName := ⟨RX2, "areNear", "(II)Z"⟩
def dkwX2_areNear_1 : List UInt8 := [16, 6, 112, 27, 16, 6, 112, 100, 184, 0, 58, 4, 163, 0, 7, 4, 167, 0, 4, 3, 172]
abbrev dktX2_areNear_1 : List UInt8 := dkwX2_areNear_1 ++ []
def dkwX2_areNear_0 : List UInt8 := [26, 16, 6, 108, 27, 16, 6, 108, 100, 184, 0, 58, 61, 26, 27, 159, 0, 28, 28, 4, 163, 0, 23, 26]
abbrev dktX2_areNear_0 : List UInt8 := dkwX2_areNear_0 ++ dktX2_areNear_1
theorem dksX2_areNear_0 : cX2_areNear.data.toList.drop 0 = dktX2_areNear_0 := by decide +kernel
theorem dksX2_areNear_1 : cX2_areNear.data.toList.drop 24 = dktX2_areNear_1 := dk_seg dksX2_areNear_0 24 rfl rfl
theorem dX2_areNear_0 : decode cX2_areNear 0 = .ok (.iload_n 0, 1) := dk_26 (dk_at dksX2_areNear_0 0 rfl rfl)
theorem dX2_areNear_1 : decode cX2_areNear 1 = .ok (.bipush 6, 2) := dk_16 6 (dk_at dksX2_areNear_0 1 rfl rfl)
theorem dX2_areNear_3 : decode cX2_areNear 3 = .ok (.idiv, 1) := dk_108 (dk_at dksX2_areNear_0 3 rfl rfl)
theorem dX2_areNear_4 : decode cX2_areNear 4 = .ok (.iload_n 1, 1) := dk_27 (dk_at dksX2_areNear_0 4 rfl rfl)
theorem dX2_areNear_5 : decode cX2_areNear 5 = .ok (.bipush 6, 2) := dk_16 6 (dk_at dksX2_areNear_0 5 rfl rfl)
theorem dX2_areNear_7 : decode cX2_areNear 7 = .ok (.idiv, 1) := dk_108 (dk_at dksX2_areNear_0 7 rfl rfl)
theorem dX2_areNear_8 : decode cX2_areNear 8 = .ok (.isub, 1) := dk_100 (dk_at dksX2_areNear_0 8 rfl rfl)
theorem dX2_areNear_9 : decode cX2_areNear 9 = .ok (.invokestatic 58, 3) := dk_184 0 58 (dk_at dksX2_areNear_0 9 rfl rfl)
theorem dX2_areNear_12 : decode cX2_areNear 12 = .ok (.istore_n 2, 1) := dk_61 (dk_at dksX2_areNear_0 12 rfl rfl)
theorem dX2_areNear_13 : decode cX2_areNear 13 = .ok (.iload_n 0, 1) := dk_26 (dk_at dksX2_areNear_0 13 rfl rfl)
theorem dX2_areNear_14 : decode cX2_areNear 14 = .ok (.iload_n 1, 1) := dk_27 (dk_at dksX2_areNear_0 14 rfl rfl)
theorem dX2_areNear_15 : decode cX2_areNear 15 = .ok (.if_icmp .eq 28, 3) := dk_159 0 28 (dk_at dksX2_areNear_0 15 rfl rfl)
theorem dX2_areNear_18 : decode cX2_areNear 18 = .ok (.iload_n 2, 1) := dk_28 (dk_at dksX2_areNear_0 18 rfl rfl)
theorem dX2_areNear_19 : decode cX2_areNear 19 = .ok (.iconst 1, 1) := dk_4 (dk_at dksX2_areNear_0 19 rfl rfl)
theorem dX2_areNear_20 : decode cX2_areNear 20 = .ok (.if_icmp .gt 23, 3) := dk_163 0 23 (dk_at dksX2_areNear_0 20 rfl rfl)
theorem dX2_areNear_23 : decode cX2_areNear 23 = .ok (.iload_n 0, 1) := dk_26 (dk_at dksX2_areNear_0 23 rfl rfl)
theorem dX2_areNear_24 : decode cX2_areNear 24 = .ok (.bipush 6, 2) := dk_16 6 (dk_at dksX2_areNear_1 0 rfl rfl)
theorem dX2_areNear_26 : decode cX2_areNear 26 = .ok (.irem, 1) := dk_112 (dk_at dksX2_areNear_1 2 rfl rfl)
theorem dX2_areNear_27 : decode cX2_areNear 27 = .ok (.iload_n 1, 1) := dk_27 (dk_at dksX2_areNear_1 3 rfl rfl)
theorem dX2_areNear_28 : decode cX2_areNear 28 = .ok (.bipush 6, 2) := dk_16 6 (dk_at dksX2_areNear_1 4 rfl rfl)
theorem dX2_areNear_30 : decode cX2_areNear 30 = .ok (.irem, 1) := dk_112 (dk_at dksX2_areNear_1 6 rfl rfl)
theorem dX2_areNear_31 : decode cX2_areNear 31 = .ok (.isub, 1) := dk_100 (dk_at dksX2_areNear_1 7 rfl rfl)
theorem dX2_areNear_32 : decode cX2_areNear 32 = .ok (.invokestatic 58, 3) := dk_184 0 58 (dk_at dksX2_areNear_1 8 rfl rfl)
theorem dX2_areNear_35 : decode cX2_areNear 35 = .ok (.iconst 1, 1) := dk_4 (dk_at dksX2_areNear_1 11 rfl rfl)
theorem dX2_areNear_36 : decode cX2_areNear 36 = .ok (.if_icmp .gt 7, 3) := dk_163 0 7 (dk_at dksX2_areNear_1 12 rfl rfl)
theorem dX2_areNear_39 : decode cX2_areNear 39 = .ok (.iconst 1, 1) := dk_4 (dk_at dksX2_areNear_1 15 rfl rfl)
theorem dX2_areNear_40 : decode cX2_areNear 40 = .ok (.goto 4, 3) := dk_167 0 4 (dk_at dksX2_areNear_1 16 rfl rfl)
theorem dX2_areNear_43 : decode cX2_areNear 43 = .ok (.iconst 0, 1) := dk_3 (dk_at dksX2_areNear_1 19 rfl rfl)
theorem dX2_areNear_44 : decode cX2_areNear 44 = .ok (.ireturn, 1) := dk_172 (dk_at dksX2_areNear_1 20 rfl rfl)
abbrev cX2_isKnown : ByteArray := prog_5_method_8_code
def yX2_isKnown : MethodName := ⟨RX2, "isKnown", "(II)Z"⟩
def dkwX2_isKnown_0 : List UInt8 := [42, 180, 0, 31, 27, 46, 28, 122, 4, 126, 153, 0, 7, 4, 167, 0, 4, 3, 172]
abbrev dktX2_isKnown_0 : List UInt8 := dkwX2_isKnown_0 ++ []
theorem dksX2_isKnown_0 : cX2_isKnown.data.toList.drop 0 = dktX2_isKnown_0 := by decide +kernel
theorem dX2_isKnown_0 : decode cX2_isKnown 0 = .ok (.aload_n 0, 1) := dk_42 (dk_at dksX2_isKnown_0 0 rfl rfl)
theorem dX2_isKnown_1 : decode cX2_isKnown 1 = .ok (.getfield 31, 3) := dk_180 0 31 (dk_at dksX2_isKnown_0 1 rfl rfl)
theorem dX2_isKnown_4 : decode cX2_isKnown 4 = .ok (.iload_n 1, 1) := dk_27 (dk_at dksX2_isKnown_0 4 rfl rfl)
theorem dX2_isKnown_5 : decode cX2_isKnown 5 = .ok (.iaload, 1) := dk_46 (dk_at dksX2_isKnown_0 5 rfl rfl)
theorem dX2_isKnown_6 : decode cX2_isKnown 6 = .ok (.iload_n 2, 1) := dk_28 (dk_at dksX2_isKnown_0 6 rfl rfl)
theorem dX2_isKnown_7 : decode cX2_isKnown 7 = .ok (.ishr, 1) := dk_122 (dk_at dksX2_isKnown_0 7 rfl rfl)
theorem dX2_isKnown_8 : decode cX2_isKnown 8 = .ok (.iconst 1, 1) := dk_4 (dk_at dksX2_isKnown_0 8 rfl rfl)
theorem dX2_isKnown_9 : decode cX2_isKnown 9 = .ok (.iand, 1) := dk_126 (dk_at dksX2_isKnown_0 9 rfl rfl)
theorem dX2_isKnown_10 : decode cX2_isKnown 10 = .ok (.ifCond .eq 7, 3) := dk_153 0 7 (dk_at dksX2_isKnown_0 10 rfl rfl)
theorem dX2_isKnown_13 : decode cX2_isKnown 13 = .ok (.iconst 1, 1) := dk_4 (dk_at dksX2_isKnown_0 13 rfl rfl)
theorem dX2_isKnown_14 : decode cX2_isKnown 14 = .ok (.goto 4, 3) := dk_167 0 4 (dk_at dksX2_isKnown_0 14 rfl rfl)
theorem dX2_isKnown_17 : decode cX2_isKnown 17 = .ok (.iconst 0, 1) := dk_3 (dk_at dksX2_isKnown_0 17 rfl rfl)
theorem dX2_isKnown_18 : decode cX2_isKnown 18 = .ok (.ireturn, 1) := dk_172 (dk_at dksX2_isKnown_0 18 rfl rfl)
abbrev cX2_knownTogether : ByteArray := prog_5_method_10_code
def yX2_knownTogether : MethodName := ⟨RX2, "knownTogether", "()I"⟩
def dkwX2_knownTogether_1 : List UInt8 := [167, 255, 237, 27, 172]
abbrev dktX2_knownTogether_1 : List UInt8 := dkwX2_knownTogether_1 ++ []
def dkwX2_knownTogether_0 : List UInt8 := [3, 60, 3, 61, 28, 42, 180, 0, 34, 162, 0, 17, 27, 42, 28, 182, 0, 55, 96, 60, 132, 2, 1]
abbrev dktX2_knownTogether_0 : List UInt8 := dkwX2_knownTogether_0 ++ dktX2_knownTogether_1
theorem dksX2_knownTogether_0 : cX2_knownTogether.data.toList.drop 0 = dktX2_knownTogether_0 := by decide +kernel
theorem dksX2_knownTogether_1 : cX2_knownTogether.data.toList.drop 23 = dktX2_knownTogether_1 := dk_seg dksX2_knownTogether_0 23 rfl rfl
theorem dX2_knownTogether_0 : decode cX2_knownTogether 0 = .ok (.iconst 0, 1) := dk_3 (dk_at dksX2_knownTogether_0 0 rfl rfl)
theorem dX2_knownTogether_1 : decode cX2_knownTogether 1 = .ok (.istore_n 1, 1) := dk_60 (dk_at dksX2_knownTogether_0 1 rfl rfl)
theorem dX2_knownTogether_2 : decode cX2_knownTogether 2 = .ok (.iconst 0, 1) := dk_3 (dk_at dksX2_knownTogether_0 2 rfl rfl)
theorem dX2_knownTogether_3 : decode cX2_knownTogether 3 = .ok (.istore_n 2, 1) := dk_61 (dk_at dksX2_knownTogether_0 3 rfl rfl)
theorem dX2_knownTogether_4 : decode cX2_knownTogether 4 = .ok (.iload_n 2, 1) := dk_28 (dk_at dksX2_knownTogether_0 4 rfl rfl)
theorem dX2_knownTogether_5 : decode cX2_knownTogether 5 = .ok (.aload_n 0, 1) := dk_42 (dk_at dksX2_knownTogether_0 5 rfl rfl)
theorem dX2_knownTogether_6 : decode cX2_knownTogether 6 = .ok (.getfield 34, 3) := dk_180 0 34 (dk_at dksX2_knownTogether_0 6 rfl rfl)
theorem dX2_knownTogether_9 : decode cX2_knownTogether 9 = .ok (.if_icmp .ge 17, 3) := dk_162 0 17 (dk_at dksX2_knownTogether_0 9 rfl rfl)
theorem dX2_knownTogether_12 : decode cX2_knownTogether 12 = .ok (.iload_n 1, 1) := dk_27 (dk_at dksX2_knownTogether_0 12 rfl rfl)
theorem dX2_knownTogether_13 : decode cX2_knownTogether 13 = .ok (.aload_n 0, 1) := dk_42 (dk_at dksX2_knownTogether_0 13 rfl rfl)
theorem dX2_knownTogether_14 : decode cX2_knownTogether 14 = .ok (.iload_n 2, 1) := dk_28 (dk_at dksX2_knownTogether_0 14 rfl rfl)
theorem dX2_knownTogether_15 : decode cX2_knownTogether 15 = .ok (.invokevirtual 55, 3) := dk_182 0 55 (dk_at dksX2_knownTogether_0 15 rfl rfl)
theorem dX2_knownTogether_18 : decode cX2_knownTogether 18 = .ok (.iadd, 1) := dk_96 (dk_at dksX2_knownTogether_0 18 rfl rfl)
theorem dX2_knownTogether_19 : decode cX2_knownTogether 19 = .ok (.istore_n 1, 1) := dk_60 (dk_at dksX2_knownTogether_0 19 rfl rfl)
theorem dX2_knownTogether_20 : decode cX2_knownTogether 20 = .ok (.iinc 2 1, 3) := dk_132 2 1 (dk_at dksX2_knownTogether_0 20 rfl rfl)
theorem dX2_knownTogether_23 : decode cX2_knownTogether 23 = .ok (.goto (-19), 3) := dk_167 255 237 (dk_at dksX2_knownTogether_1 0 rfl rfl)
theorem dX2_knownTogether_26 : decode cX2_knownTogether 26 = .ok (.iload_n 1, 1) := dk_27 (dk_at dksX2_knownTogether_1 3 rfl rfl)
theorem dX2_knownTogether_27 : decode cX2_knownTogether 27 = .ok (.ireturn, 1) := dk_172 (dk_at dksX2_knownTogether_1 4 rfl rfl)
abbrev cX2_draw : ByteArray := prog_5_method_13_code
def yX2_draw : MethodName := ⟨RX2, "draw", "(I)I"⟩
def dkwX2_draw_1 : List UInt8 := [172]
abbrev dktX2_draw_1 : List UInt8 := dkwX2_draw_1 ++ []
def dkwX2_draw_0 : List UInt8 := [42, 42, 180, 0, 15, 18, 67, 104, 17, 48, 57, 96, 181, 0, 15, 42, 180, 0, 15, 16, 16, 124, 27, 112]
abbrev dktX2_draw_0 : List UInt8 := dkwX2_draw_0 ++ dktX2_draw_1
theorem dksX2_draw_0 : cX2_draw.data.toList.drop 0 = dktX2_draw_0 := by decide +kernel
theorem dksX2_draw_1 : cX2_draw.data.toList.drop 24 = dktX2_draw_1 := dk_seg dksX2_draw_0 24 rfl rfl
theorem dX2_draw_0 : decode cX2_draw 0 = .ok (.aload_n 0, 1) := dk_42 (dk_at dksX2_draw_0 0 rfl rfl)
theorem dX2_draw_1 : decode cX2_draw 1 = .ok (.aload_n 0, 1) := dk_42 (dk_at dksX2_draw_0 1 rfl rfl)
theorem dX2_draw_2 : decode cX2_draw 2 = .ok (.getfield 15, 3) := dk_180 0 15 (dk_at dksX2_draw_0 2 rfl rfl)
theorem dX2_draw_5 : decode cX2_draw 5 = .ok (.ldc 67, 2) := dk_18 67 (dk_at dksX2_draw_0 5 rfl rfl)
theorem dX2_draw_7 : decode cX2_draw 7 = .ok (.imul, 1) := dk_104 (dk_at dksX2_draw_0 7 rfl rfl)
theorem dX2_draw_8 : decode cX2_draw 8 = .ok (.sipush 12345, 3) := dk_17 48 57 (dk_at dksX2_draw_0 8 rfl rfl)
theorem dX2_draw_11 : decode cX2_draw 11 = .ok (.iadd, 1) := dk_96 (dk_at dksX2_draw_0 11 rfl rfl)
theorem dX2_draw_12 : decode cX2_draw 12 = .ok (.putfield 15, 3) := dk_181 0 15 (dk_at dksX2_draw_0 12 rfl rfl)
theorem dX2_draw_15 : decode cX2_draw 15 = .ok (.aload_n 0, 1) := dk_42 (dk_at dksX2_draw_0 15 rfl rfl)
theorem dX2_draw_16 : decode cX2_draw 16 = .ok (.getfield 15, 3) := dk_180 0 15 (dk_at dksX2_draw_0 16 rfl rfl)
theorem dX2_draw_19 : decode cX2_draw 19 = .ok (.bipush 16, 2) := dk_16 16 (dk_at dksX2_draw_0 19 rfl rfl)
theorem dX2_draw_21 : decode cX2_draw 21 = .ok (.iushr, 1) := dk_124 (dk_at dksX2_draw_0 21 rfl rfl)
theorem dX2_draw_22 : decode cX2_draw 22 = .ok (.iload_n 1, 1) := dk_27 (dk_at dksX2_draw_0 22 rfl rfl)
theorem dX2_draw_23 : decode cX2_draw 23 = .ok (.irem, 1) := dk_112 (dk_at dksX2_draw_0 23 rfl rfl)
theorem dX2_draw_24 : decode cX2_draw 24 = .ok (.ireturn, 1) := dk_172 (dk_at dksX2_draw_1 0 rfl rfl)
theorem q85 : (Jvm.Cond.initialized "WhichOneAllKnow$Church") ∈ lw_all := lw_g (lw_at lw_m1 3 rfl) rfl
theorem q145 : (Jvm.Cond.instantiable "WhichOneAllKnow$Church" (9 : Nat)) ∈ lw_all := lw_g (lw_at lw_m1 63 rfl) rfl
theorem q147 : (Jvm.Cond.instanceMethod ({ cls := "WhichOneAllKnow$Church", name := "<init>", desc := "()V" } : Jvm.MethodName)) ∈ lw_all := lw_g (lw_at lw_m1 65 rfl) rfl
theorem q148 : (Jvm.Cond.code ({ cls := "WhichOneAllKnow$Church", name := "<init>", desc := "()V" } : Jvm.MethodName) prog_5_method_1_code (1 : Nat) (Option.none : Option Jvm.ClassFile.FieldType)) ∈ lw_all := lw_g (lw_at lw_m1 66 rfl) rfl
theorem q149 : (Jvm.Cond.methodLink "WhichOneAllKnow$Church" (3 : Nat) ({ cls := "java/lang/Object", name := "<init>", desc := "()V" } : Jvm.MethodName)) ∈ lw_all := lw_g (lw_at lw_m1 67 rfl) rfl
theorem q150 : (Jvm.Cond.classLink "WhichOneAllKnow$Church" (22 : Nat) "WhichOneAllKnow$Voice") ∈ lw_all := lw_g (lw_at lw_m1 68 rfl) rfl
theorem q152 : (Jvm.Cond.fieldLink "WhichOneAllKnow$Church" (34 : Nat) "WhichOneAllKnow$Church" "many" "I") ∈ lw_all := lw_g (lw_at lw_m1 70 rfl) rfl
theorem q156 : (Jvm.Cond.fieldLink "WhichOneAllKnow$Church" (37 : Nat) "WhichOneAllKnow$Church" "tunes" "I") ∈ lw_all := lw_g (lw_at lw_m1 74 rfl) rfl
theorem q159 : (Jvm.Cond.fieldLink "WhichOneAllKnow$Church" (9 : Nat) "WhichOneAllKnow$Church" "wait" "I") ∈ lw_all := lw_g (lw_at lw_m1 77 rfl) rfl
theorem q162 : (Jvm.Cond.fieldLink "WhichOneAllKnow$Church" (40 : Nat) "WhichOneAllKnow$Church" "hymns" "I") ∈ lw_all := lw_g (lw_at lw_m1 80 rfl) rfl
theorem q164 : (Jvm.Cond.fieldLink "WhichOneAllKnow$Church" (15 : Nat) "WhichOneAllKnow$Church" "seed" "I") ∈ lw_all := lw_g (lw_at lw_m1 82 rfl) rfl
theorem q166 : (Jvm.Cond.fieldLink "WhichOneAllKnow$Church" (18 : Nat) "WhichOneAllKnow$Church" "high" "[I") ∈ lw_all := lw_g (lw_at lw_m1 84 rfl) rfl
theorem q169 : (Jvm.Cond.fieldLink "WhichOneAllKnow$Church" (24 : Nat) "WhichOneAllKnow$Church" "voices" "[LWhichOneAllKnow$Voice;") ∈ lw_all := lw_g (lw_at lw_m1 87 rfl) rfl
theorem q172 : (Jvm.Cond.fieldLink "WhichOneAllKnow$Church" (28 : Nat) "WhichOneAllKnow$Church" "place" "[I") ∈ lw_all := lw_g (lw_at lw_m1 90 rfl) rfl
theorem q176 : (Jvm.Cond.fieldLink "WhichOneAllKnow$Church" (31 : Nat) "WhichOneAllKnow$Church" "knows" "[I") ∈ lw_all := lw_g (lw_at lw_m1 94 rfl) rfl
theorem q179 : (Jvm.Cond.lays "WhichOneAllKnow$Church" "WhichOneAllKnow$Church" "many" "I") ∈ lw_all := lw_g (lw_at lw_m1 97 rfl) rfl
theorem q180 : (Jvm.Cond.soleField "WhichOneAllKnow$Church" "many") ∈ lw_all := lw_g (lw_at lw_m1 98 rfl) rfl
theorem q181 : (Jvm.Cond.lays "WhichOneAllKnow$Church" "WhichOneAllKnow$Church" "tunes" "I") ∈ lw_all := lw_g (lw_at lw_m1 99 rfl) rfl
theorem q182 : (Jvm.Cond.soleField "WhichOneAllKnow$Church" "tunes") ∈ lw_all := lw_g (lw_at lw_m1 100 rfl) rfl
theorem q183 : (Jvm.Cond.lays "WhichOneAllKnow$Church" "WhichOneAllKnow$Church" "wait" "I") ∈ lw_all := lw_g (lw_at lw_m1 101 rfl) rfl
theorem q184 : (Jvm.Cond.soleField "WhichOneAllKnow$Church" "wait") ∈ lw_all := lw_g (lw_at lw_m1 102 rfl) rfl
theorem q185 : (Jvm.Cond.lays "WhichOneAllKnow$Church" "WhichOneAllKnow$Church" "hymns" "I") ∈ lw_all := lw_g (lw_at lw_m1 103 rfl) rfl
theorem q186 : (Jvm.Cond.soleField "WhichOneAllKnow$Church" "hymns") ∈ lw_all := lw_g (lw_at lw_m1 104 rfl) rfl
theorem q187 : (Jvm.Cond.lays "WhichOneAllKnow$Church" "WhichOneAllKnow$Church" "seed" "I") ∈ lw_all := lw_g (lw_at lw_m1 105 rfl) rfl
theorem q188 : (Jvm.Cond.soleField "WhichOneAllKnow$Church" "seed") ∈ lw_all := lw_g (lw_at lw_m1 106 rfl) rfl
theorem q189 : (Jvm.Cond.laysFinal "WhichOneAllKnow$Church" "WhichOneAllKnow$Church" "high" "[I") ∈ lw_all := lw_g (lw_at lw_m1 107 rfl) rfl
theorem q190 : (Jvm.Cond.soleField "WhichOneAllKnow$Church" "high") ∈ lw_all := lw_g (lw_at lw_m1 108 rfl) rfl
theorem q191 : (Jvm.Cond.laysFinal "WhichOneAllKnow$Church" "WhichOneAllKnow$Church" "voices" "[LWhichOneAllKnow$Voice;") ∈ lw_all := lw_g (lw_at lw_m1 109 rfl) rfl
theorem q192 : (Jvm.Cond.soleField "WhichOneAllKnow$Church" "voices") ∈ lw_all := lw_g (lw_at lw_m1 110 rfl) rfl
theorem q193 : (Jvm.Cond.laysFinal "WhichOneAllKnow$Church" "WhichOneAllKnow$Church" "place" "[I") ∈ lw_all := lw_g (lw_at lw_m1 111 rfl) rfl
theorem q194 : (Jvm.Cond.soleField "WhichOneAllKnow$Church" "place") ∈ lw_all := lw_g (lw_at lw_m1 112 rfl) rfl
theorem q195 : (Jvm.Cond.laysFinal "WhichOneAllKnow$Church" "WhichOneAllKnow$Church" "knows" "[I") ∈ lw_all := lw_g (lw_at lw_m1 113 rfl) rfl
theorem q196 : (Jvm.Cond.soleField "WhichOneAllKnow$Church" "knows") ∈ lw_all := lw_g (lw_at lw_m1 114 rfl) rfl
theorem q197 : (Jvm.Cond.superclass "WhichOneAllKnow$Church" "java/lang/Object") ∈ lw_all := lw_g (lw_at lw_m1 115 rfl) rfl
theorem q692 : (Jvm.Cond.instanceMethod ({ cls := "WhichOneAllKnow$Church", name := "isVoice", desc := "(I)Z" } : Jvm.MethodName)) ∈ lw_all := lw_g (lw_at lw_m3 130 rfl) rfl
theorem q693 : (Jvm.Cond.selects "WhichOneAllKnow$Church" ({ cls := "WhichOneAllKnow$Church", name := "isVoice", desc := "(I)Z" } : Jvm.MethodName) ({ cls := "WhichOneAllKnow$Church", name := "isVoice", desc := "(I)Z" } : Jvm.MethodName)) ∈ lw_all := lw_g (lw_at lw_m3 131 rfl) rfl
theorem q694 : (Jvm.Cond.code ({ cls := "WhichOneAllKnow$Church", name := "isVoice", desc := "(I)Z" } : Jvm.MethodName) prog_5_method_5_code (2 : Nat) (Option.some Jvm.ClassFile.FieldType.boolean)) ∈ lw_all := lw_g (lw_at lw_m3 132 rfl) rfl
theorem q714 : (Jvm.Cond.instanceMethod ({ cls := "WhichOneAllKnow$Church", name := "manyKnown", desc := "(I)I" } : Jvm.MethodName)) ∈ lw_all := lw_g (lw_at lw_m3 152 rfl) rfl
theorem q715 : (Jvm.Cond.selects "WhichOneAllKnow$Church" ({ cls := "WhichOneAllKnow$Church", name := "manyKnown", desc := "(I)I" } : Jvm.MethodName) ({ cls := "WhichOneAllKnow$Church", name := "manyKnown", desc := "(I)I" } : Jvm.MethodName)) ∈ lw_all := lw_g (lw_at lw_m3 153 rfl) rfl
theorem q716 : (Jvm.Cond.code ({ cls := "WhichOneAllKnow$Church", name := "manyKnown", desc := "(I)I" } : Jvm.MethodName) prog_5_method_9_code (2 : Nat) (Option.some Jvm.ClassFile.FieldType.int)) ∈ lw_all := lw_g (lw_at lw_m3 154 rfl) rfl
theorem q717 : (Jvm.Cond.methodLink "WhichOneAllKnow$Church" (49 : Nat) ({ cls := "java/lang/Integer", name := "bitCount", desc := "(I)I" } : Jvm.MethodName)) ∈ lw_all := lw_g (lw_at lw_m3 155 rfl) rfl
theorem q731 : (Jvm.Cond.instanceMethod ({ cls := "WhichOneAllKnow$Church", name := "addTune", desc := "(I)V" } : Jvm.MethodName)) ∈ lw_all := lw_g (lw_at lw_m3 169 rfl) rfl
theorem q732 : (Jvm.Cond.selects "WhichOneAllKnow$Church" ({ cls := "WhichOneAllKnow$Church", name := "addTune", desc := "(I)V" } : Jvm.MethodName) ({ cls := "WhichOneAllKnow$Church", name := "addTune", desc := "(I)V" } : Jvm.MethodName)) ∈ lw_all := lw_g (lw_at lw_m3 170 rfl) rfl
theorem q733 : (Jvm.Cond.code ({ cls := "WhichOneAllKnow$Church", name := "addTune", desc := "(I)V" } : Jvm.MethodName) prog_5_method_3_code (2 : Nat) (Option.none : Option Jvm.ClassFile.FieldType)) ∈ lw_all := lw_g (lw_at lw_m3 171 rfl) rfl
theorem q740 : (Jvm.Cond.instanceMethod ({ cls := "WhichOneAllKnow$Church", name := "isFree", desc := "(I)Z" } : Jvm.MethodName)) ∈ lw_all := lw_g (lw_at lw_m3 178 rfl) rfl
theorem q741 : (Jvm.Cond.selects "WhichOneAllKnow$Church" ({ cls := "WhichOneAllKnow$Church", name := "isFree", desc := "(I)Z" } : Jvm.MethodName) ({ cls := "WhichOneAllKnow$Church", name := "isFree", desc := "(I)Z" } : Jvm.MethodName)) ∈ lw_all := lw_g (lw_at lw_m3 179 rfl) rfl
theorem q742 : (Jvm.Cond.code ({ cls := "WhichOneAllKnow$Church", name := "isFree", desc := "(I)Z" } : Jvm.MethodName) prog_5_method_7_code (3 : Nat) (Option.some Jvm.ClassFile.FieldType.boolean)) ∈ lw_all := lw_g (lw_at lw_m3 180 rfl) rfl
theorem q745 : (Jvm.Cond.instanceMethod ({ cls := "WhichOneAllKnow$Church", name := "addVoice", desc := "(LWhichOneAllKnow$Voice;I)V" } : Jvm.MethodName)) ∈ lw_all := lw_g (lw_at lw_m3 183 rfl) rfl
theorem q746 : (Jvm.Cond.selects "WhichOneAllKnow$Church" ({ cls := "WhichOneAllKnow$Church", name := "addVoice", desc := "(LWhichOneAllKnow$Voice;I)V" } : Jvm.MethodName) ({ cls := "WhichOneAllKnow$Church", name := "addVoice", desc := "(LWhichOneAllKnow$Voice;I)V" } : Jvm.MethodName)) ∈ lw_all := lw_g (lw_at lw_m3 184 rfl) rfl
theorem q747 : (Jvm.Cond.code ({ cls := "WhichOneAllKnow$Church", name := "addVoice", desc := "(LWhichOneAllKnow$Voice;I)V" } : Jvm.MethodName) prog_5_method_4_code (3 : Nat) (Option.none : Option Jvm.ClassFile.FieldType)) ∈ lw_all := lw_g (lw_at lw_m3 185 rfl) rfl
theorem q757 : (Jvm.Cond.instanceMethod ({ cls := "WhichOneAllKnow$Church", name := "isTune", desc := "(I)Z" } : Jvm.MethodName)) ∈ lw_all := lw_g (lw_at lw_m3 195 rfl) rfl
theorem q758 : (Jvm.Cond.selects "WhichOneAllKnow$Church" ({ cls := "WhichOneAllKnow$Church", name := "isTune", desc := "(I)Z" } : Jvm.MethodName) ({ cls := "WhichOneAllKnow$Church", name := "isTune", desc := "(I)Z" } : Jvm.MethodName)) ∈ lw_all := lw_g (lw_at lw_m3 196 rfl) rfl
theorem q759 : (Jvm.Cond.code ({ cls := "WhichOneAllKnow$Church", name := "isTune", desc := "(I)Z" } : Jvm.MethodName) prog_5_method_6_code (2 : Nat) (Option.some Jvm.ClassFile.FieldType.boolean)) ∈ lw_all := lw_g (lw_at lw_m3 197 rfl) rfl
theorem q809 : (Jvm.Cond.instanceMethod ({ cls := "WhichOneAllKnow$Church", name := "take", desc := "(LWhichOneAllKnow$Church;)LWhichOneAllKnow$Church;" } : Jvm.MethodName)) ∈ lw_all := lw_g (lw_at lw_m4 7 rfl) rfl
theorem q810 : (Jvm.Cond.selects "WhichOneAllKnow$Church" ({ cls := "WhichOneAllKnow$Church", name := "take", desc := "(LWhichOneAllKnow$Church;)LWhichOneAllKnow$Church;" } : Jvm.MethodName) ({ cls := "WhichOneAllKnow$Church", name := "take", desc := "(LWhichOneAllKnow$Church;)LWhichOneAllKnow$Church;" } : Jvm.MethodName)) ∈ lw_all := lw_g (lw_at lw_m4 8 rfl) rfl
theorem q811 : (Jvm.Cond.code ({ cls := "WhichOneAllKnow$Church", name := "take", desc := "(LWhichOneAllKnow$Church;)LWhichOneAllKnow$Church;" } : Jvm.MethodName) prog_5_method_2_code (2 : Nat) (Option.some (Jvm.ClassFile.FieldType.object "WhichOneAllKnow$Church"))) ∈ lw_all := lw_g (lw_at lw_m4 9 rfl) rfl
theorem q812 : (Jvm.Cond.methodLink "WhichOneAllKnow$Church" (43 : Nat) ({ cls := "java/lang/System", name := "arraycopy", desc := "(Ljava/lang/Object;ILjava/lang/Object;II)V" } : Jvm.MethodName)) ∈ lw_all := lw_g (lw_at lw_m4 10 rfl) rfl
theorem q998 : (Jvm.Cond.instanceMethod ({ cls := "WhichOneAllKnow$Church", name := "nearTo", desc := "(I)I" } : Jvm.MethodName)) ∈ lw_all := lw_g (lw_at lw_m4 196 rfl) rfl
theorem q999 : (Jvm.Cond.selects "WhichOneAllKnow$Church" ({ cls := "WhichOneAllKnow$Church", name := "nearTo", desc := "(I)I" } : Jvm.MethodName) ({ cls := "WhichOneAllKnow$Church", name := "nearTo", desc := "(I)I" } : Jvm.MethodName)) ∈ lw_all := lw_g (lw_at lw_m4 197 rfl) rfl
theorem q1000 : (Jvm.Cond.code ({ cls := "WhichOneAllKnow$Church", name := "nearTo", desc := "(I)I" } : Jvm.MethodName) prog_5_method_12_code (4 : Nat) (Option.some Jvm.ClassFile.FieldType.int)) ∈ lw_all := lw_g (lw_at lw_m4 198 rfl) rfl
theorem q1001 : (Jvm.Cond.methodLink "WhichOneAllKnow$Church" (63 : Nat) ({ cls := "WhichOneAllKnow$Church", name := "areNear", desc := "(II)Z" } : Jvm.MethodName)) ∈ lw_all := lw_g (lw_at lw_m4 199 rfl) rfl
theorem q1002 : (Jvm.Cond.static ({ cls := "WhichOneAllKnow$Church", name := "areNear", desc := "(II)Z" } : Jvm.MethodName)) ∈ lw_all := lw_g (lw_at lw_m4 200 rfl) rfl
theorem q1003 : (Jvm.Cond.code ({ cls := "WhichOneAllKnow$Church", name := "areNear", desc := "(II)Z" } : Jvm.MethodName) prog_5_method_11_code (3 : Nat) (Option.some Jvm.ClassFile.FieldType.boolean)) ∈ lw_all := lw_g (lw_at lw_m4 201 rfl) rfl
theorem q1004 : (Jvm.Cond.methodLink "WhichOneAllKnow$Church" (58 : Nat) ({ cls := "java/lang/Math", name := "abs", desc := "(I)I" } : Jvm.MethodName)) ∈ lw_all := lw_g (lw_at lw_m4 202 rfl) rfl
theorem q1016 : (Jvm.Cond.instanceMethod ({ cls := "WhichOneAllKnow$Church", name := "isKnown", desc := "(II)Z" } : Jvm.MethodName)) ∈ lw_all := lw_g (lw_at lw_m4 214 rfl) rfl
theorem q1017 : (Jvm.Cond.selects "WhichOneAllKnow$Church" ({ cls := "WhichOneAllKnow$Church", name := "isKnown", desc := "(II)Z" } : Jvm.MethodName) ({ cls := "WhichOneAllKnow$Church", name := "isKnown", desc := "(II)Z" } : Jvm.MethodName)) ∈ lw_all := lw_g (lw_at lw_m4 215 rfl) rfl
theorem q1018 : (Jvm.Cond.code ({ cls := "WhichOneAllKnow$Church", name := "isKnown", desc := "(II)Z" } : Jvm.MethodName) prog_5_method_8_code (3 : Nat) (Option.some Jvm.ClassFile.FieldType.boolean)) ∈ lw_all := lw_g (lw_at lw_m4 216 rfl) rfl
theorem q1201 : (Jvm.Cond.instanceMethod ({ cls := "WhichOneAllKnow$Church", name := "knownTogether", desc := "()I" } : Jvm.MethodName)) ∈ lw_all := lw_g (lw_at lw_m5 159 rfl) rfl
theorem q1202 : (Jvm.Cond.selects "WhichOneAllKnow$Church" ({ cls := "WhichOneAllKnow$Church", name := "knownTogether", desc := "()I" } : Jvm.MethodName) ({ cls := "WhichOneAllKnow$Church", name := "knownTogether", desc := "()I" } : Jvm.MethodName)) ∈ lw_all := lw_g (lw_at lw_m5 160 rfl) rfl
theorem q1203 : (Jvm.Cond.code ({ cls := "WhichOneAllKnow$Church", name := "knownTogether", desc := "()I" } : Jvm.MethodName) prog_5_method_10_code (3 : Nat) (Option.some Jvm.ClassFile.FieldType.int)) ∈ lw_all := lw_g (lw_at lw_m5 161 rfl) rfl
theorem q1204 : (Jvm.Cond.methodLink "WhichOneAllKnow$Church" (55 : Nat) ({ cls := "WhichOneAllKnow$Church", name := "manyKnown", desc := "(I)I" } : Jvm.MethodName)) ∈ lw_all := lw_g (lw_at lw_m5 162 rfl) rfl
theorem q1247 : (Jvm.Cond.instanceMethod ({ cls := "WhichOneAllKnow$Church", name := "draw", desc := "(I)I" } : Jvm.MethodName)) ∈ lw_all := lw_g (lw_at lw_m5 205 rfl) rfl
theorem q1248 : (Jvm.Cond.selects "WhichOneAllKnow$Church" ({ cls := "WhichOneAllKnow$Church", name := "draw", desc := "(I)I" } : Jvm.MethodName) ({ cls := "WhichOneAllKnow$Church", name := "draw", desc := "(I)I" } : Jvm.MethodName)) ∈ lw_all := lw_g (lw_at lw_m5 206 rfl) rfl
theorem q1249 : (Jvm.Cond.code ({ cls := "WhichOneAllKnow$Church", name := "draw", desc := "(I)I" } : Jvm.MethodName) prog_5_method_13_code (2 : Nat) (Option.some Jvm.ClassFile.FieldType.int)) ∈ lw_all := lw_g (lw_at lw_m5 207 rfl) rfl
theorem q1250 : (Jvm.Cond.constant "WhichOneAllKnow$Church" (67 : Nat) (1103515245 : Int32)) ∈ lw_all := lw_g (lw_at lw_m5 208 rfl) rfl
theorem in_X2 : ∀ w ∈ wsX20, w ∈ lw_all := lw_in wsX20 [179, 181, 183, 185, 187, 189, 191, 193, 195] (by decide +kernel) (by decide +kernel)
/-! WhichOneAllKnow$Hymn -/
set_option maxRecDepth 100000
def RX3 : String := "WhichOneAllKnow$Hymn"
def TX3 : u_T := fun k => match k with
  | 0 => ("WhichOneAllKnow$Hymn", "right", "[I", true)
  | 1 => ("WhichOneAllKnow$Hymn", "wrong", "[I", true)
  | 2 => ("WhichOneAllKnow$Hymn", "miming", "[I", true)
  | 3 => ("WhichOneAllKnow$Hymn", "near", "[I", true)
  | 4 => ("WhichOneAllKnow$Hymn", "w", "LWhichOneAllKnow$Church;", false)
  | 5 => ("WhichOneAllKnow$Hymn", "tune", "I", false)
  | 6 => ("WhichOneAllKnow$Hymn", "pitch", "I", false)
  | _ => ("WhichOneAllKnow$Hymn", "without", "I", false)
def tyX3 : Nat → FieldType := fun k => match k with
  | 0 => .array .int
  | 1 => .array .int
  | 2 => .array .int
  | 3 => .array .int
  | 4 => .object "WhichOneAllKnow$Church"
  | 5 => .int
  | 6 => .int
  | _ => .int
abbrev wsX30 : List Cond := u_ws RX3 TX3 8
theorem nmX3 : ∀ a, a < 8 → ∀ b, b < 8 → a ≠ b → (TX3 a).2.1 ≠ (TX3 b).2.1 := by decide +kernel
theorem tyX3_ok : ∀ k, k < 8 → parseFieldDescriptor (TX3 k).2.2.1 = some (tyX3 k) := by decide +kernel
abbrev cX3_init : ByteArray := prog_8_method_1_code
def yX3_init : MethodName := ⟨RX3, "<init>", "()V"⟩
def dkwX3_init_1 : List UInt8 := [188, 10, 181, 0, 18, 42, 16, 14, 188, 10, 181, 0, 21, 177]
abbrev dktX3_init_1 : List UInt8 := dkwX3_init_1 ++ []
def dkwX3_init_0 : List UInt8 := [42, 183, 0, 3, 42, 16, 44, 188, 10, 181, 0, 9, 42, 16, 44, 188, 10, 181, 0, 15, 42, 16, 44]
abbrev dktX3_init_0 : List UInt8 := dkwX3_init_0 ++ dktX3_init_1
theorem dksX3_init_0 : cX3_init.data.toList.drop 0 = dktX3_init_0 := by decide +kernel
theorem dksX3_init_1 : cX3_init.data.toList.drop 23 = dktX3_init_1 := dk_seg dksX3_init_0 23 rfl rfl
theorem dX3_init_0 : decode cX3_init 0 = .ok (.aload_n 0, 1) := dk_42 (dk_at dksX3_init_0 0 rfl rfl)
theorem dX3_init_1 : decode cX3_init 1 = .ok (.invokespecial 3, 3) := dk_183 0 3 (dk_at dksX3_init_0 1 rfl rfl)
theorem dX3_init_4 : decode cX3_init 4 = .ok (.aload_n 0, 1) := dk_42 (dk_at dksX3_init_0 4 rfl rfl)
theorem dX3_init_5 : decode cX3_init 5 = .ok (.bipush 44, 2) := dk_16 44 (dk_at dksX3_init_0 5 rfl rfl)
theorem dX3_init_7 : decode cX3_init 7 = .ok (.newarray .int, 2) := dk_188_10 (dk_at dksX3_init_0 7 rfl rfl)
theorem dX3_init_9 : decode cX3_init 9 = .ok (.putfield 9, 3) := dk_181 0 9 (dk_at dksX3_init_0 9 rfl rfl)
theorem dX3_init_12 : decode cX3_init 12 = .ok (.aload_n 0, 1) := dk_42 (dk_at dksX3_init_0 12 rfl rfl)
theorem dX3_init_13 : decode cX3_init 13 = .ok (.bipush 44, 2) := dk_16 44 (dk_at dksX3_init_0 13 rfl rfl)
theorem dX3_init_15 : decode cX3_init 15 = .ok (.newarray .int, 2) := dk_188_10 (dk_at dksX3_init_0 15 rfl rfl)
theorem dX3_init_17 : decode cX3_init 17 = .ok (.putfield 15, 3) := dk_181 0 15 (dk_at dksX3_init_0 17 rfl rfl)
theorem dX3_init_20 : decode cX3_init 20 = .ok (.aload_n 0, 1) := dk_42 (dk_at dksX3_init_0 20 rfl rfl)
theorem dX3_init_21 : decode cX3_init 21 = .ok (.bipush 44, 2) := dk_16 44 (dk_at dksX3_init_0 21 rfl rfl)
theorem dX3_init_23 : decode cX3_init 23 = .ok (.newarray .int, 2) := dk_188_10 (dk_at dksX3_init_1 0 rfl rfl)
theorem dX3_init_25 : decode cX3_init 25 = .ok (.putfield 18, 3) := dk_181 0 18 (dk_at dksX3_init_1 2 rfl rfl)
theorem dX3_init_28 : decode cX3_init 28 = .ok (.aload_n 0, 1) := dk_42 (dk_at dksX3_init_1 5 rfl rfl)
theorem dX3_init_29 : decode cX3_init 29 = .ok (.bipush 14, 2) := dk_16 14 (dk_at dksX3_init_1 6 rfl rfl)
theorem dX3_init_31 : decode cX3_init 31 = .ok (.newarray .int, 2) := dk_188_10 (dk_at dksX3_init_1 8 rfl rfl)
theorem dX3_init_33 : decode cX3_init 33 = .ok (.putfield 21, 3) := dk_181 0 21 (dk_at dksX3_init_1 10 rfl rfl)
theorem dX3_init_36 : decode cX3_init 36 = .ok (.return_, 1) := dk_177 (dk_at dksX3_init_1 13 rfl rfl)
abbrev cX3_of : ByteArray := prog_8_method_6_code
def yX3_of : MethodName := ⟨RX3, "of", "(LWhichOneAllKnow$Church;III)LWhichOneAllKnow$Hymn;"⟩
def dkwX3_of_0 : List UInt8 := [42, 43, 28, 29, 21, 4, 2, 182, 0, 91, 176]
abbrev dktX3_of_0 : List UInt8 := dkwX3_of_0 ++ []
theorem dksX3_of_0 : cX3_of.data.toList.drop 0 = dktX3_of_0 := by decide +kernel
theorem dX3_of_0 : decode cX3_of 0 = .ok (.aload_n 0, 1) := dk_42 (dk_at dksX3_of_0 0 rfl rfl)
theorem dX3_of_1 : decode cX3_of 1 = .ok (.aload_n 1, 1) := dk_43 (dk_at dksX3_of_0 1 rfl rfl)
theorem dX3_of_2 : decode cX3_of 2 = .ok (.iload_n 2, 1) := dk_28 (dk_at dksX3_of_0 2 rfl rfl)
theorem dX3_of_3 : decode cX3_of 3 = .ok (.iload_n 3, 1) := dk_29 (dk_at dksX3_of_0 3 rfl rfl)
theorem dX3_of_4 : decode cX3_of 4 = .ok (.iload 4, 2) := dk_21 4 (dk_at dksX3_of_0 4 rfl rfl)
theorem dX3_of_6 : decode cX3_of 6 = .ok (.iconst (-1), 1) := dk_2 (dk_at dksX3_of_0 6 rfl rfl)
theorem dX3_of_7 : decode cX3_of 7 = .ok (.invokevirtual 91, 3) := dk_182 0 91 (dk_at dksX3_of_0 7 rfl rfl)
theorem dX3_of_10 : decode cX3_of 10 = .ok (.areturn, 1) := dk_176 (dk_at dksX3_of_0 10 rfl rfl)
abbrev cX3_of_2 : ByteArray := prog_8_method_5_code
def yX3_of_2 : MethodName := ⟨RX3, "of", "(LWhichOneAllKnow$Church;IIII)LWhichOneAllKnow$Hymn;"⟩
def dkwX3_of_2_5 : List UInt8 := [167, 255, 233, 132, 6, 1, 167, 255, 193, 42, 176]
abbrev dktX3_of_2_5 : List UInt8 := dkwX3_of_2_5 ++ []
def dkwX3_of_2_4 : List UInt8 := [21, 7, 42, 180, 0, 30, 180, 0, 81, 162, 0, 17, 42, 21, 7, 21, 6, 182, 0, 87, 132, 7, 1]
abbrev dktX3_of_2_4 : List UInt8 := dkwX3_of_2_4 ++ dktX3_of_2_5
def dkwX3_of_2_3 : List UInt8 := [21, 6, 3, 79, 42, 180, 0, 15, 21, 6, 3, 79, 42, 180, 0, 18, 21, 6, 3, 79, 3, 54, 7]
abbrev dktX3_of_2_3 : List UInt8 := dkwX3_of_2_3 ++ dktX3_of_2_4
def dkwX3_of_2_2 : List UInt8 := [182, 0, 84, 79, 132, 6, 1, 167, 255, 225, 3, 54, 6, 21, 6, 21, 4, 163, 0, 62, 42, 180, 0, 9]
abbrev dktX3_of_2_2 : List UInt8 := dkwX3_of_2_2 ++ dktX3_of_2_3
def dkwX3_of_2_1 : List UInt8 := [21, 6, 42, 180, 0, 30, 180, 0, 81, 162, 0, 25, 42, 180, 0, 21, 21, 6, 42, 180, 0, 30, 21, 6]
abbrev dktX3_of_2_1 : List UInt8 := dkwX3_of_2_1 ++ dktX3_of_2_2
def dkwX3_of_2_0 : List UInt8 := [42, 43, 181, 0, 30, 42, 28, 181, 0, 40, 42, 29, 181, 0, 68, 42, 21, 5, 181, 0, 62, 3, 54, 6]
abbrev dktX3_of_2_0 : List UInt8 := dkwX3_of_2_0 ++ dktX3_of_2_1
theorem dksX3_of_2_0 : cX3_of_2.data.toList.drop 0 = dktX3_of_2_0 := by decide +kernel
theorem dksX3_of_2_1 : cX3_of_2.data.toList.drop 24 = dktX3_of_2_1 := dk_seg dksX3_of_2_0 24 rfl rfl
theorem dksX3_of_2_2 : cX3_of_2.data.toList.drop 48 = dktX3_of_2_2 := dk_seg dksX3_of_2_1 24 rfl rfl
theorem dksX3_of_2_3 : cX3_of_2.data.toList.drop 72 = dktX3_of_2_3 := dk_seg dksX3_of_2_2 24 rfl rfl
theorem dksX3_of_2_4 : cX3_of_2.data.toList.drop 95 = dktX3_of_2_4 := dk_seg dksX3_of_2_3 23 rfl rfl
theorem dksX3_of_2_5 : cX3_of_2.data.toList.drop 118 = dktX3_of_2_5 := dk_seg dksX3_of_2_4 23 rfl rfl
theorem dX3_of_2_0 : decode cX3_of_2 0 = .ok (.aload_n 0, 1) := dk_42 (dk_at dksX3_of_2_0 0 rfl rfl)
theorem dX3_of_2_1 : decode cX3_of_2 1 = .ok (.aload_n 1, 1) := dk_43 (dk_at dksX3_of_2_0 1 rfl rfl)
theorem dX3_of_2_2 : decode cX3_of_2 2 = .ok (.putfield 30, 3) := dk_181 0 30 (dk_at dksX3_of_2_0 2 rfl rfl)
theorem dX3_of_2_5 : decode cX3_of_2 5 = .ok (.aload_n 0, 1) := dk_42 (dk_at dksX3_of_2_0 5 rfl rfl)
theorem dX3_of_2_6 : decode cX3_of_2 6 = .ok (.iload_n 2, 1) := dk_28 (dk_at dksX3_of_2_0 6 rfl rfl)
theorem dX3_of_2_7 : decode cX3_of_2 7 = .ok (.putfield 40, 3) := dk_181 0 40 (dk_at dksX3_of_2_0 7 rfl rfl)
theorem dX3_of_2_10 : decode cX3_of_2 10 = .ok (.aload_n 0, 1) := dk_42 (dk_at dksX3_of_2_0 10 rfl rfl)
theorem dX3_of_2_11 : decode cX3_of_2 11 = .ok (.iload_n 3, 1) := dk_29 (dk_at dksX3_of_2_0 11 rfl rfl)
theorem dX3_of_2_12 : decode cX3_of_2 12 = .ok (.putfield 68, 3) := dk_181 0 68 (dk_at dksX3_of_2_0 12 rfl rfl)
theorem dX3_of_2_15 : decode cX3_of_2 15 = .ok (.aload_n 0, 1) := dk_42 (dk_at dksX3_of_2_0 15 rfl rfl)
theorem dX3_of_2_16 : decode cX3_of_2 16 = .ok (.iload 5, 2) := dk_21 5 (dk_at dksX3_of_2_0 16 rfl rfl)
theorem dX3_of_2_18 : decode cX3_of_2 18 = .ok (.putfield 62, 3) := dk_181 0 62 (dk_at dksX3_of_2_0 18 rfl rfl)
theorem dX3_of_2_21 : decode cX3_of_2 21 = .ok (.iconst 0, 1) := dk_3 (dk_at dksX3_of_2_0 21 rfl rfl)
theorem dX3_of_2_22 : decode cX3_of_2 22 = .ok (.istore 6, 2) := dk_54 6 (dk_at dksX3_of_2_0 22 rfl rfl)
theorem dX3_of_2_24 : decode cX3_of_2 24 = .ok (.iload 6, 2) := dk_21 6 (dk_at dksX3_of_2_1 0 rfl rfl)
theorem dX3_of_2_26 : decode cX3_of_2 26 = .ok (.aload_n 0, 1) := dk_42 (dk_at dksX3_of_2_1 2 rfl rfl)
theorem dX3_of_2_27 : decode cX3_of_2 27 = .ok (.getfield 30, 3) := dk_180 0 30 (dk_at dksX3_of_2_1 3 rfl rfl)
theorem dX3_of_2_30 : decode cX3_of_2 30 = .ok (.getfield 81, 3) := dk_180 0 81 (dk_at dksX3_of_2_1 6 rfl rfl)
theorem dX3_of_2_33 : decode cX3_of_2 33 = .ok (.if_icmp .ge 25, 3) := dk_162 0 25 (dk_at dksX3_of_2_1 9 rfl rfl)
theorem dX3_of_2_36 : decode cX3_of_2 36 = .ok (.aload_n 0, 1) := dk_42 (dk_at dksX3_of_2_1 12 rfl rfl)
theorem dX3_of_2_37 : decode cX3_of_2 37 = .ok (.getfield 21, 3) := dk_180 0 21 (dk_at dksX3_of_2_1 13 rfl rfl)
theorem dX3_of_2_40 : decode cX3_of_2 40 = .ok (.iload 6, 2) := dk_21 6 (dk_at dksX3_of_2_1 16 rfl rfl)
theorem dX3_of_2_42 : decode cX3_of_2 42 = .ok (.aload_n 0, 1) := dk_42 (dk_at dksX3_of_2_1 18 rfl rfl)
theorem dX3_of_2_43 : decode cX3_of_2 43 = .ok (.getfield 30, 3) := dk_180 0 30 (dk_at dksX3_of_2_1 19 rfl rfl)
theorem dX3_of_2_46 : decode cX3_of_2 46 = .ok (.iload 6, 2) := dk_21 6 (dk_at dksX3_of_2_1 22 rfl rfl)
theorem dX3_of_2_48 : decode cX3_of_2 48 = .ok (.invokevirtual 84, 3) := dk_182 0 84 (dk_at dksX3_of_2_2 0 rfl rfl)
theorem dX3_of_2_51 : decode cX3_of_2 51 = .ok (.iastore, 1) := dk_79 (dk_at dksX3_of_2_2 3 rfl rfl)
theorem dX3_of_2_52 : decode cX3_of_2 52 = .ok (.iinc 6 1, 3) := dk_132 6 1 (dk_at dksX3_of_2_2 4 rfl rfl)
theorem dX3_of_2_55 : decode cX3_of_2 55 = .ok (.goto (-31), 3) := dk_167 255 225 (dk_at dksX3_of_2_2 7 rfl rfl)
theorem dX3_of_2_58 : decode cX3_of_2 58 = .ok (.iconst 0, 1) := dk_3 (dk_at dksX3_of_2_2 10 rfl rfl)
theorem dX3_of_2_59 : decode cX3_of_2 59 = .ok (.istore 6, 2) := dk_54 6 (dk_at dksX3_of_2_2 11 rfl rfl)
theorem dX3_of_2_61 : decode cX3_of_2 61 = .ok (.iload 6, 2) := dk_21 6 (dk_at dksX3_of_2_2 13 rfl rfl)
theorem dX3_of_2_63 : decode cX3_of_2 63 = .ok (.iload 4, 2) := dk_21 4 (dk_at dksX3_of_2_2 15 rfl rfl)
theorem dX3_of_2_65 : decode cX3_of_2 65 = .ok (.if_icmp .gt 62, 3) := dk_163 0 62 (dk_at dksX3_of_2_2 17 rfl rfl)
theorem dX3_of_2_68 : decode cX3_of_2 68 = .ok (.aload_n 0, 1) := dk_42 (dk_at dksX3_of_2_2 20 rfl rfl)
theorem dX3_of_2_69 : decode cX3_of_2 69 = .ok (.getfield 9, 3) := dk_180 0 9 (dk_at dksX3_of_2_2 21 rfl rfl)
theorem dX3_of_2_72 : decode cX3_of_2 72 = .ok (.iload 6, 2) := dk_21 6 (dk_at dksX3_of_2_3 0 rfl rfl)
theorem dX3_of_2_74 : decode cX3_of_2 74 = .ok (.iconst 0, 1) := dk_3 (dk_at dksX3_of_2_3 2 rfl rfl)
theorem dX3_of_2_75 : decode cX3_of_2 75 = .ok (.iastore, 1) := dk_79 (dk_at dksX3_of_2_3 3 rfl rfl)
theorem dX3_of_2_76 : decode cX3_of_2 76 = .ok (.aload_n 0, 1) := dk_42 (dk_at dksX3_of_2_3 4 rfl rfl)
theorem dX3_of_2_77 : decode cX3_of_2 77 = .ok (.getfield 15, 3) := dk_180 0 15 (dk_at dksX3_of_2_3 5 rfl rfl)
theorem dX3_of_2_80 : decode cX3_of_2 80 = .ok (.iload 6, 2) := dk_21 6 (dk_at dksX3_of_2_3 8 rfl rfl)
theorem dX3_of_2_82 : decode cX3_of_2 82 = .ok (.iconst 0, 1) := dk_3 (dk_at dksX3_of_2_3 10 rfl rfl)
theorem dX3_of_2_83 : decode cX3_of_2 83 = .ok (.iastore, 1) := dk_79 (dk_at dksX3_of_2_3 11 rfl rfl)
theorem dX3_of_2_84 : decode cX3_of_2 84 = .ok (.aload_n 0, 1) := dk_42 (dk_at dksX3_of_2_3 12 rfl rfl)
theorem dX3_of_2_85 : decode cX3_of_2 85 = .ok (.getfield 18, 3) := dk_180 0 18 (dk_at dksX3_of_2_3 13 rfl rfl)
theorem dX3_of_2_88 : decode cX3_of_2 88 = .ok (.iload 6, 2) := dk_21 6 (dk_at dksX3_of_2_3 16 rfl rfl)
theorem dX3_of_2_90 : decode cX3_of_2 90 = .ok (.iconst 0, 1) := dk_3 (dk_at dksX3_of_2_3 18 rfl rfl)
theorem dX3_of_2_91 : decode cX3_of_2 91 = .ok (.iastore, 1) := dk_79 (dk_at dksX3_of_2_3 19 rfl rfl)
theorem dX3_of_2_92 : decode cX3_of_2 92 = .ok (.iconst 0, 1) := dk_3 (dk_at dksX3_of_2_3 20 rfl rfl)
theorem dX3_of_2_93 : decode cX3_of_2 93 = .ok (.istore 7, 2) := dk_54 7 (dk_at dksX3_of_2_3 21 rfl rfl)
theorem dX3_of_2_95 : decode cX3_of_2 95 = .ok (.iload 7, 2) := dk_21 7 (dk_at dksX3_of_2_4 0 rfl rfl)
theorem dX3_of_2_97 : decode cX3_of_2 97 = .ok (.aload_n 0, 1) := dk_42 (dk_at dksX3_of_2_4 2 rfl rfl)
theorem dX3_of_2_98 : decode cX3_of_2 98 = .ok (.getfield 30, 3) := dk_180 0 30 (dk_at dksX3_of_2_4 3 rfl rfl)
theorem dX3_of_2_101 : decode cX3_of_2 101 = .ok (.getfield 81, 3) := dk_180 0 81 (dk_at dksX3_of_2_4 6 rfl rfl)
theorem dX3_of_2_104 : decode cX3_of_2 104 = .ok (.if_icmp .ge 17, 3) := dk_162 0 17 (dk_at dksX3_of_2_4 9 rfl rfl)
theorem dX3_of_2_107 : decode cX3_of_2 107 = .ok (.aload_n 0, 1) := dk_42 (dk_at dksX3_of_2_4 12 rfl rfl)
theorem dX3_of_2_108 : decode cX3_of_2 108 = .ok (.iload 7, 2) := dk_21 7 (dk_at dksX3_of_2_4 13 rfl rfl)
theorem dX3_of_2_110 : decode cX3_of_2 110 = .ok (.iload 6, 2) := dk_21 6 (dk_at dksX3_of_2_4 15 rfl rfl)
theorem dX3_of_2_112 : decode cX3_of_2 112 = .ok (.invokevirtual 87, 3) := dk_182 0 87 (dk_at dksX3_of_2_4 17 rfl rfl)
theorem dX3_of_2_115 : decode cX3_of_2 115 = .ok (.iinc 7 1, 3) := dk_132 7 1 (dk_at dksX3_of_2_4 20 rfl rfl)
theorem dX3_of_2_118 : decode cX3_of_2 118 = .ok (.goto (-23), 3) := dk_167 255 233 (dk_at dksX3_of_2_5 0 rfl rfl)
theorem dX3_of_2_121 : decode cX3_of_2 121 = .ok (.iinc 6 1, 3) := dk_132 6 1 (dk_at dksX3_of_2_5 3 rfl rfl)
theorem dX3_of_2_124 : decode cX3_of_2 124 = .ok (.goto (-63), 3) := dk_167 255 193 (dk_at dksX3_of_2_5 6 rfl rfl)
theorem dX3_of_2_127 : decode cX3_of_2 127 = .ok (.aload_n 0, 1) := dk_42 (dk_at dksX3_of_2_5 9 rfl rfl)
theorem dX3_of_2_128 : decode cX3_of_2 128 = .ok (.areturn, 1) := dk_176 (dk_at dksX3_of_2_5 10 rfl rfl)
abbrev cX3_goes : ByteArray := prog_8_method_4_code
def yX3_goes : MethodName := ⟨RX3, "goes", "(II)V"⟩
def dkwX3_goes_8 : List UInt8 := [79, 42, 180, 0, 18, 28, 92, 46, 21, 6, 6, 160, 0, 9, 4, 27, 120, 167, 0, 4, 3, 128, 79, 177]
abbrev dktX3_goes_8 : List UInt8 := dkwX3_goes_8 ++ []
def dkwX3_goes_7 : List UInt8 := [3, 128, 79, 42, 180, 0, 15, 28, 92, 46, 21, 6, 5, 160, 0, 9, 4, 27, 120, 167, 0, 4, 3, 128]
abbrev dktX3_goes_7 : List UInt8 := dkwX3_goes_7 ++ dktX3_goes_8
def dkwX3_goes_6 : List UInt8 := [182, 0, 77, 54, 6, 42, 180, 0, 9, 28, 92, 46, 21, 6, 4, 160, 0, 9, 4, 27, 120, 167, 0, 4]
abbrev dktX3_goes_6 : List UInt8 := dkwX3_goes_6 ++ dktX3_goes_7
def dkwX3_goes_5 : List UInt8 := [180, 0, 30, 180, 0, 34, 27, 50, 42, 180, 0, 30, 27, 42, 180, 0, 40, 182, 0, 44, 21, 4, 21, 5]
abbrev dktX3_goes_5 : List UInt8 := dkwX3_goes_5 ++ dktX3_goes_6
def dkwX3_goes_4 : List UInt8 := [167, 0, 21, 42, 180, 0, 15, 28, 4, 100, 46, 42, 180, 0, 21, 27, 46, 126, 184, 0, 24, 54, 5, 42]
abbrev dktX3_goes_4 : List UInt8 := dkwX3_goes_4 ++ dktX3_goes_5
def dkwX3_goes_3 : List UInt8 := [180, 0, 9, 28, 4, 100, 46, 42, 180, 0, 21, 27, 46, 126, 184, 0, 24, 54, 4, 28, 154, 0, 7, 3]
abbrev dktX3_goes_3 : List UInt8 := dkwX3_goes_3 ++ dktX3_goes_4
def dkwX3_goes_2 : List UInt8 := [153, 0, 12, 42, 27, 28, 182, 0, 74, 154, 0, 4, 177, 28, 154, 0, 7, 3, 167, 0, 21, 42]
abbrev dktX3_goes_2 : List UInt8 := dkwX3_goes_2 ++ dktX3_goes_3
def dkwX3_goes_1 : List UInt8 := [96, 42, 180, 0, 30, 180, 0, 34, 27, 50, 180, 0, 71, 163, 0, 7, 4, 167, 0, 4, 3, 62, 29]
abbrev dktX3_goes_1 : List UInt8 := dkwX3_goes_1 ++ dktX3_goes_2
def dkwX3_goes_0 : List UInt8 := [27, 42, 180, 0, 62, 159, 0, 39, 42, 180, 0, 30, 180, 0, 65, 42, 180, 0, 40, 46, 42, 180, 0, 68]
abbrev dktX3_goes_0 : List UInt8 := dkwX3_goes_0 ++ dktX3_goes_1
theorem dksX3_goes_0 : cX3_goes.data.toList.drop 0 = dktX3_goes_0 := by decide +kernel
theorem dksX3_goes_1 : cX3_goes.data.toList.drop 24 = dktX3_goes_1 := dk_seg dksX3_goes_0 24 rfl rfl
theorem dksX3_goes_2 : cX3_goes.data.toList.drop 47 = dktX3_goes_2 := dk_seg dksX3_goes_1 23 rfl rfl
theorem dksX3_goes_3 : cX3_goes.data.toList.drop 69 = dktX3_goes_3 := dk_seg dksX3_goes_2 22 rfl rfl
theorem dksX3_goes_4 : cX3_goes.data.toList.drop 93 = dktX3_goes_4 := dk_seg dksX3_goes_3 24 rfl rfl
theorem dksX3_goes_5 : cX3_goes.data.toList.drop 117 = dktX3_goes_5 := dk_seg dksX3_goes_4 24 rfl rfl
theorem dksX3_goes_6 : cX3_goes.data.toList.drop 141 = dktX3_goes_6 := dk_seg dksX3_goes_5 24 rfl rfl
theorem dksX3_goes_7 : cX3_goes.data.toList.drop 165 = dktX3_goes_7 := dk_seg dksX3_goes_6 24 rfl rfl
theorem dksX3_goes_8 : cX3_goes.data.toList.drop 189 = dktX3_goes_8 := dk_seg dksX3_goes_7 24 rfl rfl
theorem dX3_goes_0 : decode cX3_goes 0 = .ok (.iload_n 1, 1) := dk_27 (dk_at dksX3_goes_0 0 rfl rfl)
theorem dX3_goes_1 : decode cX3_goes 1 = .ok (.aload_n 0, 1) := dk_42 (dk_at dksX3_goes_0 1 rfl rfl)
theorem dX3_goes_2 : decode cX3_goes 2 = .ok (.getfield 62, 3) := dk_180 0 62 (dk_at dksX3_goes_0 2 rfl rfl)
theorem dX3_goes_5 : decode cX3_goes 5 = .ok (.if_icmp .eq 39, 3) := dk_159 0 39 (dk_at dksX3_goes_0 5 rfl rfl)
theorem dX3_goes_8 : decode cX3_goes 8 = .ok (.aload_n 0, 1) := dk_42 (dk_at dksX3_goes_0 8 rfl rfl)
theorem dX3_goes_9 : decode cX3_goes 9 = .ok (.getfield 30, 3) := dk_180 0 30 (dk_at dksX3_goes_0 9 rfl rfl)
theorem dX3_goes_12 : decode cX3_goes 12 = .ok (.getfield 65, 3) := dk_180 0 65 (dk_at dksX3_goes_0 12 rfl rfl)
theorem dX3_goes_15 : decode cX3_goes 15 = .ok (.aload_n 0, 1) := dk_42 (dk_at dksX3_goes_0 15 rfl rfl)
theorem dX3_goes_16 : decode cX3_goes 16 = .ok (.getfield 40, 3) := dk_180 0 40 (dk_at dksX3_goes_0 16 rfl rfl)
theorem dX3_goes_19 : decode cX3_goes 19 = .ok (.iaload, 1) := dk_46 (dk_at dksX3_goes_0 19 rfl rfl)
theorem dX3_goes_20 : decode cX3_goes 20 = .ok (.aload_n 0, 1) := dk_42 (dk_at dksX3_goes_0 20 rfl rfl)
theorem dX3_goes_21 : decode cX3_goes 21 = .ok (.getfield 68, 3) := dk_180 0 68 (dk_at dksX3_goes_0 21 rfl rfl)
theorem dX3_goes_24 : decode cX3_goes 24 = .ok (.iadd, 1) := dk_96 (dk_at dksX3_goes_1 0 rfl rfl)
theorem dX3_goes_25 : decode cX3_goes 25 = .ok (.aload_n 0, 1) := dk_42 (dk_at dksX3_goes_1 1 rfl rfl)
theorem dX3_goes_26 : decode cX3_goes 26 = .ok (.getfield 30, 3) := dk_180 0 30 (dk_at dksX3_goes_1 2 rfl rfl)
theorem dX3_goes_29 : decode cX3_goes 29 = .ok (.getfield 34, 3) := dk_180 0 34 (dk_at dksX3_goes_1 5 rfl rfl)
theorem dX3_goes_32 : decode cX3_goes 32 = .ok (.iload_n 1, 1) := dk_27 (dk_at dksX3_goes_1 8 rfl rfl)
theorem dX3_goes_33 : decode cX3_goes 33 = .ok (.aaload, 1) := dk_50 (dk_at dksX3_goes_1 9 rfl rfl)
theorem dX3_goes_34 : decode cX3_goes 34 = .ok (.getfield 71, 3) := dk_180 0 71 (dk_at dksX3_goes_1 10 rfl rfl)
theorem dX3_goes_37 : decode cX3_goes 37 = .ok (.if_icmp .gt 7, 3) := dk_163 0 7 (dk_at dksX3_goes_1 13 rfl rfl)
theorem dX3_goes_40 : decode cX3_goes 40 = .ok (.iconst 1, 1) := dk_4 (dk_at dksX3_goes_1 16 rfl rfl)
theorem dX3_goes_41 : decode cX3_goes 41 = .ok (.goto 4, 3) := dk_167 0 4 (dk_at dksX3_goes_1 17 rfl rfl)
theorem dX3_goes_44 : decode cX3_goes 44 = .ok (.iconst 0, 1) := dk_3 (dk_at dksX3_goes_1 20 rfl rfl)
theorem dX3_goes_45 : decode cX3_goes 45 = .ok (.istore_n 3, 1) := dk_62 (dk_at dksX3_goes_1 21 rfl rfl)
theorem dX3_goes_46 : decode cX3_goes 46 = .ok (.iload_n 3, 1) := dk_29 (dk_at dksX3_goes_1 22 rfl rfl)
theorem dX3_goes_47 : decode cX3_goes 47 = .ok (.ifCond .eq 12, 3) := dk_153 0 12 (dk_at dksX3_goes_2 0 rfl rfl)
theorem dX3_goes_50 : decode cX3_goes 50 = .ok (.aload_n 0, 1) := dk_42 (dk_at dksX3_goes_2 3 rfl rfl)
theorem dX3_goes_51 : decode cX3_goes 51 = .ok (.iload_n 1, 1) := dk_27 (dk_at dksX3_goes_2 4 rfl rfl)
theorem dX3_goes_52 : decode cX3_goes 52 = .ok (.iload_n 2, 1) := dk_28 (dk_at dksX3_goes_2 5 rfl rfl)
theorem dX3_goes_53 : decode cX3_goes 53 = .ok (.invokevirtual 74, 3) := dk_182 0 74 (dk_at dksX3_goes_2 6 rfl rfl)
theorem dX3_goes_56 : decode cX3_goes 56 = .ok (.ifCond .ne 4, 3) := dk_154 0 4 (dk_at dksX3_goes_2 9 rfl rfl)
theorem dX3_goes_59 : decode cX3_goes 59 = .ok (.return_, 1) := dk_177 (dk_at dksX3_goes_2 12 rfl rfl)
theorem dX3_goes_60 : decode cX3_goes 60 = .ok (.iload_n 2, 1) := dk_28 (dk_at dksX3_goes_2 13 rfl rfl)
theorem dX3_goes_61 : decode cX3_goes 61 = .ok (.ifCond .ne 7, 3) := dk_154 0 7 (dk_at dksX3_goes_2 14 rfl rfl)
theorem dX3_goes_64 : decode cX3_goes 64 = .ok (.iconst 0, 1) := dk_3 (dk_at dksX3_goes_2 17 rfl rfl)
theorem dX3_goes_65 : decode cX3_goes 65 = .ok (.goto 21, 3) := dk_167 0 21 (dk_at dksX3_goes_2 18 rfl rfl)
theorem dX3_goes_68 : decode cX3_goes 68 = .ok (.aload_n 0, 1) := dk_42 (dk_at dksX3_goes_2 21 rfl rfl)
theorem dX3_goes_69 : decode cX3_goes 69 = .ok (.getfield 9, 3) := dk_180 0 9 (dk_at dksX3_goes_3 0 rfl rfl)
theorem dX3_goes_72 : decode cX3_goes 72 = .ok (.iload_n 2, 1) := dk_28 (dk_at dksX3_goes_3 3 rfl rfl)
theorem dX3_goes_73 : decode cX3_goes 73 = .ok (.iconst 1, 1) := dk_4 (dk_at dksX3_goes_3 4 rfl rfl)
theorem dX3_goes_74 : decode cX3_goes 74 = .ok (.isub, 1) := dk_100 (dk_at dksX3_goes_3 5 rfl rfl)
theorem dX3_goes_75 : decode cX3_goes 75 = .ok (.iaload, 1) := dk_46 (dk_at dksX3_goes_3 6 rfl rfl)
theorem dX3_goes_76 : decode cX3_goes 76 = .ok (.aload_n 0, 1) := dk_42 (dk_at dksX3_goes_3 7 rfl rfl)
theorem dX3_goes_77 : decode cX3_goes 77 = .ok (.getfield 21, 3) := dk_180 0 21 (dk_at dksX3_goes_3 8 rfl rfl)
theorem dX3_goes_80 : decode cX3_goes 80 = .ok (.iload_n 1, 1) := dk_27 (dk_at dksX3_goes_3 11 rfl rfl)
theorem dX3_goes_81 : decode cX3_goes 81 = .ok (.iaload, 1) := dk_46 (dk_at dksX3_goes_3 12 rfl rfl)
theorem dX3_goes_82 : decode cX3_goes 82 = .ok (.iand, 1) := dk_126 (dk_at dksX3_goes_3 13 rfl rfl)
theorem dX3_goes_83 : decode cX3_goes 83 = .ok (.invokestatic 24, 3) := dk_184 0 24 (dk_at dksX3_goes_3 14 rfl rfl)
theorem dX3_goes_86 : decode cX3_goes 86 = .ok (.istore 4, 2) := dk_54 4 (dk_at dksX3_goes_3 17 rfl rfl)
theorem dX3_goes_88 : decode cX3_goes 88 = .ok (.iload_n 2, 1) := dk_28 (dk_at dksX3_goes_3 19 rfl rfl)
theorem dX3_goes_89 : decode cX3_goes 89 = .ok (.ifCond .ne 7, 3) := dk_154 0 7 (dk_at dksX3_goes_3 20 rfl rfl)
theorem dX3_goes_92 : decode cX3_goes 92 = .ok (.iconst 0, 1) := dk_3 (dk_at dksX3_goes_3 23 rfl rfl)
theorem dX3_goes_93 : decode cX3_goes 93 = .ok (.goto 21, 3) := dk_167 0 21 (dk_at dksX3_goes_4 0 rfl rfl)
theorem dX3_goes_96 : decode cX3_goes 96 = .ok (.aload_n 0, 1) := dk_42 (dk_at dksX3_goes_4 3 rfl rfl)
theorem dX3_goes_97 : decode cX3_goes 97 = .ok (.getfield 15, 3) := dk_180 0 15 (dk_at dksX3_goes_4 4 rfl rfl)
theorem dX3_goes_100 : decode cX3_goes 100 = .ok (.iload_n 2, 1) := dk_28 (dk_at dksX3_goes_4 7 rfl rfl)
theorem dX3_goes_101 : decode cX3_goes 101 = .ok (.iconst 1, 1) := dk_4 (dk_at dksX3_goes_4 8 rfl rfl)
theorem dX3_goes_102 : decode cX3_goes 102 = .ok (.isub, 1) := dk_100 (dk_at dksX3_goes_4 9 rfl rfl)
theorem dX3_goes_103 : decode cX3_goes 103 = .ok (.iaload, 1) := dk_46 (dk_at dksX3_goes_4 10 rfl rfl)
theorem dX3_goes_104 : decode cX3_goes 104 = .ok (.aload_n 0, 1) := dk_42 (dk_at dksX3_goes_4 11 rfl rfl)
theorem dX3_goes_105 : decode cX3_goes 105 = .ok (.getfield 21, 3) := dk_180 0 21 (dk_at dksX3_goes_4 12 rfl rfl)
theorem dX3_goes_108 : decode cX3_goes 108 = .ok (.iload_n 1, 1) := dk_27 (dk_at dksX3_goes_4 15 rfl rfl)
theorem dX3_goes_109 : decode cX3_goes 109 = .ok (.iaload, 1) := dk_46 (dk_at dksX3_goes_4 16 rfl rfl)
theorem dX3_goes_110 : decode cX3_goes 110 = .ok (.iand, 1) := dk_126 (dk_at dksX3_goes_4 17 rfl rfl)
theorem dX3_goes_111 : decode cX3_goes 111 = .ok (.invokestatic 24, 3) := dk_184 0 24 (dk_at dksX3_goes_4 18 rfl rfl)
theorem dX3_goes_114 : decode cX3_goes 114 = .ok (.istore 5, 2) := dk_54 5 (dk_at dksX3_goes_4 21 rfl rfl)
theorem dX3_goes_116 : decode cX3_goes 116 = .ok (.aload_n 0, 1) := dk_42 (dk_at dksX3_goes_4 23 rfl rfl)
theorem dX3_goes_117 : decode cX3_goes 117 = .ok (.getfield 30, 3) := dk_180 0 30 (dk_at dksX3_goes_5 0 rfl rfl)
theorem dX3_goes_120 : decode cX3_goes 120 = .ok (.getfield 34, 3) := dk_180 0 34 (dk_at dksX3_goes_5 3 rfl rfl)
theorem dX3_goes_123 : decode cX3_goes 123 = .ok (.iload_n 1, 1) := dk_27 (dk_at dksX3_goes_5 6 rfl rfl)
theorem dX3_goes_124 : decode cX3_goes 124 = .ok (.aaload, 1) := dk_50 (dk_at dksX3_goes_5 7 rfl rfl)
theorem dX3_goes_125 : decode cX3_goes 125 = .ok (.aload_n 0, 1) := dk_42 (dk_at dksX3_goes_5 8 rfl rfl)
theorem dX3_goes_126 : decode cX3_goes 126 = .ok (.getfield 30, 3) := dk_180 0 30 (dk_at dksX3_goes_5 9 rfl rfl)
theorem dX3_goes_129 : decode cX3_goes 129 = .ok (.iload_n 1, 1) := dk_27 (dk_at dksX3_goes_5 12 rfl rfl)
theorem dX3_goes_130 : decode cX3_goes 130 = .ok (.aload_n 0, 1) := dk_42 (dk_at dksX3_goes_5 13 rfl rfl)
theorem dX3_goes_131 : decode cX3_goes 131 = .ok (.getfield 40, 3) := dk_180 0 40 (dk_at dksX3_goes_5 14 rfl rfl)
theorem dX3_goes_134 : decode cX3_goes 134 = .ok (.invokevirtual 44, 3) := dk_182 0 44 (dk_at dksX3_goes_5 17 rfl rfl)
theorem dX3_goes_137 : decode cX3_goes 137 = .ok (.iload 4, 2) := dk_21 4 (dk_at dksX3_goes_5 20 rfl rfl)
theorem dX3_goes_139 : decode cX3_goes 139 = .ok (.iload 5, 2) := dk_21 5 (dk_at dksX3_goes_5 22 rfl rfl)
theorem dX3_goes_141 : decode cX3_goes 141 = .ok (.invokevirtual 77, 3) := dk_182 0 77 (dk_at dksX3_goes_6 0 rfl rfl)
theorem dX3_goes_144 : decode cX3_goes 144 = .ok (.istore 6, 2) := dk_54 6 (dk_at dksX3_goes_6 3 rfl rfl)
theorem dX3_goes_146 : decode cX3_goes 146 = .ok (.aload_n 0, 1) := dk_42 (dk_at dksX3_goes_6 5 rfl rfl)
theorem dX3_goes_147 : decode cX3_goes 147 = .ok (.getfield 9, 3) := dk_180 0 9 (dk_at dksX3_goes_6 6 rfl rfl)
theorem dX3_goes_150 : decode cX3_goes 150 = .ok (.iload_n 2, 1) := dk_28 (dk_at dksX3_goes_6 9 rfl rfl)
theorem dX3_goes_151 : decode cX3_goes 151 = .ok (.dup2, 1) := dk_92 (dk_at dksX3_goes_6 10 rfl rfl)
theorem dX3_goes_152 : decode cX3_goes 152 = .ok (.iaload, 1) := dk_46 (dk_at dksX3_goes_6 11 rfl rfl)
theorem dX3_goes_153 : decode cX3_goes 153 = .ok (.iload 6, 2) := dk_21 6 (dk_at dksX3_goes_6 12 rfl rfl)
theorem dX3_goes_155 : decode cX3_goes 155 = .ok (.iconst 1, 1) := dk_4 (dk_at dksX3_goes_6 14 rfl rfl)
theorem dX3_goes_156 : decode cX3_goes 156 = .ok (.if_icmp .ne 9, 3) := dk_160 0 9 (dk_at dksX3_goes_6 15 rfl rfl)
theorem dX3_goes_159 : decode cX3_goes 159 = .ok (.iconst 1, 1) := dk_4 (dk_at dksX3_goes_6 18 rfl rfl)
theorem dX3_goes_160 : decode cX3_goes 160 = .ok (.iload_n 1, 1) := dk_27 (dk_at dksX3_goes_6 19 rfl rfl)
theorem dX3_goes_161 : decode cX3_goes 161 = .ok (.ishl, 1) := dk_120 (dk_at dksX3_goes_6 20 rfl rfl)
theorem dX3_goes_162 : decode cX3_goes 162 = .ok (.goto 4, 3) := dk_167 0 4 (dk_at dksX3_goes_6 21 rfl rfl)
theorem dX3_goes_165 : decode cX3_goes 165 = .ok (.iconst 0, 1) := dk_3 (dk_at dksX3_goes_7 0 rfl rfl)
theorem dX3_goes_166 : decode cX3_goes 166 = .ok (.ior, 1) := dk_128 (dk_at dksX3_goes_7 1 rfl rfl)
theorem dX3_goes_167 : decode cX3_goes 167 = .ok (.iastore, 1) := dk_79 (dk_at dksX3_goes_7 2 rfl rfl)
theorem dX3_goes_168 : decode cX3_goes 168 = .ok (.aload_n 0, 1) := dk_42 (dk_at dksX3_goes_7 3 rfl rfl)
theorem dX3_goes_169 : decode cX3_goes 169 = .ok (.getfield 15, 3) := dk_180 0 15 (dk_at dksX3_goes_7 4 rfl rfl)
theorem dX3_goes_172 : decode cX3_goes 172 = .ok (.iload_n 2, 1) := dk_28 (dk_at dksX3_goes_7 7 rfl rfl)
theorem dX3_goes_173 : decode cX3_goes 173 = .ok (.dup2, 1) := dk_92 (dk_at dksX3_goes_7 8 rfl rfl)
theorem dX3_goes_174 : decode cX3_goes 174 = .ok (.iaload, 1) := dk_46 (dk_at dksX3_goes_7 9 rfl rfl)
theorem dX3_goes_175 : decode cX3_goes 175 = .ok (.iload 6, 2) := dk_21 6 (dk_at dksX3_goes_7 10 rfl rfl)
theorem dX3_goes_177 : decode cX3_goes 177 = .ok (.iconst 2, 1) := dk_5 (dk_at dksX3_goes_7 12 rfl rfl)
theorem dX3_goes_178 : decode cX3_goes 178 = .ok (.if_icmp .ne 9, 3) := dk_160 0 9 (dk_at dksX3_goes_7 13 rfl rfl)
theorem dX3_goes_181 : decode cX3_goes 181 = .ok (.iconst 1, 1) := dk_4 (dk_at dksX3_goes_7 16 rfl rfl)
theorem dX3_goes_182 : decode cX3_goes 182 = .ok (.iload_n 1, 1) := dk_27 (dk_at dksX3_goes_7 17 rfl rfl)
theorem dX3_goes_183 : decode cX3_goes 183 = .ok (.ishl, 1) := dk_120 (dk_at dksX3_goes_7 18 rfl rfl)
theorem dX3_goes_184 : decode cX3_goes 184 = .ok (.goto 4, 3) := dk_167 0 4 (dk_at dksX3_goes_7 19 rfl rfl)
theorem dX3_goes_187 : decode cX3_goes 187 = .ok (.iconst 0, 1) := dk_3 (dk_at dksX3_goes_7 22 rfl rfl)
theorem dX3_goes_188 : decode cX3_goes 188 = .ok (.ior, 1) := dk_128 (dk_at dksX3_goes_7 23 rfl rfl)
theorem dX3_goes_189 : decode cX3_goes 189 = .ok (.iastore, 1) := dk_79 (dk_at dksX3_goes_8 0 rfl rfl)
theorem dX3_goes_190 : decode cX3_goes 190 = .ok (.aload_n 0, 1) := dk_42 (dk_at dksX3_goes_8 1 rfl rfl)
theorem dX3_goes_191 : decode cX3_goes 191 = .ok (.getfield 18, 3) := dk_180 0 18 (dk_at dksX3_goes_8 2 rfl rfl)
theorem dX3_goes_194 : decode cX3_goes 194 = .ok (.iload_n 2, 1) := dk_28 (dk_at dksX3_goes_8 5 rfl rfl)
theorem dX3_goes_195 : decode cX3_goes 195 = .ok (.dup2, 1) := dk_92 (dk_at dksX3_goes_8 6 rfl rfl)
theorem dX3_goes_196 : decode cX3_goes 196 = .ok (.iaload, 1) := dk_46 (dk_at dksX3_goes_8 7 rfl rfl)
theorem dX3_goes_197 : decode cX3_goes 197 = .ok (.iload 6, 2) := dk_21 6 (dk_at dksX3_goes_8 8 rfl rfl)
theorem dX3_goes_199 : decode cX3_goes 199 = .ok (.iconst 3, 1) := dk_6 (dk_at dksX3_goes_8 10 rfl rfl)
theorem dX3_goes_200 : decode cX3_goes 200 = .ok (.if_icmp .ne 9, 3) := dk_160 0 9 (dk_at dksX3_goes_8 11 rfl rfl)
theorem dX3_goes_203 : decode cX3_goes 203 = .ok (.iconst 1, 1) := dk_4 (dk_at dksX3_goes_8 14 rfl rfl)
theorem dX3_goes_204 : decode cX3_goes 204 = .ok (.iload_n 1, 1) := dk_27 (dk_at dksX3_goes_8 15 rfl rfl)
theorem dX3_goes_205 : decode cX3_goes 205 = .ok (.ishl, 1) := dk_120 (dk_at dksX3_goes_8 16 rfl rfl)
theorem dX3_goes_206 : decode cX3_goes 206 = .ok (.goto 4, 3) := dk_167 0 4 (dk_at dksX3_goes_8 17 rfl rfl)
theorem dX3_goes_209 : decode cX3_goes 209 = .ok (.iconst 0, 1) := dk_3 (dk_at dksX3_goes_8 20 rfl rfl)
theorem dX3_goes_210 : decode cX3_goes 210 = .ok (.ior, 1) := dk_128 (dk_at dksX3_goes_8 21 rfl rfl)
theorem dX3_goes_211 : decode cX3_goes 211 = .ok (.iastore, 1) := dk_79 (dk_at dksX3_goes_8 22 rfl rfl)
theorem dX3_goes_212 : decode cX3_goes 212 = .ok (.return_, 1) := dk_177 (dk_at dksX3_goes_8 23 rfl rfl)
abbrev cX3_joins : ByteArray := prog_8_method_3_code
def yX3_joins : MethodName := ⟨RX3, "joins", "(II)Z"⟩
def dkwX3_joins_3 : List UInt8 := [161, 0, 7, 4, 167, 0, 4, 3, 172]
abbrev dktX3_joins_3 : List UInt8 := dkwX3_joins_3 ++ []
def dkwX3_joins_2 : List UInt8 := [54, 5, 21, 5, 153, 0, 27, 45, 182, 0, 58, 153, 0, 16, 42, 27, 28, 5, 100, 182, 0, 54, 21, 4]
abbrev dktX3_joins_2 : List UInt8 := dkwX3_joins_2 ++ dktX3_joins_3
def dkwX3_joins_1 : List UInt8 := [182, 0, 48, 54, 4, 42, 27, 28, 4, 100, 182, 0, 54, 21, 4, 161, 0, 7, 4, 167, 0, 4, 3]
abbrev dktX3_joins_1 : List UInt8 := dkwX3_joins_1 ++ dktX3_joins_2
def dkwX3_joins_0 : List UInt8 := [42, 180, 0, 30, 180, 0, 34, 27, 50, 78, 45, 42, 180, 0, 30, 27, 42, 180, 0, 40, 182, 0, 44]
abbrev dktX3_joins_0 : List UInt8 := dkwX3_joins_0 ++ dktX3_joins_1
theorem dksX3_joins_0 : cX3_joins.data.toList.drop 0 = dktX3_joins_0 := by decide +kernel
theorem dksX3_joins_1 : cX3_joins.data.toList.drop 23 = dktX3_joins_1 := dk_seg dksX3_joins_0 23 rfl rfl
theorem dksX3_joins_2 : cX3_joins.data.toList.drop 46 = dktX3_joins_2 := dk_seg dksX3_joins_1 23 rfl rfl
theorem dksX3_joins_3 : cX3_joins.data.toList.drop 70 = dktX3_joins_3 := dk_seg dksX3_joins_2 24 rfl rfl
theorem dX3_joins_0 : decode cX3_joins 0 = .ok (.aload_n 0, 1) := dk_42 (dk_at dksX3_joins_0 0 rfl rfl)
theorem dX3_joins_1 : decode cX3_joins 1 = .ok (.getfield 30, 3) := dk_180 0 30 (dk_at dksX3_joins_0 1 rfl rfl)
theorem dX3_joins_4 : decode cX3_joins 4 = .ok (.getfield 34, 3) := dk_180 0 34 (dk_at dksX3_joins_0 4 rfl rfl)
theorem dX3_joins_7 : decode cX3_joins 7 = .ok (.iload_n 1, 1) := dk_27 (dk_at dksX3_joins_0 7 rfl rfl)
theorem dX3_joins_8 : decode cX3_joins 8 = .ok (.aaload, 1) := dk_50 (dk_at dksX3_joins_0 8 rfl rfl)
theorem dX3_joins_9 : decode cX3_joins 9 = .ok (.astore_n 3, 1) := dk_78 (dk_at dksX3_joins_0 9 rfl rfl)
theorem dX3_joins_10 : decode cX3_joins 10 = .ok (.aload_n 3, 1) := dk_45 (dk_at dksX3_joins_0 10 rfl rfl)
theorem dX3_joins_11 : decode cX3_joins 11 = .ok (.aload_n 0, 1) := dk_42 (dk_at dksX3_joins_0 11 rfl rfl)
theorem dX3_joins_12 : decode cX3_joins 12 = .ok (.getfield 30, 3) := dk_180 0 30 (dk_at dksX3_joins_0 12 rfl rfl)
theorem dX3_joins_15 : decode cX3_joins 15 = .ok (.iload_n 1, 1) := dk_27 (dk_at dksX3_joins_0 15 rfl rfl)
theorem dX3_joins_16 : decode cX3_joins 16 = .ok (.aload_n 0, 1) := dk_42 (dk_at dksX3_joins_0 16 rfl rfl)
theorem dX3_joins_17 : decode cX3_joins 17 = .ok (.getfield 40, 3) := dk_180 0 40 (dk_at dksX3_joins_0 17 rfl rfl)
theorem dX3_joins_20 : decode cX3_joins 20 = .ok (.invokevirtual 44, 3) := dk_182 0 44 (dk_at dksX3_joins_0 20 rfl rfl)
theorem dX3_joins_23 : decode cX3_joins 23 = .ok (.invokevirtual 48, 3) := dk_182 0 48 (dk_at dksX3_joins_1 0 rfl rfl)
theorem dX3_joins_26 : decode cX3_joins 26 = .ok (.istore 4, 2) := dk_54 4 (dk_at dksX3_joins_1 3 rfl rfl)
theorem dX3_joins_28 : decode cX3_joins 28 = .ok (.aload_n 0, 1) := dk_42 (dk_at dksX3_joins_1 5 rfl rfl)
theorem dX3_joins_29 : decode cX3_joins 29 = .ok (.iload_n 1, 1) := dk_27 (dk_at dksX3_joins_1 6 rfl rfl)
theorem dX3_joins_30 : decode cX3_joins 30 = .ok (.iload_n 2, 1) := dk_28 (dk_at dksX3_joins_1 7 rfl rfl)
theorem dX3_joins_31 : decode cX3_joins 31 = .ok (.iconst 1, 1) := dk_4 (dk_at dksX3_joins_1 8 rfl rfl)
theorem dX3_joins_32 : decode cX3_joins 32 = .ok (.isub, 1) := dk_100 (dk_at dksX3_joins_1 9 rfl rfl)
theorem dX3_joins_33 : decode cX3_joins 33 = .ok (.invokevirtual 54, 3) := dk_182 0 54 (dk_at dksX3_joins_1 10 rfl rfl)
theorem dX3_joins_36 : decode cX3_joins 36 = .ok (.iload 4, 2) := dk_21 4 (dk_at dksX3_joins_1 13 rfl rfl)
theorem dX3_joins_38 : decode cX3_joins 38 = .ok (.if_icmp .lt 7, 3) := dk_161 0 7 (dk_at dksX3_joins_1 15 rfl rfl)
theorem dX3_joins_41 : decode cX3_joins 41 = .ok (.iconst 1, 1) := dk_4 (dk_at dksX3_joins_1 18 rfl rfl)
theorem dX3_joins_42 : decode cX3_joins 42 = .ok (.goto 4, 3) := dk_167 0 4 (dk_at dksX3_joins_1 19 rfl rfl)
theorem dX3_joins_45 : decode cX3_joins 45 = .ok (.iconst 0, 1) := dk_3 (dk_at dksX3_joins_1 22 rfl rfl)
theorem dX3_joins_46 : decode cX3_joins 46 = .ok (.istore 5, 2) := dk_54 5 (dk_at dksX3_joins_2 0 rfl rfl)
theorem dX3_joins_48 : decode cX3_joins 48 = .ok (.iload 5, 2) := dk_21 5 (dk_at dksX3_joins_2 2 rfl rfl)
theorem dX3_joins_50 : decode cX3_joins 50 = .ok (.ifCond .eq 27, 3) := dk_153 0 27 (dk_at dksX3_joins_2 4 rfl rfl)
theorem dX3_joins_53 : decode cX3_joins 53 = .ok (.aload_n 3, 1) := dk_45 (dk_at dksX3_joins_2 7 rfl rfl)
theorem dX3_joins_54 : decode cX3_joins 54 = .ok (.invokevirtual 58, 3) := dk_182 0 58 (dk_at dksX3_joins_2 8 rfl rfl)
theorem dX3_joins_57 : decode cX3_joins 57 = .ok (.ifCond .eq 16, 3) := dk_153 0 16 (dk_at dksX3_joins_2 11 rfl rfl)
theorem dX3_joins_60 : decode cX3_joins 60 = .ok (.aload_n 0, 1) := dk_42 (dk_at dksX3_joins_2 14 rfl rfl)
theorem dX3_joins_61 : decode cX3_joins 61 = .ok (.iload_n 1, 1) := dk_27 (dk_at dksX3_joins_2 15 rfl rfl)
theorem dX3_joins_62 : decode cX3_joins 62 = .ok (.iload_n 2, 1) := dk_28 (dk_at dksX3_joins_2 16 rfl rfl)
theorem dX3_joins_63 : decode cX3_joins 63 = .ok (.iconst 2, 1) := dk_5 (dk_at dksX3_joins_2 17 rfl rfl)
theorem dX3_joins_64 : decode cX3_joins 64 = .ok (.isub, 1) := dk_100 (dk_at dksX3_joins_2 18 rfl rfl)
theorem dX3_joins_65 : decode cX3_joins 65 = .ok (.invokevirtual 54, 3) := dk_182 0 54 (dk_at dksX3_joins_2 19 rfl rfl)
theorem dX3_joins_68 : decode cX3_joins 68 = .ok (.iload 4, 2) := dk_21 4 (dk_at dksX3_joins_2 22 rfl rfl)
theorem dX3_joins_70 : decode cX3_joins 70 = .ok (.if_icmp .lt 7, 3) := dk_161 0 7 (dk_at dksX3_joins_3 0 rfl rfl)
theorem dX3_joins_73 : decode cX3_joins 73 = .ok (.iconst 1, 1) := dk_4 (dk_at dksX3_joins_3 3 rfl rfl)
theorem dX3_joins_74 : decode cX3_joins 74 = .ok (.goto 4, 3) := dk_167 0 4 (dk_at dksX3_joins_3 4 rfl rfl)
theorem dX3_joins_77 : decode cX3_joins 77 = .ok (.iconst 0, 1) := dk_3 (dk_at dksX3_joins_3 7 rfl rfl)
theorem dX3_joins_78 : decode cX3_joins 78 = .ok (.ireturn, 1) := dk_172 (dk_at dksX3_joins_3 8 rfl rfl)
abbrev cX3_around : ByteArray := prog_8_method_2_code
def yX3_around : MethodName := ⟨RX3, "around", "(II)I"⟩
def dkwX3_around_1 : List UInt8 := [180, 0, 18, 28, 46, 128, 42, 180, 0, 21, 27, 46, 126, 184, 0, 24, 172]
abbrev dktX3_around_1 : List UInt8 := dkwX3_around_1 ++ []
def dkwX3_around_0 : List UInt8 := [28, 156, 0, 7, 3, 167, 0, 33, 42, 180, 0, 9, 28, 46, 42, 180, 0, 15, 28, 46, 128, 42]
abbrev dktX3_around_0 : List UInt8 := dkwX3_around_0 ++ dktX3_around_1
theorem dksX3_around_0 : cX3_around.data.toList.drop 0 = dktX3_around_0 := by decide +kernel
theorem dksX3_around_1 : cX3_around.data.toList.drop 22 = dktX3_around_1 := dk_seg dksX3_around_0 22 rfl rfl
theorem dX3_around_0 : decode cX3_around 0 = .ok (.iload_n 2, 1) := dk_28 (dk_at dksX3_around_0 0 rfl rfl)
theorem dX3_around_1 : decode cX3_around 1 = .ok (.ifCond .ge 7, 3) := dk_156 0 7 (dk_at dksX3_around_0 1 rfl rfl)
theorem dX3_around_4 : decode cX3_around 4 = .ok (.iconst 0, 1) := dk_3 (dk_at dksX3_around_0 4 rfl rfl)
theorem dX3_around_5 : decode cX3_around 5 = .ok (.goto 33, 3) := dk_167 0 33 (dk_at dksX3_around_0 5 rfl rfl)
theorem dX3_around_8 : decode cX3_around 8 = .ok (.aload_n 0, 1) := dk_42 (dk_at dksX3_around_0 8 rfl rfl)
theorem dX3_around_9 : decode cX3_around 9 = .ok (.getfield 9, 3) := dk_180 0 9 (dk_at dksX3_around_0 9 rfl rfl)
theorem dX3_around_12 : decode cX3_around 12 = .ok (.iload_n 2, 1) := dk_28 (dk_at dksX3_around_0 12 rfl rfl)
theorem dX3_around_13 : decode cX3_around 13 = .ok (.iaload, 1) := dk_46 (dk_at dksX3_around_0 13 rfl rfl)
theorem dX3_around_14 : decode cX3_around 14 = .ok (.aload_n 0, 1) := dk_42 (dk_at dksX3_around_0 14 rfl rfl)
theorem dX3_around_15 : decode cX3_around 15 = .ok (.getfield 15, 3) := dk_180 0 15 (dk_at dksX3_around_0 15 rfl rfl)
theorem dX3_around_18 : decode cX3_around 18 = .ok (.iload_n 2, 1) := dk_28 (dk_at dksX3_around_0 18 rfl rfl)
theorem dX3_around_19 : decode cX3_around 19 = .ok (.iaload, 1) := dk_46 (dk_at dksX3_around_0 19 rfl rfl)
theorem dX3_around_20 : decode cX3_around 20 = .ok (.ior, 1) := dk_128 (dk_at dksX3_around_0 20 rfl rfl)
theorem dX3_around_21 : decode cX3_around 21 = .ok (.aload_n 0, 1) := dk_42 (dk_at dksX3_around_0 21 rfl rfl)
theorem dX3_around_22 : decode cX3_around 22 = .ok (.getfield 18, 3) := dk_180 0 18 (dk_at dksX3_around_1 0 rfl rfl)
theorem dX3_around_25 : decode cX3_around 25 = .ok (.iload_n 2, 1) := dk_28 (dk_at dksX3_around_1 3 rfl rfl)
theorem dX3_around_26 : decode cX3_around 26 = .ok (.iaload, 1) := dk_46 (dk_at dksX3_around_1 4 rfl rfl)
theorem dX3_around_27 : decode cX3_around 27 = .ok (.ior, 1) := dk_128 (dk_at dksX3_around_1 5 rfl rfl)
theorem dX3_around_28 : decode cX3_around 28 = .ok (.aload_n 0, 1) := dk_42 (dk_at dksX3_around_1 6 rfl rfl)
theorem dX3_around_29 : decode cX3_around 29 = .ok (.getfield 21, 3) := dk_180 0 21 (dk_at dksX3_around_1 7 rfl rfl)
theorem dX3_around_32 : decode cX3_around 32 = .ok (.iload_n 1, 1) := dk_27 (dk_at dksX3_around_1 10 rfl rfl)
theorem dX3_around_33 : decode cX3_around 33 = .ok (.iaload, 1) := dk_46 (dk_at dksX3_around_1 11 rfl rfl)
theorem dX3_around_34 : decode cX3_around 34 = .ok (.iand, 1) := dk_126 (dk_at dksX3_around_1 12 rfl rfl)
theorem dX3_around_35 : decode cX3_around 35 = .ok (.invokestatic 24, 3) := dk_184 0 24 (dk_at dksX3_around_1 13 rfl rfl)
theorem dX3_around_38 : decode cX3_around 38 = .ok (.ireturn, 1) := dk_172 (dk_at dksX3_around_1 16 rfl rfl)
abbrev cX3_besideRight : ByteArray := prog_8_method_12_code
def yX3_besideRight : MethodName := ⟨RX3, "besideRight", "(I)I"⟩
def dkwX3_besideRight_2 : List UInt8 := [28, 172]
abbrev dktX3_besideRight_2 : List UInt8 := dkwX3_besideRight_2 ++ []
def dkwX3_besideRight_1 : List UInt8 := [180, 0, 9, 27, 46, 126, 153, 0, 9, 4, 29, 120, 167, 0, 4, 3, 128, 61, 132, 3, 1, 167, 255, 216]
abbrev dktX3_besideRight_1 : List UInt8 := dkwX3_besideRight_1 ++ dktX3_besideRight_2
def dkwX3_besideRight_0 : List UInt8 := [3, 61, 3, 62, 29, 42, 180, 0, 30, 180, 0, 81, 162, 0, 35, 28, 42, 180, 0, 21, 29, 46, 42]
abbrev dktX3_besideRight_0 : List UInt8 := dkwX3_besideRight_0 ++ dktX3_besideRight_1
theorem dksX3_besideRight_0 : cX3_besideRight.data.toList.drop 0 = dktX3_besideRight_0 := by decide +kernel
theorem dksX3_besideRight_1 : cX3_besideRight.data.toList.drop 23 = dktX3_besideRight_1 := dk_seg dksX3_besideRight_0 23 rfl rfl
theorem dksX3_besideRight_2 : cX3_besideRight.data.toList.drop 47 = dktX3_besideRight_2 := dk_seg dksX3_besideRight_1 24 rfl rfl
theorem dX3_besideRight_0 : decode cX3_besideRight 0 = .ok (.iconst 0, 1) := dk_3 (dk_at dksX3_besideRight_0 0 rfl rfl)
theorem dX3_besideRight_1 : decode cX3_besideRight 1 = .ok (.istore_n 2, 1) := dk_61 (dk_at dksX3_besideRight_0 1 rfl rfl)
theorem dX3_besideRight_2 : decode cX3_besideRight 2 = .ok (.iconst 0, 1) := dk_3 (dk_at dksX3_besideRight_0 2 rfl rfl)
theorem dX3_besideRight_3 : decode cX3_besideRight 3 = .ok (.istore_n 3, 1) := dk_62 (dk_at dksX3_besideRight_0 3 rfl rfl)
theorem dX3_besideRight_4 : decode cX3_besideRight 4 = .ok (.iload_n 3, 1) := dk_29 (dk_at dksX3_besideRight_0 4 rfl rfl)
theorem dX3_besideRight_5 : decode cX3_besideRight 5 = .ok (.aload_n 0, 1) := dk_42 (dk_at dksX3_besideRight_0 5 rfl rfl)
theorem dX3_besideRight_6 : decode cX3_besideRight 6 = .ok (.getfield 30, 3) := dk_180 0 30 (dk_at dksX3_besideRight_0 6 rfl rfl)
theorem dX3_besideRight_9 : decode cX3_besideRight 9 = .ok (.getfield 81, 3) := dk_180 0 81 (dk_at dksX3_besideRight_0 9 rfl rfl)
theorem dX3_besideRight_12 : decode cX3_besideRight 12 = .ok (.if_icmp .ge 35, 3) := dk_162 0 35 (dk_at dksX3_besideRight_0 12 rfl rfl)
theorem dX3_besideRight_15 : decode cX3_besideRight 15 = .ok (.iload_n 2, 1) := dk_28 (dk_at dksX3_besideRight_0 15 rfl rfl)
theorem dX3_besideRight_16 : decode cX3_besideRight 16 = .ok (.aload_n 0, 1) := dk_42 (dk_at dksX3_besideRight_0 16 rfl rfl)
theorem dX3_besideRight_17 : decode cX3_besideRight 17 = .ok (.getfield 21, 3) := dk_180 0 21 (dk_at dksX3_besideRight_0 17 rfl rfl)
theorem dX3_besideRight_20 : decode cX3_besideRight 20 = .ok (.iload_n 3, 1) := dk_29 (dk_at dksX3_besideRight_0 20 rfl rfl)
theorem dX3_besideRight_21 : decode cX3_besideRight 21 = .ok (.iaload, 1) := dk_46 (dk_at dksX3_besideRight_0 21 rfl rfl)
theorem dX3_besideRight_22 : decode cX3_besideRight 22 = .ok (.aload_n 0, 1) := dk_42 (dk_at dksX3_besideRight_0 22 rfl rfl)
theorem dX3_besideRight_23 : decode cX3_besideRight 23 = .ok (.getfield 9, 3) := dk_180 0 9 (dk_at dksX3_besideRight_1 0 rfl rfl)
theorem dX3_besideRight_26 : decode cX3_besideRight 26 = .ok (.iload_n 1, 1) := dk_27 (dk_at dksX3_besideRight_1 3 rfl rfl)
theorem dX3_besideRight_27 : decode cX3_besideRight 27 = .ok (.iaload, 1) := dk_46 (dk_at dksX3_besideRight_1 4 rfl rfl)
theorem dX3_besideRight_28 : decode cX3_besideRight 28 = .ok (.iand, 1) := dk_126 (dk_at dksX3_besideRight_1 5 rfl rfl)
theorem dX3_besideRight_29 : decode cX3_besideRight 29 = .ok (.ifCond .eq 9, 3) := dk_153 0 9 (dk_at dksX3_besideRight_1 6 rfl rfl)
theorem dX3_besideRight_32 : decode cX3_besideRight 32 = .ok (.iconst 1, 1) := dk_4 (dk_at dksX3_besideRight_1 9 rfl rfl)
theorem dX3_besideRight_33 : decode cX3_besideRight 33 = .ok (.iload_n 3, 1) := dk_29 (dk_at dksX3_besideRight_1 10 rfl rfl)
theorem dX3_besideRight_34 : decode cX3_besideRight 34 = .ok (.ishl, 1) := dk_120 (dk_at dksX3_besideRight_1 11 rfl rfl)
theorem dX3_besideRight_35 : decode cX3_besideRight 35 = .ok (.goto 4, 3) := dk_167 0 4 (dk_at dksX3_besideRight_1 12 rfl rfl)
theorem dX3_besideRight_38 : decode cX3_besideRight 38 = .ok (.iconst 0, 1) := dk_3 (dk_at dksX3_besideRight_1 15 rfl rfl)
theorem dX3_besideRight_39 : decode cX3_besideRight 39 = .ok (.ior, 1) := dk_128 (dk_at dksX3_besideRight_1 16 rfl rfl)
theorem dX3_besideRight_40 : decode cX3_besideRight 40 = .ok (.istore_n 2, 1) := dk_61 (dk_at dksX3_besideRight_1 17 rfl rfl)
theorem dX3_besideRight_41 : decode cX3_besideRight 41 = .ok (.iinc 3 1, 3) := dk_132 3 1 (dk_at dksX3_besideRight_1 18 rfl rfl)
theorem dX3_besideRight_44 : decode cX3_besideRight 44 = .ok (.goto (-40), 3) := dk_167 255 216 (dk_at dksX3_besideRight_1 21 rfl rfl)
theorem dX3_besideRight_47 : decode cX3_besideRight 47 = .ok (.iload_n 2, 1) := dk_28 (dk_at dksX3_besideRight_2 0 rfl rfl)
theorem dX3_besideRight_48 : decode cX3_besideRight 48 = .ok (.ireturn, 1) := dk_172 (dk_at dksX3_besideRight_2 1 rfl rfl)
abbrev cX3_catches : ByteArray := prog_8_method_9_code
def yX3_catches : MethodName := ⟨RX3, "catches", "()I"⟩
def dkwX3_catches_1 : List UInt8 := [161, 0, 5, 27, 172, 132, 1, 1, 167, 255, 228, 2, 172]
abbrev dktX3_catches_1 : List UInt8 := dkwX3_catches_1 ++ []
def dkwX3_catches_0 : List UInt8 := [3, 60, 27, 16, 40, 163, 0, 28, 5, 42, 27, 182, 0, 95, 104, 42, 180, 0, 30, 180, 0, 81]
abbrev dktX3_catches_0 : List UInt8 := dkwX3_catches_0 ++ dktX3_catches_1
theorem dksX3_catches_0 : cX3_catches.data.toList.drop 0 = dktX3_catches_0 := by decide +kernel
theorem dksX3_catches_1 : cX3_catches.data.toList.drop 22 = dktX3_catches_1 := dk_seg dksX3_catches_0 22 rfl rfl
theorem dX3_catches_0 : decode cX3_catches 0 = .ok (.iconst 0, 1) := dk_3 (dk_at dksX3_catches_0 0 rfl rfl)
theorem dX3_catches_1 : decode cX3_catches 1 = .ok (.istore_n 1, 1) := dk_60 (dk_at dksX3_catches_0 1 rfl rfl)
theorem dX3_catches_2 : decode cX3_catches 2 = .ok (.iload_n 1, 1) := dk_27 (dk_at dksX3_catches_0 2 rfl rfl)
theorem dX3_catches_3 : decode cX3_catches 3 = .ok (.bipush 40, 2) := dk_16 40 (dk_at dksX3_catches_0 3 rfl rfl)
theorem dX3_catches_5 : decode cX3_catches 5 = .ok (.if_icmp .gt 28, 3) := dk_163 0 28 (dk_at dksX3_catches_0 5 rfl rfl)
theorem dX3_catches_8 : decode cX3_catches 8 = .ok (.iconst 2, 1) := dk_5 (dk_at dksX3_catches_0 8 rfl rfl)
theorem dX3_catches_9 : decode cX3_catches 9 = .ok (.aload_n 0, 1) := dk_42 (dk_at dksX3_catches_0 9 rfl rfl)
theorem dX3_catches_10 : decode cX3_catches 10 = .ok (.iload_n 1, 1) := dk_27 (dk_at dksX3_catches_0 10 rfl rfl)
theorem dX3_catches_11 : decode cX3_catches 11 = .ok (.invokevirtual 95, 3) := dk_182 0 95 (dk_at dksX3_catches_0 11 rfl rfl)
theorem dX3_catches_14 : decode cX3_catches 14 = .ok (.imul, 1) := dk_104 (dk_at dksX3_catches_0 14 rfl rfl)
theorem dX3_catches_15 : decode cX3_catches 15 = .ok (.aload_n 0, 1) := dk_42 (dk_at dksX3_catches_0 15 rfl rfl)
theorem dX3_catches_16 : decode cX3_catches 16 = .ok (.getfield 30, 3) := dk_180 0 30 (dk_at dksX3_catches_0 16 rfl rfl)
theorem dX3_catches_19 : decode cX3_catches 19 = .ok (.getfield 81, 3) := dk_180 0 81 (dk_at dksX3_catches_0 19 rfl rfl)
theorem dX3_catches_22 : decode cX3_catches 22 = .ok (.if_icmp .lt 5, 3) := dk_161 0 5 (dk_at dksX3_catches_1 0 rfl rfl)
theorem dX3_catches_25 : decode cX3_catches 25 = .ok (.iload_n 1, 1) := dk_27 (dk_at dksX3_catches_1 3 rfl rfl)
theorem dX3_catches_26 : decode cX3_catches 26 = .ok (.ireturn, 1) := dk_172 (dk_at dksX3_catches_1 4 rfl rfl)
theorem dX3_catches_27 : decode cX3_catches 27 = .ok (.iinc 1 1, 3) := dk_132 1 1 (dk_at dksX3_catches_1 5 rfl rfl)
theorem dX3_catches_30 : decode cX3_catches 30 = .ok (.goto (-28), 3) := dk_167 255 228 (dk_at dksX3_catches_1 8 rfl rfl)
theorem dX3_catches_33 : decode cX3_catches 33 = .ok (.iconst (-1), 1) := dk_2 (dk_at dksX3_catches_1 11 rfl rfl)
theorem dX3_catches_34 : decode cX3_catches 34 = .ok (.ireturn, 1) := dk_172 (dk_at dksX3_catches_1 12 rfl rfl)
abbrev cX3_manyRight : ByteArray := prog_8_method_7_code
def yX3_manyRight : MethodName := ⟨RX3, "manyRight", "(I)I"⟩
def dkwX3_manyRight_0 : List UInt8 := [42, 180, 0, 9, 27, 46, 184, 0, 24, 172]
abbrev dktX3_manyRight_0 : List UInt8 := dkwX3_manyRight_0 ++ []
theorem dksX3_manyRight_0 : cX3_manyRight.data.toList.drop 0 = dktX3_manyRight_0 := by decide +kernel
theorem dX3_manyRight_0 : decode cX3_manyRight 0 = .ok (.aload_n 0, 1) := dk_42 (dk_at dksX3_manyRight_0 0 rfl rfl)
theorem dX3_manyRight_1 : decode cX3_manyRight 1 = .ok (.getfield 9, 3) := dk_180 0 9 (dk_at dksX3_manyRight_0 1 rfl rfl)
theorem dX3_manyRight_4 : decode cX3_manyRight 4 = .ok (.iload_n 1, 1) := dk_27 (dk_at dksX3_manyRight_0 4 rfl rfl)
theorem dX3_manyRight_5 : decode cX3_manyRight 5 = .ok (.iaload, 1) := dk_46 (dk_at dksX3_manyRight_0 5 rfl rfl)
theorem dX3_manyRight_6 : decode cX3_manyRight 6 = .ok (.invokestatic 24, 3) := dk_184 0 24 (dk_at dksX3_manyRight_0 6 rfl rfl)
theorem dX3_manyRight_9 : decode cX3_manyRight 9 = .ok (.ireturn, 1) := dk_172 (dk_at dksX3_manyRight_0 9 rfl rfl)
abbrev cX3_settles : ByteArray := prog_8_method_11_code
def yX3_settles : MethodName := ⟨RX3, "settles", "()I"⟩
def dkwX3_settles_2 : List UInt8 := [167, 255, 212, 2, 172]
abbrev dktX3_settles_2 : List UInt8 := dkwX3_settles_2 ++ []
def dkwX3_settles_1 : List UInt8 := [182, 0, 98, 153, 0, 16, 42, 27, 27, 6, 96, 182, 0, 98, 153, 0, 5, 27, 172, 132, 1, 1]
abbrev dktX3_settles_1 : List UInt8 := dkwX3_settles_1 ++ dktX3_settles_2
def dkwX3_settles_0 : List UInt8 := [3, 60, 27, 16, 40, 163, 0, 44, 42, 27, 27, 4, 96, 182, 0, 98, 153, 0, 27, 42, 27, 27, 5, 96]
abbrev dktX3_settles_0 : List UInt8 := dkwX3_settles_0 ++ dktX3_settles_1
theorem dksX3_settles_0 : cX3_settles.data.toList.drop 0 = dktX3_settles_0 := by decide +kernel
theorem dksX3_settles_1 : cX3_settles.data.toList.drop 24 = dktX3_settles_1 := dk_seg dksX3_settles_0 24 rfl rfl
theorem dksX3_settles_2 : cX3_settles.data.toList.drop 46 = dktX3_settles_2 := dk_seg dksX3_settles_1 22 rfl rfl
theorem dX3_settles_0 : decode cX3_settles 0 = .ok (.iconst 0, 1) := dk_3 (dk_at dksX3_settles_0 0 rfl rfl)
theorem dX3_settles_1 : decode cX3_settles 1 = .ok (.istore_n 1, 1) := dk_60 (dk_at dksX3_settles_0 1 rfl rfl)
theorem dX3_settles_2 : decode cX3_settles 2 = .ok (.iload_n 1, 1) := dk_27 (dk_at dksX3_settles_0 2 rfl rfl)
theorem dX3_settles_3 : decode cX3_settles 3 = .ok (.bipush 40, 2) := dk_16 40 (dk_at dksX3_settles_0 3 rfl rfl)
theorem dX3_settles_5 : decode cX3_settles 5 = .ok (.if_icmp .gt 44, 3) := dk_163 0 44 (dk_at dksX3_settles_0 5 rfl rfl)
theorem dX3_settles_8 : decode cX3_settles 8 = .ok (.aload_n 0, 1) := dk_42 (dk_at dksX3_settles_0 8 rfl rfl)
theorem dX3_settles_9 : decode cX3_settles 9 = .ok (.iload_n 1, 1) := dk_27 (dk_at dksX3_settles_0 9 rfl rfl)
theorem dX3_settles_10 : decode cX3_settles 10 = .ok (.iload_n 1, 1) := dk_27 (dk_at dksX3_settles_0 10 rfl rfl)
theorem dX3_settles_11 : decode cX3_settles 11 = .ok (.iconst 1, 1) := dk_4 (dk_at dksX3_settles_0 11 rfl rfl)
theorem dX3_settles_12 : decode cX3_settles 12 = .ok (.iadd, 1) := dk_96 (dk_at dksX3_settles_0 12 rfl rfl)
theorem dX3_settles_13 : decode cX3_settles 13 = .ok (.invokevirtual 98, 3) := dk_182 0 98 (dk_at dksX3_settles_0 13 rfl rfl)
theorem dX3_settles_16 : decode cX3_settles 16 = .ok (.ifCond .eq 27, 3) := dk_153 0 27 (dk_at dksX3_settles_0 16 rfl rfl)
theorem dX3_settles_19 : decode cX3_settles 19 = .ok (.aload_n 0, 1) := dk_42 (dk_at dksX3_settles_0 19 rfl rfl)
theorem dX3_settles_20 : decode cX3_settles 20 = .ok (.iload_n 1, 1) := dk_27 (dk_at dksX3_settles_0 20 rfl rfl)
theorem dX3_settles_21 : decode cX3_settles 21 = .ok (.iload_n 1, 1) := dk_27 (dk_at dksX3_settles_0 21 rfl rfl)
theorem dX3_settles_22 : decode cX3_settles 22 = .ok (.iconst 2, 1) := dk_5 (dk_at dksX3_settles_0 22 rfl rfl)
theorem dX3_settles_23 : decode cX3_settles 23 = .ok (.iadd, 1) := dk_96 (dk_at dksX3_settles_0 23 rfl rfl)
theorem dX3_settles_24 : decode cX3_settles 24 = .ok (.invokevirtual 98, 3) := dk_182 0 98 (dk_at dksX3_settles_1 0 rfl rfl)
theorem dX3_settles_27 : decode cX3_settles 27 = .ok (.ifCond .eq 16, 3) := dk_153 0 16 (dk_at dksX3_settles_1 3 rfl rfl)
theorem dX3_settles_30 : decode cX3_settles 30 = .ok (.aload_n 0, 1) := dk_42 (dk_at dksX3_settles_1 6 rfl rfl)
theorem dX3_settles_31 : decode cX3_settles 31 = .ok (.iload_n 1, 1) := dk_27 (dk_at dksX3_settles_1 7 rfl rfl)
theorem dX3_settles_32 : decode cX3_settles 32 = .ok (.iload_n 1, 1) := dk_27 (dk_at dksX3_settles_1 8 rfl rfl)
theorem dX3_settles_33 : decode cX3_settles 33 = .ok (.iconst 3, 1) := dk_6 (dk_at dksX3_settles_1 9 rfl rfl)
theorem dX3_settles_34 : decode cX3_settles 34 = .ok (.iadd, 1) := dk_96 (dk_at dksX3_settles_1 10 rfl rfl)
theorem dX3_settles_35 : decode cX3_settles 35 = .ok (.invokevirtual 98, 3) := dk_182 0 98 (dk_at dksX3_settles_1 11 rfl rfl)
theorem dX3_settles_38 : decode cX3_settles 38 = .ok (.ifCond .eq 5, 3) := dk_153 0 5 (dk_at dksX3_settles_1 14 rfl rfl)
theorem dX3_settles_41 : decode cX3_settles 41 = .ok (.iload_n 1, 1) := dk_27 (dk_at dksX3_settles_1 17 rfl rfl)
theorem dX3_settles_42 : decode cX3_settles 42 = .ok (.ireturn, 1) := dk_172 (dk_at dksX3_settles_1 18 rfl rfl)
theorem dX3_settles_43 : decode cX3_settles 43 = .ok (.iinc 1 1, 3) := dk_132 1 1 (dk_at dksX3_settles_1 19 rfl rfl)
theorem dX3_settles_46 : decode cX3_settles 46 = .ok (.goto (-44), 3) := dk_167 255 212 (dk_at dksX3_settles_2 0 rfl rfl)
theorem dX3_settles_49 : decode cX3_settles 49 = .ok (.iconst (-1), 1) := dk_2 (dk_at dksX3_settles_2 3 rfl rfl)
theorem dX3_settles_50 : decode cX3_settles 50 = .ok (.ireturn, 1) := dk_172 (dk_at dksX3_settles_2 4 rfl rfl)
abbrev cX3_isSame : ByteArray := prog_8_method_10_code
def yX3_isSame : MethodName := ⟨RX3, "isSame", "(II)Z"⟩
def dkwX3_isSame_2 : List UInt8 := [167, 0, 4, 3, 172]
abbrev dktX3_isSame_2 : List UInt8 := dkwX3_isSame_2 ++ []
def dkwX3_isSame_1 : List UInt8 := [180, 0, 15, 28, 46, 160, 0, 22, 42, 180, 0, 18, 27, 46, 42, 180, 0, 18, 28, 46, 160, 0, 7, 4]
abbrev dktX3_isSame_1 : List UInt8 := dkwX3_isSame_1 ++ dktX3_isSame_2
def dkwX3_isSame_0 : List UInt8 := [42, 180, 0, 9, 27, 46, 42, 180, 0, 9, 28, 46, 160, 0, 37, 42, 180, 0, 15, 27, 46, 42]
abbrev dktX3_isSame_0 : List UInt8 := dkwX3_isSame_0 ++ dktX3_isSame_1
theorem dksX3_isSame_0 : cX3_isSame.data.toList.drop 0 = dktX3_isSame_0 := by decide +kernel
theorem dksX3_isSame_1 : cX3_isSame.data.toList.drop 22 = dktX3_isSame_1 := dk_seg dksX3_isSame_0 22 rfl rfl
theorem dksX3_isSame_2 : cX3_isSame.data.toList.drop 46 = dktX3_isSame_2 := dk_seg dksX3_isSame_1 24 rfl rfl
theorem dX3_isSame_0 : decode cX3_isSame 0 = .ok (.aload_n 0, 1) := dk_42 (dk_at dksX3_isSame_0 0 rfl rfl)
theorem dX3_isSame_1 : decode cX3_isSame 1 = .ok (.getfield 9, 3) := dk_180 0 9 (dk_at dksX3_isSame_0 1 rfl rfl)
theorem dX3_isSame_4 : decode cX3_isSame 4 = .ok (.iload_n 1, 1) := dk_27 (dk_at dksX3_isSame_0 4 rfl rfl)
theorem dX3_isSame_5 : decode cX3_isSame 5 = .ok (.iaload, 1) := dk_46 (dk_at dksX3_isSame_0 5 rfl rfl)
theorem dX3_isSame_6 : decode cX3_isSame 6 = .ok (.aload_n 0, 1) := dk_42 (dk_at dksX3_isSame_0 6 rfl rfl)
theorem dX3_isSame_7 : decode cX3_isSame 7 = .ok (.getfield 9, 3) := dk_180 0 9 (dk_at dksX3_isSame_0 7 rfl rfl)
theorem dX3_isSame_10 : decode cX3_isSame 10 = .ok (.iload_n 2, 1) := dk_28 (dk_at dksX3_isSame_0 10 rfl rfl)
theorem dX3_isSame_11 : decode cX3_isSame 11 = .ok (.iaload, 1) := dk_46 (dk_at dksX3_isSame_0 11 rfl rfl)
theorem dX3_isSame_12 : decode cX3_isSame 12 = .ok (.if_icmp .ne 37, 3) := dk_160 0 37 (dk_at dksX3_isSame_0 12 rfl rfl)
theorem dX3_isSame_15 : decode cX3_isSame 15 = .ok (.aload_n 0, 1) := dk_42 (dk_at dksX3_isSame_0 15 rfl rfl)
theorem dX3_isSame_16 : decode cX3_isSame 16 = .ok (.getfield 15, 3) := dk_180 0 15 (dk_at dksX3_isSame_0 16 rfl rfl)
theorem dX3_isSame_19 : decode cX3_isSame 19 = .ok (.iload_n 1, 1) := dk_27 (dk_at dksX3_isSame_0 19 rfl rfl)
theorem dX3_isSame_20 : decode cX3_isSame 20 = .ok (.iaload, 1) := dk_46 (dk_at dksX3_isSame_0 20 rfl rfl)
theorem dX3_isSame_21 : decode cX3_isSame 21 = .ok (.aload_n 0, 1) := dk_42 (dk_at dksX3_isSame_0 21 rfl rfl)
theorem dX3_isSame_22 : decode cX3_isSame 22 = .ok (.getfield 15, 3) := dk_180 0 15 (dk_at dksX3_isSame_1 0 rfl rfl)
theorem dX3_isSame_25 : decode cX3_isSame 25 = .ok (.iload_n 2, 1) := dk_28 (dk_at dksX3_isSame_1 3 rfl rfl)
theorem dX3_isSame_26 : decode cX3_isSame 26 = .ok (.iaload, 1) := dk_46 (dk_at dksX3_isSame_1 4 rfl rfl)
theorem dX3_isSame_27 : decode cX3_isSame 27 = .ok (.if_icmp .ne 22, 3) := dk_160 0 22 (dk_at dksX3_isSame_1 5 rfl rfl)
theorem dX3_isSame_30 : decode cX3_isSame 30 = .ok (.aload_n 0, 1) := dk_42 (dk_at dksX3_isSame_1 8 rfl rfl)
theorem dX3_isSame_31 : decode cX3_isSame 31 = .ok (.getfield 18, 3) := dk_180 0 18 (dk_at dksX3_isSame_1 9 rfl rfl)
theorem dX3_isSame_34 : decode cX3_isSame 34 = .ok (.iload_n 1, 1) := dk_27 (dk_at dksX3_isSame_1 12 rfl rfl)
theorem dX3_isSame_35 : decode cX3_isSame 35 = .ok (.iaload, 1) := dk_46 (dk_at dksX3_isSame_1 13 rfl rfl)
theorem dX3_isSame_36 : decode cX3_isSame 36 = .ok (.aload_n 0, 1) := dk_42 (dk_at dksX3_isSame_1 14 rfl rfl)
theorem dX3_isSame_37 : decode cX3_isSame 37 = .ok (.getfield 18, 3) := dk_180 0 18 (dk_at dksX3_isSame_1 15 rfl rfl)
theorem dX3_isSame_40 : decode cX3_isSame 40 = .ok (.iload_n 2, 1) := dk_28 (dk_at dksX3_isSame_1 18 rfl rfl)
theorem dX3_isSame_41 : decode cX3_isSame 41 = .ok (.iaload, 1) := dk_46 (dk_at dksX3_isSame_1 19 rfl rfl)
theorem dX3_isSame_42 : decode cX3_isSame 42 = .ok (.if_icmp .ne 7, 3) := dk_160 0 7 (dk_at dksX3_isSame_1 20 rfl rfl)
theorem dX3_isSame_45 : decode cX3_isSame 45 = .ok (.iconst 1, 1) := dk_4 (dk_at dksX3_isSame_1 23 rfl rfl)
theorem dX3_isSame_46 : decode cX3_isSame 46 = .ok (.goto 4, 3) := dk_167 0 4 (dk_at dksX3_isSame_2 0 rfl rfl)
theorem dX3_isSame_49 : decode cX3_isSame 49 = .ok (.iconst 0, 1) := dk_3 (dk_at dksX3_isSame_2 3 rfl rfl)
theorem dX3_isSame_50 : decode cX3_isSame 50 = .ok (.ireturn, 1) := dk_172 (dk_at dksX3_isSame_2 4 rfl rfl)
abbrev cX3_manyHeard : ByteArray := prog_8_method_8_code
def yX3_manyHeard : MethodName := ⟨RX3, "manyHeard", "(I)I"⟩
def dkwX3_manyHeard_0 : List UInt8 := [42, 180, 0, 9, 27, 46, 42, 180, 0, 15, 27, 46, 128, 184, 0, 24, 172]
abbrev dktX3_manyHeard_0 : List UInt8 := dkwX3_manyHeard_0 ++ []
theorem dksX3_manyHeard_0 : cX3_manyHeard.data.toList.drop 0 = dktX3_manyHeard_0 := by decide +kernel
theorem dX3_manyHeard_0 : decode cX3_manyHeard 0 = .ok (.aload_n 0, 1) := dk_42 (dk_at dksX3_manyHeard_0 0 rfl rfl)
theorem dX3_manyHeard_1 : decode cX3_manyHeard 1 = .ok (.getfield 9, 3) := dk_180 0 9 (dk_at dksX3_manyHeard_0 1 rfl rfl)
theorem dX3_manyHeard_4 : decode cX3_manyHeard 4 = .ok (.iload_n 1, 1) := dk_27 (dk_at dksX3_manyHeard_0 4 rfl rfl)
theorem dX3_manyHeard_5 : decode cX3_manyHeard 5 = .ok (.iaload, 1) := dk_46 (dk_at dksX3_manyHeard_0 5 rfl rfl)
theorem dX3_manyHeard_6 : decode cX3_manyHeard 6 = .ok (.aload_n 0, 1) := dk_42 (dk_at dksX3_manyHeard_0 6 rfl rfl)
theorem dX3_manyHeard_7 : decode cX3_manyHeard 7 = .ok (.getfield 15, 3) := dk_180 0 15 (dk_at dksX3_manyHeard_0 7 rfl rfl)
theorem dX3_manyHeard_10 : decode cX3_manyHeard 10 = .ok (.iload_n 1, 1) := dk_27 (dk_at dksX3_manyHeard_0 10 rfl rfl)
theorem dX3_manyHeard_11 : decode cX3_manyHeard 11 = .ok (.iaload, 1) := dk_46 (dk_at dksX3_manyHeard_0 11 rfl rfl)
theorem dX3_manyHeard_12 : decode cX3_manyHeard 12 = .ok (.ior, 1) := dk_128 (dk_at dksX3_manyHeard_0 12 rfl rfl)
theorem dX3_manyHeard_13 : decode cX3_manyHeard 13 = .ok (.invokestatic 24, 3) := dk_184 0 24 (dk_at dksX3_manyHeard_0 13 rfl rfl)
theorem dX3_manyHeard_16 : decode cX3_manyHeard 16 = .ok (.ireturn, 1) := dk_172 (dk_at dksX3_manyHeard_0 16 rfl rfl)
theorem q86 : (Jvm.Cond.initialized "WhichOneAllKnow$Hymn") ∈ lw_all := lw_g (lw_at lw_m1 4 rfl) rfl
theorem q153 : (Jvm.Cond.fieldLink "WhichOneAllKnow$Hymn" (81 : Nat) "WhichOneAllKnow$Church" "many" "I") ∈ lw_all := lw_g (lw_at lw_m1 71 rfl) rfl
theorem q167 : (Jvm.Cond.fieldLink "WhichOneAllKnow$Hymn" (65 : Nat) "WhichOneAllKnow$Church" "high" "[I") ∈ lw_all := lw_g (lw_at lw_m1 85 rfl) rfl
theorem q170 : (Jvm.Cond.fieldLink "WhichOneAllKnow$Hymn" (34 : Nat) "WhichOneAllKnow$Church" "voices" "[LWhichOneAllKnow$Voice;") ∈ lw_all := lw_g (lw_at lw_m1 88 rfl) rfl
theorem q199 : (Jvm.Cond.instantiable "WhichOneAllKnow$Hymn" (8 : Nat)) ∈ lw_all := lw_g (lw_at lw_m1 117 rfl) rfl
theorem q201 : (Jvm.Cond.instanceMethod ({ cls := "WhichOneAllKnow$Hymn", name := "<init>", desc := "()V" } : Jvm.MethodName)) ∈ lw_all := lw_g (lw_at lw_m1 119 rfl) rfl
theorem q202 : (Jvm.Cond.code ({ cls := "WhichOneAllKnow$Hymn", name := "<init>", desc := "()V" } : Jvm.MethodName) prog_8_method_1_code (1 : Nat) (Option.none : Option Jvm.ClassFile.FieldType)) ∈ lw_all := lw_g (lw_at lw_m1 120 rfl) rfl
theorem q203 : (Jvm.Cond.methodLink "WhichOneAllKnow$Hymn" (3 : Nat) ({ cls := "java/lang/Object", name := "<init>", desc := "()V" } : Jvm.MethodName)) ∈ lw_all := lw_g (lw_at lw_m1 121 rfl) rfl
theorem q204 : (Jvm.Cond.fieldLink "WhichOneAllKnow$Hymn" (9 : Nat) "WhichOneAllKnow$Hymn" "right" "[I") ∈ lw_all := lw_g (lw_at lw_m1 122 rfl) rfl
theorem q206 : (Jvm.Cond.fieldLink "WhichOneAllKnow$Hymn" (15 : Nat) "WhichOneAllKnow$Hymn" "wrong" "[I") ∈ lw_all := lw_g (lw_at lw_m1 124 rfl) rfl
theorem q208 : (Jvm.Cond.fieldLink "WhichOneAllKnow$Hymn" (18 : Nat) "WhichOneAllKnow$Hymn" "miming" "[I") ∈ lw_all := lw_g (lw_at lw_m1 126 rfl) rfl
theorem q210 : (Jvm.Cond.fieldLink "WhichOneAllKnow$Hymn" (21 : Nat) "WhichOneAllKnow$Hymn" "near" "[I") ∈ lw_all := lw_g (lw_at lw_m1 128 rfl) rfl
theorem q211 : (Jvm.Cond.fieldLink "WhichOneAllKnow$Hymn" (30 : Nat) "WhichOneAllKnow$Hymn" "w" "LWhichOneAllKnow$Church;") ∈ lw_all := lw_g (lw_at lw_m1 129 rfl) rfl
theorem q212 : (Jvm.Cond.fieldLink "WhichOneAllKnow$Hymn" (40 : Nat) "WhichOneAllKnow$Hymn" "tune" "I") ∈ lw_all := lw_g (lw_at lw_m1 130 rfl) rfl
theorem q213 : (Jvm.Cond.fieldLink "WhichOneAllKnow$Hymn" (68 : Nat) "WhichOneAllKnow$Hymn" "pitch" "I") ∈ lw_all := lw_g (lw_at lw_m1 131 rfl) rfl
theorem q214 : (Jvm.Cond.fieldLink "WhichOneAllKnow$Hymn" (62 : Nat) "WhichOneAllKnow$Hymn" "without" "I") ∈ lw_all := lw_g (lw_at lw_m1 132 rfl) rfl
theorem q215 : (Jvm.Cond.laysFinal "WhichOneAllKnow$Hymn" "WhichOneAllKnow$Hymn" "right" "[I") ∈ lw_all := lw_g (lw_at lw_m1 133 rfl) rfl
theorem q216 : (Jvm.Cond.soleField "WhichOneAllKnow$Hymn" "right") ∈ lw_all := lw_g (lw_at lw_m1 134 rfl) rfl
theorem q217 : (Jvm.Cond.laysFinal "WhichOneAllKnow$Hymn" "WhichOneAllKnow$Hymn" "wrong" "[I") ∈ lw_all := lw_g (lw_at lw_m1 135 rfl) rfl
theorem q218 : (Jvm.Cond.soleField "WhichOneAllKnow$Hymn" "wrong") ∈ lw_all := lw_g (lw_at lw_m1 136 rfl) rfl
theorem q219 : (Jvm.Cond.laysFinal "WhichOneAllKnow$Hymn" "WhichOneAllKnow$Hymn" "miming" "[I") ∈ lw_all := lw_g (lw_at lw_m1 137 rfl) rfl
theorem q220 : (Jvm.Cond.soleField "WhichOneAllKnow$Hymn" "miming") ∈ lw_all := lw_g (lw_at lw_m1 138 rfl) rfl
theorem q221 : (Jvm.Cond.laysFinal "WhichOneAllKnow$Hymn" "WhichOneAllKnow$Hymn" "near" "[I") ∈ lw_all := lw_g (lw_at lw_m1 139 rfl) rfl
theorem q222 : (Jvm.Cond.soleField "WhichOneAllKnow$Hymn" "near") ∈ lw_all := lw_g (lw_at lw_m1 140 rfl) rfl
theorem q223 : (Jvm.Cond.lays "WhichOneAllKnow$Hymn" "WhichOneAllKnow$Hymn" "w" "LWhichOneAllKnow$Church;") ∈ lw_all := lw_g (lw_at lw_m1 141 rfl) rfl
theorem q224 : (Jvm.Cond.soleField "WhichOneAllKnow$Hymn" "w") ∈ lw_all := lw_g (lw_at lw_m1 142 rfl) rfl
theorem q225 : (Jvm.Cond.lays "WhichOneAllKnow$Hymn" "WhichOneAllKnow$Hymn" "tune" "I") ∈ lw_all := lw_g (lw_at lw_m1 143 rfl) rfl
theorem q226 : (Jvm.Cond.soleField "WhichOneAllKnow$Hymn" "tune") ∈ lw_all := lw_g (lw_at lw_m1 144 rfl) rfl
theorem q227 : (Jvm.Cond.lays "WhichOneAllKnow$Hymn" "WhichOneAllKnow$Hymn" "pitch" "I") ∈ lw_all := lw_g (lw_at lw_m1 145 rfl) rfl
theorem q228 : (Jvm.Cond.soleField "WhichOneAllKnow$Hymn" "pitch") ∈ lw_all := lw_g (lw_at lw_m1 146 rfl) rfl
theorem q229 : (Jvm.Cond.lays "WhichOneAllKnow$Hymn" "WhichOneAllKnow$Hymn" "without" "I") ∈ lw_all := lw_g (lw_at lw_m1 147 rfl) rfl
theorem q230 : (Jvm.Cond.soleField "WhichOneAllKnow$Hymn" "without") ∈ lw_all := lw_g (lw_at lw_m1 148 rfl) rfl
theorem q231 : (Jvm.Cond.superclass "WhichOneAllKnow$Hymn" "java/lang/Object") ∈ lw_all := lw_g (lw_at lw_m1 149 rfl) rfl
theorem q266 : (Jvm.Cond.fieldLink "WhichOneAllKnow$Hymn" (71 : Nat) "WhichOneAllKnow$Voice" "top" "I") ∈ lw_all := lw_g (lw_at lw_m1 184 rfl) rfl
theorem q990 : (Jvm.Cond.instanceMethod ({ cls := "WhichOneAllKnow$Hymn", name := "of", desc := "(LWhichOneAllKnow$Church;III)LWhichOneAllKnow$Hymn;" } : Jvm.MethodName)) ∈ lw_all := lw_g (lw_at lw_m4 188 rfl) rfl
theorem q991 : (Jvm.Cond.selects "WhichOneAllKnow$Hymn" ({ cls := "WhichOneAllKnow$Hymn", name := "of", desc := "(LWhichOneAllKnow$Church;III)LWhichOneAllKnow$Hymn;" } : Jvm.MethodName) ({ cls := "WhichOneAllKnow$Hymn", name := "of", desc := "(LWhichOneAllKnow$Church;III)LWhichOneAllKnow$Hymn;" } : Jvm.MethodName)) ∈ lw_all := lw_g (lw_at lw_m4 189 rfl) rfl
theorem q992 : (Jvm.Cond.code ({ cls := "WhichOneAllKnow$Hymn", name := "of", desc := "(LWhichOneAllKnow$Church;III)LWhichOneAllKnow$Hymn;" } : Jvm.MethodName) prog_8_method_6_code (5 : Nat) (Option.some (Jvm.ClassFile.FieldType.object "WhichOneAllKnow$Hymn"))) ∈ lw_all := lw_g (lw_at lw_m4 190 rfl) rfl
theorem q993 : (Jvm.Cond.methodLink "WhichOneAllKnow$Hymn" (91 : Nat) ({ cls := "WhichOneAllKnow$Hymn", name := "of", desc := "(LWhichOneAllKnow$Church;IIII)LWhichOneAllKnow$Hymn;" } : Jvm.MethodName)) ∈ lw_all := lw_g (lw_at lw_m4 191 rfl) rfl
theorem q994 : (Jvm.Cond.instanceMethod ({ cls := "WhichOneAllKnow$Hymn", name := "of", desc := "(LWhichOneAllKnow$Church;IIII)LWhichOneAllKnow$Hymn;" } : Jvm.MethodName)) ∈ lw_all := lw_g (lw_at lw_m4 192 rfl) rfl
theorem q995 : (Jvm.Cond.selects "WhichOneAllKnow$Hymn" ({ cls := "WhichOneAllKnow$Hymn", name := "of", desc := "(LWhichOneAllKnow$Church;IIII)LWhichOneAllKnow$Hymn;" } : Jvm.MethodName) ({ cls := "WhichOneAllKnow$Hymn", name := "of", desc := "(LWhichOneAllKnow$Church;IIII)LWhichOneAllKnow$Hymn;" } : Jvm.MethodName)) ∈ lw_all := lw_g (lw_at lw_m4 193 rfl) rfl
theorem q996 : (Jvm.Cond.code ({ cls := "WhichOneAllKnow$Hymn", name := "of", desc := "(LWhichOneAllKnow$Church;IIII)LWhichOneAllKnow$Hymn;" } : Jvm.MethodName) prog_8_method_5_code (8 : Nat) (Option.some (Jvm.ClassFile.FieldType.object "WhichOneAllKnow$Hymn"))) ∈ lw_all := lw_g (lw_at lw_m4 194 rfl) rfl
theorem q997 : (Jvm.Cond.methodLink "WhichOneAllKnow$Hymn" (84 : Nat) ({ cls := "WhichOneAllKnow$Church", name := "nearTo", desc := "(I)I" } : Jvm.MethodName)) ∈ lw_all := lw_g (lw_at lw_m4 195 rfl) rfl
theorem q1007 : (Jvm.Cond.methodLink "WhichOneAllKnow$Hymn" (87 : Nat) ({ cls := "WhichOneAllKnow$Hymn", name := "goes", desc := "(II)V" } : Jvm.MethodName)) ∈ lw_all := lw_g (lw_at lw_m4 205 rfl) rfl
theorem q1008 : (Jvm.Cond.privateMethod ({ cls := "WhichOneAllKnow$Hymn", name := "goes", desc := "(II)V" } : Jvm.MethodName)) ∈ lw_tbl := lw_at lw_m4 206 rfl
theorem q1009 : (Jvm.Cond.instanceMethod ({ cls := "WhichOneAllKnow$Hymn", name := "goes", desc := "(II)V" } : Jvm.MethodName)) ∈ lw_all := lw_g (lw_at lw_m4 207 rfl) rfl
theorem q1010 : (Jvm.Cond.code ({ cls := "WhichOneAllKnow$Hymn", name := "goes", desc := "(II)V" } : Jvm.MethodName) prog_8_method_4_code (7 : Nat) (Option.none : Option Jvm.ClassFile.FieldType)) ∈ lw_all := lw_g (lw_at lw_m4 208 rfl) rfl
theorem q1011 : (Jvm.Cond.methodLink "WhichOneAllKnow$Hymn" (74 : Nat) ({ cls := "WhichOneAllKnow$Hymn", name := "joins", desc := "(II)Z" } : Jvm.MethodName)) ∈ lw_all := lw_g (lw_at lw_m4 209 rfl) rfl
theorem q1012 : (Jvm.Cond.privateMethod ({ cls := "WhichOneAllKnow$Hymn", name := "joins", desc := "(II)Z" } : Jvm.MethodName)) ∈ lw_tbl := lw_at lw_m4 210 rfl
theorem q1013 : (Jvm.Cond.instanceMethod ({ cls := "WhichOneAllKnow$Hymn", name := "joins", desc := "(II)Z" } : Jvm.MethodName)) ∈ lw_all := lw_g (lw_at lw_m4 211 rfl) rfl
theorem q1014 : (Jvm.Cond.code ({ cls := "WhichOneAllKnow$Hymn", name := "joins", desc := "(II)Z" } : Jvm.MethodName) prog_8_method_3_code (6 : Nat) (Option.some Jvm.ClassFile.FieldType.boolean)) ∈ lw_all := lw_g (lw_at lw_m4 212 rfl) rfl
theorem q1015 : (Jvm.Cond.methodLink "WhichOneAllKnow$Hymn" (44 : Nat) ({ cls := "WhichOneAllKnow$Church", name := "isKnown", desc := "(II)Z" } : Jvm.MethodName)) ∈ lw_all := lw_g (lw_at lw_m4 213 rfl) rfl
theorem q1019 : (Jvm.Cond.methodLink "WhichOneAllKnow$Hymn" (48 : Nat) ({ cls := "WhichOneAllKnow$Voice", name := "needs", desc := "(Z)I" } : Jvm.MethodName)) ∈ lw_all := lw_g (lw_at lw_m4 217 rfl) rfl
theorem q1040 : (Jvm.Cond.methodLink "WhichOneAllKnow$Hymn" (54 : Nat) ({ cls := "WhichOneAllKnow$Hymn", name := "around", desc := "(II)I" } : Jvm.MethodName)) ∈ lw_all := lw_g (lw_at lw_m4 238 rfl) rfl
theorem q1041 : (Jvm.Cond.privateMethod ({ cls := "WhichOneAllKnow$Hymn", name := "around", desc := "(II)I" } : Jvm.MethodName)) ∈ lw_tbl := lw_at lw_m4 239 rfl
theorem q1042 : (Jvm.Cond.instanceMethod ({ cls := "WhichOneAllKnow$Hymn", name := "around", desc := "(II)I" } : Jvm.MethodName)) ∈ lw_all := lw_g (lw_at lw_m5 0 rfl) rfl
theorem q1043 : (Jvm.Cond.code ({ cls := "WhichOneAllKnow$Hymn", name := "around", desc := "(II)I" } : Jvm.MethodName) prog_8_method_2_code (3 : Nat) (Option.some Jvm.ClassFile.FieldType.int)) ∈ lw_all := lw_g (lw_at lw_m5 1 rfl) rfl
theorem q1044 : (Jvm.Cond.methodLink "WhichOneAllKnow$Hymn" (24 : Nat) ({ cls := "java/lang/Integer", name := "bitCount", desc := "(I)I" } : Jvm.MethodName)) ∈ lw_all := lw_g (lw_at lw_m5 2 rfl) rfl
theorem q1045 : (Jvm.Cond.methodLink "WhichOneAllKnow$Hymn" (58 : Nat) ({ cls := "WhichOneAllKnow$Voice", name := "drags", desc := "()Z" } : Jvm.MethodName)) ∈ lw_all := lw_g (lw_at lw_m5 3 rfl) rfl
theorem q1058 : (Jvm.Cond.methodLink "WhichOneAllKnow$Hymn" (77 : Nat) ({ cls := "WhichOneAllKnow$Voice", name := "sings", desc := "(ZII)I" } : Jvm.MethodName)) ∈ lw_all := lw_g (lw_at lw_m5 16 rfl) rfl
theorem q1077 : (Jvm.Cond.instanceMethod ({ cls := "WhichOneAllKnow$Hymn", name := "besideRight", desc := "(I)I" } : Jvm.MethodName)) ∈ lw_all := lw_g (lw_at lw_m5 35 rfl) rfl
theorem q1078 : (Jvm.Cond.selects "WhichOneAllKnow$Hymn" ({ cls := "WhichOneAllKnow$Hymn", name := "besideRight", desc := "(I)I" } : Jvm.MethodName) ({ cls := "WhichOneAllKnow$Hymn", name := "besideRight", desc := "(I)I" } : Jvm.MethodName)) ∈ lw_all := lw_g (lw_at lw_m5 36 rfl) rfl
theorem q1079 : (Jvm.Cond.code ({ cls := "WhichOneAllKnow$Hymn", name := "besideRight", desc := "(I)I" } : Jvm.MethodName) prog_8_method_12_code (4 : Nat) (Option.some Jvm.ClassFile.FieldType.int)) ∈ lw_all := lw_g (lw_at lw_m5 37 rfl) rfl
theorem q1091 : (Jvm.Cond.instanceMethod ({ cls := "WhichOneAllKnow$Hymn", name := "catches", desc := "()I" } : Jvm.MethodName)) ∈ lw_all := lw_g (lw_at lw_m5 49 rfl) rfl
theorem q1092 : (Jvm.Cond.selects "WhichOneAllKnow$Hymn" ({ cls := "WhichOneAllKnow$Hymn", name := "catches", desc := "()I" } : Jvm.MethodName) ({ cls := "WhichOneAllKnow$Hymn", name := "catches", desc := "()I" } : Jvm.MethodName)) ∈ lw_all := lw_g (lw_at lw_m5 50 rfl) rfl
theorem q1093 : (Jvm.Cond.code ({ cls := "WhichOneAllKnow$Hymn", name := "catches", desc := "()I" } : Jvm.MethodName) prog_8_method_9_code (2 : Nat) (Option.some Jvm.ClassFile.FieldType.int)) ∈ lw_all := lw_g (lw_at lw_m5 51 rfl) rfl
theorem q1094 : (Jvm.Cond.methodLink "WhichOneAllKnow$Hymn" (95 : Nat) ({ cls := "WhichOneAllKnow$Hymn", name := "manyRight", desc := "(I)I" } : Jvm.MethodName)) ∈ lw_all := lw_g (lw_at lw_m5 52 rfl) rfl
theorem q1095 : (Jvm.Cond.instanceMethod ({ cls := "WhichOneAllKnow$Hymn", name := "manyRight", desc := "(I)I" } : Jvm.MethodName)) ∈ lw_all := lw_g (lw_at lw_m5 53 rfl) rfl
theorem q1096 : (Jvm.Cond.selects "WhichOneAllKnow$Hymn" ({ cls := "WhichOneAllKnow$Hymn", name := "manyRight", desc := "(I)I" } : Jvm.MethodName) ({ cls := "WhichOneAllKnow$Hymn", name := "manyRight", desc := "(I)I" } : Jvm.MethodName)) ∈ lw_all := lw_g (lw_at lw_m5 54 rfl) rfl
theorem q1097 : (Jvm.Cond.code ({ cls := "WhichOneAllKnow$Hymn", name := "manyRight", desc := "(I)I" } : Jvm.MethodName) prog_8_method_7_code (2 : Nat) (Option.some Jvm.ClassFile.FieldType.int)) ∈ lw_all := lw_g (lw_at lw_m5 55 rfl) rfl
theorem q1099 : (Jvm.Cond.instanceMethod ({ cls := "WhichOneAllKnow$Hymn", name := "settles", desc := "()I" } : Jvm.MethodName)) ∈ lw_all := lw_g (lw_at lw_m5 57 rfl) rfl
theorem q1100 : (Jvm.Cond.selects "WhichOneAllKnow$Hymn" ({ cls := "WhichOneAllKnow$Hymn", name := "settles", desc := "()I" } : Jvm.MethodName) ({ cls := "WhichOneAllKnow$Hymn", name := "settles", desc := "()I" } : Jvm.MethodName)) ∈ lw_all := lw_g (lw_at lw_m5 58 rfl) rfl
theorem q1101 : (Jvm.Cond.code ({ cls := "WhichOneAllKnow$Hymn", name := "settles", desc := "()I" } : Jvm.MethodName) prog_8_method_11_code (2 : Nat) (Option.some Jvm.ClassFile.FieldType.int)) ∈ lw_all := lw_g (lw_at lw_m5 59 rfl) rfl
theorem q1102 : (Jvm.Cond.methodLink "WhichOneAllKnow$Hymn" (98 : Nat) ({ cls := "WhichOneAllKnow$Hymn", name := "isSame", desc := "(II)Z" } : Jvm.MethodName)) ∈ lw_all := lw_g (lw_at lw_m5 60 rfl) rfl
theorem q1103 : (Jvm.Cond.privateMethod ({ cls := "WhichOneAllKnow$Hymn", name := "isSame", desc := "(II)Z" } : Jvm.MethodName)) ∈ lw_tbl := lw_at lw_m5 61 rfl
theorem q1104 : (Jvm.Cond.instanceMethod ({ cls := "WhichOneAllKnow$Hymn", name := "isSame", desc := "(II)Z" } : Jvm.MethodName)) ∈ lw_all := lw_g (lw_at lw_m5 62 rfl) rfl
theorem q1105 : (Jvm.Cond.code ({ cls := "WhichOneAllKnow$Hymn", name := "isSame", desc := "(II)Z" } : Jvm.MethodName) prog_8_method_10_code (3 : Nat) (Option.some Jvm.ClassFile.FieldType.boolean)) ∈ lw_all := lw_g (lw_at lw_m5 63 rfl) rfl
theorem q1183 : (Jvm.Cond.instanceMethod ({ cls := "WhichOneAllKnow$Hymn", name := "manyHeard", desc := "(I)I" } : Jvm.MethodName)) ∈ lw_all := lw_g (lw_at lw_m5 141 rfl) rfl
theorem q1184 : (Jvm.Cond.selects "WhichOneAllKnow$Hymn" ({ cls := "WhichOneAllKnow$Hymn", name := "manyHeard", desc := "(I)I" } : Jvm.MethodName) ({ cls := "WhichOneAllKnow$Hymn", name := "manyHeard", desc := "(I)I" } : Jvm.MethodName)) ∈ lw_all := lw_g (lw_at lw_m5 142 rfl) rfl
theorem q1185 : (Jvm.Cond.code ({ cls := "WhichOneAllKnow$Hymn", name := "manyHeard", desc := "(I)I" } : Jvm.MethodName) prog_8_method_8_code (2 : Nat) (Option.some Jvm.ClassFile.FieldType.int)) ∈ lw_all := lw_g (lw_at lw_m5 143 rfl) rfl
theorem in_X3 : ∀ w ∈ wsX30, w ∈ lw_all := lw_in wsX30 [215, 217, 219, 221, 223, 225, 227, 229] (by decide +kernel) (by decide +kernel)
/-! WhichOneAllKnow$Voice -/
set_option maxRecDepth 100000
def RX4 : String := "WhichOneAllKnow$Voice"
def TX4 : u_T := fun k => match k with
  | 0 => ("WhichOneAllKnow$Voice", "index", "I", true)
  | 1 => ("WhichOneAllKnow$Voice", "by", "I", true)
  | 2 => ("WhichOneAllKnow$Voice", "bold", "I", true)
  | _ => ("WhichOneAllKnow$Voice", "top", "I", true)
def tyX4 : Nat → FieldType := fun k => match k with
  | 0 => .int
  | 1 => .int
  | 2 => .int
  | _ => .int
abbrev wsX40 : List Cond := u_ws RX4 TX4 4
theorem nmX4 : ∀ a, a < 4 → ∀ b, b < 4 → a ≠ b → (TX4 a).2.1 ≠ (TX4 b).2.1 := by decide +kernel
theorem tyX4_ok : ∀ k, k < 4 → parseFieldDescriptor (TX4 k).2.2.1 = some (tyX4 k) := by decide +kernel
abbrev cX4_init : ByteArray := prog_20_method_1_code
def yX4_init : MethodName := ⟨RX4, "<init>", "(IIII)V"⟩
def dkwX4_init_1 : List UInt8 := [181, 0, 21, 177]
abbrev dktX4_init_1 : List UInt8 := dkwX4_init_1 ++ []
def dkwX4_init_0 : List UInt8 := [42, 183, 0, 3, 42, 27, 181, 0, 9, 42, 28, 181, 0, 15, 42, 29, 181, 0, 18, 42, 21, 4]
abbrev dktX4_init_0 : List UInt8 := dkwX4_init_0 ++ dktX4_init_1
theorem dksX4_init_0 : cX4_init.data.toList.drop 0 = dktX4_init_0 := by decide +kernel
theorem dksX4_init_1 : cX4_init.data.toList.drop 22 = dktX4_init_1 := dk_seg dksX4_init_0 22 rfl rfl
theorem dX4_init_0 : decode cX4_init 0 = .ok (.aload_n 0, 1) := dk_42 (dk_at dksX4_init_0 0 rfl rfl)
theorem dX4_init_1 : decode cX4_init 1 = .ok (.invokespecial 3, 3) := dk_183 0 3 (dk_at dksX4_init_0 1 rfl rfl)
theorem dX4_init_4 : decode cX4_init 4 = .ok (.aload_n 0, 1) := dk_42 (dk_at dksX4_init_0 4 rfl rfl)
theorem dX4_init_5 : decode cX4_init 5 = .ok (.iload_n 1, 1) := dk_27 (dk_at dksX4_init_0 5 rfl rfl)
theorem dX4_init_6 : decode cX4_init 6 = .ok (.putfield 9, 3) := dk_181 0 9 (dk_at dksX4_init_0 6 rfl rfl)
theorem dX4_init_9 : decode cX4_init 9 = .ok (.aload_n 0, 1) := dk_42 (dk_at dksX4_init_0 9 rfl rfl)
theorem dX4_init_10 : decode cX4_init 10 = .ok (.iload_n 2, 1) := dk_28 (dk_at dksX4_init_0 10 rfl rfl)
theorem dX4_init_11 : decode cX4_init 11 = .ok (.putfield 15, 3) := dk_181 0 15 (dk_at dksX4_init_0 11 rfl rfl)
theorem dX4_init_14 : decode cX4_init 14 = .ok (.aload_n 0, 1) := dk_42 (dk_at dksX4_init_0 14 rfl rfl)
theorem dX4_init_15 : decode cX4_init 15 = .ok (.iload_n 3, 1) := dk_29 (dk_at dksX4_init_0 15 rfl rfl)
theorem dX4_init_16 : decode cX4_init 16 = .ok (.putfield 18, 3) := dk_181 0 18 (dk_at dksX4_init_0 16 rfl rfl)
theorem dX4_init_19 : decode cX4_init 19 = .ok (.aload_n 0, 1) := dk_42 (dk_at dksX4_init_0 19 rfl rfl)
theorem dX4_init_20 : decode cX4_init 20 = .ok (.iload 4, 2) := dk_21 4 (dk_at dksX4_init_0 20 rfl rfl)
theorem dX4_init_22 : decode cX4_init 22 = .ok (.putfield 21, 3) := dk_181 0 21 (dk_at dksX4_init_1 0 rfl rfl)
theorem dX4_init_25 : decode cX4_init 25 = .ok (.return_, 1) := dk_177 (dk_at dksX4_init_1 3 rfl rfl)
abbrev cX4_kind : ByteArray := prog_20_method_2_code
def yX4_kind : MethodName := ⟨RX4, "kind", "()I"⟩
theorem dX4_kind_0 : decode cX4_kind 0 = .ok (.iconst 0, 1) := by decide +kernel
theorem dX4_kind_1 : decode cX4_kind 1 = .ok (.ireturn, 1) := by decide +kernel
abbrev cX4_needs : ByteArray := prog_20_method_3_code
def yX4_needs : MethodName := ⟨RX4, "needs", "(Z)I"⟩
def dkwX4_needs_1 : List UInt8 := [184, 0, 24, 172]
abbrev dktX4_needs_1 : List UInt8 := dkwX4_needs_1 ++ []
def dkwX4_needs_0 : List UInt8 := [27, 153, 0, 16, 3, 5, 42, 180, 0, 18, 100, 184, 0, 24, 167, 0, 13, 4, 7, 42, 180, 0, 18, 100]
abbrev dktX4_needs_0 : List UInt8 := dkwX4_needs_0 ++ dktX4_needs_1
theorem dksX4_needs_0 : cX4_needs.data.toList.drop 0 = dktX4_needs_0 := by decide +kernel
theorem dksX4_needs_1 : cX4_needs.data.toList.drop 24 = dktX4_needs_1 := dk_seg dksX4_needs_0 24 rfl rfl
theorem dX4_needs_0 : decode cX4_needs 0 = .ok (.iload_n 1, 1) := dk_27 (dk_at dksX4_needs_0 0 rfl rfl)
theorem dX4_needs_1 : decode cX4_needs 1 = .ok (.ifCond .eq 16, 3) := dk_153 0 16 (dk_at dksX4_needs_0 1 rfl rfl)
theorem dX4_needs_4 : decode cX4_needs 4 = .ok (.iconst 0, 1) := dk_3 (dk_at dksX4_needs_0 4 rfl rfl)
theorem dX4_needs_5 : decode cX4_needs 5 = .ok (.iconst 2, 1) := dk_5 (dk_at dksX4_needs_0 5 rfl rfl)
theorem dX4_needs_6 : decode cX4_needs 6 = .ok (.aload_n 0, 1) := dk_42 (dk_at dksX4_needs_0 6 rfl rfl)
theorem dX4_needs_7 : decode cX4_needs 7 = .ok (.getfield 18, 3) := dk_180 0 18 (dk_at dksX4_needs_0 7 rfl rfl)
theorem dX4_needs_10 : decode cX4_needs 10 = .ok (.isub, 1) := dk_100 (dk_at dksX4_needs_0 10 rfl rfl)
theorem dX4_needs_11 : decode cX4_needs 11 = .ok (.invokestatic 24, 3) := dk_184 0 24 (dk_at dksX4_needs_0 11 rfl rfl)
theorem dX4_needs_14 : decode cX4_needs 14 = .ok (.goto 13, 3) := dk_167 0 13 (dk_at dksX4_needs_0 14 rfl rfl)
theorem dX4_needs_17 : decode cX4_needs 17 = .ok (.iconst 1, 1) := dk_4 (dk_at dksX4_needs_0 17 rfl rfl)
theorem dX4_needs_18 : decode cX4_needs 18 = .ok (.iconst 4, 1) := dk_7 (dk_at dksX4_needs_0 18 rfl rfl)
theorem dX4_needs_19 : decode cX4_needs 19 = .ok (.aload_n 0, 1) := dk_42 (dk_at dksX4_needs_0 19 rfl rfl)
theorem dX4_needs_20 : decode cX4_needs 20 = .ok (.getfield 18, 3) := dk_180 0 18 (dk_at dksX4_needs_0 20 rfl rfl)
theorem dX4_needs_23 : decode cX4_needs 23 = .ok (.isub, 1) := dk_100 (dk_at dksX4_needs_0 23 rfl rfl)
theorem dX4_needs_24 : decode cX4_needs 24 = .ok (.invokestatic 24, 3) := dk_184 0 24 (dk_at dksX4_needs_1 0 rfl rfl)
theorem dX4_needs_27 : decode cX4_needs 27 = .ok (.ireturn, 1) := dk_172 (dk_at dksX4_needs_1 3 rfl rfl)
abbrev cX4_drags : ByteArray := prog_20_method_5_code
def yX4_drags : MethodName := ⟨RX4, "drags", "()Z"⟩
theorem dX4_drags_0 : decode cX4_drags 0 = .ok (.iconst 0, 1) := by decide +kernel
theorem dX4_drags_1 : decode cX4_drags 1 = .ok (.ireturn, 1) := by decide +kernel
abbrev cX4_sings : ByteArray := prog_20_method_4_code
def yX4_sings : MethodName := ⟨RX4, "sings", "(ZII)I"⟩
def dkwX4_sings_0 : List UInt8 := [27, 154, 0, 8, 29, 28, 163, 0, 7, 4, 167, 0, 4, 5, 172]
abbrev dktX4_sings_0 : List UInt8 := dkwX4_sings_0 ++ []
theorem dksX4_sings_0 : cX4_sings.data.toList.drop 0 = dktX4_sings_0 := by decide +kernel
theorem dX4_sings_0 : decode cX4_sings 0 = .ok (.iload_n 1, 1) := dk_27 (dk_at dksX4_sings_0 0 rfl rfl)
theorem dX4_sings_1 : decode cX4_sings 1 = .ok (.ifCond .ne 8, 3) := dk_154 0 8 (dk_at dksX4_sings_0 1 rfl rfl)
theorem dX4_sings_4 : decode cX4_sings 4 = .ok (.iload_n 3, 1) := dk_29 (dk_at dksX4_sings_0 4 rfl rfl)
theorem dX4_sings_5 : decode cX4_sings 5 = .ok (.iload_n 2, 1) := dk_28 (dk_at dksX4_sings_0 5 rfl rfl)
theorem dX4_sings_6 : decode cX4_sings 6 = .ok (.if_icmp .gt 7, 3) := dk_163 0 7 (dk_at dksX4_sings_0 6 rfl rfl)
theorem dX4_sings_9 : decode cX4_sings 9 = .ok (.iconst 1, 1) := dk_4 (dk_at dksX4_sings_0 9 rfl rfl)
theorem dX4_sings_10 : decode cX4_sings 10 = .ok (.goto 4, 3) := dk_167 0 4 (dk_at dksX4_sings_0 10 rfl rfl)
theorem dX4_sings_13 : decode cX4_sings 13 = .ok (.iconst 2, 1) := dk_5 (dk_at dksX4_sings_0 13 rfl rfl)
theorem dX4_sings_14 : decode cX4_sings 14 = .ok (.ireturn, 1) := dk_172 (dk_at dksX4_sings_0 14 rfl rfl)
abbrev cX4_breathing : ByteArray := prog_20_method_6_code
def yX4_breathing : MethodName := ⟨RX4, "breathing", "(ILWhichOneAllKnow$Trace;)I"⟩
def dkwX4_breathing_0 : List UInt8 := [44, 16, 10, 182, 0, 30, 27, 42, 180, 0, 9, 96, 172]
abbrev dktX4_breathing_0 : List UInt8 := dkwX4_breathing_0 ++ []
theorem dksX4_breathing_0 : cX4_breathing.data.toList.drop 0 = dktX4_breathing_0 := by decide +kernel
theorem dX4_breathing_0 : decode cX4_breathing 0 = .ok (.aload_n 2, 1) := dk_44 (dk_at dksX4_breathing_0 0 rfl rfl)
theorem dX4_breathing_1 : decode cX4_breathing 1 = .ok (.bipush 10, 2) := dk_16 10 (dk_at dksX4_breathing_0 1 rfl rfl)
theorem dX4_breathing_3 : decode cX4_breathing 3 = .ok (.invokevirtual 30, 3) := dk_182 0 30 (dk_at dksX4_breathing_0 3 rfl rfl)
theorem dX4_breathing_6 : decode cX4_breathing 6 = .ok (.iload_n 1, 1) := dk_27 (dk_at dksX4_breathing_0 6 rfl rfl)
theorem dX4_breathing_7 : decode cX4_breathing 7 = .ok (.aload_n 0, 1) := dk_42 (dk_at dksX4_breathing_0 7 rfl rfl)
theorem dX4_breathing_8 : decode cX4_breathing 8 = .ok (.getfield 9, 3) := dk_180 0 9 (dk_at dksX4_breathing_0 8 rfl rfl)
theorem dX4_breathing_11 : decode cX4_breathing 11 = .ok (.iadd, 1) := dk_96 (dk_at dksX4_breathing_0 11 rfl rfl)
theorem dX4_breathing_12 : decode cX4_breathing 12 = .ok (.ireturn, 1) := dk_172 (dk_at dksX4_breathing_0 12 rfl rfl)
abbrev cX4_singing : ByteArray := prog_20_method_7_code
def yX4_singing : MethodName := ⟨RX4, "singing", "(ILWhichOneAllKnow$Trace;)I"⟩
def dkwX4_singing_0 : List UInt8 := [44, 16, 11, 182, 0, 30, 42, 27, 44, 182, 0, 36, 5, 104, 172]
abbrev dktX4_singing_0 : List UInt8 := dkwX4_singing_0 ++ []
theorem dksX4_singing_0 : cX4_singing.data.toList.drop 0 = dktX4_singing_0 := by decide +kernel
theorem dX4_singing_0 : decode cX4_singing 0 = .ok (.aload_n 2, 1) := dk_44 (dk_at dksX4_singing_0 0 rfl rfl)
theorem dX4_singing_1 : decode cX4_singing 1 = .ok (.bipush 11, 2) := dk_16 11 (dk_at dksX4_singing_0 1 rfl rfl)
theorem dX4_singing_3 : decode cX4_singing 3 = .ok (.invokevirtual 30, 3) := dk_182 0 30 (dk_at dksX4_singing_0 3 rfl rfl)
theorem dX4_singing_6 : decode cX4_singing 6 = .ok (.aload_n 0, 1) := dk_42 (dk_at dksX4_singing_0 6 rfl rfl)
theorem dX4_singing_7 : decode cX4_singing 7 = .ok (.iload_n 1, 1) := dk_27 (dk_at dksX4_singing_0 7 rfl rfl)
theorem dX4_singing_8 : decode cX4_singing 8 = .ok (.aload_n 2, 1) := dk_44 (dk_at dksX4_singing_0 8 rfl rfl)
theorem dX4_singing_9 : decode cX4_singing 9 = .ok (.invokevirtual 36, 3) := dk_182 0 36 (dk_at dksX4_singing_0 9 rfl rfl)
theorem dX4_singing_12 : decode cX4_singing 12 = .ok (.iconst 2, 1) := dk_5 (dk_at dksX4_singing_0 12 rfl rfl)
theorem dX4_singing_13 : decode cX4_singing 13 = .ok (.imul, 1) := dk_104 (dk_at dksX4_singing_0 13 rfl rfl)
theorem dX4_singing_14 : decode cX4_singing 14 = .ok (.ireturn, 1) := dk_172 (dk_at dksX4_singing_0 14 rfl rfl)
abbrev cX4_sitting : ByteArray := prog_20_method_8_code
def yX4_sitting : MethodName := ⟨RX4, "sitting", "(ILWhichOneAllKnow$Trace;)I"⟩
def dkwX4_sitting_1 : List UInt8 := [182, 0, 36, 130, 172]
abbrev dktX4_sitting_1 : List UInt8 := dkwX4_sitting_1 ++ []
def dkwX4_sitting_0 : List UInt8 := [44, 16, 12, 182, 0, 30, 42, 27, 44, 182, 0, 40, 62, 29, 42, 27, 42, 180, 0, 15, 100, 44]
abbrev dktX4_sitting_0 : List UInt8 := dkwX4_sitting_0 ++ dktX4_sitting_1
theorem dksX4_sitting_0 : cX4_sitting.data.toList.drop 0 = dktX4_sitting_0 := by decide +kernel
theorem dksX4_sitting_1 : cX4_sitting.data.toList.drop 22 = dktX4_sitting_1 := dk_seg dksX4_sitting_0 22 rfl rfl
theorem dX4_sitting_0 : decode cX4_sitting 0 = .ok (.aload_n 2, 1) := dk_44 (dk_at dksX4_sitting_0 0 rfl rfl)
theorem dX4_sitting_1 : decode cX4_sitting 1 = .ok (.bipush 12, 2) := dk_16 12 (dk_at dksX4_sitting_0 1 rfl rfl)
theorem dX4_sitting_3 : decode cX4_sitting 3 = .ok (.invokevirtual 30, 3) := dk_182 0 30 (dk_at dksX4_sitting_0 3 rfl rfl)
theorem dX4_sitting_6 : decode cX4_sitting 6 = .ok (.aload_n 0, 1) := dk_42 (dk_at dksX4_sitting_0 6 rfl rfl)
theorem dX4_sitting_7 : decode cX4_sitting 7 = .ok (.iload_n 1, 1) := dk_27 (dk_at dksX4_sitting_0 7 rfl rfl)
theorem dX4_sitting_8 : decode cX4_sitting 8 = .ok (.aload_n 2, 1) := dk_44 (dk_at dksX4_sitting_0 8 rfl rfl)
theorem dX4_sitting_9 : decode cX4_sitting 9 = .ok (.invokevirtual 40, 3) := dk_182 0 40 (dk_at dksX4_sitting_0 9 rfl rfl)
theorem dX4_sitting_12 : decode cX4_sitting 12 = .ok (.istore_n 3, 1) := dk_62 (dk_at dksX4_sitting_0 12 rfl rfl)
theorem dX4_sitting_13 : decode cX4_sitting 13 = .ok (.iload_n 3, 1) := dk_29 (dk_at dksX4_sitting_0 13 rfl rfl)
theorem dX4_sitting_14 : decode cX4_sitting 14 = .ok (.aload_n 0, 1) := dk_42 (dk_at dksX4_sitting_0 14 rfl rfl)
theorem dX4_sitting_15 : decode cX4_sitting 15 = .ok (.iload_n 1, 1) := dk_27 (dk_at dksX4_sitting_0 15 rfl rfl)
theorem dX4_sitting_16 : decode cX4_sitting 16 = .ok (.aload_n 0, 1) := dk_42 (dk_at dksX4_sitting_0 16 rfl rfl)
theorem dX4_sitting_17 : decode cX4_sitting 17 = .ok (.getfield 15, 3) := dk_180 0 15 (dk_at dksX4_sitting_0 17 rfl rfl)
theorem dX4_sitting_20 : decode cX4_sitting 20 = .ok (.isub, 1) := dk_100 (dk_at dksX4_sitting_0 20 rfl rfl)
theorem dX4_sitting_21 : decode cX4_sitting 21 = .ok (.aload_n 2, 1) := dk_44 (dk_at dksX4_sitting_0 21 rfl rfl)
theorem dX4_sitting_22 : decode cX4_sitting 22 = .ok (.invokevirtual 36, 3) := dk_182 0 36 (dk_at dksX4_sitting_1 0 rfl rfl)
theorem dX4_sitting_25 : decode cX4_sitting 25 = .ok (.ixor, 1) := dk_130 (dk_at dksX4_sitting_1 3 rfl rfl)
theorem dX4_sitting_26 : decode cX4_sitting 26 = .ok (.ireturn, 1) := dk_172 (dk_at dksX4_sitting_1 4 rfl rfl)
theorem q87 : (Jvm.Cond.initialized "WhichOneAllKnow$Voice") ∈ lw_all := lw_g (lw_at lw_m1 5 rfl) rfl
theorem q241 : (Jvm.Cond.instanceMethod ({ cls := "WhichOneAllKnow$Voice", name := "<init>", desc := "(IIII)V" } : Jvm.MethodName)) ∈ lw_all := lw_g (lw_at lw_m1 159 rfl) rfl
theorem q242 : (Jvm.Cond.code ({ cls := "WhichOneAllKnow$Voice", name := "<init>", desc := "(IIII)V" } : Jvm.MethodName) prog_20_method_1_code (5 : Nat) (Option.none : Option Jvm.ClassFile.FieldType)) ∈ lw_all := lw_g (lw_at lw_m1 160 rfl) rfl
theorem q243 : (Jvm.Cond.methodLink "WhichOneAllKnow$Voice" (3 : Nat) ({ cls := "java/lang/Object", name := "<init>", desc := "()V" } : Jvm.MethodName)) ∈ lw_all := lw_g (lw_at lw_m1 161 rfl) rfl
theorem q244 : (Jvm.Cond.fieldLink "WhichOneAllKnow$Voice" (9 : Nat) "WhichOneAllKnow$Voice" "index" "I") ∈ lw_all := lw_g (lw_at lw_m1 162 rfl) rfl
theorem q252 : (Jvm.Cond.fieldLink "WhichOneAllKnow$Voice" (15 : Nat) "WhichOneAllKnow$Voice" "by" "I") ∈ lw_all := lw_g (lw_at lw_m1 170 rfl) rfl
theorem q263 : (Jvm.Cond.fieldLink "WhichOneAllKnow$Voice" (18 : Nat) "WhichOneAllKnow$Voice" "bold" "I") ∈ lw_all := lw_g (lw_at lw_m1 181 rfl) rfl
theorem q265 : (Jvm.Cond.fieldLink "WhichOneAllKnow$Voice" (21 : Nat) "WhichOneAllKnow$Voice" "top" "I") ∈ lw_all := lw_g (lw_at lw_m1 183 rfl) rfl
theorem q273 : (Jvm.Cond.soleField "WhichOneAllKnow$Voice" "index") ∈ lw_all := lw_g (lw_at lw_m1 191 rfl) rfl
theorem q275 : (Jvm.Cond.soleField "WhichOneAllKnow$Voice" "by") ∈ lw_all := lw_g (lw_at lw_m1 193 rfl) rfl
theorem q277 : (Jvm.Cond.soleField "WhichOneAllKnow$Voice" "bold") ∈ lw_all := lw_g (lw_at lw_m1 195 rfl) rfl
theorem q279 : (Jvm.Cond.soleField "WhichOneAllKnow$Voice" "top") ∈ lw_all := lw_g (lw_at lw_m1 197 rfl) rfl
theorem q337 : (Jvm.Cond.instantiable "WhichOneAllKnow$Voice" (4 : Nat)) ∈ lw_all := lw_g (lw_at lw_m2 15 rfl) rfl
theorem q339 : (Jvm.Cond.laysFinal "WhichOneAllKnow$Voice" "WhichOneAllKnow$Voice" "index" "I") ∈ lw_all := lw_g (lw_at lw_m2 17 rfl) rfl
theorem q340 : (Jvm.Cond.laysFinal "WhichOneAllKnow$Voice" "WhichOneAllKnow$Voice" "by" "I") ∈ lw_all := lw_g (lw_at lw_m2 18 rfl) rfl
theorem q341 : (Jvm.Cond.laysFinal "WhichOneAllKnow$Voice" "WhichOneAllKnow$Voice" "bold" "I") ∈ lw_all := lw_g (lw_at lw_m2 19 rfl) rfl
theorem q342 : (Jvm.Cond.laysFinal "WhichOneAllKnow$Voice" "WhichOneAllKnow$Voice" "top" "I") ∈ lw_all := lw_g (lw_at lw_m2 20 rfl) rfl
theorem q343 : (Jvm.Cond.superclass "WhichOneAllKnow$Voice" "java/lang/Object") ∈ lw_all := lw_g (lw_at lw_m2 21 rfl) rfl
theorem q777 : (Jvm.Cond.instanceMethod ({ cls := "WhichOneAllKnow$Voice", name := "kind", desc := "()I" } : Jvm.MethodName)) ∈ lw_all := lw_g (lw_at lw_m3 215 rfl) rfl
theorem q778 : (Jvm.Cond.selects "WhichOneAllKnow$Voice" ({ cls := "WhichOneAllKnow$Voice", name := "kind", desc := "()I" } : Jvm.MethodName) ({ cls := "WhichOneAllKnow$Voice", name := "kind", desc := "()I" } : Jvm.MethodName)) ∈ lw_all := lw_g (lw_at lw_m3 216 rfl) rfl
theorem q779 : (Jvm.Cond.sameMethod "WhichOneAllKnow$Voice" "WhichOneAllKnow$Voice" "kind" "()I") ∈ lw_all := lw_g (lw_at lw_m3 217 rfl) rfl
theorem q798 : (Jvm.Cond.code ({ cls := "WhichOneAllKnow$Voice", name := "kind", desc := "()I" } : Jvm.MethodName) prog_20_method_2_code (1 : Nat) (Option.some Jvm.ClassFile.FieldType.int)) ∈ lw_all := lw_g (lw_at lw_m3 236 rfl) rfl
theorem q1020 : (Jvm.Cond.instanceMethod ({ cls := "WhichOneAllKnow$Voice", name := "needs", desc := "(Z)I" } : Jvm.MethodName)) ∈ lw_all := lw_g (lw_at lw_m4 218 rfl) rfl
theorem q1021 : (Jvm.Cond.selects "WhichOneAllKnow$Voice" ({ cls := "WhichOneAllKnow$Voice", name := "needs", desc := "(Z)I" } : Jvm.MethodName) ({ cls := "WhichOneAllKnow$Voice", name := "needs", desc := "(Z)I" } : Jvm.MethodName)) ∈ lw_all := lw_g (lw_at lw_m4 219 rfl) rfl
theorem q1022 : (Jvm.Cond.sameMethod "WhichOneAllKnow$Voice" "WhichOneAllKnow$Voice" "needs" "(Z)I") ∈ lw_all := lw_g (lw_at lw_m4 220 rfl) rfl
theorem q1035 : (Jvm.Cond.code ({ cls := "WhichOneAllKnow$Voice", name := "needs", desc := "(Z)I" } : Jvm.MethodName) prog_20_method_3_code (2 : Nat) (Option.some Jvm.ClassFile.FieldType.int)) ∈ lw_all := lw_g (lw_at lw_m4 233 rfl) rfl
theorem q1036 : (Jvm.Cond.methodLink "WhichOneAllKnow$Voice" (24 : Nat) ({ cls := "java/lang/Math", name := "max", desc := "(II)I" } : Jvm.MethodName)) ∈ lw_all := lw_g (lw_at lw_m4 234 rfl) rfl
theorem q1046 : (Jvm.Cond.instanceMethod ({ cls := "WhichOneAllKnow$Voice", name := "drags", desc := "()Z" } : Jvm.MethodName)) ∈ lw_all := lw_g (lw_at lw_m5 4 rfl) rfl
theorem q1047 : (Jvm.Cond.selects "WhichOneAllKnow$Voice" ({ cls := "WhichOneAllKnow$Voice", name := "drags", desc := "()Z" } : Jvm.MethodName) ({ cls := "WhichOneAllKnow$Voice", name := "drags", desc := "()Z" } : Jvm.MethodName)) ∈ lw_all := lw_g (lw_at lw_m5 5 rfl) rfl
theorem q1048 : (Jvm.Cond.sameMethod "WhichOneAllKnow$Voice" "WhichOneAllKnow$Voice" "drags" "()Z") ∈ lw_all := lw_g (lw_at lw_m5 6 rfl) rfl
theorem q1057 : (Jvm.Cond.code ({ cls := "WhichOneAllKnow$Voice", name := "drags", desc := "()Z" } : Jvm.MethodName) prog_20_method_5_code (1 : Nat) (Option.some Jvm.ClassFile.FieldType.boolean)) ∈ lw_all := lw_g (lw_at lw_m5 15 rfl) rfl
theorem q1059 : (Jvm.Cond.instanceMethod ({ cls := "WhichOneAllKnow$Voice", name := "sings", desc := "(ZII)I" } : Jvm.MethodName)) ∈ lw_all := lw_g (lw_at lw_m5 17 rfl) rfl
theorem q1060 : (Jvm.Cond.selects "WhichOneAllKnow$Voice" ({ cls := "WhichOneAllKnow$Voice", name := "sings", desc := "(ZII)I" } : Jvm.MethodName) ({ cls := "WhichOneAllKnow$Voice", name := "sings", desc := "(ZII)I" } : Jvm.MethodName)) ∈ lw_all := lw_g (lw_at lw_m5 18 rfl) rfl
theorem q1061 : (Jvm.Cond.sameMethod "WhichOneAllKnow$Voice" "WhichOneAllKnow$Voice" "sings" "(ZII)I") ∈ lw_all := lw_g (lw_at lw_m5 19 rfl) rfl
theorem q1066 : (Jvm.Cond.code ({ cls := "WhichOneAllKnow$Voice", name := "sings", desc := "(ZII)I" } : Jvm.MethodName) prog_20_method_4_code (4 : Nat) (Option.some Jvm.ClassFile.FieldType.int)) ∈ lw_all := lw_g (lw_at lw_m5 24 rfl) rfl
theorem q1260 : (Jvm.Cond.instanceMethod ({ cls := "WhichOneAllKnow$Voice", name := "breathing", desc := "(ILWhichOneAllKnow$Trace;)I" } : Jvm.MethodName)) ∈ lw_all := lw_g (lw_at lw_m5 218 rfl) rfl
theorem q1261 : (Jvm.Cond.selects "WhichOneAllKnow$Voice" ({ cls := "WhichOneAllKnow$Voice", name := "breathing", desc := "(ILWhichOneAllKnow$Trace;)I" } : Jvm.MethodName) ({ cls := "WhichOneAllKnow$Voice", name := "breathing", desc := "(ILWhichOneAllKnow$Trace;)I" } : Jvm.MethodName)) ∈ lw_all := lw_g (lw_at lw_m5 219 rfl) rfl
theorem q1262 : (Jvm.Cond.sameMethod "WhichOneAllKnow$Voice" "WhichOneAllKnow$Voice" "breathing" "(ILWhichOneAllKnow$Trace;)I") ∈ lw_all := lw_g (lw_at lw_m5 220 rfl) rfl
theorem q1271 : (Jvm.Cond.code ({ cls := "WhichOneAllKnow$Voice", name := "breathing", desc := "(ILWhichOneAllKnow$Trace;)I" } : Jvm.MethodName) prog_20_method_6_code (3 : Nat) (Option.some Jvm.ClassFile.FieldType.int)) ∈ lw_all := lw_g (lw_at lw_m5 229 rfl) rfl
theorem q1272 : (Jvm.Cond.methodLink "WhichOneAllKnow$Voice" (30 : Nat) ({ cls := "WhichOneAllKnow$Trace", name := "runs", desc := "(I)V" } : Jvm.MethodName)) ∈ lw_all := lw_g (lw_at lw_m5 230 rfl) rfl
theorem q1287 : (Jvm.Cond.instanceMethod ({ cls := "WhichOneAllKnow$Voice", name := "singing", desc := "(ILWhichOneAllKnow$Trace;)I" } : Jvm.MethodName)) ∈ lw_all := lw_g (lw_at lw_m6 5 rfl) rfl
theorem q1288 : (Jvm.Cond.selects "WhichOneAllKnow$Voice" ({ cls := "WhichOneAllKnow$Voice", name := "singing", desc := "(ILWhichOneAllKnow$Trace;)I" } : Jvm.MethodName) ({ cls := "WhichOneAllKnow$Voice", name := "singing", desc := "(ILWhichOneAllKnow$Trace;)I" } : Jvm.MethodName)) ∈ lw_all := lw_g (lw_at lw_m6 6 rfl) rfl
theorem q1289 : (Jvm.Cond.sameMethod "WhichOneAllKnow$Voice" "WhichOneAllKnow$Voice" "singing" "(ILWhichOneAllKnow$Trace;)I") ∈ lw_all := lw_g (lw_at lw_m6 7 rfl) rfl
theorem q1297 : (Jvm.Cond.declares ({ cls := "WhichOneAllKnow$Voice", name := "singing", desc := "(ILWhichOneAllKnow$Trace;)I" } : Jvm.MethodName)) ∈ lw_tbl := lw_at lw_m6 15 rfl
theorem q1298 : (Jvm.Cond.code ({ cls := "WhichOneAllKnow$Voice", name := "singing", desc := "(ILWhichOneAllKnow$Trace;)I" } : Jvm.MethodName) prog_20_method_7_code (3 : Nat) (Option.some Jvm.ClassFile.FieldType.int)) ∈ lw_all := lw_g (lw_at lw_m6 16 rfl) rfl
theorem q1299 : (Jvm.Cond.methodLink "WhichOneAllKnow$Voice" (36 : Nat) ({ cls := "WhichOneAllKnow$Voice", name := "breathing", desc := "(ILWhichOneAllKnow$Trace;)I" } : Jvm.MethodName)) ∈ lw_all := lw_g (lw_at lw_m6 17 rfl) rfl
theorem q1313 : (Jvm.Cond.instanceMethod ({ cls := "WhichOneAllKnow$Voice", name := "sitting", desc := "(ILWhichOneAllKnow$Trace;)I" } : Jvm.MethodName)) ∈ lw_all := lw_g (lw_at lw_m6 31 rfl) rfl
theorem q1314 : (Jvm.Cond.selects "WhichOneAllKnow$Voice" ({ cls := "WhichOneAllKnow$Voice", name := "sitting", desc := "(ILWhichOneAllKnow$Trace;)I" } : Jvm.MethodName) ({ cls := "WhichOneAllKnow$Voice", name := "sitting", desc := "(ILWhichOneAllKnow$Trace;)I" } : Jvm.MethodName)) ∈ lw_all := lw_g (lw_at lw_m6 32 rfl) rfl
theorem q1315 : (Jvm.Cond.sameMethod "WhichOneAllKnow$Voice" "WhichOneAllKnow$Voice" "sitting" "(ILWhichOneAllKnow$Trace;)I") ∈ lw_all := lw_g (lw_at lw_m6 33 rfl) rfl
theorem q1320 : (Jvm.Cond.code ({ cls := "WhichOneAllKnow$Voice", name := "sitting", desc := "(ILWhichOneAllKnow$Trace;)I" } : Jvm.MethodName) prog_20_method_8_code (4 : Nat) (Option.some Jvm.ClassFile.FieldType.int)) ∈ lw_all := lw_g (lw_at lw_m6 38 rfl) rfl
theorem q1321 : (Jvm.Cond.methodLink "WhichOneAllKnow$Voice" (40 : Nat) ({ cls := "WhichOneAllKnow$Voice", name := "singing", desc := "(ILWhichOneAllKnow$Trace;)I" } : Jvm.MethodName)) ∈ lw_all := lw_g (lw_at lw_m6 39 rfl) rfl
theorem q1332 : (Jvm.Cond.declares ({ cls := "WhichOneAllKnow$Voice", name := "sitting", desc := "(ILWhichOneAllKnow$Trace;)I" } : Jvm.MethodName)) ∈ lw_tbl := lw_at lw_m6 50 rfl
theorem in_X4 : ∀ w ∈ wsX40, w ∈ lw_all := lw_in wsX40 [339, 340, 341, 342] (by decide +kernel) (by decide +kernel)
/-! WhichOneAllKnow$Leading -/
set_option maxRecDepth 100000
def RX5 : String := "WhichOneAllKnow$Leading"
def TX5 : u_T := fun k => match k with
  | 0 => ("WhichOneAllKnow$Voice", "index", "I", true)
  | 1 => ("WhichOneAllKnow$Voice", "by", "I", true)
  | 2 => ("WhichOneAllKnow$Voice", "bold", "I", true)
  | _ => ("WhichOneAllKnow$Voice", "top", "I", true)
def tyX5 : Nat → FieldType := fun k => match k with
  | 0 => .int
  | 1 => .int
  | 2 => .int
  | _ => .int
abbrev wsX50 : List Cond := u_ws RX5 TX5 4
theorem nmX5 : ∀ a, a < 4 → ∀ b, b < 4 → a ≠ b → (TX5 a).2.1 ≠ (TX5 b).2.1 := by decide +kernel
theorem tyX5_ok : ∀ k, k < 4 → parseFieldDescriptor (TX5 k).2.2.1 = some (tyX5 k) := by decide +kernel
abbrev cX5_init : ByteArray := prog_11_method_1_code
def yX5_init : MethodName := ⟨RX5, "<init>", "(IIII)V"⟩
def dkwX5_init_0 : List UInt8 := [42, 27, 28, 29, 21, 4, 183, 0, 3, 177]
abbrev dktX5_init_0 : List UInt8 := dkwX5_init_0 ++ []
theorem dksX5_init_0 : cX5_init.data.toList.drop 0 = dktX5_init_0 := by decide +kernel
theorem dX5_init_0 : decode cX5_init 0 = .ok (.aload_n 0, 1) := dk_42 (dk_at dksX5_init_0 0 rfl rfl)
theorem dX5_init_1 : decode cX5_init 1 = .ok (.iload_n 1, 1) := dk_27 (dk_at dksX5_init_0 1 rfl rfl)
theorem dX5_init_2 : decode cX5_init 2 = .ok (.iload_n 2, 1) := dk_28 (dk_at dksX5_init_0 2 rfl rfl)
theorem dX5_init_3 : decode cX5_init 3 = .ok (.iload_n 3, 1) := dk_29 (dk_at dksX5_init_0 3 rfl rfl)
theorem dX5_init_4 : decode cX5_init 4 = .ok (.iload 4, 2) := dk_21 4 (dk_at dksX5_init_0 4 rfl rfl)
theorem dX5_init_6 : decode cX5_init 6 = .ok (.invokespecial 3, 3) := dk_183 0 3 (dk_at dksX5_init_0 6 rfl rfl)
theorem dX5_init_9 : decode cX5_init 9 = .ok (.return_, 1) := dk_177 (dk_at dksX5_init_0 9 rfl rfl)
abbrev cX5_kind : ByteArray := prog_11_method_2_code
def yX5_kind : MethodName := ⟨RX5, "kind", "()I"⟩
theorem dX5_kind_0 : decode cX5_kind 0 = .ok (.iconst 1, 1) := by decide +kernel
theorem dX5_kind_1 : decode cX5_kind 1 = .ok (.ireturn, 1) := by decide +kernel
abbrev cX5_needs : ByteArray := prog_11_method_3_code
def yX5_needs : MethodName := ⟨RX5, "needs", "(Z)I"⟩
def dkwX5_needs_0 : List UInt8 := [27, 153, 0, 7, 3, 167, 0, 8, 42, 3, 183, 0, 9, 172]
abbrev dktX5_needs_0 : List UInt8 := dkwX5_needs_0 ++ []
theorem dksX5_needs_0 : cX5_needs.data.toList.drop 0 = dktX5_needs_0 := by decide +kernel
theorem dX5_needs_0 : decode cX5_needs 0 = .ok (.iload_n 1, 1) := dk_27 (dk_at dksX5_needs_0 0 rfl rfl)
theorem dX5_needs_1 : decode cX5_needs 1 = .ok (.ifCond .eq 7, 3) := dk_153 0 7 (dk_at dksX5_needs_0 1 rfl rfl)
theorem dX5_needs_4 : decode cX5_needs 4 = .ok (.iconst 0, 1) := dk_3 (dk_at dksX5_needs_0 4 rfl rfl)
theorem dX5_needs_5 : decode cX5_needs 5 = .ok (.goto 8, 3) := dk_167 0 8 (dk_at dksX5_needs_0 5 rfl rfl)
theorem dX5_needs_8 : decode cX5_needs 8 = .ok (.aload_n 0, 1) := dk_42 (dk_at dksX5_needs_0 8 rfl rfl)
theorem dX5_needs_9 : decode cX5_needs 9 = .ok (.iconst 0, 1) := dk_3 (dk_at dksX5_needs_0 9 rfl rfl)
theorem dX5_needs_10 : decode cX5_needs 10 = .ok (.invokespecial 9, 3) := dk_183 0 9 (dk_at dksX5_needs_0 10 rfl rfl)
theorem dX5_needs_13 : decode cX5_needs 13 = .ok (.ireturn, 1) := dk_172 (dk_at dksX5_needs_0 13 rfl rfl)
abbrev cX5_breathing : ByteArray := prog_11_method_4_code
def yX5_breathing : MethodName := ⟨RX5, "breathing", "(ILWhichOneAllKnow$Trace;)I"⟩
def dkwX5_breathing_0 : List UInt8 := [44, 16, 20, 182, 0, 13, 42, 27, 44, 183, 0, 19, 42, 180, 0, 23, 96, 172]
abbrev dktX5_breathing_0 : List UInt8 := dkwX5_breathing_0 ++ []
theorem dksX5_breathing_0 : cX5_breathing.data.toList.drop 0 = dktX5_breathing_0 := by decide +kernel
theorem dX5_breathing_0 : decode cX5_breathing 0 = .ok (.aload_n 2, 1) := dk_44 (dk_at dksX5_breathing_0 0 rfl rfl)
theorem dX5_breathing_1 : decode cX5_breathing 1 = .ok (.bipush 20, 2) := dk_16 20 (dk_at dksX5_breathing_0 1 rfl rfl)
theorem dX5_breathing_3 : decode cX5_breathing 3 = .ok (.invokevirtual 13, 3) := dk_182 0 13 (dk_at dksX5_breathing_0 3 rfl rfl)
theorem dX5_breathing_6 : decode cX5_breathing 6 = .ok (.aload_n 0, 1) := dk_42 (dk_at dksX5_breathing_0 6 rfl rfl)
theorem dX5_breathing_7 : decode cX5_breathing 7 = .ok (.iload_n 1, 1) := dk_27 (dk_at dksX5_breathing_0 7 rfl rfl)
theorem dX5_breathing_8 : decode cX5_breathing 8 = .ok (.aload_n 2, 1) := dk_44 (dk_at dksX5_breathing_0 8 rfl rfl)
theorem dX5_breathing_9 : decode cX5_breathing 9 = .ok (.invokespecial 19, 3) := dk_183 0 19 (dk_at dksX5_breathing_0 9 rfl rfl)
theorem dX5_breathing_12 : decode cX5_breathing 12 = .ok (.aload_n 0, 1) := dk_42 (dk_at dksX5_breathing_0 12 rfl rfl)
theorem dX5_breathing_13 : decode cX5_breathing 13 = .ok (.getfield 23, 3) := dk_180 0 23 (dk_at dksX5_breathing_0 13 rfl rfl)
theorem dX5_breathing_16 : decode cX5_breathing 16 = .ok (.iadd, 1) := dk_96 (dk_at dksX5_breathing_0 16 rfl rfl)
theorem dX5_breathing_17 : decode cX5_breathing 17 = .ok (.ireturn, 1) := dk_172 (dk_at dksX5_breathing_0 17 rfl rfl)
theorem q88 : (Jvm.Cond.initialized "WhichOneAllKnow$Leading") ∈ lw_all := lw_g (lw_at lw_m1 6 rfl) rfl
theorem q236 : (Jvm.Cond.instantiable "WhichOneAllKnow$Leading" (4 : Nat)) ∈ lw_all := lw_g (lw_at lw_m1 154 rfl) rfl
theorem q238 : (Jvm.Cond.instanceMethod ({ cls := "WhichOneAllKnow$Leading", name := "<init>", desc := "(IIII)V" } : Jvm.MethodName)) ∈ lw_all := lw_g (lw_at lw_m1 156 rfl) rfl
theorem q239 : (Jvm.Cond.code ({ cls := "WhichOneAllKnow$Leading", name := "<init>", desc := "(IIII)V" } : Jvm.MethodName) prog_11_method_1_code (5 : Nat) (Option.none : Option Jvm.ClassFile.FieldType)) ∈ lw_all := lw_g (lw_at lw_m1 157 rfl) rfl
theorem q240 : (Jvm.Cond.methodLink "WhichOneAllKnow$Leading" (3 : Nat) ({ cls := "WhichOneAllKnow$Voice", name := "<init>", desc := "(IIII)V" } : Jvm.MethodName)) ∈ lw_all := lw_g (lw_at lw_m1 158 rfl) rfl
theorem q255 : (Jvm.Cond.fieldLink "WhichOneAllKnow$Leading" (23 : Nat) "WhichOneAllKnow$Leading" "by" "I") ∈ lw_all := lw_g (lw_at lw_m1 173 rfl) rfl
theorem q256 : (Jvm.Cond.sameField "WhichOneAllKnow$Leading" "WhichOneAllKnow$Voice" "by" "I") ∈ lw_all := lw_g (lw_at lw_m1 174 rfl) rfl
theorem q268 : (Jvm.Cond.sameField "WhichOneAllKnow$Leading" "WhichOneAllKnow$Voice" "top" "I") ∈ lw_all := lw_g (lw_at lw_m1 186 rfl) rfl
theorem q272 : (Jvm.Cond.laysFinal "WhichOneAllKnow$Leading" "WhichOneAllKnow$Voice" "index" "I") ∈ lw_all := lw_g (lw_at lw_m1 190 rfl) rfl
theorem q274 : (Jvm.Cond.laysFinal "WhichOneAllKnow$Leading" "WhichOneAllKnow$Voice" "by" "I") ∈ lw_all := lw_g (lw_at lw_m1 192 rfl) rfl
theorem q276 : (Jvm.Cond.laysFinal "WhichOneAllKnow$Leading" "WhichOneAllKnow$Voice" "bold" "I") ∈ lw_all := lw_g (lw_at lw_m1 194 rfl) rfl
theorem q278 : (Jvm.Cond.laysFinal "WhichOneAllKnow$Leading" "WhichOneAllKnow$Voice" "top" "I") ∈ lw_all := lw_g (lw_at lw_m1 196 rfl) rfl
theorem q280 : (Jvm.Cond.superclass "WhichOneAllKnow$Leading" "WhichOneAllKnow$Voice") ∈ lw_all := lw_g (lw_at lw_m1 198 rfl) rfl
theorem q792 : (Jvm.Cond.selects "WhichOneAllKnow$Leading" ({ cls := "WhichOneAllKnow$Voice", name := "kind", desc := "()I" } : Jvm.MethodName) ({ cls := "WhichOneAllKnow$Leading", name := "kind", desc := "()I" } : Jvm.MethodName)) ∈ lw_all := lw_g (lw_at lw_m3 230 rfl) rfl
theorem q793 : (Jvm.Cond.instanceMethod ({ cls := "WhichOneAllKnow$Leading", name := "kind", desc := "()I" } : Jvm.MethodName)) ∈ lw_all := lw_g (lw_at lw_m3 231 rfl) rfl
theorem q794 : (Jvm.Cond.code ({ cls := "WhichOneAllKnow$Leading", name := "kind", desc := "()I" } : Jvm.MethodName) prog_11_method_2_code (1 : Nat) (Option.some Jvm.ClassFile.FieldType.int)) ∈ lw_all := lw_g (lw_at lw_m3 232 rfl) rfl
theorem q1031 : (Jvm.Cond.selects "WhichOneAllKnow$Leading" ({ cls := "WhichOneAllKnow$Voice", name := "needs", desc := "(Z)I" } : Jvm.MethodName) ({ cls := "WhichOneAllKnow$Leading", name := "needs", desc := "(Z)I" } : Jvm.MethodName)) ∈ lw_all := lw_g (lw_at lw_m4 229 rfl) rfl
theorem q1032 : (Jvm.Cond.instanceMethod ({ cls := "WhichOneAllKnow$Leading", name := "needs", desc := "(Z)I" } : Jvm.MethodName)) ∈ lw_all := lw_g (lw_at lw_m4 230 rfl) rfl
theorem q1033 : (Jvm.Cond.code ({ cls := "WhichOneAllKnow$Leading", name := "needs", desc := "(Z)I" } : Jvm.MethodName) prog_11_method_3_code (2 : Nat) (Option.some Jvm.ClassFile.FieldType.int)) ∈ lw_all := lw_g (lw_at lw_m4 231 rfl) rfl
theorem q1034 : (Jvm.Cond.methodLink "WhichOneAllKnow$Leading" (9 : Nat) ({ cls := "WhichOneAllKnow$Voice", name := "needs", desc := "(Z)I" } : Jvm.MethodName)) ∈ lw_all := lw_g (lw_at lw_m4 232 rfl) rfl
theorem q1055 : (Jvm.Cond.selects "WhichOneAllKnow$Leading" ({ cls := "WhichOneAllKnow$Voice", name := "drags", desc := "()Z" } : Jvm.MethodName) ({ cls := "WhichOneAllKnow$Voice", name := "drags", desc := "()Z" } : Jvm.MethodName)) ∈ lw_all := lw_g (lw_at lw_m5 13 rfl) rfl
theorem q1072 : (Jvm.Cond.selects "WhichOneAllKnow$Leading" ({ cls := "WhichOneAllKnow$Voice", name := "sings", desc := "(ZII)I" } : Jvm.MethodName) ({ cls := "WhichOneAllKnow$Voice", name := "sings", desc := "(ZII)I" } : Jvm.MethodName)) ∈ lw_all := lw_g (lw_at lw_m5 30 rfl) rfl
theorem q1274 : (Jvm.Cond.instanceMethod ({ cls := "WhichOneAllKnow$Leading", name := "breathing", desc := "(ILWhichOneAllKnow$Trace;)I" } : Jvm.MethodName)) ∈ lw_all := lw_g (lw_at lw_m5 232 rfl) rfl
theorem q1275 : (Jvm.Cond.code ({ cls := "WhichOneAllKnow$Leading", name := "breathing", desc := "(ILWhichOneAllKnow$Trace;)I" } : Jvm.MethodName) prog_11_method_4_code (3 : Nat) (Option.some Jvm.ClassFile.FieldType.int)) ∈ lw_all := lw_g (lw_at lw_m5 233 rfl) rfl
theorem q1276 : (Jvm.Cond.methodLink "WhichOneAllKnow$Leading" (13 : Nat) ({ cls := "WhichOneAllKnow$Trace", name := "runs", desc := "(I)V" } : Jvm.MethodName)) ∈ lw_all := lw_g (lw_at lw_m5 234 rfl) rfl
theorem q1277 : (Jvm.Cond.methodLink "WhichOneAllKnow$Leading" (19 : Nat) ({ cls := "WhichOneAllKnow$Voice", name := "breathing", desc := "(ILWhichOneAllKnow$Trace;)I" } : Jvm.MethodName)) ∈ lw_all := lw_g (lw_at lw_m5 235 rfl) rfl
theorem q1284 : (Jvm.Cond.selects "WhichOneAllKnow$Leading" ({ cls := "WhichOneAllKnow$Voice", name := "breathing", desc := "(ILWhichOneAllKnow$Trace;)I" } : Jvm.MethodName) ({ cls := "WhichOneAllKnow$Leading", name := "breathing", desc := "(ILWhichOneAllKnow$Trace;)I" } : Jvm.MethodName)) ∈ lw_all := lw_g (lw_at lw_m6 2 rfl) rfl
theorem q1296 : (Jvm.Cond.sameMethod "WhichOneAllKnow$Leading" "WhichOneAllKnow$Voice" "singing" "(ILWhichOneAllKnow$Trace;)I") ∈ lw_all := lw_g (lw_at lw_m6 14 rfl) rfl
theorem q1310 : (Jvm.Cond.selects "WhichOneAllKnow$Leading" ({ cls := "WhichOneAllKnow$Voice", name := "singing", desc := "(ILWhichOneAllKnow$Trace;)I" } : Jvm.MethodName) ({ cls := "WhichOneAllKnow$Voice", name := "singing", desc := "(ILWhichOneAllKnow$Trace;)I" } : Jvm.MethodName)) ∈ lw_all := lw_g (lw_at lw_m6 28 rfl) rfl
theorem q1325 : (Jvm.Cond.selects "WhichOneAllKnow$Leading" ({ cls := "WhichOneAllKnow$Voice", name := "sitting", desc := "(ILWhichOneAllKnow$Trace;)I" } : Jvm.MethodName) ({ cls := "WhichOneAllKnow$Voice", name := "sitting", desc := "(ILWhichOneAllKnow$Trace;)I" } : Jvm.MethodName)) ∈ lw_all := lw_g (lw_at lw_m6 43 rfl) rfl
theorem q1844 : (Jvm.Cond.castable "WhichOneAllKnow$Leading" "WhichOneAllKnow$Voice") ∈ lw_tbl := lw_at lw_m8 82 rfl
theorem in_X5 : ∀ w ∈ wsX50, w ∈ lw_all := lw_in wsX50 [272, 274, 276, 278] (by decide +kernel) (by decide +kernel)
/-! WhichOneAllKnow$Joining -/
set_option maxRecDepth 100000
def RX6 : String := "WhichOneAllKnow$Joining"
def TX6 : u_T := fun k => match k with
  | 0 => ("WhichOneAllKnow$Voice", "index", "I", true)
  | 1 => ("WhichOneAllKnow$Voice", "by", "I", true)
  | 2 => ("WhichOneAllKnow$Voice", "bold", "I", true)
  | _ => ("WhichOneAllKnow$Voice", "top", "I", true)
def tyX6 : Nat → FieldType := fun k => match k with
  | 0 => .int
  | 1 => .int
  | 2 => .int
  | _ => .int
abbrev wsX60 : List Cond := u_ws RX6 TX6 4
theorem nmX6 : ∀ a, a < 4 → ∀ b, b < 4 → a ≠ b → (TX6 a).2.1 ≠ (TX6 b).2.1 := by decide +kernel
theorem tyX6_ok : ∀ k, k < 4 → parseFieldDescriptor (TX6 k).2.2.1 = some (tyX6 k) := by decide +kernel
abbrev cX6_init : ByteArray := prog_10_method_1_code
def yX6_init : MethodName := ⟨RX6, "<init>", "(IIII)V"⟩
def dkwX6_init_0 : List UInt8 := [42, 27, 28, 29, 21, 4, 183, 0, 3, 177]
abbrev dktX6_init_0 : List UInt8 := dkwX6_init_0 ++ []
theorem dksX6_init_0 : cX6_init.data.toList.drop 0 = dktX6_init_0 := by decide +kernel
theorem dX6_init_0 : decode cX6_init 0 = .ok (.aload_n 0, 1) := dk_42 (dk_at dksX6_init_0 0 rfl rfl)
theorem dX6_init_1 : decode cX6_init 1 = .ok (.iload_n 1, 1) := dk_27 (dk_at dksX6_init_0 1 rfl rfl)
theorem dX6_init_2 : decode cX6_init 2 = .ok (.iload_n 2, 1) := dk_28 (dk_at dksX6_init_0 2 rfl rfl)
theorem dX6_init_3 : decode cX6_init 3 = .ok (.iload_n 3, 1) := dk_29 (dk_at dksX6_init_0 3 rfl rfl)
theorem dX6_init_4 : decode cX6_init 4 = .ok (.iload 4, 2) := dk_21 4 (dk_at dksX6_init_0 4 rfl rfl)
theorem dX6_init_6 : decode cX6_init 6 = .ok (.invokespecial 3, 3) := dk_183 0 3 (dk_at dksX6_init_0 6 rfl rfl)
theorem dX6_init_9 : decode cX6_init 9 = .ok (.return_, 1) := dk_177 (dk_at dksX6_init_0 9 rfl rfl)
abbrev cX6_kind : ByteArray := prog_10_method_2_code
def yX6_kind : MethodName := ⟨RX6, "kind", "()I"⟩
theorem dX6_kind_0 : decode cX6_kind 0 = .ok (.iconst 2, 1) := by decide +kernel
theorem dX6_kind_1 : decode cX6_kind 1 = .ok (.ireturn, 1) := by decide +kernel
abbrev cX6_needs : ByteArray := prog_10_method_3_code
def yX6_needs : MethodName := ⟨RX6, "needs", "(Z)I"⟩
theorem dX6_needs_0 : decode cX6_needs 0 = .ok (.aload_n 0, 1) := by decide +kernel
theorem dX6_needs_1 : decode cX6_needs 1 = .ok (.getfield 9, 3) := by decide +kernel
theorem dX6_needs_4 : decode cX6_needs 4 = .ok (.ireturn, 1) := by decide +kernel
abbrev cX6_singing : ByteArray := prog_10_method_4_code
def yX6_singing : MethodName := ⟨RX6, "singing", "(ILWhichOneAllKnow$Trace;)I"⟩
def dkwX6_singing_0 : List UInt8 := [44, 16, 30, 182, 0, 15, 42, 27, 44, 183, 0, 21, 6, 104, 172]
abbrev dktX6_singing_0 : List UInt8 := dkwX6_singing_0 ++ []
theorem dksX6_singing_0 : cX6_singing.data.toList.drop 0 = dktX6_singing_0 := by decide +kernel
theorem dX6_singing_0 : decode cX6_singing 0 = .ok (.aload_n 2, 1) := dk_44 (dk_at dksX6_singing_0 0 rfl rfl)
theorem dX6_singing_1 : decode cX6_singing 1 = .ok (.bipush 30, 2) := dk_16 30 (dk_at dksX6_singing_0 1 rfl rfl)
theorem dX6_singing_3 : decode cX6_singing 3 = .ok (.invokevirtual 15, 3) := dk_182 0 15 (dk_at dksX6_singing_0 3 rfl rfl)
theorem dX6_singing_6 : decode cX6_singing 6 = .ok (.aload_n 0, 1) := dk_42 (dk_at dksX6_singing_0 6 rfl rfl)
theorem dX6_singing_7 : decode cX6_singing 7 = .ok (.iload_n 1, 1) := dk_27 (dk_at dksX6_singing_0 7 rfl rfl)
theorem dX6_singing_8 : decode cX6_singing 8 = .ok (.aload_n 2, 1) := dk_44 (dk_at dksX6_singing_0 8 rfl rfl)
theorem dX6_singing_9 : decode cX6_singing 9 = .ok (.invokespecial 21, 3) := dk_183 0 21 (dk_at dksX6_singing_0 9 rfl rfl)
theorem dX6_singing_12 : decode cX6_singing 12 = .ok (.iconst 3, 1) := dk_6 (dk_at dksX6_singing_0 12 rfl rfl)
theorem dX6_singing_13 : decode cX6_singing 13 = .ok (.imul, 1) := dk_104 (dk_at dksX6_singing_0 13 rfl rfl)
theorem dX6_singing_14 : decode cX6_singing 14 = .ok (.ireturn, 1) := dk_172 (dk_at dksX6_singing_0 14 rfl rfl)
theorem q89 : (Jvm.Cond.initialized "WhichOneAllKnow$Joining") ∈ lw_all := lw_g (lw_at lw_m1 7 rfl) rfl
theorem q253 : (Jvm.Cond.fieldLink "WhichOneAllKnow$Joining" (9 : Nat) "WhichOneAllKnow$Joining" "by" "I") ∈ lw_all := lw_g (lw_at lw_m1 171 rfl) rfl
theorem q254 : (Jvm.Cond.sameField "WhichOneAllKnow$Joining" "WhichOneAllKnow$Voice" "by" "I") ∈ lw_all := lw_g (lw_at lw_m1 172 rfl) rfl
theorem q282 : (Jvm.Cond.instantiable "WhichOneAllKnow$Joining" (4 : Nat)) ∈ lw_all := lw_g (lw_at lw_m1 200 rfl) rfl
theorem q284 : (Jvm.Cond.instanceMethod ({ cls := "WhichOneAllKnow$Joining", name := "<init>", desc := "(IIII)V" } : Jvm.MethodName)) ∈ lw_all := lw_g (lw_at lw_m1 202 rfl) rfl
theorem q285 : (Jvm.Cond.code ({ cls := "WhichOneAllKnow$Joining", name := "<init>", desc := "(IIII)V" } : Jvm.MethodName) prog_10_method_1_code (5 : Nat) (Option.none : Option Jvm.ClassFile.FieldType)) ∈ lw_all := lw_g (lw_at lw_m1 203 rfl) rfl
theorem q286 : (Jvm.Cond.methodLink "WhichOneAllKnow$Joining" (3 : Nat) ({ cls := "WhichOneAllKnow$Voice", name := "<init>", desc := "(IIII)V" } : Jvm.MethodName)) ∈ lw_all := lw_g (lw_at lw_m1 204 rfl) rfl
theorem q287 : (Jvm.Cond.laysFinal "WhichOneAllKnow$Joining" "WhichOneAllKnow$Voice" "index" "I") ∈ lw_all := lw_g (lw_at lw_m1 205 rfl) rfl
theorem q288 : (Jvm.Cond.laysFinal "WhichOneAllKnow$Joining" "WhichOneAllKnow$Voice" "by" "I") ∈ lw_all := lw_g (lw_at lw_m1 206 rfl) rfl
theorem q289 : (Jvm.Cond.laysFinal "WhichOneAllKnow$Joining" "WhichOneAllKnow$Voice" "bold" "I") ∈ lw_all := lw_g (lw_at lw_m1 207 rfl) rfl
theorem q290 : (Jvm.Cond.laysFinal "WhichOneAllKnow$Joining" "WhichOneAllKnow$Voice" "top" "I") ∈ lw_all := lw_g (lw_at lw_m1 208 rfl) rfl
theorem q291 : (Jvm.Cond.superclass "WhichOneAllKnow$Joining" "WhichOneAllKnow$Voice") ∈ lw_all := lw_g (lw_at lw_m1 209 rfl) rfl
theorem q789 : (Jvm.Cond.selects "WhichOneAllKnow$Joining" ({ cls := "WhichOneAllKnow$Voice", name := "kind", desc := "()I" } : Jvm.MethodName) ({ cls := "WhichOneAllKnow$Joining", name := "kind", desc := "()I" } : Jvm.MethodName)) ∈ lw_all := lw_g (lw_at lw_m3 227 rfl) rfl
theorem q790 : (Jvm.Cond.instanceMethod ({ cls := "WhichOneAllKnow$Joining", name := "kind", desc := "()I" } : Jvm.MethodName)) ∈ lw_all := lw_g (lw_at lw_m3 228 rfl) rfl
theorem q791 : (Jvm.Cond.code ({ cls := "WhichOneAllKnow$Joining", name := "kind", desc := "()I" } : Jvm.MethodName) prog_10_method_2_code (1 : Nat) (Option.some Jvm.ClassFile.FieldType.int)) ∈ lw_all := lw_g (lw_at lw_m3 229 rfl) rfl
theorem q1028 : (Jvm.Cond.selects "WhichOneAllKnow$Joining" ({ cls := "WhichOneAllKnow$Voice", name := "needs", desc := "(Z)I" } : Jvm.MethodName) ({ cls := "WhichOneAllKnow$Joining", name := "needs", desc := "(Z)I" } : Jvm.MethodName)) ∈ lw_all := lw_g (lw_at lw_m4 226 rfl) rfl
theorem q1029 : (Jvm.Cond.instanceMethod ({ cls := "WhichOneAllKnow$Joining", name := "needs", desc := "(Z)I" } : Jvm.MethodName)) ∈ lw_all := lw_g (lw_at lw_m4 227 rfl) rfl
theorem q1030 : (Jvm.Cond.code ({ cls := "WhichOneAllKnow$Joining", name := "needs", desc := "(Z)I" } : Jvm.MethodName) prog_10_method_3_code (2 : Nat) (Option.some Jvm.ClassFile.FieldType.int)) ∈ lw_all := lw_g (lw_at lw_m4 228 rfl) rfl
theorem q1054 : (Jvm.Cond.selects "WhichOneAllKnow$Joining" ({ cls := "WhichOneAllKnow$Voice", name := "drags", desc := "()Z" } : Jvm.MethodName) ({ cls := "WhichOneAllKnow$Voice", name := "drags", desc := "()Z" } : Jvm.MethodName)) ∈ lw_all := lw_g (lw_at lw_m5 12 rfl) rfl
theorem q1071 : (Jvm.Cond.selects "WhichOneAllKnow$Joining" ({ cls := "WhichOneAllKnow$Voice", name := "sings", desc := "(ZII)I" } : Jvm.MethodName) ({ cls := "WhichOneAllKnow$Voice", name := "sings", desc := "(ZII)I" } : Jvm.MethodName)) ∈ lw_all := lw_g (lw_at lw_m5 29 rfl) rfl
theorem q1283 : (Jvm.Cond.selects "WhichOneAllKnow$Joining" ({ cls := "WhichOneAllKnow$Voice", name := "breathing", desc := "(ILWhichOneAllKnow$Trace;)I" } : Jvm.MethodName) ({ cls := "WhichOneAllKnow$Voice", name := "breathing", desc := "(ILWhichOneAllKnow$Trace;)I" } : Jvm.MethodName)) ∈ lw_all := lw_g (lw_at lw_m6 1 rfl) rfl
theorem q1305 : (Jvm.Cond.selects "WhichOneAllKnow$Joining" ({ cls := "WhichOneAllKnow$Voice", name := "singing", desc := "(ILWhichOneAllKnow$Trace;)I" } : Jvm.MethodName) ({ cls := "WhichOneAllKnow$Joining", name := "singing", desc := "(ILWhichOneAllKnow$Trace;)I" } : Jvm.MethodName)) ∈ lw_all := lw_g (lw_at lw_m6 23 rfl) rfl
theorem q1306 : (Jvm.Cond.instanceMethod ({ cls := "WhichOneAllKnow$Joining", name := "singing", desc := "(ILWhichOneAllKnow$Trace;)I" } : Jvm.MethodName)) ∈ lw_all := lw_g (lw_at lw_m6 24 rfl) rfl
theorem q1307 : (Jvm.Cond.code ({ cls := "WhichOneAllKnow$Joining", name := "singing", desc := "(ILWhichOneAllKnow$Trace;)I" } : Jvm.MethodName) prog_10_method_4_code (3 : Nat) (Option.some Jvm.ClassFile.FieldType.int)) ∈ lw_all := lw_g (lw_at lw_m6 25 rfl) rfl
theorem q1308 : (Jvm.Cond.methodLink "WhichOneAllKnow$Joining" (15 : Nat) ({ cls := "WhichOneAllKnow$Trace", name := "runs", desc := "(I)V" } : Jvm.MethodName)) ∈ lw_all := lw_g (lw_at lw_m6 26 rfl) rfl
theorem q1309 : (Jvm.Cond.methodLink "WhichOneAllKnow$Joining" (21 : Nat) ({ cls := "WhichOneAllKnow$Voice", name := "singing", desc := "(ILWhichOneAllKnow$Trace;)I" } : Jvm.MethodName)) ∈ lw_all := lw_g (lw_at lw_m6 27 rfl) rfl
theorem q1324 : (Jvm.Cond.selects "WhichOneAllKnow$Joining" ({ cls := "WhichOneAllKnow$Voice", name := "sitting", desc := "(ILWhichOneAllKnow$Trace;)I" } : Jvm.MethodName) ({ cls := "WhichOneAllKnow$Voice", name := "sitting", desc := "(ILWhichOneAllKnow$Trace;)I" } : Jvm.MethodName)) ∈ lw_all := lw_g (lw_at lw_m6 42 rfl) rfl
theorem q1331 : (Jvm.Cond.sameMethod "WhichOneAllKnow$Joining" "WhichOneAllKnow$Voice" "sitting" "(ILWhichOneAllKnow$Trace;)I") ∈ lw_all := lw_g (lw_at lw_m6 49 rfl) rfl
theorem q1843 : (Jvm.Cond.castable "WhichOneAllKnow$Joining" "WhichOneAllKnow$Voice") ∈ lw_tbl := lw_at lw_m8 81 rfl
theorem in_X6 : ∀ w ∈ wsX60, w ∈ lw_all := lw_in wsX60 [287, 288, 289, 290] (by decide +kernel) (by decide +kernel)
/-! WhichOneAllKnow$Boomer -/
set_option maxRecDepth 100000
def RX7 : String := "WhichOneAllKnow$Boomer"
def TX7 : u_T := fun k => match k with
  | 0 => ("WhichOneAllKnow$Voice", "index", "I", true)
  | 1 => ("WhichOneAllKnow$Voice", "by", "I", true)
  | 2 => ("WhichOneAllKnow$Voice", "bold", "I", true)
  | _ => ("WhichOneAllKnow$Voice", "top", "I", true)
def tyX7 : Nat → FieldType := fun k => match k with
  | 0 => .int
  | 1 => .int
  | 2 => .int
  | _ => .int
abbrev wsX70 : List Cond := u_ws RX7 TX7 4
theorem nmX7 : ∀ a, a < 4 → ∀ b, b < 4 → a ≠ b → (TX7 a).2.1 ≠ (TX7 b).2.1 := by decide +kernel
theorem tyX7_ok : ∀ k, k < 4 → parseFieldDescriptor (TX7 k).2.2.1 = some (tyX7 k) := by decide +kernel
abbrev cX7_init : ByteArray := prog_3_method_1_code
def yX7_init : MethodName := ⟨RX7, "<init>", "(IIII)V"⟩
def dkwX7_init_0 : List UInt8 := [42, 27, 28, 29, 21, 4, 183, 0, 3, 177]
abbrev dktX7_init_0 : List UInt8 := dkwX7_init_0 ++ []
theorem dksX7_init_0 : cX7_init.data.toList.drop 0 = dktX7_init_0 := by decide +kernel
theorem dX7_init_0 : decode cX7_init 0 = .ok (.aload_n 0, 1) := dk_42 (dk_at dksX7_init_0 0 rfl rfl)
theorem dX7_init_1 : decode cX7_init 1 = .ok (.iload_n 1, 1) := dk_27 (dk_at dksX7_init_0 1 rfl rfl)
theorem dX7_init_2 : decode cX7_init 2 = .ok (.iload_n 2, 1) := dk_28 (dk_at dksX7_init_0 2 rfl rfl)
theorem dX7_init_3 : decode cX7_init 3 = .ok (.iload_n 3, 1) := dk_29 (dk_at dksX7_init_0 3 rfl rfl)
theorem dX7_init_4 : decode cX7_init 4 = .ok (.iload 4, 2) := dk_21 4 (dk_at dksX7_init_0 4 rfl rfl)
theorem dX7_init_6 : decode cX7_init 6 = .ok (.invokespecial 3, 3) := dk_183 0 3 (dk_at dksX7_init_0 6 rfl rfl)
theorem dX7_init_9 : decode cX7_init 9 = .ok (.return_, 1) := dk_177 (dk_at dksX7_init_0 9 rfl rfl)
abbrev cX7_kind : ByteArray := prog_3_method_2_code
def yX7_kind : MethodName := ⟨RX7, "kind", "()I"⟩
theorem dX7_kind_0 : decode cX7_kind 0 = .ok (.iconst 3, 1) := by decide +kernel
theorem dX7_kind_1 : decode cX7_kind 1 = .ok (.ireturn, 1) := by decide +kernel
abbrev cX7_needs : ByteArray := prog_3_method_3_code
def yX7_needs : MethodName := ⟨RX7, "needs", "(Z)I"⟩
theorem dX7_needs_0 : decode cX7_needs 0 = .ok (.iconst 0, 1) := by decide +kernel
theorem dX7_needs_1 : decode cX7_needs 1 = .ok (.ireturn, 1) := by decide +kernel
abbrev cX7_sings : ByteArray := prog_3_method_4_code
def yX7_sings : MethodName := ⟨RX7, "sings", "(ZII)I"⟩
def dkwX7_sings_0 : List UInt8 := [27, 153, 0, 7, 4, 167, 0, 4, 5, 172]
abbrev dktX7_sings_0 : List UInt8 := dkwX7_sings_0 ++ []
theorem dksX7_sings_0 : cX7_sings.data.toList.drop 0 = dktX7_sings_0 := by decide +kernel
theorem dX7_sings_0 : decode cX7_sings 0 = .ok (.iload_n 1, 1) := dk_27 (dk_at dksX7_sings_0 0 rfl rfl)
theorem dX7_sings_1 : decode cX7_sings 1 = .ok (.ifCond .eq 7, 3) := dk_153 0 7 (dk_at dksX7_sings_0 1 rfl rfl)
theorem dX7_sings_4 : decode cX7_sings 4 = .ok (.iconst 1, 1) := dk_4 (dk_at dksX7_sings_0 4 rfl rfl)
theorem dX7_sings_5 : decode cX7_sings 5 = .ok (.goto 4, 3) := dk_167 0 4 (dk_at dksX7_sings_0 5 rfl rfl)
theorem dX7_sings_8 : decode cX7_sings 8 = .ok (.iconst 2, 1) := dk_5 (dk_at dksX7_sings_0 8 rfl rfl)
theorem dX7_sings_9 : decode cX7_sings 9 = .ok (.ireturn, 1) := dk_172 (dk_at dksX7_sings_0 9 rfl rfl)
abbrev cX7_singing : ByteArray := prog_3_method_5_code
def yX7_singing : MethodName := ⟨RX7, "singing", "(ILWhichOneAllKnow$Trace;)I"⟩
def dkwX7_singing_0 : List UInt8 := [44, 16, 40, 182, 0, 9, 42, 27, 4, 96, 44, 183, 0, 15, 172]
abbrev dktX7_singing_0 : List UInt8 := dkwX7_singing_0 ++ []
theorem dksX7_singing_0 : cX7_singing.data.toList.drop 0 = dktX7_singing_0 := by decide +kernel
theorem dX7_singing_0 : decode cX7_singing 0 = .ok (.aload_n 2, 1) := dk_44 (dk_at dksX7_singing_0 0 rfl rfl)
theorem dX7_singing_1 : decode cX7_singing 1 = .ok (.bipush 40, 2) := dk_16 40 (dk_at dksX7_singing_0 1 rfl rfl)
theorem dX7_singing_3 : decode cX7_singing 3 = .ok (.invokevirtual 9, 3) := dk_182 0 9 (dk_at dksX7_singing_0 3 rfl rfl)
theorem dX7_singing_6 : decode cX7_singing 6 = .ok (.aload_n 0, 1) := dk_42 (dk_at dksX7_singing_0 6 rfl rfl)
theorem dX7_singing_7 : decode cX7_singing 7 = .ok (.iload_n 1, 1) := dk_27 (dk_at dksX7_singing_0 7 rfl rfl)
theorem dX7_singing_8 : decode cX7_singing 8 = .ok (.iconst 1, 1) := dk_4 (dk_at dksX7_singing_0 8 rfl rfl)
theorem dX7_singing_9 : decode cX7_singing 9 = .ok (.iadd, 1) := dk_96 (dk_at dksX7_singing_0 9 rfl rfl)
theorem dX7_singing_10 : decode cX7_singing 10 = .ok (.aload_n 2, 1) := dk_44 (dk_at dksX7_singing_0 10 rfl rfl)
theorem dX7_singing_11 : decode cX7_singing 11 = .ok (.invokespecial 15, 3) := dk_183 0 15 (dk_at dksX7_singing_0 11 rfl rfl)
theorem dX7_singing_14 : decode cX7_singing 14 = .ok (.ireturn, 1) := dk_172 (dk_at dksX7_singing_0 14 rfl rfl)
theorem q90 : (Jvm.Cond.initialized "WhichOneAllKnow$Boomer") ∈ lw_all := lw_g (lw_at lw_m1 8 rfl) rfl
theorem q270 : (Jvm.Cond.sameField "WhichOneAllKnow$Boomer" "WhichOneAllKnow$Voice" "top" "I") ∈ lw_all := lw_g (lw_at lw_m1 188 rfl) rfl
theorem q293 : (Jvm.Cond.instantiable "WhichOneAllKnow$Boomer" (4 : Nat)) ∈ lw_all := lw_g (lw_at lw_m1 211 rfl) rfl
theorem q295 : (Jvm.Cond.instanceMethod ({ cls := "WhichOneAllKnow$Boomer", name := "<init>", desc := "(IIII)V" } : Jvm.MethodName)) ∈ lw_all := lw_g (lw_at lw_m1 213 rfl) rfl
theorem q296 : (Jvm.Cond.code ({ cls := "WhichOneAllKnow$Boomer", name := "<init>", desc := "(IIII)V" } : Jvm.MethodName) prog_3_method_1_code (5 : Nat) (Option.none : Option Jvm.ClassFile.FieldType)) ∈ lw_all := lw_g (lw_at lw_m1 214 rfl) rfl
theorem q297 : (Jvm.Cond.methodLink "WhichOneAllKnow$Boomer" (3 : Nat) ({ cls := "WhichOneAllKnow$Leading", name := "<init>", desc := "(IIII)V" } : Jvm.MethodName)) ∈ lw_all := lw_g (lw_at lw_m1 215 rfl) rfl
theorem q298 : (Jvm.Cond.laysFinal "WhichOneAllKnow$Boomer" "WhichOneAllKnow$Voice" "index" "I") ∈ lw_all := lw_g (lw_at lw_m1 216 rfl) rfl
theorem q299 : (Jvm.Cond.laysFinal "WhichOneAllKnow$Boomer" "WhichOneAllKnow$Voice" "by" "I") ∈ lw_all := lw_g (lw_at lw_m1 217 rfl) rfl
theorem q300 : (Jvm.Cond.laysFinal "WhichOneAllKnow$Boomer" "WhichOneAllKnow$Voice" "bold" "I") ∈ lw_all := lw_g (lw_at lw_m1 218 rfl) rfl
theorem q301 : (Jvm.Cond.laysFinal "WhichOneAllKnow$Boomer" "WhichOneAllKnow$Voice" "top" "I") ∈ lw_all := lw_g (lw_at lw_m1 219 rfl) rfl
theorem q302 : (Jvm.Cond.superclass "WhichOneAllKnow$Boomer" "WhichOneAllKnow$Leading") ∈ lw_all := lw_g (lw_at lw_m1 220 rfl) rfl
theorem q783 : (Jvm.Cond.selects "WhichOneAllKnow$Boomer" ({ cls := "WhichOneAllKnow$Voice", name := "kind", desc := "()I" } : Jvm.MethodName) ({ cls := "WhichOneAllKnow$Boomer", name := "kind", desc := "()I" } : Jvm.MethodName)) ∈ lw_all := lw_g (lw_at lw_m3 221 rfl) rfl
theorem q784 : (Jvm.Cond.instanceMethod ({ cls := "WhichOneAllKnow$Boomer", name := "kind", desc := "()I" } : Jvm.MethodName)) ∈ lw_all := lw_g (lw_at lw_m3 222 rfl) rfl
theorem q785 : (Jvm.Cond.code ({ cls := "WhichOneAllKnow$Boomer", name := "kind", desc := "()I" } : Jvm.MethodName) prog_3_method_2_code (1 : Nat) (Option.some Jvm.ClassFile.FieldType.int)) ∈ lw_all := lw_g (lw_at lw_m3 223 rfl) rfl
theorem q1024 : (Jvm.Cond.selects "WhichOneAllKnow$Boomer" ({ cls := "WhichOneAllKnow$Voice", name := "needs", desc := "(Z)I" } : Jvm.MethodName) ({ cls := "WhichOneAllKnow$Boomer", name := "needs", desc := "(Z)I" } : Jvm.MethodName)) ∈ lw_all := lw_g (lw_at lw_m4 222 rfl) rfl
theorem q1025 : (Jvm.Cond.instanceMethod ({ cls := "WhichOneAllKnow$Boomer", name := "needs", desc := "(Z)I" } : Jvm.MethodName)) ∈ lw_all := lw_g (lw_at lw_m4 223 rfl) rfl
theorem q1026 : (Jvm.Cond.code ({ cls := "WhichOneAllKnow$Boomer", name := "needs", desc := "(Z)I" } : Jvm.MethodName) prog_3_method_3_code (2 : Nat) (Option.some Jvm.ClassFile.FieldType.int)) ∈ lw_all := lw_g (lw_at lw_m4 224 rfl) rfl
theorem q1050 : (Jvm.Cond.selects "WhichOneAllKnow$Boomer" ({ cls := "WhichOneAllKnow$Voice", name := "drags", desc := "()Z" } : Jvm.MethodName) ({ cls := "WhichOneAllKnow$Voice", name := "drags", desc := "()Z" } : Jvm.MethodName)) ∈ lw_all := lw_g (lw_at lw_m5 8 rfl) rfl
theorem q1067 : (Jvm.Cond.selects "WhichOneAllKnow$Boomer" ({ cls := "WhichOneAllKnow$Voice", name := "sings", desc := "(ZII)I" } : Jvm.MethodName) ({ cls := "WhichOneAllKnow$Boomer", name := "sings", desc := "(ZII)I" } : Jvm.MethodName)) ∈ lw_all := lw_g (lw_at lw_m5 25 rfl) rfl
theorem q1068 : (Jvm.Cond.instanceMethod ({ cls := "WhichOneAllKnow$Boomer", name := "sings", desc := "(ZII)I" } : Jvm.MethodName)) ∈ lw_all := lw_g (lw_at lw_m5 26 rfl) rfl
theorem q1069 : (Jvm.Cond.code ({ cls := "WhichOneAllKnow$Boomer", name := "sings", desc := "(ZII)I" } : Jvm.MethodName) prog_3_method_4_code (4 : Nat) (Option.some Jvm.ClassFile.FieldType.int)) ∈ lw_all := lw_g (lw_at lw_m5 27 rfl) rfl
theorem q1273 : (Jvm.Cond.selects "WhichOneAllKnow$Boomer" ({ cls := "WhichOneAllKnow$Voice", name := "breathing", desc := "(ILWhichOneAllKnow$Trace;)I" } : Jvm.MethodName) ({ cls := "WhichOneAllKnow$Leading", name := "breathing", desc := "(ILWhichOneAllKnow$Trace;)I" } : Jvm.MethodName)) ∈ lw_all := lw_g (lw_at lw_m5 231 rfl) rfl
theorem q1291 : (Jvm.Cond.selects "WhichOneAllKnow$Boomer" ({ cls := "WhichOneAllKnow$Voice", name := "singing", desc := "(ILWhichOneAllKnow$Trace;)I" } : Jvm.MethodName) ({ cls := "WhichOneAllKnow$Boomer", name := "singing", desc := "(ILWhichOneAllKnow$Trace;)I" } : Jvm.MethodName)) ∈ lw_all := lw_g (lw_at lw_m6 9 rfl) rfl
theorem q1292 : (Jvm.Cond.instanceMethod ({ cls := "WhichOneAllKnow$Boomer", name := "singing", desc := "(ILWhichOneAllKnow$Trace;)I" } : Jvm.MethodName)) ∈ lw_all := lw_g (lw_at lw_m6 10 rfl) rfl
theorem q1293 : (Jvm.Cond.code ({ cls := "WhichOneAllKnow$Boomer", name := "singing", desc := "(ILWhichOneAllKnow$Trace;)I" } : Jvm.MethodName) prog_3_method_5_code (3 : Nat) (Option.some Jvm.ClassFile.FieldType.int)) ∈ lw_all := lw_g (lw_at lw_m6 11 rfl) rfl
theorem q1294 : (Jvm.Cond.methodLink "WhichOneAllKnow$Boomer" (9 : Nat) ({ cls := "WhichOneAllKnow$Trace", name := "runs", desc := "(I)V" } : Jvm.MethodName)) ∈ lw_all := lw_g (lw_at lw_m6 12 rfl) rfl
theorem q1295 : (Jvm.Cond.methodLink "WhichOneAllKnow$Boomer" (15 : Nat) ({ cls := "WhichOneAllKnow$Leading", name := "singing", desc := "(ILWhichOneAllKnow$Trace;)I" } : Jvm.MethodName)) ∈ lw_all := lw_g (lw_at lw_m6 13 rfl) rfl
theorem q1322 : (Jvm.Cond.selects "WhichOneAllKnow$Boomer" ({ cls := "WhichOneAllKnow$Voice", name := "sitting", desc := "(ILWhichOneAllKnow$Trace;)I" } : Jvm.MethodName) ({ cls := "WhichOneAllKnow$Voice", name := "sitting", desc := "(ILWhichOneAllKnow$Trace;)I" } : Jvm.MethodName)) ∈ lw_all := lw_g (lw_at lw_m6 40 rfl) rfl
theorem q1841 : (Jvm.Cond.castable "WhichOneAllKnow$Boomer" "WhichOneAllKnow$Voice") ∈ lw_tbl := lw_at lw_m8 79 rfl
theorem q1846 : (Jvm.Cond.castable "WhichOneAllKnow$Boomer" "WhichOneAllKnow$Leading") ∈ lw_tbl := lw_at lw_m8 84 rfl
theorem in_X7 : ∀ w ∈ wsX70, w ∈ lw_all := lw_in wsX70 [298, 299, 300, 301] (by decide +kernel) (by decide +kernel)
/-! WhichOneAllKnow$Astray -/
set_option maxRecDepth 100000
def RX8 : String := "WhichOneAllKnow$Astray"
def TX8 : u_T := fun k => match k with
  | 0 => ("WhichOneAllKnow$Voice", "index", "I", true)
  | 1 => ("WhichOneAllKnow$Voice", "by", "I", true)
  | 2 => ("WhichOneAllKnow$Voice", "bold", "I", true)
  | _ => ("WhichOneAllKnow$Voice", "top", "I", true)
def tyX8 : Nat → FieldType := fun k => match k with
  | 0 => .int
  | 1 => .int
  | 2 => .int
  | _ => .int
abbrev wsX80 : List Cond := u_ws RX8 TX8 4
theorem nmX8 : ∀ a, a < 4 → ∀ b, b < 4 → a ≠ b → (TX8 a).2.1 ≠ (TX8 b).2.1 := by decide +kernel
theorem tyX8_ok : ∀ k, k < 4 → parseFieldDescriptor (TX8 k).2.2.1 = some (tyX8 k) := by decide +kernel
abbrev cX8_init : ByteArray := prog_2_method_1_code
def yX8_init : MethodName := ⟨RX8, "<init>", "(IIII)V"⟩
def dkwX8_init_0 : List UInt8 := [42, 27, 28, 29, 21, 4, 183, 0, 3, 177]
abbrev dktX8_init_0 : List UInt8 := dkwX8_init_0 ++ []
theorem dksX8_init_0 : cX8_init.data.toList.drop 0 = dktX8_init_0 := by decide +kernel
theorem dX8_init_0 : decode cX8_init 0 = .ok (.aload_n 0, 1) := dk_42 (dk_at dksX8_init_0 0 rfl rfl)
theorem dX8_init_1 : decode cX8_init 1 = .ok (.iload_n 1, 1) := dk_27 (dk_at dksX8_init_0 1 rfl rfl)
theorem dX8_init_2 : decode cX8_init 2 = .ok (.iload_n 2, 1) := dk_28 (dk_at dksX8_init_0 2 rfl rfl)
theorem dX8_init_3 : decode cX8_init 3 = .ok (.iload_n 3, 1) := dk_29 (dk_at dksX8_init_0 3 rfl rfl)
theorem dX8_init_4 : decode cX8_init 4 = .ok (.iload 4, 2) := dk_21 4 (dk_at dksX8_init_0 4 rfl rfl)
theorem dX8_init_6 : decode cX8_init 6 = .ok (.invokespecial 3, 3) := dk_183 0 3 (dk_at dksX8_init_0 6 rfl rfl)
theorem dX8_init_9 : decode cX8_init 9 = .ok (.return_, 1) := dk_177 (dk_at dksX8_init_0 9 rfl rfl)
abbrev cX8_kind : ByteArray := prog_2_method_2_code
def yX8_kind : MethodName := ⟨RX8, "kind", "()I"⟩
theorem dX8_kind_0 : decode cX8_kind 0 = .ok (.iconst 4, 1) := by decide +kernel
theorem dX8_kind_1 : decode cX8_kind 1 = .ok (.ireturn, 1) := by decide +kernel
abbrev cX8_sings : ByteArray := prog_2_method_3_code
def yX8_sings : MethodName := ⟨RX8, "sings", "(ZII)I"⟩
def dkwX8_sings_0 : List UInt8 := [42, 3, 28, 29, 183, 0, 9, 172]
abbrev dktX8_sings_0 : List UInt8 := dkwX8_sings_0 ++ []
theorem dksX8_sings_0 : cX8_sings.data.toList.drop 0 = dktX8_sings_0 := by decide +kernel
theorem dX8_sings_0 : decode cX8_sings 0 = .ok (.aload_n 0, 1) := dk_42 (dk_at dksX8_sings_0 0 rfl rfl)
theorem dX8_sings_1 : decode cX8_sings 1 = .ok (.iconst 0, 1) := dk_3 (dk_at dksX8_sings_0 1 rfl rfl)
theorem dX8_sings_2 : decode cX8_sings 2 = .ok (.iload_n 2, 1) := dk_28 (dk_at dksX8_sings_0 2 rfl rfl)
theorem dX8_sings_3 : decode cX8_sings 3 = .ok (.iload_n 3, 1) := dk_29 (dk_at dksX8_sings_0 3 rfl rfl)
theorem dX8_sings_4 : decode cX8_sings 4 = .ok (.invokespecial 9, 3) := dk_183 0 9 (dk_at dksX8_sings_0 4 rfl rfl)
theorem dX8_sings_7 : decode cX8_sings 7 = .ok (.ireturn, 1) := dk_172 (dk_at dksX8_sings_0 7 rfl rfl)
abbrev cX8_breathing : ByteArray := prog_2_method_5_code
def yX8_breathing : MethodName := ⟨RX8, "breathing", "(ILWhichOneAllKnow$Trace;)I"⟩
def dkwX8_breathing_0 : List UInt8 := [44, 16, 51, 182, 0, 13, 42, 27, 44, 183, 0, 23, 42, 180, 0, 26, 100, 172]
abbrev dktX8_breathing_0 : List UInt8 := dkwX8_breathing_0 ++ []
theorem dksX8_breathing_0 : cX8_breathing.data.toList.drop 0 = dktX8_breathing_0 := by decide +kernel
theorem dX8_breathing_0 : decode cX8_breathing 0 = .ok (.aload_n 2, 1) := dk_44 (dk_at dksX8_breathing_0 0 rfl rfl)
theorem dX8_breathing_1 : decode cX8_breathing 1 = .ok (.bipush 51, 2) := dk_16 51 (dk_at dksX8_breathing_0 1 rfl rfl)
theorem dX8_breathing_3 : decode cX8_breathing 3 = .ok (.invokevirtual 13, 3) := dk_182 0 13 (dk_at dksX8_breathing_0 3 rfl rfl)
theorem dX8_breathing_6 : decode cX8_breathing 6 = .ok (.aload_n 0, 1) := dk_42 (dk_at dksX8_breathing_0 6 rfl rfl)
theorem dX8_breathing_7 : decode cX8_breathing 7 = .ok (.iload_n 1, 1) := dk_27 (dk_at dksX8_breathing_0 7 rfl rfl)
theorem dX8_breathing_8 : decode cX8_breathing 8 = .ok (.aload_n 2, 1) := dk_44 (dk_at dksX8_breathing_0 8 rfl rfl)
theorem dX8_breathing_9 : decode cX8_breathing 9 = .ok (.invokespecial 23, 3) := dk_183 0 23 (dk_at dksX8_breathing_0 9 rfl rfl)
theorem dX8_breathing_12 : decode cX8_breathing 12 = .ok (.aload_n 0, 1) := dk_42 (dk_at dksX8_breathing_0 12 rfl rfl)
theorem dX8_breathing_13 : decode cX8_breathing 13 = .ok (.getfield 26, 3) := dk_180 0 26 (dk_at dksX8_breathing_0 13 rfl rfl)
theorem dX8_breathing_16 : decode cX8_breathing 16 = .ok (.isub, 1) := dk_100 (dk_at dksX8_breathing_0 16 rfl rfl)
theorem dX8_breathing_17 : decode cX8_breathing 17 = .ok (.ireturn, 1) := dk_172 (dk_at dksX8_breathing_0 17 rfl rfl)
abbrev cX8_sitting : ByteArray := prog_2_method_4_code
def yX8_sitting : MethodName := ⟨RX8, "sitting", "(ILWhichOneAllKnow$Trace;)I"⟩
def dkwX8_sitting_0 : List UInt8 := [44, 16, 50, 182, 0, 13, 42, 27, 44, 183, 0, 19, 116, 172]
abbrev dktX8_sitting_0 : List UInt8 := dkwX8_sitting_0 ++ []
theorem dksX8_sitting_0 : cX8_sitting.data.toList.drop 0 = dktX8_sitting_0 := by decide +kernel
theorem dX8_sitting_0 : decode cX8_sitting 0 = .ok (.aload_n 2, 1) := dk_44 (dk_at dksX8_sitting_0 0 rfl rfl)
theorem dX8_sitting_1 : decode cX8_sitting 1 = .ok (.bipush 50, 2) := dk_16 50 (dk_at dksX8_sitting_0 1 rfl rfl)
theorem dX8_sitting_3 : decode cX8_sitting 3 = .ok (.invokevirtual 13, 3) := dk_182 0 13 (dk_at dksX8_sitting_0 3 rfl rfl)
theorem dX8_sitting_6 : decode cX8_sitting 6 = .ok (.aload_n 0, 1) := dk_42 (dk_at dksX8_sitting_0 6 rfl rfl)
theorem dX8_sitting_7 : decode cX8_sitting 7 = .ok (.iload_n 1, 1) := dk_27 (dk_at dksX8_sitting_0 7 rfl rfl)
theorem dX8_sitting_8 : decode cX8_sitting 8 = .ok (.aload_n 2, 1) := dk_44 (dk_at dksX8_sitting_0 8 rfl rfl)
theorem dX8_sitting_9 : decode cX8_sitting 9 = .ok (.invokespecial 19, 3) := dk_183 0 19 (dk_at dksX8_sitting_0 9 rfl rfl)
theorem dX8_sitting_12 : decode cX8_sitting 12 = .ok (.ineg, 1) := dk_116 (dk_at dksX8_sitting_0 12 rfl rfl)
theorem dX8_sitting_13 : decode cX8_sitting 13 = .ok (.ireturn, 1) := dk_172 (dk_at dksX8_sitting_0 13 rfl rfl)
theorem q91 : (Jvm.Cond.initialized "WhichOneAllKnow$Astray") ∈ lw_all := lw_g (lw_at lw_m1 9 rfl) rfl
theorem q246 : (Jvm.Cond.sameField "WhichOneAllKnow$Astray" "WhichOneAllKnow$Voice" "index" "I") ∈ lw_all := lw_g (lw_at lw_m1 164 rfl) rfl
theorem q250 : (Jvm.Cond.fieldLink "WhichOneAllKnow$Astray" (26 : Nat) "WhichOneAllKnow$Astray" "index" "I") ∈ lw_all := lw_g (lw_at lw_m1 168 rfl) rfl
theorem q304 : (Jvm.Cond.instantiable "WhichOneAllKnow$Astray" (4 : Nat)) ∈ lw_all := lw_g (lw_at lw_m1 222 rfl) rfl
theorem q306 : (Jvm.Cond.instanceMethod ({ cls := "WhichOneAllKnow$Astray", name := "<init>", desc := "(IIII)V" } : Jvm.MethodName)) ∈ lw_all := lw_g (lw_at lw_m1 224 rfl) rfl
theorem q307 : (Jvm.Cond.code ({ cls := "WhichOneAllKnow$Astray", name := "<init>", desc := "(IIII)V" } : Jvm.MethodName) prog_2_method_1_code (5 : Nat) (Option.none : Option Jvm.ClassFile.FieldType)) ∈ lw_all := lw_g (lw_at lw_m1 225 rfl) rfl
theorem q308 : (Jvm.Cond.methodLink "WhichOneAllKnow$Astray" (3 : Nat) ({ cls := "WhichOneAllKnow$Voice", name := "<init>", desc := "(IIII)V" } : Jvm.MethodName)) ∈ lw_all := lw_g (lw_at lw_m1 226 rfl) rfl
theorem q309 : (Jvm.Cond.laysFinal "WhichOneAllKnow$Astray" "WhichOneAllKnow$Voice" "index" "I") ∈ lw_all := lw_g (lw_at lw_m1 227 rfl) rfl
theorem q310 : (Jvm.Cond.laysFinal "WhichOneAllKnow$Astray" "WhichOneAllKnow$Voice" "by" "I") ∈ lw_all := lw_g (lw_at lw_m1 228 rfl) rfl
theorem q311 : (Jvm.Cond.laysFinal "WhichOneAllKnow$Astray" "WhichOneAllKnow$Voice" "bold" "I") ∈ lw_all := lw_g (lw_at lw_m1 229 rfl) rfl
theorem q312 : (Jvm.Cond.laysFinal "WhichOneAllKnow$Astray" "WhichOneAllKnow$Voice" "top" "I") ∈ lw_all := lw_g (lw_at lw_m1 230 rfl) rfl
theorem q313 : (Jvm.Cond.superclass "WhichOneAllKnow$Astray" "WhichOneAllKnow$Voice") ∈ lw_all := lw_g (lw_at lw_m1 231 rfl) rfl
theorem q780 : (Jvm.Cond.selects "WhichOneAllKnow$Astray" ({ cls := "WhichOneAllKnow$Voice", name := "kind", desc := "()I" } : Jvm.MethodName) ({ cls := "WhichOneAllKnow$Astray", name := "kind", desc := "()I" } : Jvm.MethodName)) ∈ lw_all := lw_g (lw_at lw_m3 218 rfl) rfl
theorem q781 : (Jvm.Cond.instanceMethod ({ cls := "WhichOneAllKnow$Astray", name := "kind", desc := "()I" } : Jvm.MethodName)) ∈ lw_all := lw_g (lw_at lw_m3 219 rfl) rfl
theorem q782 : (Jvm.Cond.code ({ cls := "WhichOneAllKnow$Astray", name := "kind", desc := "()I" } : Jvm.MethodName) prog_2_method_2_code (1 : Nat) (Option.some Jvm.ClassFile.FieldType.int)) ∈ lw_all := lw_g (lw_at lw_m3 220 rfl) rfl
theorem q1023 : (Jvm.Cond.selects "WhichOneAllKnow$Astray" ({ cls := "WhichOneAllKnow$Voice", name := "needs", desc := "(Z)I" } : Jvm.MethodName) ({ cls := "WhichOneAllKnow$Voice", name := "needs", desc := "(Z)I" } : Jvm.MethodName)) ∈ lw_all := lw_g (lw_at lw_m4 221 rfl) rfl
theorem q1049 : (Jvm.Cond.selects "WhichOneAllKnow$Astray" ({ cls := "WhichOneAllKnow$Voice", name := "drags", desc := "()Z" } : Jvm.MethodName) ({ cls := "WhichOneAllKnow$Voice", name := "drags", desc := "()Z" } : Jvm.MethodName)) ∈ lw_all := lw_g (lw_at lw_m5 7 rfl) rfl
theorem q1062 : (Jvm.Cond.selects "WhichOneAllKnow$Astray" ({ cls := "WhichOneAllKnow$Voice", name := "sings", desc := "(ZII)I" } : Jvm.MethodName) ({ cls := "WhichOneAllKnow$Astray", name := "sings", desc := "(ZII)I" } : Jvm.MethodName)) ∈ lw_all := lw_g (lw_at lw_m5 20 rfl) rfl
theorem q1063 : (Jvm.Cond.instanceMethod ({ cls := "WhichOneAllKnow$Astray", name := "sings", desc := "(ZII)I" } : Jvm.MethodName)) ∈ lw_all := lw_g (lw_at lw_m5 21 rfl) rfl
theorem q1064 : (Jvm.Cond.code ({ cls := "WhichOneAllKnow$Astray", name := "sings", desc := "(ZII)I" } : Jvm.MethodName) prog_2_method_3_code (4 : Nat) (Option.some Jvm.ClassFile.FieldType.int)) ∈ lw_all := lw_g (lw_at lw_m5 22 rfl) rfl
theorem q1065 : (Jvm.Cond.methodLink "WhichOneAllKnow$Astray" (9 : Nat) ({ cls := "WhichOneAllKnow$Voice", name := "sings", desc := "(ZII)I" } : Jvm.MethodName)) ∈ lw_all := lw_g (lw_at lw_m5 23 rfl) rfl
theorem q1263 : (Jvm.Cond.selects "WhichOneAllKnow$Astray" ({ cls := "WhichOneAllKnow$Voice", name := "breathing", desc := "(ILWhichOneAllKnow$Trace;)I" } : Jvm.MethodName) ({ cls := "WhichOneAllKnow$Astray", name := "breathing", desc := "(ILWhichOneAllKnow$Trace;)I" } : Jvm.MethodName)) ∈ lw_all := lw_g (lw_at lw_m5 221 rfl) rfl
theorem q1264 : (Jvm.Cond.instanceMethod ({ cls := "WhichOneAllKnow$Astray", name := "breathing", desc := "(ILWhichOneAllKnow$Trace;)I" } : Jvm.MethodName)) ∈ lw_all := lw_g (lw_at lw_m5 222 rfl) rfl
theorem q1265 : (Jvm.Cond.code ({ cls := "WhichOneAllKnow$Astray", name := "breathing", desc := "(ILWhichOneAllKnow$Trace;)I" } : Jvm.MethodName) prog_2_method_5_code (3 : Nat) (Option.some Jvm.ClassFile.FieldType.int)) ∈ lw_all := lw_g (lw_at lw_m5 223 rfl) rfl
theorem q1266 : (Jvm.Cond.methodLink "WhichOneAllKnow$Astray" (13 : Nat) ({ cls := "WhichOneAllKnow$Trace", name := "runs", desc := "(I)V" } : Jvm.MethodName)) ∈ lw_all := lw_g (lw_at lw_m5 224 rfl) rfl
theorem q1270 : (Jvm.Cond.methodLink "WhichOneAllKnow$Astray" (23 : Nat) ({ cls := "WhichOneAllKnow$Voice", name := "breathing", desc := "(ILWhichOneAllKnow$Trace;)I" } : Jvm.MethodName)) ∈ lw_all := lw_g (lw_at lw_m5 228 rfl) rfl
theorem q1290 : (Jvm.Cond.selects "WhichOneAllKnow$Astray" ({ cls := "WhichOneAllKnow$Voice", name := "singing", desc := "(ILWhichOneAllKnow$Trace;)I" } : Jvm.MethodName) ({ cls := "WhichOneAllKnow$Voice", name := "singing", desc := "(ILWhichOneAllKnow$Trace;)I" } : Jvm.MethodName)) ∈ lw_all := lw_g (lw_at lw_m6 8 rfl) rfl
theorem q1304 : (Jvm.Cond.sameMethod "WhichOneAllKnow$Astray" "WhichOneAllKnow$Voice" "singing" "(ILWhichOneAllKnow$Trace;)I") ∈ lw_all := lw_g (lw_at lw_m6 22 rfl) rfl
theorem q1316 : (Jvm.Cond.selects "WhichOneAllKnow$Astray" ({ cls := "WhichOneAllKnow$Voice", name := "sitting", desc := "(ILWhichOneAllKnow$Trace;)I" } : Jvm.MethodName) ({ cls := "WhichOneAllKnow$Astray", name := "sitting", desc := "(ILWhichOneAllKnow$Trace;)I" } : Jvm.MethodName)) ∈ lw_all := lw_g (lw_at lw_m6 34 rfl) rfl
theorem q1317 : (Jvm.Cond.instanceMethod ({ cls := "WhichOneAllKnow$Astray", name := "sitting", desc := "(ILWhichOneAllKnow$Trace;)I" } : Jvm.MethodName)) ∈ lw_all := lw_g (lw_at lw_m6 35 rfl) rfl
theorem q1318 : (Jvm.Cond.code ({ cls := "WhichOneAllKnow$Astray", name := "sitting", desc := "(ILWhichOneAllKnow$Trace;)I" } : Jvm.MethodName) prog_2_method_4_code (3 : Nat) (Option.some Jvm.ClassFile.FieldType.int)) ∈ lw_all := lw_g (lw_at lw_m6 36 rfl) rfl
theorem q1319 : (Jvm.Cond.methodLink "WhichOneAllKnow$Astray" (19 : Nat) ({ cls := "WhichOneAllKnow$Voice", name := "sitting", desc := "(ILWhichOneAllKnow$Trace;)I" } : Jvm.MethodName)) ∈ lw_all := lw_g (lw_at lw_m6 37 rfl) rfl
theorem q1834 : (Jvm.Cond.sameMethod "WhichOneAllKnow$Astray" "WhichOneAllKnow$Astray" "breathing" "(ILWhichOneAllKnow$Trace;)I") ∈ lw_all := lw_g (lw_at lw_m8 72 rfl) rfl
theorem q1840 : (Jvm.Cond.castable "WhichOneAllKnow$Astray" "WhichOneAllKnow$Voice") ∈ lw_tbl := lw_at lw_m8 78 rfl
theorem in_X8 : ∀ w ∈ wsX80, w ∈ lw_all := lw_in wsX80 [309, 310, 311, 312] (by decide +kernel) (by decide +kernel)
/-! WhichOneAllKnow$Mime -/
set_option maxRecDepth 100000
def RX9 : String := "WhichOneAllKnow$Mime"
def TX9 : u_T := fun k => match k with
  | 0 => ("WhichOneAllKnow$Voice", "index", "I", true)
  | 1 => ("WhichOneAllKnow$Voice", "by", "I", true)
  | 2 => ("WhichOneAllKnow$Voice", "bold", "I", true)
  | _ => ("WhichOneAllKnow$Voice", "top", "I", true)
def tyX9 : Nat → FieldType := fun k => match k with
  | 0 => .int
  | 1 => .int
  | 2 => .int
  | _ => .int
abbrev wsX90 : List Cond := u_ws RX9 TX9 4
theorem nmX9 : ∀ a, a < 4 → ∀ b, b < 4 → a ≠ b → (TX9 a).2.1 ≠ (TX9 b).2.1 := by decide +kernel
theorem tyX9_ok : ∀ k, k < 4 → parseFieldDescriptor (TX9 k).2.2.1 = some (tyX9 k) := by decide +kernel
abbrev cX9_init : ByteArray := prog_13_method_1_code
def yX9_init : MethodName := ⟨RX9, "<init>", "(IIII)V"⟩
def dkwX9_init_0 : List UInt8 := [42, 27, 28, 29, 21, 4, 183, 0, 3, 177]
abbrev dktX9_init_0 : List UInt8 := dkwX9_init_0 ++ []
theorem dksX9_init_0 : cX9_init.data.toList.drop 0 = dktX9_init_0 := by decide +kernel
theorem dX9_init_0 : decode cX9_init 0 = .ok (.aload_n 0, 1) := dk_42 (dk_at dksX9_init_0 0 rfl rfl)
theorem dX9_init_1 : decode cX9_init 1 = .ok (.iload_n 1, 1) := dk_27 (dk_at dksX9_init_0 1 rfl rfl)
theorem dX9_init_2 : decode cX9_init 2 = .ok (.iload_n 2, 1) := dk_28 (dk_at dksX9_init_0 2 rfl rfl)
theorem dX9_init_3 : decode cX9_init 3 = .ok (.iload_n 3, 1) := dk_29 (dk_at dksX9_init_0 3 rfl rfl)
theorem dX9_init_4 : decode cX9_init 4 = .ok (.iload 4, 2) := dk_21 4 (dk_at dksX9_init_0 4 rfl rfl)
theorem dX9_init_6 : decode cX9_init 6 = .ok (.invokespecial 3, 3) := dk_183 0 3 (dk_at dksX9_init_0 6 rfl rfl)
theorem dX9_init_9 : decode cX9_init 9 = .ok (.return_, 1) := dk_177 (dk_at dksX9_init_0 9 rfl rfl)
abbrev cX9_kind : ByteArray := prog_13_method_2_code
def yX9_kind : MethodName := ⟨RX9, "kind", "()I"⟩
theorem dX9_kind_0 : decode cX9_kind 0 = .ok (.iconst 5, 1) := by decide +kernel
theorem dX9_kind_1 : decode cX9_kind 1 = .ok (.ireturn, 1) := by decide +kernel
abbrev cX9_sings : ByteArray := prog_13_method_3_code
def yX9_sings : MethodName := ⟨RX9, "sings", "(ZII)I"⟩
theorem dX9_sings_0 : decode cX9_sings 0 = .ok (.iconst 3, 1) := by decide +kernel
theorem dX9_sings_1 : decode cX9_sings 1 = .ok (.ireturn, 1) := by decide +kernel
abbrev cX9_sitting : ByteArray := prog_13_method_4_code
def yX9_sitting : MethodName := ⟨RX9, "sitting", "(ILWhichOneAllKnow$Trace;)I"⟩
def dkwX9_sitting_0 : List UInt8 := [44, 16, 60, 182, 0, 9, 42, 27, 44, 183, 0, 15, 8, 130, 172]
abbrev dktX9_sitting_0 : List UInt8 := dkwX9_sitting_0 ++ []
theorem dksX9_sitting_0 : cX9_sitting.data.toList.drop 0 = dktX9_sitting_0 := by decide +kernel
theorem dX9_sitting_0 : decode cX9_sitting 0 = .ok (.aload_n 2, 1) := dk_44 (dk_at dksX9_sitting_0 0 rfl rfl)
theorem dX9_sitting_1 : decode cX9_sitting 1 = .ok (.bipush 60, 2) := dk_16 60 (dk_at dksX9_sitting_0 1 rfl rfl)
theorem dX9_sitting_3 : decode cX9_sitting 3 = .ok (.invokevirtual 9, 3) := dk_182 0 9 (dk_at dksX9_sitting_0 3 rfl rfl)
theorem dX9_sitting_6 : decode cX9_sitting 6 = .ok (.aload_n 0, 1) := dk_42 (dk_at dksX9_sitting_0 6 rfl rfl)
theorem dX9_sitting_7 : decode cX9_sitting 7 = .ok (.iload_n 1, 1) := dk_27 (dk_at dksX9_sitting_0 7 rfl rfl)
theorem dX9_sitting_8 : decode cX9_sitting 8 = .ok (.aload_n 2, 1) := dk_44 (dk_at dksX9_sitting_0 8 rfl rfl)
theorem dX9_sitting_9 : decode cX9_sitting 9 = .ok (.invokespecial 15, 3) := dk_183 0 15 (dk_at dksX9_sitting_0 9 rfl rfl)
theorem dX9_sitting_12 : decode cX9_sitting 12 = .ok (.iconst 5, 1) := dk_8 (dk_at dksX9_sitting_0 12 rfl rfl)
theorem dX9_sitting_13 : decode cX9_sitting 13 = .ok (.ixor, 1) := dk_130 (dk_at dksX9_sitting_0 13 rfl rfl)
theorem dX9_sitting_14 : decode cX9_sitting 14 = .ok (.ireturn, 1) := dk_172 (dk_at dksX9_sitting_0 14 rfl rfl)
theorem q92 : (Jvm.Cond.initialized "WhichOneAllKnow$Mime") ∈ lw_all := lw_g (lw_at lw_m1 10 rfl) rfl
theorem q259 : (Jvm.Cond.sameField "WhichOneAllKnow$Mime" "WhichOneAllKnow$Voice" "by" "I") ∈ lw_all := lw_g (lw_at lw_m1 177 rfl) rfl
theorem q315 : (Jvm.Cond.instantiable "WhichOneAllKnow$Mime" (4 : Nat)) ∈ lw_all := lw_g (lw_at lw_m1 233 rfl) rfl
theorem q317 : (Jvm.Cond.instanceMethod ({ cls := "WhichOneAllKnow$Mime", name := "<init>", desc := "(IIII)V" } : Jvm.MethodName)) ∈ lw_all := lw_g (lw_at lw_m1 235 rfl) rfl
theorem q318 : (Jvm.Cond.code ({ cls := "WhichOneAllKnow$Mime", name := "<init>", desc := "(IIII)V" } : Jvm.MethodName) prog_13_method_1_code (5 : Nat) (Option.none : Option Jvm.ClassFile.FieldType)) ∈ lw_all := lw_g (lw_at lw_m1 236 rfl) rfl
theorem q319 : (Jvm.Cond.methodLink "WhichOneAllKnow$Mime" (3 : Nat) ({ cls := "WhichOneAllKnow$Joining", name := "<init>", desc := "(IIII)V" } : Jvm.MethodName)) ∈ lw_all := lw_g (lw_at lw_m1 237 rfl) rfl
theorem q320 : (Jvm.Cond.laysFinal "WhichOneAllKnow$Mime" "WhichOneAllKnow$Voice" "index" "I") ∈ lw_all := lw_g (lw_at lw_m1 238 rfl) rfl
theorem q321 : (Jvm.Cond.laysFinal "WhichOneAllKnow$Mime" "WhichOneAllKnow$Voice" "by" "I") ∈ lw_all := lw_g (lw_at lw_m1 239 rfl) rfl
theorem q322 : (Jvm.Cond.laysFinal "WhichOneAllKnow$Mime" "WhichOneAllKnow$Voice" "bold" "I") ∈ lw_all := lw_g (lw_at lw_m2 0 rfl) rfl
theorem q323 : (Jvm.Cond.laysFinal "WhichOneAllKnow$Mime" "WhichOneAllKnow$Voice" "top" "I") ∈ lw_all := lw_g (lw_at lw_m2 1 rfl) rfl
theorem q324 : (Jvm.Cond.superclass "WhichOneAllKnow$Mime" "WhichOneAllKnow$Joining") ∈ lw_all := lw_g (lw_at lw_m2 2 rfl) rfl
theorem q795 : (Jvm.Cond.selects "WhichOneAllKnow$Mime" ({ cls := "WhichOneAllKnow$Voice", name := "kind", desc := "()I" } : Jvm.MethodName) ({ cls := "WhichOneAllKnow$Mime", name := "kind", desc := "()I" } : Jvm.MethodName)) ∈ lw_all := lw_g (lw_at lw_m3 233 rfl) rfl
theorem q796 : (Jvm.Cond.instanceMethod ({ cls := "WhichOneAllKnow$Mime", name := "kind", desc := "()I" } : Jvm.MethodName)) ∈ lw_all := lw_g (lw_at lw_m3 234 rfl) rfl
theorem q797 : (Jvm.Cond.code ({ cls := "WhichOneAllKnow$Mime", name := "kind", desc := "()I" } : Jvm.MethodName) prog_13_method_2_code (1 : Nat) (Option.some Jvm.ClassFile.FieldType.int)) ∈ lw_all := lw_g (lw_at lw_m3 235 rfl) rfl
theorem q1039 : (Jvm.Cond.selects "WhichOneAllKnow$Mime" ({ cls := "WhichOneAllKnow$Voice", name := "needs", desc := "(Z)I" } : Jvm.MethodName) ({ cls := "WhichOneAllKnow$Joining", name := "needs", desc := "(Z)I" } : Jvm.MethodName)) ∈ lw_all := lw_g (lw_at lw_m4 237 rfl) rfl
theorem q1056 : (Jvm.Cond.selects "WhichOneAllKnow$Mime" ({ cls := "WhichOneAllKnow$Voice", name := "drags", desc := "()Z" } : Jvm.MethodName) ({ cls := "WhichOneAllKnow$Voice", name := "drags", desc := "()Z" } : Jvm.MethodName)) ∈ lw_all := lw_g (lw_at lw_m5 14 rfl) rfl
theorem q1073 : (Jvm.Cond.selects "WhichOneAllKnow$Mime" ({ cls := "WhichOneAllKnow$Voice", name := "sings", desc := "(ZII)I" } : Jvm.MethodName) ({ cls := "WhichOneAllKnow$Mime", name := "sings", desc := "(ZII)I" } : Jvm.MethodName)) ∈ lw_all := lw_g (lw_at lw_m5 31 rfl) rfl
theorem q1074 : (Jvm.Cond.instanceMethod ({ cls := "WhichOneAllKnow$Mime", name := "sings", desc := "(ZII)I" } : Jvm.MethodName)) ∈ lw_all := lw_g (lw_at lw_m5 32 rfl) rfl
theorem q1075 : (Jvm.Cond.code ({ cls := "WhichOneAllKnow$Mime", name := "sings", desc := "(ZII)I" } : Jvm.MethodName) prog_13_method_3_code (4 : Nat) (Option.some Jvm.ClassFile.FieldType.int)) ∈ lw_all := lw_g (lw_at lw_m5 33 rfl) rfl
theorem q1285 : (Jvm.Cond.selects "WhichOneAllKnow$Mime" ({ cls := "WhichOneAllKnow$Voice", name := "breathing", desc := "(ILWhichOneAllKnow$Trace;)I" } : Jvm.MethodName) ({ cls := "WhichOneAllKnow$Voice", name := "breathing", desc := "(ILWhichOneAllKnow$Trace;)I" } : Jvm.MethodName)) ∈ lw_all := lw_g (lw_at lw_m6 3 rfl) rfl
theorem q1311 : (Jvm.Cond.selects "WhichOneAllKnow$Mime" ({ cls := "WhichOneAllKnow$Voice", name := "singing", desc := "(ILWhichOneAllKnow$Trace;)I" } : Jvm.MethodName) ({ cls := "WhichOneAllKnow$Joining", name := "singing", desc := "(ILWhichOneAllKnow$Trace;)I" } : Jvm.MethodName)) ∈ lw_all := lw_g (lw_at lw_m6 29 rfl) rfl
theorem q1326 : (Jvm.Cond.selects "WhichOneAllKnow$Mime" ({ cls := "WhichOneAllKnow$Voice", name := "sitting", desc := "(ILWhichOneAllKnow$Trace;)I" } : Jvm.MethodName) ({ cls := "WhichOneAllKnow$Mime", name := "sitting", desc := "(ILWhichOneAllKnow$Trace;)I" } : Jvm.MethodName)) ∈ lw_all := lw_g (lw_at lw_m6 44 rfl) rfl
theorem q1327 : (Jvm.Cond.instanceMethod ({ cls := "WhichOneAllKnow$Mime", name := "sitting", desc := "(ILWhichOneAllKnow$Trace;)I" } : Jvm.MethodName)) ∈ lw_all := lw_g (lw_at lw_m6 45 rfl) rfl
theorem q1328 : (Jvm.Cond.code ({ cls := "WhichOneAllKnow$Mime", name := "sitting", desc := "(ILWhichOneAllKnow$Trace;)I" } : Jvm.MethodName) prog_13_method_4_code (3 : Nat) (Option.some Jvm.ClassFile.FieldType.int)) ∈ lw_all := lw_g (lw_at lw_m6 46 rfl) rfl
theorem q1329 : (Jvm.Cond.methodLink "WhichOneAllKnow$Mime" (9 : Nat) ({ cls := "WhichOneAllKnow$Trace", name := "runs", desc := "(I)V" } : Jvm.MethodName)) ∈ lw_all := lw_g (lw_at lw_m6 47 rfl) rfl
theorem q1330 : (Jvm.Cond.methodLink "WhichOneAllKnow$Mime" (15 : Nat) ({ cls := "WhichOneAllKnow$Joining", name := "sitting", desc := "(ILWhichOneAllKnow$Trace;)I" } : Jvm.MethodName)) ∈ lw_all := lw_g (lw_at lw_m6 48 rfl) rfl
theorem q1845 : (Jvm.Cond.castable "WhichOneAllKnow$Mime" "WhichOneAllKnow$Voice") ∈ lw_tbl := lw_at lw_m8 83 rfl
theorem q1847 : (Jvm.Cond.castable "WhichOneAllKnow$Mime" "WhichOneAllKnow$Joining") ∈ lw_tbl := lw_at lw_m8 85 rfl
theorem in_X9 : ∀ w ∈ wsX90, w ∈ lw_all := lw_in wsX90 [320, 321, 322, 323] (by decide +kernel) (by decide +kernel)
/-! WhichOneAllKnow$Dragger -/
set_option maxRecDepth 100000
def RX10 : String := "WhichOneAllKnow$Dragger"
def TX10 : u_T := fun k => match k with
  | 0 => ("WhichOneAllKnow$Voice", "index", "I", true)
  | 1 => ("WhichOneAllKnow$Voice", "by", "I", true)
  | 2 => ("WhichOneAllKnow$Voice", "bold", "I", true)
  | _ => ("WhichOneAllKnow$Voice", "top", "I", true)
def tyX10 : Nat → FieldType := fun k => match k with
  | 0 => .int
  | 1 => .int
  | 2 => .int
  | _ => .int
abbrev wsX100 : List Cond := u_ws RX10 TX10 4
theorem nmX10 : ∀ a, a < 4 → ∀ b, b < 4 → a ≠ b → (TX10 a).2.1 ≠ (TX10 b).2.1 := by decide +kernel
theorem tyX10_ok : ∀ k, k < 4 → parseFieldDescriptor (TX10 k).2.2.1 = some (tyX10 k) := by decide +kernel
abbrev cX10_init : ByteArray := prog_6_method_1_code
def yX10_init : MethodName := ⟨RX10, "<init>", "(IIII)V"⟩
def dkwX10_init_0 : List UInt8 := [42, 27, 28, 29, 21, 4, 183, 0, 3, 177]
abbrev dktX10_init_0 : List UInt8 := dkwX10_init_0 ++ []
theorem dksX10_init_0 : cX10_init.data.toList.drop 0 = dktX10_init_0 := by decide +kernel
theorem dX10_init_0 : decode cX10_init 0 = .ok (.aload_n 0, 1) := dk_42 (dk_at dksX10_init_0 0 rfl rfl)
theorem dX10_init_1 : decode cX10_init 1 = .ok (.iload_n 1, 1) := dk_27 (dk_at dksX10_init_0 1 rfl rfl)
theorem dX10_init_2 : decode cX10_init 2 = .ok (.iload_n 2, 1) := dk_28 (dk_at dksX10_init_0 2 rfl rfl)
theorem dX10_init_3 : decode cX10_init 3 = .ok (.iload_n 3, 1) := dk_29 (dk_at dksX10_init_0 3 rfl rfl)
theorem dX10_init_4 : decode cX10_init 4 = .ok (.iload 4, 2) := dk_21 4 (dk_at dksX10_init_0 4 rfl rfl)
theorem dX10_init_6 : decode cX10_init 6 = .ok (.invokespecial 3, 3) := dk_183 0 3 (dk_at dksX10_init_0 6 rfl rfl)
theorem dX10_init_9 : decode cX10_init 9 = .ok (.return_, 1) := dk_177 (dk_at dksX10_init_0 9 rfl rfl)
abbrev cX10_kind : ByteArray := prog_6_method_2_code
def yX10_kind : MethodName := ⟨RX10, "kind", "()I"⟩
theorem dX10_kind_0 : decode cX10_kind 0 = .ok (.bipush 6, 2) := by decide +kernel
theorem dX10_kind_2 : decode cX10_kind 2 = .ok (.ireturn, 1) := by decide +kernel
abbrev cX10_drags : ByteArray := prog_6_method_3_code
def yX10_drags : MethodName := ⟨RX10, "drags", "()Z"⟩
theorem dX10_drags_0 : decode cX10_drags 0 = .ok (.iconst 1, 1) := by decide +kernel
theorem dX10_drags_1 : decode cX10_drags 1 = .ok (.ireturn, 1) := by decide +kernel
abbrev cX10_breathing : ByteArray := prog_6_method_4_code
def yX10_breathing : MethodName := ⟨RX10, "breathing", "(ILWhichOneAllKnow$Trace;)I"⟩
def dkwX10_breathing_0 : List UInt8 := [44, 16, 70, 182, 0, 9, 42, 27, 44, 183, 0, 15, 5, 104, 172]
abbrev dktX10_breathing_0 : List UInt8 := dkwX10_breathing_0 ++ []
theorem dksX10_breathing_0 : cX10_breathing.data.toList.drop 0 = dktX10_breathing_0 := by decide +kernel
theorem dX10_breathing_0 : decode cX10_breathing 0 = .ok (.aload_n 2, 1) := dk_44 (dk_at dksX10_breathing_0 0 rfl rfl)
theorem dX10_breathing_1 : decode cX10_breathing 1 = .ok (.bipush 70, 2) := dk_16 70 (dk_at dksX10_breathing_0 1 rfl rfl)
theorem dX10_breathing_3 : decode cX10_breathing 3 = .ok (.invokevirtual 9, 3) := dk_182 0 9 (dk_at dksX10_breathing_0 3 rfl rfl)
theorem dX10_breathing_6 : decode cX10_breathing 6 = .ok (.aload_n 0, 1) := dk_42 (dk_at dksX10_breathing_0 6 rfl rfl)
theorem dX10_breathing_7 : decode cX10_breathing 7 = .ok (.iload_n 1, 1) := dk_27 (dk_at dksX10_breathing_0 7 rfl rfl)
theorem dX10_breathing_8 : decode cX10_breathing 8 = .ok (.aload_n 2, 1) := dk_44 (dk_at dksX10_breathing_0 8 rfl rfl)
theorem dX10_breathing_9 : decode cX10_breathing 9 = .ok (.invokespecial 15, 3) := dk_183 0 15 (dk_at dksX10_breathing_0 9 rfl rfl)
theorem dX10_breathing_12 : decode cX10_breathing 12 = .ok (.iconst 2, 1) := dk_5 (dk_at dksX10_breathing_0 12 rfl rfl)
theorem dX10_breathing_13 : decode cX10_breathing 13 = .ok (.imul, 1) := dk_104 (dk_at dksX10_breathing_0 13 rfl rfl)
theorem dX10_breathing_14 : decode cX10_breathing 14 = .ok (.ireturn, 1) := dk_172 (dk_at dksX10_breathing_0 14 rfl rfl)
abbrev cX10_singing : ByteArray := prog_6_method_5_code
def yX10_singing : MethodName := ⟨RX10, "singing", "(ILWhichOneAllKnow$Trace;)I"⟩
def dkwX10_singing_0 : List UInt8 := [44, 16, 71, 182, 0, 9, 42, 27, 42, 180, 0, 19, 100, 44, 183, 0, 25, 172]
abbrev dktX10_singing_0 : List UInt8 := dkwX10_singing_0 ++ []
theorem dksX10_singing_0 : cX10_singing.data.toList.drop 0 = dktX10_singing_0 := by decide +kernel
theorem dX10_singing_0 : decode cX10_singing 0 = .ok (.aload_n 2, 1) := dk_44 (dk_at dksX10_singing_0 0 rfl rfl)
theorem dX10_singing_1 : decode cX10_singing 1 = .ok (.bipush 71, 2) := dk_16 71 (dk_at dksX10_singing_0 1 rfl rfl)
theorem dX10_singing_3 : decode cX10_singing 3 = .ok (.invokevirtual 9, 3) := dk_182 0 9 (dk_at dksX10_singing_0 3 rfl rfl)
theorem dX10_singing_6 : decode cX10_singing 6 = .ok (.aload_n 0, 1) := dk_42 (dk_at dksX10_singing_0 6 rfl rfl)
theorem dX10_singing_7 : decode cX10_singing 7 = .ok (.iload_n 1, 1) := dk_27 (dk_at dksX10_singing_0 7 rfl rfl)
theorem dX10_singing_8 : decode cX10_singing 8 = .ok (.aload_n 0, 1) := dk_42 (dk_at dksX10_singing_0 8 rfl rfl)
theorem dX10_singing_9 : decode cX10_singing 9 = .ok (.getfield 19, 3) := dk_180 0 19 (dk_at dksX10_singing_0 9 rfl rfl)
theorem dX10_singing_12 : decode cX10_singing 12 = .ok (.isub, 1) := dk_100 (dk_at dksX10_singing_0 12 rfl rfl)
theorem dX10_singing_13 : decode cX10_singing 13 = .ok (.aload_n 2, 1) := dk_44 (dk_at dksX10_singing_0 13 rfl rfl)
theorem dX10_singing_14 : decode cX10_singing 14 = .ok (.invokespecial 25, 3) := dk_183 0 25 (dk_at dksX10_singing_0 14 rfl rfl)
theorem dX10_singing_17 : decode cX10_singing 17 = .ok (.ireturn, 1) := dk_172 (dk_at dksX10_singing_0 17 rfl rfl)
theorem q93 : (Jvm.Cond.initialized "WhichOneAllKnow$Dragger") ∈ lw_all := lw_g (lw_at lw_m1 11 rfl) rfl
theorem q248 : (Jvm.Cond.sameField "WhichOneAllKnow$Dragger" "WhichOneAllKnow$Voice" "index" "I") ∈ lw_all := lw_g (lw_at lw_m1 166 rfl) rfl
theorem q260 : (Jvm.Cond.fieldLink "WhichOneAllKnow$Dragger" (19 : Nat) "WhichOneAllKnow$Dragger" "by" "I") ∈ lw_all := lw_g (lw_at lw_m1 178 rfl) rfl
theorem q261 : (Jvm.Cond.sameField "WhichOneAllKnow$Dragger" "WhichOneAllKnow$Voice" "by" "I") ∈ lw_all := lw_g (lw_at lw_m1 179 rfl) rfl
theorem q326 : (Jvm.Cond.instantiable "WhichOneAllKnow$Dragger" (4 : Nat)) ∈ lw_all := lw_g (lw_at lw_m2 4 rfl) rfl
theorem q328 : (Jvm.Cond.instanceMethod ({ cls := "WhichOneAllKnow$Dragger", name := "<init>", desc := "(IIII)V" } : Jvm.MethodName)) ∈ lw_all := lw_g (lw_at lw_m2 6 rfl) rfl
theorem q329 : (Jvm.Cond.code ({ cls := "WhichOneAllKnow$Dragger", name := "<init>", desc := "(IIII)V" } : Jvm.MethodName) prog_6_method_1_code (5 : Nat) (Option.none : Option Jvm.ClassFile.FieldType)) ∈ lw_all := lw_g (lw_at lw_m2 7 rfl) rfl
theorem q330 : (Jvm.Cond.methodLink "WhichOneAllKnow$Dragger" (3 : Nat) ({ cls := "WhichOneAllKnow$Astray", name := "<init>", desc := "(IIII)V" } : Jvm.MethodName)) ∈ lw_all := lw_g (lw_at lw_m2 8 rfl) rfl
theorem q331 : (Jvm.Cond.laysFinal "WhichOneAllKnow$Dragger" "WhichOneAllKnow$Voice" "index" "I") ∈ lw_all := lw_g (lw_at lw_m2 9 rfl) rfl
theorem q332 : (Jvm.Cond.laysFinal "WhichOneAllKnow$Dragger" "WhichOneAllKnow$Voice" "by" "I") ∈ lw_all := lw_g (lw_at lw_m2 10 rfl) rfl
theorem q333 : (Jvm.Cond.laysFinal "WhichOneAllKnow$Dragger" "WhichOneAllKnow$Voice" "bold" "I") ∈ lw_all := lw_g (lw_at lw_m2 11 rfl) rfl
theorem q334 : (Jvm.Cond.laysFinal "WhichOneAllKnow$Dragger" "WhichOneAllKnow$Voice" "top" "I") ∈ lw_all := lw_g (lw_at lw_m2 12 rfl) rfl
theorem q335 : (Jvm.Cond.superclass "WhichOneAllKnow$Dragger" "WhichOneAllKnow$Astray") ∈ lw_all := lw_g (lw_at lw_m2 13 rfl) rfl
theorem q786 : (Jvm.Cond.selects "WhichOneAllKnow$Dragger" ({ cls := "WhichOneAllKnow$Voice", name := "kind", desc := "()I" } : Jvm.MethodName) ({ cls := "WhichOneAllKnow$Dragger", name := "kind", desc := "()I" } : Jvm.MethodName)) ∈ lw_all := lw_g (lw_at lw_m3 224 rfl) rfl
theorem q787 : (Jvm.Cond.instanceMethod ({ cls := "WhichOneAllKnow$Dragger", name := "kind", desc := "()I" } : Jvm.MethodName)) ∈ lw_all := lw_g (lw_at lw_m3 225 rfl) rfl
theorem q788 : (Jvm.Cond.code ({ cls := "WhichOneAllKnow$Dragger", name := "kind", desc := "()I" } : Jvm.MethodName) prog_6_method_2_code (1 : Nat) (Option.some Jvm.ClassFile.FieldType.int)) ∈ lw_all := lw_g (lw_at lw_m3 226 rfl) rfl
theorem q1027 : (Jvm.Cond.selects "WhichOneAllKnow$Dragger" ({ cls := "WhichOneAllKnow$Voice", name := "needs", desc := "(Z)I" } : Jvm.MethodName) ({ cls := "WhichOneAllKnow$Voice", name := "needs", desc := "(Z)I" } : Jvm.MethodName)) ∈ lw_all := lw_g (lw_at lw_m4 225 rfl) rfl
theorem q1051 : (Jvm.Cond.selects "WhichOneAllKnow$Dragger" ({ cls := "WhichOneAllKnow$Voice", name := "drags", desc := "()Z" } : Jvm.MethodName) ({ cls := "WhichOneAllKnow$Dragger", name := "drags", desc := "()Z" } : Jvm.MethodName)) ∈ lw_all := lw_g (lw_at lw_m5 9 rfl) rfl
theorem q1052 : (Jvm.Cond.instanceMethod ({ cls := "WhichOneAllKnow$Dragger", name := "drags", desc := "()Z" } : Jvm.MethodName)) ∈ lw_all := lw_g (lw_at lw_m5 10 rfl) rfl
theorem q1053 : (Jvm.Cond.code ({ cls := "WhichOneAllKnow$Dragger", name := "drags", desc := "()Z" } : Jvm.MethodName) prog_6_method_3_code (1 : Nat) (Option.some Jvm.ClassFile.FieldType.boolean)) ∈ lw_all := lw_g (lw_at lw_m5 11 rfl) rfl
theorem q1070 : (Jvm.Cond.selects "WhichOneAllKnow$Dragger" ({ cls := "WhichOneAllKnow$Voice", name := "sings", desc := "(ZII)I" } : Jvm.MethodName) ({ cls := "WhichOneAllKnow$Astray", name := "sings", desc := "(ZII)I" } : Jvm.MethodName)) ∈ lw_all := lw_g (lw_at lw_m5 28 rfl) rfl
theorem q1278 : (Jvm.Cond.selects "WhichOneAllKnow$Dragger" ({ cls := "WhichOneAllKnow$Voice", name := "breathing", desc := "(ILWhichOneAllKnow$Trace;)I" } : Jvm.MethodName) ({ cls := "WhichOneAllKnow$Dragger", name := "breathing", desc := "(ILWhichOneAllKnow$Trace;)I" } : Jvm.MethodName)) ∈ lw_all := lw_g (lw_at lw_m5 236 rfl) rfl
theorem q1279 : (Jvm.Cond.instanceMethod ({ cls := "WhichOneAllKnow$Dragger", name := "breathing", desc := "(ILWhichOneAllKnow$Trace;)I" } : Jvm.MethodName)) ∈ lw_all := lw_g (lw_at lw_m5 237 rfl) rfl
theorem q1280 : (Jvm.Cond.code ({ cls := "WhichOneAllKnow$Dragger", name := "breathing", desc := "(ILWhichOneAllKnow$Trace;)I" } : Jvm.MethodName) prog_6_method_4_code (3 : Nat) (Option.some Jvm.ClassFile.FieldType.int)) ∈ lw_all := lw_g (lw_at lw_m5 238 rfl) rfl
theorem q1281 : (Jvm.Cond.methodLink "WhichOneAllKnow$Dragger" (9 : Nat) ({ cls := "WhichOneAllKnow$Trace", name := "runs", desc := "(I)V" } : Jvm.MethodName)) ∈ lw_all := lw_g (lw_at lw_m5 239 rfl) rfl
theorem q1282 : (Jvm.Cond.methodLink "WhichOneAllKnow$Dragger" (15 : Nat) ({ cls := "WhichOneAllKnow$Astray", name := "breathing", desc := "(ILWhichOneAllKnow$Trace;)I" } : Jvm.MethodName)) ∈ lw_all := lw_g (lw_at lw_m6 0 rfl) rfl
theorem q1300 : (Jvm.Cond.selects "WhichOneAllKnow$Dragger" ({ cls := "WhichOneAllKnow$Voice", name := "singing", desc := "(ILWhichOneAllKnow$Trace;)I" } : Jvm.MethodName) ({ cls := "WhichOneAllKnow$Dragger", name := "singing", desc := "(ILWhichOneAllKnow$Trace;)I" } : Jvm.MethodName)) ∈ lw_all := lw_g (lw_at lw_m6 18 rfl) rfl
theorem q1301 : (Jvm.Cond.instanceMethod ({ cls := "WhichOneAllKnow$Dragger", name := "singing", desc := "(ILWhichOneAllKnow$Trace;)I" } : Jvm.MethodName)) ∈ lw_all := lw_g (lw_at lw_m6 19 rfl) rfl
theorem q1302 : (Jvm.Cond.code ({ cls := "WhichOneAllKnow$Dragger", name := "singing", desc := "(ILWhichOneAllKnow$Trace;)I" } : Jvm.MethodName) prog_6_method_5_code (3 : Nat) (Option.some Jvm.ClassFile.FieldType.int)) ∈ lw_all := lw_g (lw_at lw_m6 20 rfl) rfl
theorem q1303 : (Jvm.Cond.methodLink "WhichOneAllKnow$Dragger" (25 : Nat) ({ cls := "WhichOneAllKnow$Astray", name := "singing", desc := "(ILWhichOneAllKnow$Trace;)I" } : Jvm.MethodName)) ∈ lw_all := lw_g (lw_at lw_m6 21 rfl) rfl
theorem q1323 : (Jvm.Cond.selects "WhichOneAllKnow$Dragger" ({ cls := "WhichOneAllKnow$Voice", name := "sitting", desc := "(ILWhichOneAllKnow$Trace;)I" } : Jvm.MethodName) ({ cls := "WhichOneAllKnow$Astray", name := "sitting", desc := "(ILWhichOneAllKnow$Trace;)I" } : Jvm.MethodName)) ∈ lw_all := lw_g (lw_at lw_m6 41 rfl) rfl
theorem q1842 : (Jvm.Cond.castable "WhichOneAllKnow$Dragger" "WhichOneAllKnow$Voice") ∈ lw_tbl := lw_at lw_m8 80 rfl
theorem q1848 : (Jvm.Cond.castable "WhichOneAllKnow$Dragger" "WhichOneAllKnow$Astray") ∈ lw_tbl := lw_at lw_m8 86 rfl
theorem in_X10 : ∀ w ∈ wsX100, w ∈ lw_all := lw_in wsX100 [331, 332, 333, 334] (by decide +kernel) (by decide +kernel)
/-! WhichOneAllKnow$Shelf -/
set_option maxRecDepth 100000
def RX11 : String := "WhichOneAllKnow$Shelf"
def TX11 : u_T := fun k => match k with
  | _ => ("WhichOneAllKnow$Shelf", "held", "Ljava/lang/Object;", false)
def tyX11 : Nat → FieldType := fun k => match k with
  | _ => .object "java/lang/Object"
abbrev wsX110 : List Cond := u_ws RX11 TX11 1
theorem nmX11 : ∀ a, a < 1 → ∀ b, b < 1 → a ≠ b → (TX11 a).2.1 ≠ (TX11 b).2.1 := by decide +kernel
theorem tyX11_ok : ∀ k, k < 1 → parseFieldDescriptor (TX11 k).2.2.1 = some (tyX11 k) := by decide +kernel
abbrev cX11_init : ByteArray := prog_17_method_1_code
def yX11_init : MethodName := ⟨RX11, "<init>", "()V"⟩
theorem dX11_init_0 : decode cX11_init 0 = .ok (.aload_n 0, 1) := by decide +kernel
theorem dX11_init_1 : decode cX11_init 1 = .ok (.invokespecial 3, 3) := by decide +kernel
theorem dX11_init_4 : decode cX11_init 4 = .ok (.return_, 1) := by decide +kernel
abbrev cX11_row : ByteArray := prog_17_method_2_code
def yX11_row : MethodName := ⟨RX11, "row", "()LWhichOneAllKnow$Row;"⟩
def dkwX11_row_1 : List UInt8 := [76, 187, 0, 23, 89, 16, 254, 183, 0, 25, 191]
abbrev dktX11_row_1 : List UInt8 := dkwX11_row_1 ++ []
def dkwX11_row_0 : List UInt8 := [42, 180, 0, 9, 192, 0, 15, 76, 43, 198, 0, 7, 4, 167, 0, 4, 3, 16, 253, 184, 0, 17, 43, 176]
abbrev dktX11_row_0 : List UInt8 := dkwX11_row_0 ++ dktX11_row_1
theorem dksX11_row_0 : cX11_row.data.toList.drop 0 = dktX11_row_0 := by decide +kernel
theorem dksX11_row_1 : cX11_row.data.toList.drop 24 = dktX11_row_1 := dk_seg dksX11_row_0 24 rfl rfl
theorem dX11_row_0 : decode cX11_row 0 = .ok (.aload_n 0, 1) := dk_42 (dk_at dksX11_row_0 0 rfl rfl)
theorem dX11_row_1 : decode cX11_row 1 = .ok (.getfield 9, 3) := dk_180 0 9 (dk_at dksX11_row_0 1 rfl rfl)
theorem dX11_row_4 : decode cX11_row 4 = .ok (.checkcast 15, 3) := dk_192 0 15 (dk_at dksX11_row_0 4 rfl rfl)
theorem dX11_row_7 : decode cX11_row 7 = .ok (.astore_n 1, 1) := dk_76 (dk_at dksX11_row_0 7 rfl rfl)
theorem dX11_row_8 : decode cX11_row 8 = .ok (.aload_n 1, 1) := dk_43 (dk_at dksX11_row_0 8 rfl rfl)
theorem dX11_row_9 : decode cX11_row 9 = .ok (.ifnull 7, 3) := dk_198 0 7 (dk_at dksX11_row_0 9 rfl rfl)
theorem dX11_row_12 : decode cX11_row 12 = .ok (.iconst 1, 1) := dk_4 (dk_at dksX11_row_0 12 rfl rfl)
theorem dX11_row_13 : decode cX11_row 13 = .ok (.goto 4, 3) := dk_167 0 4 (dk_at dksX11_row_0 13 rfl rfl)
theorem dX11_row_16 : decode cX11_row 16 = .ok (.iconst 0, 1) := dk_3 (dk_at dksX11_row_0 16 rfl rfl)
theorem dX11_row_17 : decode cX11_row 17 = .ok (.bipush (-3), 2) := dk_16 253 (dk_at dksX11_row_0 17 rfl rfl)
theorem dX11_row_19 : decode cX11_row 19 = .ok (.invokestatic 17, 3) := dk_184 0 17 (dk_at dksX11_row_0 19 rfl rfl)
theorem dX11_row_22 : decode cX11_row 22 = .ok (.aload_n 1, 1) := dk_43 (dk_at dksX11_row_0 22 rfl rfl)
theorem dX11_row_23 : decode cX11_row 23 = .ok (.areturn, 1) := dk_176 (dk_at dksX11_row_0 23 rfl rfl)
theorem dX11_row_24 : decode cX11_row 24 = .ok (.astore_n 1, 1) := dk_76 (dk_at dksX11_row_1 0 rfl rfl)
theorem dX11_row_25 : decode cX11_row 25 = .ok (.new 23, 3) := dk_187 0 23 (dk_at dksX11_row_1 1 rfl rfl)
theorem dX11_row_28 : decode cX11_row 28 = .ok (.dup, 1) := dk_89 (dk_at dksX11_row_1 4 rfl rfl)
theorem dX11_row_29 : decode cX11_row 29 = .ok (.bipush (-2), 2) := dk_16 254 (dk_at dksX11_row_1 5 rfl rfl)
theorem dX11_row_31 : decode cX11_row 31 = .ok (.invokespecial 25, 3) := dk_183 0 25 (dk_at dksX11_row_1 7 rfl rfl)
theorem dX11_row_34 : decode cX11_row 34 = .ok (.athrow, 1) := dk_191 (dk_at dksX11_row_1 10 rfl rfl)
abbrev cX11_holdsVoice : ByteArray := prog_17_method_3_code
def yX11_holdsVoice : MethodName := ⟨RX11, "holdsVoice", "()Z"⟩
def dkwX11_holdsVoice_0 : List UInt8 := [42, 180, 0, 9, 193, 0, 28, 172]
abbrev dktX11_holdsVoice_0 : List UInt8 := dkwX11_holdsVoice_0 ++ []
theorem dksX11_holdsVoice_0 : cX11_holdsVoice.data.toList.drop 0 = dktX11_holdsVoice_0 := by decide +kernel
theorem dX11_holdsVoice_0 : decode cX11_holdsVoice 0 = .ok (.aload_n 0, 1) := dk_42 (dk_at dksX11_holdsVoice_0 0 rfl rfl)
theorem dX11_holdsVoice_1 : decode cX11_holdsVoice 1 = .ok (.getfield 9, 3) := dk_180 0 9 (dk_at dksX11_holdsVoice_0 1 rfl rfl)
theorem dX11_holdsVoice_4 : decode cX11_holdsVoice 4 = .ok (.instanceof 28, 3) := dk_193 0 28 (dk_at dksX11_holdsVoice_0 4 rfl rfl)
theorem dX11_holdsVoice_7 : decode cX11_holdsVoice 7 = .ok (.ireturn, 1) := dk_172 (dk_at dksX11_holdsVoice_0 7 rfl rfl)
abbrev cX11_says : ByteArray := prog_17_method_4_code
def yX11_says : MethodName := ⟨RX11, "says", "(ILWhichOneAllKnow$Church;)I"⟩
def dkwX11_says_11 : List UInt8 := [187, 0, 23, 89, 16, 254, 183, 0, 25, 191]
abbrev dktX11_says_11 : List UInt8 := dkwX11_says_11 ++ []
def dkwX11_says_10 : List UInt8 := [46, 62, 42, 180, 0, 9, 198, 0, 7, 4, 167, 0, 4, 3, 16, 253, 184, 0, 17, 29, 172, 78]
abbrev dktX11_says_10 : List UInt8 := dkwX11_says_10 ++ dktX11_says_11
def dkwX11_says_9 : List UInt8 := [180, 0, 9, 199, 0, 7, 2, 167, 0, 18, 44, 180, 0, 61, 42, 180, 0, 9, 192, 0, 28, 180, 0, 65]
abbrev dktX11_says_9 : List UInt8 := dkwX11_says_9 ++ dktX11_says_10
def dkwX11_says_8 : List UInt8 := [167, 0, 17, 44, 42, 180, 0, 9, 192, 0, 58, 180, 0, 60, 182, 0, 49, 62, 167, 0, 30, 42]
abbrev dktX11_says_8 : List UInt8 := dkwX11_says_8 ++ dktX11_says_9
def dkwX11_says_7 : List UInt8 := [42, 180, 0, 9, 192, 0, 55, 180, 0, 57, 62, 167, 0, 59, 42, 180, 0, 9, 199, 0, 7, 2]
abbrev dktX11_says_7 : List UInt8 := dkwX11_says_7 ++ dktX11_says_8
def dkwX11_says_6 : List UInt8 := [192, 0, 44, 180, 0, 46, 182, 0, 49, 62, 167, 0, 84, 42, 180, 0, 9, 199, 0, 7, 2, 167, 0, 13]
abbrev dktX11_says_6 : List UInt8 := dkwX11_says_6 ++ dktX11_says_7
def dkwX11_says_5 : List UInt8 := [180, 0, 43, 62, 167, 0, 113, 42, 180, 0, 9, 199, 0, 7, 2, 167, 0, 17, 44, 42, 180, 0, 9]
abbrev dktX11_says_5 : List UInt8 := dkwX11_says_5 ++ dktX11_says_6
def dkwX11_says_4 : List UInt8 := [62, 167, 0, 138, 42, 180, 0, 9, 199, 0, 7, 2, 167, 0, 13, 42, 180, 0, 9, 192, 0, 41]
abbrev dktX11_says_4 : List UInt8 := dkwX11_says_4 ++ dktX11_says_5
def dkwX11_says_3 : List UInt8 := [167, 0, 163, 42, 180, 0, 9, 199, 0, 7, 2, 167, 0, 13, 42, 180, 0, 9, 192, 0, 36, 180, 0, 38]
abbrev dktX11_says_3 : List UInt8 := dkwX11_says_3 ++ dktX11_says_4
def dkwX11_says_2 : List UInt8 := [42, 180, 0, 9, 199, 0, 7, 2, 167, 0, 13, 42, 180, 0, 9, 192, 0, 30, 180, 0, 32, 62]
abbrev dktX11_says_2 : List UInt8 := dkwX11_says_2 ++ dktX11_says_3
def dkwX11_says_1 : List UInt8 := [170, 0, 0, 0, 0, 0, 197, 0, 0, 0, 1, 0, 0, 0, 6, 0, 0, 0, 39, 0, 0, 0, 64, 0, 0, 0, 89, 0, 0, 0, 114, 0, 0, 0, 143, 0, 0, 0, 168]
abbrev dktX11_says_1 : List UInt8 := dkwX11_says_1 ++ dktX11_says_2
def dkwX11_says_0 : List UInt8 := [27]
abbrev dktX11_says_0 : List UInt8 := dkwX11_says_0 ++ dktX11_says_1
theorem dksX11_says_0 : cX11_says.data.toList.drop 0 = dktX11_says_0 := by decide +kernel
theorem dksX11_says_1 : cX11_says.data.toList.drop 1 = dktX11_says_1 := dk_seg dksX11_says_0 1 rfl rfl
theorem dksX11_says_2 : cX11_says.data.toList.drop 40 = dktX11_says_2 := dk_seg dksX11_says_1 39 rfl rfl
theorem dksX11_says_3 : cX11_says.data.toList.drop 62 = dktX11_says_3 := dk_seg dksX11_says_2 22 rfl rfl
theorem dksX11_says_4 : cX11_says.data.toList.drop 86 = dktX11_says_4 := dk_seg dksX11_says_3 24 rfl rfl
theorem dksX11_says_5 : cX11_says.data.toList.drop 108 = dktX11_says_5 := dk_seg dksX11_says_4 22 rfl rfl
theorem dksX11_says_6 : cX11_says.data.toList.drop 131 = dktX11_says_6 := dk_seg dksX11_says_5 23 rfl rfl
theorem dksX11_says_7 : cX11_says.data.toList.drop 155 = dktX11_says_7 := dk_seg dksX11_says_6 24 rfl rfl
theorem dksX11_says_8 : cX11_says.data.toList.drop 177 = dktX11_says_8 := dk_seg dksX11_says_7 22 rfl rfl
theorem dksX11_says_9 : cX11_says.data.toList.drop 199 = dktX11_says_9 := dk_seg dksX11_says_8 22 rfl rfl
theorem dksX11_says_10 : cX11_says.data.toList.drop 223 = dktX11_says_10 := dk_seg dksX11_says_9 24 rfl rfl
theorem dksX11_says_11 : cX11_says.data.toList.drop 245 = dktX11_says_11 := dk_seg dksX11_says_10 22 rfl rfl
theorem dX11_says_0 : decode cX11_says 0 = .ok (.iload_n 1, 1) := dk_27 (dk_at dksX11_says_0 0 rfl rfl)
theorem dX11_says_1 : decode cX11_says 1 = .ok (.tableswitch 197 1 6 #[39, 64, 89, 114, 143, 168], 39) := by decide +kernel
theorem dX11_says_40 : decode cX11_says 40 = .ok (.aload_n 0, 1) := dk_42 (dk_at dksX11_says_2 0 rfl rfl)
theorem dX11_says_41 : decode cX11_says 41 = .ok (.getfield 9, 3) := dk_180 0 9 (dk_at dksX11_says_2 1 rfl rfl)
theorem dX11_says_44 : decode cX11_says 44 = .ok (.ifnonnull 7, 3) := dk_199 0 7 (dk_at dksX11_says_2 4 rfl rfl)
theorem dX11_says_47 : decode cX11_says 47 = .ok (.iconst (-1), 1) := dk_2 (dk_at dksX11_says_2 7 rfl rfl)
theorem dX11_says_48 : decode cX11_says 48 = .ok (.goto 13, 3) := dk_167 0 13 (dk_at dksX11_says_2 8 rfl rfl)
theorem dX11_says_51 : decode cX11_says 51 = .ok (.aload_n 0, 1) := dk_42 (dk_at dksX11_says_2 11 rfl rfl)
theorem dX11_says_52 : decode cX11_says 52 = .ok (.getfield 9, 3) := dk_180 0 9 (dk_at dksX11_says_2 12 rfl rfl)
theorem dX11_says_55 : decode cX11_says 55 = .ok (.checkcast 30, 3) := dk_192 0 30 (dk_at dksX11_says_2 15 rfl rfl)
theorem dX11_says_58 : decode cX11_says 58 = .ok (.getfield 32, 3) := dk_180 0 32 (dk_at dksX11_says_2 18 rfl rfl)
theorem dX11_says_61 : decode cX11_says 61 = .ok (.istore_n 3, 1) := dk_62 (dk_at dksX11_says_2 21 rfl rfl)
theorem dX11_says_62 : decode cX11_says 62 = .ok (.goto 163, 3) := dk_167 0 163 (dk_at dksX11_says_3 0 rfl rfl)
theorem dX11_says_65 : decode cX11_says 65 = .ok (.aload_n 0, 1) := dk_42 (dk_at dksX11_says_3 3 rfl rfl)
theorem dX11_says_66 : decode cX11_says 66 = .ok (.getfield 9, 3) := dk_180 0 9 (dk_at dksX11_says_3 4 rfl rfl)
theorem dX11_says_69 : decode cX11_says 69 = .ok (.ifnonnull 7, 3) := dk_199 0 7 (dk_at dksX11_says_3 7 rfl rfl)
theorem dX11_says_72 : decode cX11_says 72 = .ok (.iconst (-1), 1) := dk_2 (dk_at dksX11_says_3 10 rfl rfl)
theorem dX11_says_73 : decode cX11_says 73 = .ok (.goto 13, 3) := dk_167 0 13 (dk_at dksX11_says_3 11 rfl rfl)
theorem dX11_says_76 : decode cX11_says 76 = .ok (.aload_n 0, 1) := dk_42 (dk_at dksX11_says_3 14 rfl rfl)
theorem dX11_says_77 : decode cX11_says 77 = .ok (.getfield 9, 3) := dk_180 0 9 (dk_at dksX11_says_3 15 rfl rfl)
theorem dX11_says_80 : decode cX11_says 80 = .ok (.checkcast 36, 3) := dk_192 0 36 (dk_at dksX11_says_3 18 rfl rfl)
theorem dX11_says_83 : decode cX11_says 83 = .ok (.getfield 38, 3) := dk_180 0 38 (dk_at dksX11_says_3 21 rfl rfl)
theorem dX11_says_86 : decode cX11_says 86 = .ok (.istore_n 3, 1) := dk_62 (dk_at dksX11_says_4 0 rfl rfl)
theorem dX11_says_87 : decode cX11_says 87 = .ok (.goto 138, 3) := dk_167 0 138 (dk_at dksX11_says_4 1 rfl rfl)
theorem dX11_says_90 : decode cX11_says 90 = .ok (.aload_n 0, 1) := dk_42 (dk_at dksX11_says_4 4 rfl rfl)
theorem dX11_says_91 : decode cX11_says 91 = .ok (.getfield 9, 3) := dk_180 0 9 (dk_at dksX11_says_4 5 rfl rfl)
theorem dX11_says_94 : decode cX11_says 94 = .ok (.ifnonnull 7, 3) := dk_199 0 7 (dk_at dksX11_says_4 8 rfl rfl)
theorem dX11_says_97 : decode cX11_says 97 = .ok (.iconst (-1), 1) := dk_2 (dk_at dksX11_says_4 11 rfl rfl)
theorem dX11_says_98 : decode cX11_says 98 = .ok (.goto 13, 3) := dk_167 0 13 (dk_at dksX11_says_4 12 rfl rfl)
theorem dX11_says_101 : decode cX11_says 101 = .ok (.aload_n 0, 1) := dk_42 (dk_at dksX11_says_4 15 rfl rfl)
theorem dX11_says_102 : decode cX11_says 102 = .ok (.getfield 9, 3) := dk_180 0 9 (dk_at dksX11_says_4 16 rfl rfl)
theorem dX11_says_105 : decode cX11_says 105 = .ok (.checkcast 41, 3) := dk_192 0 41 (dk_at dksX11_says_4 19 rfl rfl)
theorem dX11_says_108 : decode cX11_says 108 = .ok (.getfield 43, 3) := dk_180 0 43 (dk_at dksX11_says_5 0 rfl rfl)
theorem dX11_says_111 : decode cX11_says 111 = .ok (.istore_n 3, 1) := dk_62 (dk_at dksX11_says_5 3 rfl rfl)
theorem dX11_says_112 : decode cX11_says 112 = .ok (.goto 113, 3) := dk_167 0 113 (dk_at dksX11_says_5 4 rfl rfl)
theorem dX11_says_115 : decode cX11_says 115 = .ok (.aload_n 0, 1) := dk_42 (dk_at dksX11_says_5 7 rfl rfl)
theorem dX11_says_116 : decode cX11_says 116 = .ok (.getfield 9, 3) := dk_180 0 9 (dk_at dksX11_says_5 8 rfl rfl)
theorem dX11_says_119 : decode cX11_says 119 = .ok (.ifnonnull 7, 3) := dk_199 0 7 (dk_at dksX11_says_5 11 rfl rfl)
theorem dX11_says_122 : decode cX11_says 122 = .ok (.iconst (-1), 1) := dk_2 (dk_at dksX11_says_5 14 rfl rfl)
theorem dX11_says_123 : decode cX11_says 123 = .ok (.goto 17, 3) := dk_167 0 17 (dk_at dksX11_says_5 15 rfl rfl)
theorem dX11_says_126 : decode cX11_says 126 = .ok (.aload_n 2, 1) := dk_44 (dk_at dksX11_says_5 18 rfl rfl)
theorem dX11_says_127 : decode cX11_says 127 = .ok (.aload_n 0, 1) := dk_42 (dk_at dksX11_says_5 19 rfl rfl)
theorem dX11_says_128 : decode cX11_says 128 = .ok (.getfield 9, 3) := dk_180 0 9 (dk_at dksX11_says_5 20 rfl rfl)
theorem dX11_says_131 : decode cX11_says 131 = .ok (.checkcast 44, 3) := dk_192 0 44 (dk_at dksX11_says_6 0 rfl rfl)
theorem dX11_says_134 : decode cX11_says 134 = .ok (.getfield 46, 3) := dk_180 0 46 (dk_at dksX11_says_6 3 rfl rfl)
theorem dX11_says_137 : decode cX11_says 137 = .ok (.invokevirtual 49, 3) := dk_182 0 49 (dk_at dksX11_says_6 6 rfl rfl)
theorem dX11_says_140 : decode cX11_says 140 = .ok (.istore_n 3, 1) := dk_62 (dk_at dksX11_says_6 9 rfl rfl)
theorem dX11_says_141 : decode cX11_says 141 = .ok (.goto 84, 3) := dk_167 0 84 (dk_at dksX11_says_6 10 rfl rfl)
theorem dX11_says_144 : decode cX11_says 144 = .ok (.aload_n 0, 1) := dk_42 (dk_at dksX11_says_6 13 rfl rfl)
theorem dX11_says_145 : decode cX11_says 145 = .ok (.getfield 9, 3) := dk_180 0 9 (dk_at dksX11_says_6 14 rfl rfl)
theorem dX11_says_148 : decode cX11_says 148 = .ok (.ifnonnull 7, 3) := dk_199 0 7 (dk_at dksX11_says_6 17 rfl rfl)
theorem dX11_says_151 : decode cX11_says 151 = .ok (.iconst (-1), 1) := dk_2 (dk_at dksX11_says_6 20 rfl rfl)
theorem dX11_says_152 : decode cX11_says 152 = .ok (.goto 13, 3) := dk_167 0 13 (dk_at dksX11_says_6 21 rfl rfl)
theorem dX11_says_155 : decode cX11_says 155 = .ok (.aload_n 0, 1) := dk_42 (dk_at dksX11_says_7 0 rfl rfl)
theorem dX11_says_156 : decode cX11_says 156 = .ok (.getfield 9, 3) := dk_180 0 9 (dk_at dksX11_says_7 1 rfl rfl)
theorem dX11_says_159 : decode cX11_says 159 = .ok (.checkcast 55, 3) := dk_192 0 55 (dk_at dksX11_says_7 4 rfl rfl)
theorem dX11_says_162 : decode cX11_says 162 = .ok (.getfield 57, 3) := dk_180 0 57 (dk_at dksX11_says_7 7 rfl rfl)
theorem dX11_says_165 : decode cX11_says 165 = .ok (.istore_n 3, 1) := dk_62 (dk_at dksX11_says_7 10 rfl rfl)
theorem dX11_says_166 : decode cX11_says 166 = .ok (.goto 59, 3) := dk_167 0 59 (dk_at dksX11_says_7 11 rfl rfl)
theorem dX11_says_169 : decode cX11_says 169 = .ok (.aload_n 0, 1) := dk_42 (dk_at dksX11_says_7 14 rfl rfl)
theorem dX11_says_170 : decode cX11_says 170 = .ok (.getfield 9, 3) := dk_180 0 9 (dk_at dksX11_says_7 15 rfl rfl)
theorem dX11_says_173 : decode cX11_says 173 = .ok (.ifnonnull 7, 3) := dk_199 0 7 (dk_at dksX11_says_7 18 rfl rfl)
theorem dX11_says_176 : decode cX11_says 176 = .ok (.iconst (-1), 1) := dk_2 (dk_at dksX11_says_7 21 rfl rfl)
theorem dX11_says_177 : decode cX11_says 177 = .ok (.goto 17, 3) := dk_167 0 17 (dk_at dksX11_says_8 0 rfl rfl)
theorem dX11_says_180 : decode cX11_says 180 = .ok (.aload_n 2, 1) := dk_44 (dk_at dksX11_says_8 3 rfl rfl)
theorem dX11_says_181 : decode cX11_says 181 = .ok (.aload_n 0, 1) := dk_42 (dk_at dksX11_says_8 4 rfl rfl)
theorem dX11_says_182 : decode cX11_says 182 = .ok (.getfield 9, 3) := dk_180 0 9 (dk_at dksX11_says_8 5 rfl rfl)
theorem dX11_says_185 : decode cX11_says 185 = .ok (.checkcast 58, 3) := dk_192 0 58 (dk_at dksX11_says_8 8 rfl rfl)
theorem dX11_says_188 : decode cX11_says 188 = .ok (.getfield 60, 3) := dk_180 0 60 (dk_at dksX11_says_8 11 rfl rfl)
theorem dX11_says_191 : decode cX11_says 191 = .ok (.invokevirtual 49, 3) := dk_182 0 49 (dk_at dksX11_says_8 14 rfl rfl)
theorem dX11_says_194 : decode cX11_says 194 = .ok (.istore_n 3, 1) := dk_62 (dk_at dksX11_says_8 17 rfl rfl)
theorem dX11_says_195 : decode cX11_says 195 = .ok (.goto 30, 3) := dk_167 0 30 (dk_at dksX11_says_8 18 rfl rfl)
theorem dX11_says_198 : decode cX11_says 198 = .ok (.aload_n 0, 1) := dk_42 (dk_at dksX11_says_8 21 rfl rfl)
theorem dX11_says_199 : decode cX11_says 199 = .ok (.getfield 9, 3) := dk_180 0 9 (dk_at dksX11_says_9 0 rfl rfl)
theorem dX11_says_202 : decode cX11_says 202 = .ok (.ifnonnull 7, 3) := dk_199 0 7 (dk_at dksX11_says_9 3 rfl rfl)
theorem dX11_says_205 : decode cX11_says 205 = .ok (.iconst (-1), 1) := dk_2 (dk_at dksX11_says_9 6 rfl rfl)
theorem dX11_says_206 : decode cX11_says 206 = .ok (.goto 18, 3) := dk_167 0 18 (dk_at dksX11_says_9 7 rfl rfl)
theorem dX11_says_209 : decode cX11_says 209 = .ok (.aload_n 2, 1) := dk_44 (dk_at dksX11_says_9 10 rfl rfl)
theorem dX11_says_210 : decode cX11_says 210 = .ok (.getfield 61, 3) := dk_180 0 61 (dk_at dksX11_says_9 11 rfl rfl)
theorem dX11_says_213 : decode cX11_says 213 = .ok (.aload_n 0, 1) := dk_42 (dk_at dksX11_says_9 14 rfl rfl)
theorem dX11_says_214 : decode cX11_says 214 = .ok (.getfield 9, 3) := dk_180 0 9 (dk_at dksX11_says_9 15 rfl rfl)
theorem dX11_says_217 : decode cX11_says 217 = .ok (.checkcast 28, 3) := dk_192 0 28 (dk_at dksX11_says_9 18 rfl rfl)
theorem dX11_says_220 : decode cX11_says 220 = .ok (.getfield 65, 3) := dk_180 0 65 (dk_at dksX11_says_9 21 rfl rfl)
theorem dX11_says_223 : decode cX11_says 223 = .ok (.iaload, 1) := dk_46 (dk_at dksX11_says_10 0 rfl rfl)
theorem dX11_says_224 : decode cX11_says 224 = .ok (.istore_n 3, 1) := dk_62 (dk_at dksX11_says_10 1 rfl rfl)
theorem dX11_says_225 : decode cX11_says 225 = .ok (.aload_n 0, 1) := dk_42 (dk_at dksX11_says_10 2 rfl rfl)
theorem dX11_says_226 : decode cX11_says 226 = .ok (.getfield 9, 3) := dk_180 0 9 (dk_at dksX11_says_10 3 rfl rfl)
theorem dX11_says_229 : decode cX11_says 229 = .ok (.ifnull 7, 3) := dk_198 0 7 (dk_at dksX11_says_10 6 rfl rfl)
theorem dX11_says_232 : decode cX11_says 232 = .ok (.iconst 1, 1) := dk_4 (dk_at dksX11_says_10 9 rfl rfl)
theorem dX11_says_233 : decode cX11_says 233 = .ok (.goto 4, 3) := dk_167 0 4 (dk_at dksX11_says_10 10 rfl rfl)
theorem dX11_says_236 : decode cX11_says 236 = .ok (.iconst 0, 1) := dk_3 (dk_at dksX11_says_10 13 rfl rfl)
theorem dX11_says_237 : decode cX11_says 237 = .ok (.bipush (-3), 2) := dk_16 253 (dk_at dksX11_says_10 14 rfl rfl)
theorem dX11_says_239 : decode cX11_says 239 = .ok (.invokestatic 17, 3) := dk_184 0 17 (dk_at dksX11_says_10 16 rfl rfl)
theorem dX11_says_242 : decode cX11_says 242 = .ok (.iload_n 3, 1) := dk_29 (dk_at dksX11_says_10 19 rfl rfl)
theorem dX11_says_243 : decode cX11_says 243 = .ok (.ireturn, 1) := dk_172 (dk_at dksX11_says_10 20 rfl rfl)
theorem dX11_says_244 : decode cX11_says 244 = .ok (.astore_n 3, 1) := dk_78 (dk_at dksX11_says_10 21 rfl rfl)
theorem dX11_says_245 : decode cX11_says 245 = .ok (.new 23, 3) := dk_187 0 23 (dk_at dksX11_says_11 0 rfl rfl)
theorem dX11_says_248 : decode cX11_says 248 = .ok (.dup, 1) := dk_89 (dk_at dksX11_says_11 3 rfl rfl)
theorem dX11_says_249 : decode cX11_says 249 = .ok (.bipush (-2), 2) := dk_16 254 (dk_at dksX11_says_11 4 rfl rfl)
theorem dX11_says_251 : decode cX11_says 251 = .ok (.invokespecial 25, 3) := dk_183 0 25 (dk_at dksX11_says_11 6 rfl rfl)
theorem dX11_says_254 : decode cX11_says 254 = .ok (.athrow, 1) := dk_191 (dk_at dksX11_says_11 9 rfl rfl)
theorem q94 : (Jvm.Cond.initialized "WhichOneAllKnow$Shelf") ∈ lw_all := lw_g (lw_at lw_m1 12 rfl) rfl
theorem q173 : (Jvm.Cond.fieldLink "WhichOneAllKnow$Shelf" (61 : Nat) "WhichOneAllKnow$Church" "place" "[I") ∈ lw_all := lw_g (lw_at lw_m1 91 rfl) rfl
theorem q245 : (Jvm.Cond.fieldLink "WhichOneAllKnow$Shelf" (46 : Nat) "WhichOneAllKnow$Astray" "index" "I") ∈ lw_all := lw_g (lw_at lw_m1 163 rfl) rfl
theorem q247 : (Jvm.Cond.fieldLink "WhichOneAllKnow$Shelf" (60 : Nat) "WhichOneAllKnow$Dragger" "index" "I") ∈ lw_all := lw_g (lw_at lw_m1 165 rfl) rfl
theorem q249 : (Jvm.Cond.fieldLink "WhichOneAllKnow$Shelf" (65 : Nat) "WhichOneAllKnow$Voice" "index" "I") ∈ lw_all := lw_g (lw_at lw_m1 167 rfl) rfl
theorem q257 : (Jvm.Cond.fieldLink "WhichOneAllKnow$Shelf" (38 : Nat) "WhichOneAllKnow$Joining" "by" "I") ∈ lw_all := lw_g (lw_at lw_m1 175 rfl) rfl
theorem q258 : (Jvm.Cond.fieldLink "WhichOneAllKnow$Shelf" (57 : Nat) "WhichOneAllKnow$Mime" "by" "I") ∈ lw_all := lw_g (lw_at lw_m1 176 rfl) rfl
theorem q267 : (Jvm.Cond.fieldLink "WhichOneAllKnow$Shelf" (32 : Nat) "WhichOneAllKnow$Leading" "top" "I") ∈ lw_all := lw_g (lw_at lw_m1 185 rfl) rfl
theorem q269 : (Jvm.Cond.fieldLink "WhichOneAllKnow$Shelf" (43 : Nat) "WhichOneAllKnow$Boomer" "top" "I") ∈ lw_all := lw_g (lw_at lw_m1 187 rfl) rfl
theorem q344 : (Jvm.Cond.instantiable "WhichOneAllKnow$Shelf" (1 : Nat)) ∈ lw_all := lw_g (lw_at lw_m2 22 rfl) rfl
theorem q346 : (Jvm.Cond.instanceMethod ({ cls := "WhichOneAllKnow$Shelf", name := "<init>", desc := "()V" } : Jvm.MethodName)) ∈ lw_all := lw_g (lw_at lw_m2 24 rfl) rfl
theorem q347 : (Jvm.Cond.code ({ cls := "WhichOneAllKnow$Shelf", name := "<init>", desc := "()V" } : Jvm.MethodName) prog_17_method_1_code (1 : Nat) (Option.none : Option Jvm.ClassFile.FieldType)) ∈ lw_all := lw_g (lw_at lw_m2 25 rfl) rfl
theorem q348 : (Jvm.Cond.methodLink "WhichOneAllKnow$Shelf" (3 : Nat) ({ cls := "java/lang/Object", name := "<init>", desc := "()V" } : Jvm.MethodName)) ∈ lw_all := lw_g (lw_at lw_m2 26 rfl) rfl
theorem q349 : (Jvm.Cond.fieldLink "WhichOneAllKnow$Shelf" (9 : Nat) "WhichOneAllKnow$Shelf" "held" "Ljava/lang/Object;") ∈ lw_all := lw_g (lw_at lw_m2 27 rfl) rfl
theorem q351 : (Jvm.Cond.lays "WhichOneAllKnow$Shelf" "WhichOneAllKnow$Shelf" "held" "Ljava/lang/Object;") ∈ lw_all := lw_g (lw_at lw_m2 29 rfl) rfl
theorem q352 : (Jvm.Cond.soleField "WhichOneAllKnow$Shelf" "held") ∈ lw_all := lw_g (lw_at lw_m2 30 rfl) rfl
theorem q353 : (Jvm.Cond.superclass "WhichOneAllKnow$Shelf" "java/lang/Object") ∈ lw_all := lw_g (lw_at lw_m2 31 rfl) rfl
theorem q585 : (Jvm.Cond.instanceMethod ({ cls := "WhichOneAllKnow$Shelf", name := "row", desc := "()LWhichOneAllKnow$Row;" } : Jvm.MethodName)) ∈ lw_all := lw_g (lw_at lw_m3 23 rfl) rfl
theorem q586 : (Jvm.Cond.selects "WhichOneAllKnow$Shelf" ({ cls := "WhichOneAllKnow$Shelf", name := "row", desc := "()LWhichOneAllKnow$Row;" } : Jvm.MethodName) ({ cls := "WhichOneAllKnow$Shelf", name := "row", desc := "()LWhichOneAllKnow$Row;" } : Jvm.MethodName)) ∈ lw_all := lw_g (lw_at lw_m3 24 rfl) rfl
theorem q587 : (Jvm.Cond.codeWith ({ cls := "WhichOneAllKnow$Shelf", name := "row", desc := "()LWhichOneAllKnow$Row;" } : Jvm.MethodName) prog_17_method_2_code (2 : Nat) (Option.some (Jvm.ClassFile.FieldType.object "WhichOneAllKnow$Row")) [((0 : Nat), (23 : Nat), (24 : Nat), (21 : Nat))]) ∈ lw_all := lw_g (lw_at lw_m3 25 rfl) rfl
theorem q588 : (Jvm.Cond.classLink "WhichOneAllKnow$Shelf" (21 : Nat) "java/lang/ClassCastException") ∈ lw_all := lw_g (lw_at lw_m3 26 rfl) rfl
theorem q602 : (Jvm.Cond.classLink "WhichOneAllKnow$Shelf" (15 : Nat) "WhichOneAllKnow$Row") ∈ lw_all := lw_g (lw_at lw_m3 40 rfl) rfl
theorem q603 : (Jvm.Cond.methodLink "WhichOneAllKnow$Shelf" (17 : Nat) ({ cls := "WhichOneAllKnow", name := "need", desc := "(ZI)V" } : Jvm.MethodName)) ∈ lw_all := lw_g (lw_at lw_m3 41 rfl) rfl
theorem q604 : (Jvm.Cond.classLink "WhichOneAllKnow$Shelf" (23 : Nat) "WhichOneAllKnow$Refused") ∈ lw_all := lw_g (lw_at lw_m3 42 rfl) rfl
theorem q605 : (Jvm.Cond.methodLink "WhichOneAllKnow$Shelf" (25 : Nat) ({ cls := "WhichOneAllKnow$Refused", name := "<init>", desc := "(I)V" } : Jvm.MethodName)) ∈ lw_all := lw_g (lw_at lw_m3 43 rfl) rfl
theorem q627 : (Jvm.Cond.instanceMethod ({ cls := "WhichOneAllKnow$Shelf", name := "holdsVoice", desc := "()Z" } : Jvm.MethodName)) ∈ lw_all := lw_g (lw_at lw_m3 65 rfl) rfl
theorem q628 : (Jvm.Cond.selects "WhichOneAllKnow$Shelf" ({ cls := "WhichOneAllKnow$Shelf", name := "holdsVoice", desc := "()Z" } : Jvm.MethodName) ({ cls := "WhichOneAllKnow$Shelf", name := "holdsVoice", desc := "()Z" } : Jvm.MethodName)) ∈ lw_all := lw_g (lw_at lw_m3 66 rfl) rfl
theorem q629 : (Jvm.Cond.code ({ cls := "WhichOneAllKnow$Shelf", name := "holdsVoice", desc := "()Z" } : Jvm.MethodName) prog_17_method_3_code (1 : Nat) (Option.some Jvm.ClassFile.FieldType.boolean)) ∈ lw_all := lw_g (lw_at lw_m3 67 rfl) rfl
theorem q630 : (Jvm.Cond.classLink "WhichOneAllKnow$Shelf" (28 : Nat) "WhichOneAllKnow$Voice") ∈ lw_all := lw_g (lw_at lw_m3 68 rfl) rfl
theorem q706 : (Jvm.Cond.instanceMethod ({ cls := "WhichOneAllKnow$Shelf", name := "says", desc := "(ILWhichOneAllKnow$Church;)I" } : Jvm.MethodName)) ∈ lw_all := lw_g (lw_at lw_m3 144 rfl) rfl
theorem q707 : (Jvm.Cond.selects "WhichOneAllKnow$Shelf" ({ cls := "WhichOneAllKnow$Shelf", name := "says", desc := "(ILWhichOneAllKnow$Church;)I" } : Jvm.MethodName) ({ cls := "WhichOneAllKnow$Shelf", name := "says", desc := "(ILWhichOneAllKnow$Church;)I" } : Jvm.MethodName)) ∈ lw_all := lw_g (lw_at lw_m3 145 rfl) rfl
theorem q708 : (Jvm.Cond.codeWith ({ cls := "WhichOneAllKnow$Shelf", name := "says", desc := "(ILWhichOneAllKnow$Church;)I" } : Jvm.MethodName) prog_17_method_4_code (4 : Nat) (Option.some Jvm.ClassFile.FieldType.int) [((0 : Nat), (243 : Nat), (244 : Nat), (21 : Nat))]) ∈ lw_all := lw_g (lw_at lw_m3 146 rfl) rfl
theorem q709 : (Jvm.Cond.classLink "WhichOneAllKnow$Shelf" (30 : Nat) "WhichOneAllKnow$Leading") ∈ lw_all := lw_g (lw_at lw_m3 147 rfl) rfl
theorem q710 : (Jvm.Cond.classLink "WhichOneAllKnow$Shelf" (36 : Nat) "WhichOneAllKnow$Joining") ∈ lw_all := lw_g (lw_at lw_m3 148 rfl) rfl
theorem q711 : (Jvm.Cond.classLink "WhichOneAllKnow$Shelf" (41 : Nat) "WhichOneAllKnow$Boomer") ∈ lw_all := lw_g (lw_at lw_m3 149 rfl) rfl
theorem q712 : (Jvm.Cond.classLink "WhichOneAllKnow$Shelf" (44 : Nat) "WhichOneAllKnow$Astray") ∈ lw_all := lw_g (lw_at lw_m3 150 rfl) rfl
theorem q713 : (Jvm.Cond.methodLink "WhichOneAllKnow$Shelf" (49 : Nat) ({ cls := "WhichOneAllKnow$Church", name := "manyKnown", desc := "(I)I" } : Jvm.MethodName)) ∈ lw_all := lw_g (lw_at lw_m3 151 rfl) rfl
theorem q723 : (Jvm.Cond.classLink "WhichOneAllKnow$Shelf" (55 : Nat) "WhichOneAllKnow$Mime") ∈ lw_all := lw_g (lw_at lw_m3 161 rfl) rfl
theorem q724 : (Jvm.Cond.classLink "WhichOneAllKnow$Shelf" (58 : Nat) "WhichOneAllKnow$Dragger") ∈ lw_all := lw_g (lw_at lw_m3 162 rfl) rfl
theorem in_X11 : ∀ w ∈ wsX110, w ∈ lw_all := lw_in wsX110 [351] (by decide +kernel) (by decide +kernel)
/-! WhichOneAllKnow$Refused -/
set_option maxRecDepth 100000
def RX13 : String := "WhichOneAllKnow$Refused"
def TX13 : u_T := fun k => match k with
  | 0 => ("java/lang/Throwable", "cause", "Ljava/lang/Throwable;", false)
  | 1 => ("java/lang/Throwable", "stackTrace", "[Ljava/lang/StackTraceElement;", false)
  | 2 => ("java/lang/Throwable", "suppressedExceptions", "Ljava/util/List;", false)
  | 3 => ("java/lang/Throwable", "detailMessage", "Ljava/lang/String;", false)
  | 4 => ("java/lang/Throwable", "backtrace", "Ljava/lang/Object;", false)
  | 5 => ("java/lang/Throwable", "depth", "I", false)
  | _ => ("WhichOneAllKnow$Refused", "why", "I", true)
def tyX13 : Nat → FieldType := fun k => match k with
  | 0 => .object "java/lang/Throwable"
  | 1 => .array (.object "java/lang/StackTraceElement")
  | 2 => .object "java/util/List"
  | 3 => .object "java/lang/String"
  | 4 => .object "java/lang/Object"
  | 5 => .int
  | _ => .int
abbrev wsX130 : List Cond := u_ws RX13 TX13 7
theorem nmX13 : ∀ a, a < 7 → ∀ b, b < 7 → a ≠ b → (TX13 a).2.1 ≠ (TX13 b).2.1 := by decide +kernel
theorem tyX13_ok : ∀ k, k < 7 → parseFieldDescriptor (TX13 k).2.2.1 = some (tyX13 k) := by decide +kernel
abbrev cX13_init : ByteArray := prog_15_method_1_code
def yX13_init : MethodName := ⟨RX13, "<init>", "(I)V"⟩
def dkwX13_init_0 : List UInt8 := [42, 1, 1, 3, 3, 183, 0, 1, 42, 27, 181, 0, 7, 177]
abbrev dktX13_init_0 : List UInt8 := dkwX13_init_0 ++ []
theorem dksX13_init_0 : cX13_init.data.toList.drop 0 = dktX13_init_0 := by decide +kernel
theorem dX13_init_0 : decode cX13_init 0 = .ok (.aload_n 0, 1) := dk_42 (dk_at dksX13_init_0 0 rfl rfl)
theorem dX13_init_1 : decode cX13_init 1 = .ok (.aconst_null, 1) := dk_1 (dk_at dksX13_init_0 1 rfl rfl)
theorem dX13_init_2 : decode cX13_init 2 = .ok (.aconst_null, 1) := dk_1 (dk_at dksX13_init_0 2 rfl rfl)
theorem dX13_init_3 : decode cX13_init 3 = .ok (.iconst 0, 1) := dk_3 (dk_at dksX13_init_0 3 rfl rfl)
theorem dX13_init_4 : decode cX13_init 4 = .ok (.iconst 0, 1) := dk_3 (dk_at dksX13_init_0 4 rfl rfl)
theorem dX13_init_5 : decode cX13_init 5 = .ok (.invokespecial 1, 3) := dk_183 0 1 (dk_at dksX13_init_0 5 rfl rfl)
theorem dX13_init_8 : decode cX13_init 8 = .ok (.aload_n 0, 1) := dk_42 (dk_at dksX13_init_0 8 rfl rfl)
theorem dX13_init_9 : decode cX13_init 9 = .ok (.iload_n 1, 1) := dk_27 (dk_at dksX13_init_0 9 rfl rfl)
theorem dX13_init_10 : decode cX13_init 10 = .ok (.putfield 7, 3) := dk_181 0 7 (dk_at dksX13_init_0 10 rfl rfl)
theorem dX13_init_13 : decode cX13_init 13 = .ok (.return_, 1) := dk_177 (dk_at dksX13_init_0 13 rfl rfl)
theorem q102 : (Jvm.Cond.initialized "WhichOneAllKnow$Refused") ∈ lw_all := lw_g (lw_at lw_m1 20 rfl) rfl
theorem q431 : (Jvm.Cond.selects "WhichOneAllKnow$Refused" ({ cls := "java/lang/Throwable", name := "fillInStackTrace", desc := "()Ljava/lang/Throwable;" } : Jvm.MethodName) ({ cls := "java/lang/Throwable", name := "fillInStackTrace", desc := "()Ljava/lang/Throwable;" } : Jvm.MethodName)) ∈ lw_all := lw_g (lw_at lw_m2 109 rfl) rfl
theorem q484 : (Jvm.Cond.instantiable "WhichOneAllKnow$Refused" (7 : Nat)) ∈ lw_all := lw_g (lw_at lw_m2 162 rfl) rfl
theorem q485 : (Jvm.Cond.castable "WhichOneAllKnow$Refused" "WhichOneAllKnow$Refused") ∈ lw_tbl := lw_at lw_m2 163 rfl
theorem q486 : (Jvm.Cond.selects "WhichOneAllKnow$Refused" ({ cls := "java/lang/Throwable", name := "fillInStackTrace", desc := "(I)Ljava/lang/Throwable;" } : Jvm.MethodName) ({ cls := "java/lang/Throwable", name := "fillInStackTrace", desc := "(I)Ljava/lang/Throwable;" } : Jvm.MethodName)) ∈ lw_all := lw_g (lw_at lw_m2 164 rfl) rfl
theorem q487 : (Jvm.Cond.lays "WhichOneAllKnow$Refused" "java/lang/Throwable" "cause" "Ljava/lang/Throwable;") ∈ lw_all := lw_g (lw_at lw_m2 165 rfl) rfl
theorem q488 : (Jvm.Cond.lays "WhichOneAllKnow$Refused" "java/lang/Throwable" "stackTrace" "[Ljava/lang/StackTraceElement;") ∈ lw_all := lw_g (lw_at lw_m2 166 rfl) rfl
theorem q489 : (Jvm.Cond.lays "WhichOneAllKnow$Refused" "java/lang/Throwable" "suppressedExceptions" "Ljava/util/List;") ∈ lw_all := lw_g (lw_at lw_m2 167 rfl) rfl
theorem q490 : (Jvm.Cond.lays "WhichOneAllKnow$Refused" "java/lang/Throwable" "detailMessage" "Ljava/lang/String;") ∈ lw_all := lw_g (lw_at lw_m2 168 rfl) rfl
theorem q491 : (Jvm.Cond.lays "WhichOneAllKnow$Refused" "java/lang/Throwable" "backtrace" "Ljava/lang/Object;") ∈ lw_all := lw_g (lw_at lw_m2 169 rfl) rfl
theorem q493 : (Jvm.Cond.instanceMethod ({ cls := "WhichOneAllKnow$Refused", name := "<init>", desc := "(I)V" } : Jvm.MethodName)) ∈ lw_all := lw_g (lw_at lw_m2 171 rfl) rfl
theorem q494 : (Jvm.Cond.code ({ cls := "WhichOneAllKnow$Refused", name := "<init>", desc := "(I)V" } : Jvm.MethodName) prog_15_method_1_code (2 : Nat) (Option.none : Option Jvm.ClassFile.FieldType)) ∈ lw_all := lw_g (lw_at lw_m2 172 rfl) rfl
theorem q495 : (Jvm.Cond.methodLink "WhichOneAllKnow$Refused" (1 : Nat) ({ cls := "java/lang/Exception", name := "<init>", desc := "(Ljava/lang/String;Ljava/lang/Throwable;ZZ)V" } : Jvm.MethodName)) ∈ lw_all := lw_g (lw_at lw_m2 173 rfl) rfl
theorem q501 : (Jvm.Cond.fieldLink "WhichOneAllKnow$Refused" (7 : Nat) "WhichOneAllKnow$Refused" "why" "I") ∈ lw_all := lw_g (lw_at lw_m2 179 rfl) rfl
theorem q503 : (Jvm.Cond.laysFinal "WhichOneAllKnow$Refused" "WhichOneAllKnow$Refused" "why" "I") ∈ lw_all := lw_g (lw_at lw_m2 181 rfl) rfl
theorem q504 : (Jvm.Cond.soleField "WhichOneAllKnow$Refused" "why") ∈ lw_all := lw_g (lw_at lw_m2 182 rfl) rfl
theorem q505 : (Jvm.Cond.lays "WhichOneAllKnow$Refused" "java/lang/Throwable" "depth" "I") ∈ lw_all := lw_g (lw_at lw_m2 183 rfl) rfl
theorem q506 : (Jvm.Cond.superclass "WhichOneAllKnow$Refused" "java/lang/Exception") ∈ lw_all := lw_g (lw_at lw_m2 184 rfl) rfl
theorem in_X13 : ∀ w ∈ wsX130, w ∈ lw_all := lw_in wsX130 [487, 488, 489, 490, 491, 505, 503] (by decide +kernel) (by decide +kernel)
/-! WhichOneAllKnow$Row -/
set_option maxRecDepth 100000
def RX14 : String := "WhichOneAllKnow$Row"
abbrev cX14_init : ByteArray := prog_16_method_1_code
def yX14_init : MethodName := ⟨RX14, "<init>", "()V"⟩
theorem dX14_init_0 : decode cX14_init 0 = .ok (.aload_n 0, 1) := by decide +kernel
theorem dX14_init_1 : decode cX14_init 1 = .ok (.invokespecial 1, 3) := by decide +kernel
theorem dX14_init_4 : decode cX14_init 4 = .ok (.return_, 1) := by decide +kernel
abbrev cX14_asInt : ByteArray := prog_16_method_9_code
def yX14_asInt : MethodName := ⟨RX14, "asInt", "(I)I"⟩
def dkwX14_asInt_0 : List UInt8 := [42, 27, 182, 0, 7, 136, 172]
abbrev dktX14_asInt_0 : List UInt8 := dkwX14_asInt_0 ++ []
theorem dksX14_asInt_0 : cX14_asInt.data.toList.drop 0 = dktX14_asInt_0 := by decide +kernel
theorem dX14_asInt_0 : decode cX14_asInt 0 = .ok (.aload_n 0, 1) := dk_42 (dk_at dksX14_asInt_0 0 rfl rfl)
theorem dX14_asInt_1 : decode cX14_asInt 1 = .ok (.iload_n 1, 1) := dk_27 (dk_at dksX14_asInt_0 1 rfl rfl)
theorem dX14_asInt_2 : decode cX14_asInt 2 = .ok (.invokevirtual 7, 3) := dk_182 0 7 (dk_at dksX14_asInt_0 2 rfl rfl)
theorem dX14_asInt_5 : decode cX14_asInt 5 = .ok (.l2i, 1) := dk_136 (dk_at dksX14_asInt_0 5 rfl rfl)
theorem dX14_asInt_6 : decode cX14_asInt 6 = .ok (.ireturn, 1) := dk_172 (dk_at dksX14_asInt_0 6 rfl rfl)
theorem q104 : (Jvm.Cond.initialized "WhichOneAllKnow$Row") ∈ lw_all := lw_g (lw_at lw_m1 22 rfl) rfl
theorem q537 : (Jvm.Cond.instanceMethod ({ cls := "WhichOneAllKnow$Row", name := "<init>", desc := "()V" } : Jvm.MethodName)) ∈ lw_all := lw_g (lw_at lw_m2 215 rfl) rfl
theorem q538 : (Jvm.Cond.code ({ cls := "WhichOneAllKnow$Row", name := "<init>", desc := "()V" } : Jvm.MethodName) prog_16_method_1_code (1 : Nat) (Option.none : Option Jvm.ClassFile.FieldType)) ∈ lw_all := lw_g (lw_at lw_m2 216 rfl) rfl
theorem q539 : (Jvm.Cond.methodLink "WhichOneAllKnow$Row" (1 : Nat) ({ cls := "java/lang/Object", name := "<init>", desc := "()V" } : Jvm.MethodName)) ∈ lw_all := lw_g (lw_at lw_m2 217 rfl) rfl
theorem q607 : (Jvm.Cond.declares ({ cls := "WhichOneAllKnow$Row", name := "put", desc := "(IJ)V" } : Jvm.MethodName)) ∈ lw_tbl := lw_at lw_m3 45 rfl
theorem q608 : (Jvm.Cond.sameMethod "WhichOneAllKnow$Row" "WhichOneAllKnow$Row" "put" "(IJ)V") ∈ lw_all := lw_g (lw_at lw_m3 46 rfl) rfl
theorem q632 : (Jvm.Cond.declares ({ cls := "WhichOneAllKnow$Row", name := "sort", desc := "()I" } : Jvm.MethodName)) ∈ lw_tbl := lw_at lw_m3 70 rfl
theorem q633 : (Jvm.Cond.sameMethod "WhichOneAllKnow$Row" "WhichOneAllKnow$Row" "sort" "()I") ∈ lw_all := lw_g (lw_at lw_m3 71 rfl) rfl
theorem q647 : (Jvm.Cond.declares ({ cls := "WhichOneAllKnow$Row", name := "held", desc := "()Ljava/lang/Object;" } : Jvm.MethodName)) ∈ lw_tbl := lw_at lw_m3 85 rfl
theorem q648 : (Jvm.Cond.sameMethod "WhichOneAllKnow$Row" "WhichOneAllKnow$Row" "held" "()Ljava/lang/Object;") ∈ lw_all := lw_g (lw_at lw_m3 86 rfl) rfl
theorem q669 : (Jvm.Cond.declares ({ cls := "WhichOneAllKnow$Row", name := "get", desc := "(I)J" } : Jvm.MethodName)) ∈ lw_tbl := lw_at lw_m3 107 rfl
theorem q670 : (Jvm.Cond.sameMethod "WhichOneAllKnow$Row" "WhichOneAllKnow$Row" "get" "(I)J") ∈ lw_all := lw_g (lw_at lw_m3 108 rfl) rfl
theorem q849 : (Jvm.Cond.declares ({ cls := "WhichOneAllKnow$Row", name := "length", desc := "()I" } : Jvm.MethodName)) ∈ lw_tbl := lw_at lw_m4 47 rfl
theorem q850 : (Jvm.Cond.sameMethod "WhichOneAllKnow$Row" "WhichOneAllKnow$Row" "length" "()I") ∈ lw_all := lw_g (lw_at lw_m4 48 rfl) rfl
theorem q864 : (Jvm.Cond.instanceMethod ({ cls := "WhichOneAllKnow$Row", name := "asInt", desc := "(I)I" } : Jvm.MethodName)) ∈ lw_all := lw_g (lw_at lw_m4 62 rfl) rfl
theorem q865 : (Jvm.Cond.sameMethod "WhichOneAllKnow$Row" "WhichOneAllKnow$Row" "asInt" "(I)I") ∈ lw_all := lw_g (lw_at lw_m4 63 rfl) rfl
theorem q870 : (Jvm.Cond.code ({ cls := "WhichOneAllKnow$Row", name := "asInt", desc := "(I)I" } : Jvm.MethodName) prog_16_method_9_code (2 : Nat) (Option.some Jvm.ClassFile.FieldType.int)) ∈ lw_all := lw_g (lw_at lw_m4 68 rfl) rfl
theorem q871 : (Jvm.Cond.methodLink "WhichOneAllKnow$Row" (7 : Nat) ({ cls := "WhichOneAllKnow$Row", name := "get", desc := "(I)J" } : Jvm.MethodName)) ∈ lw_all := lw_g (lw_at lw_m4 69 rfl) rfl
/-! WhichOneAllKnow$Bytes -/
set_option maxRecDepth 100000
def RX15 : String := "WhichOneAllKnow$Bytes"
def TX15 : u_T := fun k => match k with
  | _ => ("WhichOneAllKnow$Bytes", "e", "[B", true)
def tyX15 : Nat → FieldType := fun k => match k with
  | _ => .array .byte
abbrev wsX150 : List Cond := u_ws RX15 TX15 1
theorem nmX15 : ∀ a, a < 1 → ∀ b, b < 1 → a ≠ b → (TX15 a).2.1 ≠ (TX15 b).2.1 := by decide +kernel
theorem tyX15_ok : ∀ k, k < 1 → parseFieldDescriptor (TX15 k).2.2.1 = some (tyX15 k) := by decide +kernel
abbrev cX15_init : ByteArray := prog_4_method_1_code
def yX15_init : MethodName := ⟨RX15, "<init>", "(I)V"⟩
def dkwX15_init_0 : List UInt8 := [42, 183, 0, 1, 42, 27, 188, 8, 181, 0, 7, 177]
abbrev dktX15_init_0 : List UInt8 := dkwX15_init_0 ++ []
theorem dksX15_init_0 : cX15_init.data.toList.drop 0 = dktX15_init_0 := by decide +kernel
theorem dX15_init_0 : decode cX15_init 0 = .ok (.aload_n 0, 1) := dk_42 (dk_at dksX15_init_0 0 rfl rfl)
theorem dX15_init_1 : decode cX15_init 1 = .ok (.invokespecial 1, 3) := dk_183 0 1 (dk_at dksX15_init_0 1 rfl rfl)
theorem dX15_init_4 : decode cX15_init 4 = .ok (.aload_n 0, 1) := dk_42 (dk_at dksX15_init_0 4 rfl rfl)
theorem dX15_init_5 : decode cX15_init 5 = .ok (.iload_n 1, 1) := dk_27 (dk_at dksX15_init_0 5 rfl rfl)
theorem dX15_init_6 : decode cX15_init 6 = .ok (.newarray .byte, 2) := dk_188_8 (dk_at dksX15_init_0 6 rfl rfl)
theorem dX15_init_8 : decode cX15_init 8 = .ok (.putfield 7, 3) := dk_181 0 7 (dk_at dksX15_init_0 8 rfl rfl)
theorem dX15_init_11 : decode cX15_init 11 = .ok (.return_, 1) := dk_177 (dk_at dksX15_init_0 11 rfl rfl)
abbrev cX15_put : ByteArray := prog_4_method_4_code
def yX15_put : MethodName := ⟨RX15, "put", "(IJ)V"⟩
def dkwX15_put_0 : List UInt8 := [42, 180, 0, 7, 27, 32, 136, 145, 84, 177]
abbrev dktX15_put_0 : List UInt8 := dkwX15_put_0 ++ []
theorem dksX15_put_0 : cX15_put.data.toList.drop 0 = dktX15_put_0 := by decide +kernel
theorem dX15_put_0 : decode cX15_put 0 = .ok (.aload_n 0, 1) := dk_42 (dk_at dksX15_put_0 0 rfl rfl)
theorem dX15_put_1 : decode cX15_put 1 = .ok (.getfield 7, 3) := dk_180 0 7 (dk_at dksX15_put_0 1 rfl rfl)
theorem dX15_put_4 : decode cX15_put 4 = .ok (.iload_n 1, 1) := dk_27 (dk_at dksX15_put_0 4 rfl rfl)
theorem dX15_put_5 : decode cX15_put 5 = .ok (.lload_n 2, 1) := dk_32 (dk_at dksX15_put_0 5 rfl rfl)
theorem dX15_put_6 : decode cX15_put 6 = .ok (.l2i, 1) := dk_136 (dk_at dksX15_put_0 6 rfl rfl)
theorem dX15_put_7 : decode cX15_put 7 = .ok (.i2b, 1) := dk_145 (dk_at dksX15_put_0 7 rfl rfl)
theorem dX15_put_8 : decode cX15_put 8 = .ok (.bastore, 1) := dk_84 (dk_at dksX15_put_0 8 rfl rfl)
theorem dX15_put_9 : decode cX15_put 9 = .ok (.return_, 1) := dk_177 (dk_at dksX15_put_0 9 rfl rfl)
abbrev cX15_sort : ByteArray := prog_4_method_2_code
def yX15_sort : MethodName := ⟨RX15, "sort", "()I"⟩
theorem dX15_sort_0 : decode cX15_sort 0 = .ok (.iconst 0, 1) := by decide +kernel
theorem dX15_sort_1 : decode cX15_sort 1 = .ok (.ireturn, 1) := by decide +kernel
abbrev cX15_held : ByteArray := prog_4_method_8_code
def yX15_held : MethodName := ⟨RX15, "held", "()Ljava/lang/Object;"⟩
theorem dX15_held_0 : decode cX15_held 0 = .ok (.aload_n 0, 1) := by decide +kernel
theorem dX15_held_1 : decode cX15_held 1 = .ok (.getfield 7, 3) := by decide +kernel
theorem dX15_held_4 : decode cX15_held 4 = .ok (.areturn, 1) := by decide +kernel
abbrev cX15_get : ByteArray := prog_4_method_5_code
def yX15_get : MethodName := ⟨RX15, "get", "(I)J"⟩
def dkwX15_get_0 : List UInt8 := [42, 180, 0, 7, 27, 51, 133, 173]
abbrev dktX15_get_0 : List UInt8 := dkwX15_get_0 ++ []
theorem dksX15_get_0 : cX15_get.data.toList.drop 0 = dktX15_get_0 := by decide +kernel
theorem dX15_get_0 : decode cX15_get 0 = .ok (.aload_n 0, 1) := dk_42 (dk_at dksX15_get_0 0 rfl rfl)
theorem dX15_get_1 : decode cX15_get 1 = .ok (.getfield 7, 3) := dk_180 0 7 (dk_at dksX15_get_0 1 rfl rfl)
theorem dX15_get_4 : decode cX15_get 4 = .ok (.iload_n 1, 1) := dk_27 (dk_at dksX15_get_0 4 rfl rfl)
theorem dX15_get_5 : decode cX15_get 5 = .ok (.baload, 1) := dk_51 (dk_at dksX15_get_0 5 rfl rfl)
theorem dX15_get_6 : decode cX15_get 6 = .ok (.i2l, 1) := dk_133 (dk_at dksX15_get_0 6 rfl rfl)
theorem dX15_get_7 : decode cX15_get 7 = .ok (.lreturn, 1) := dk_173 (dk_at dksX15_get_0 7 rfl rfl)
abbrev cX15_length : ByteArray := prog_4_method_3_code
def yX15_length : MethodName := ⟨RX15, "length", "()I"⟩
def dkwX15_length_0 : List UInt8 := [42, 180, 0, 7, 190, 172]
abbrev dktX15_length_0 : List UInt8 := dkwX15_length_0 ++ []
theorem dksX15_length_0 : cX15_length.data.toList.drop 0 = dktX15_length_0 := by decide +kernel
theorem dX15_length_0 : decode cX15_length 0 = .ok (.aload_n 0, 1) := dk_42 (dk_at dksX15_length_0 0 rfl rfl)
theorem dX15_length_1 : decode cX15_length 1 = .ok (.getfield 7, 3) := dk_180 0 7 (dk_at dksX15_length_0 1 rfl rfl)
theorem dX15_length_4 : decode cX15_length 4 = .ok (.arraylength, 1) := dk_190 (dk_at dksX15_length_0 4 rfl rfl)
theorem dX15_length_5 : decode cX15_length 5 = .ok (.ireturn, 1) := dk_172 (dk_at dksX15_length_0 5 rfl rfl)
theorem q105 : (Jvm.Cond.initialized "WhichOneAllKnow$Bytes") ∈ lw_all := lw_g (lw_at lw_m1 23 rfl) rfl
theorem q532 : (Jvm.Cond.instantiable "WhichOneAllKnow$Bytes" (1 : Nat)) ∈ lw_all := lw_g (lw_at lw_m2 210 rfl) rfl
theorem q534 : (Jvm.Cond.instanceMethod ({ cls := "WhichOneAllKnow$Bytes", name := "<init>", desc := "(I)V" } : Jvm.MethodName)) ∈ lw_all := lw_g (lw_at lw_m2 212 rfl) rfl
theorem q535 : (Jvm.Cond.code ({ cls := "WhichOneAllKnow$Bytes", name := "<init>", desc := "(I)V" } : Jvm.MethodName) prog_4_method_1_code (2 : Nat) (Option.none : Option Jvm.ClassFile.FieldType)) ∈ lw_all := lw_g (lw_at lw_m2 213 rfl) rfl
theorem q536 : (Jvm.Cond.methodLink "WhichOneAllKnow$Bytes" (1 : Nat) ({ cls := "WhichOneAllKnow$Row", name := "<init>", desc := "()V" } : Jvm.MethodName)) ∈ lw_all := lw_g (lw_at lw_m2 214 rfl) rfl
theorem q540 : (Jvm.Cond.fieldLink "WhichOneAllKnow$Bytes" (7 : Nat) "WhichOneAllKnow$Bytes" "e" "[B") ∈ lw_all := lw_g (lw_at lw_m2 218 rfl) rfl
theorem q541 : (Jvm.Cond.laysFinal "WhichOneAllKnow$Bytes" "WhichOneAllKnow$Bytes" "e" "[B") ∈ lw_all := lw_g (lw_at lw_m2 219 rfl) rfl
theorem q542 : (Jvm.Cond.soleField "WhichOneAllKnow$Bytes" "e") ∈ lw_all := lw_g (lw_at lw_m2 220 rfl) rfl
theorem q543 : (Jvm.Cond.superclass "WhichOneAllKnow$Bytes" "WhichOneAllKnow$Row") ∈ lw_all := lw_g (lw_at lw_m2 221 rfl) rfl
theorem q609 : (Jvm.Cond.selects "WhichOneAllKnow$Bytes" ({ cls := "WhichOneAllKnow$Row", name := "put", desc := "(IJ)V" } : Jvm.MethodName) ({ cls := "WhichOneAllKnow$Bytes", name := "put", desc := "(IJ)V" } : Jvm.MethodName)) ∈ lw_all := lw_g (lw_at lw_m3 47 rfl) rfl
theorem q610 : (Jvm.Cond.instanceMethod ({ cls := "WhichOneAllKnow$Bytes", name := "put", desc := "(IJ)V" } : Jvm.MethodName)) ∈ lw_all := lw_g (lw_at lw_m3 48 rfl) rfl
theorem q611 : (Jvm.Cond.code ({ cls := "WhichOneAllKnow$Bytes", name := "put", desc := "(IJ)V" } : Jvm.MethodName) prog_4_method_4_code (4 : Nat) (Option.none : Option Jvm.ClassFile.FieldType)) ∈ lw_all := lw_g (lw_at lw_m3 49 rfl) rfl
theorem q634 : (Jvm.Cond.selects "WhichOneAllKnow$Bytes" ({ cls := "WhichOneAllKnow$Row", name := "sort", desc := "()I" } : Jvm.MethodName) ({ cls := "WhichOneAllKnow$Bytes", name := "sort", desc := "()I" } : Jvm.MethodName)) ∈ lw_all := lw_g (lw_at lw_m3 72 rfl) rfl
theorem q635 : (Jvm.Cond.instanceMethod ({ cls := "WhichOneAllKnow$Bytes", name := "sort", desc := "()I" } : Jvm.MethodName)) ∈ lw_all := lw_g (lw_at lw_m3 73 rfl) rfl
theorem q636 : (Jvm.Cond.code ({ cls := "WhichOneAllKnow$Bytes", name := "sort", desc := "()I" } : Jvm.MethodName) prog_4_method_2_code (1 : Nat) (Option.some Jvm.ClassFile.FieldType.int)) ∈ lw_all := lw_g (lw_at lw_m3 74 rfl) rfl
theorem q649 : (Jvm.Cond.selects "WhichOneAllKnow$Bytes" ({ cls := "WhichOneAllKnow$Row", name := "held", desc := "()Ljava/lang/Object;" } : Jvm.MethodName) ({ cls := "WhichOneAllKnow$Bytes", name := "held", desc := "()Ljava/lang/Object;" } : Jvm.MethodName)) ∈ lw_all := lw_g (lw_at lw_m3 87 rfl) rfl
theorem q650 : (Jvm.Cond.instanceMethod ({ cls := "WhichOneAllKnow$Bytes", name := "held", desc := "()Ljava/lang/Object;" } : Jvm.MethodName)) ∈ lw_all := lw_g (lw_at lw_m3 88 rfl) rfl
theorem q651 : (Jvm.Cond.code ({ cls := "WhichOneAllKnow$Bytes", name := "held", desc := "()Ljava/lang/Object;" } : Jvm.MethodName) prog_4_method_8_code (1 : Nat) (Option.some (Jvm.ClassFile.FieldType.object "java/lang/Object"))) ∈ lw_all := lw_g (lw_at lw_m3 89 rfl) rfl
theorem q671 : (Jvm.Cond.selects "WhichOneAllKnow$Bytes" ({ cls := "WhichOneAllKnow$Row", name := "get", desc := "(I)J" } : Jvm.MethodName) ({ cls := "WhichOneAllKnow$Bytes", name := "get", desc := "(I)J" } : Jvm.MethodName)) ∈ lw_all := lw_g (lw_at lw_m3 109 rfl) rfl
theorem q672 : (Jvm.Cond.instanceMethod ({ cls := "WhichOneAllKnow$Bytes", name := "get", desc := "(I)J" } : Jvm.MethodName)) ∈ lw_all := lw_g (lw_at lw_m3 110 rfl) rfl
theorem q673 : (Jvm.Cond.code ({ cls := "WhichOneAllKnow$Bytes", name := "get", desc := "(I)J" } : Jvm.MethodName) prog_4_method_5_code (2 : Nat) (Option.some Jvm.ClassFile.FieldType.long)) ∈ lw_all := lw_g (lw_at lw_m3 111 rfl) rfl
theorem q851 : (Jvm.Cond.selects "WhichOneAllKnow$Bytes" ({ cls := "WhichOneAllKnow$Row", name := "length", desc := "()I" } : Jvm.MethodName) ({ cls := "WhichOneAllKnow$Bytes", name := "length", desc := "()I" } : Jvm.MethodName)) ∈ lw_all := lw_g (lw_at lw_m4 49 rfl) rfl
theorem q852 : (Jvm.Cond.instanceMethod ({ cls := "WhichOneAllKnow$Bytes", name := "length", desc := "()I" } : Jvm.MethodName)) ∈ lw_all := lw_g (lw_at lw_m4 50 rfl) rfl
theorem q853 : (Jvm.Cond.code ({ cls := "WhichOneAllKnow$Bytes", name := "length", desc := "()I" } : Jvm.MethodName) prog_4_method_3_code (1 : Nat) (Option.some Jvm.ClassFile.FieldType.int)) ∈ lw_all := lw_g (lw_at lw_m4 51 rfl) rfl
theorem q866 : (Jvm.Cond.selects "WhichOneAllKnow$Bytes" ({ cls := "WhichOneAllKnow$Row", name := "asInt", desc := "(I)I" } : Jvm.MethodName) ({ cls := "WhichOneAllKnow$Row", name := "asInt", desc := "(I)I" } : Jvm.MethodName)) ∈ lw_all := lw_g (lw_at lw_m4 64 rfl) rfl
theorem q1836 : (Jvm.Cond.castable "WhichOneAllKnow$Bytes" "WhichOneAllKnow$Row") ∈ lw_tbl := lw_at lw_m8 74 rfl
theorem in_X15 : ∀ w ∈ wsX150, w ∈ lw_all := lw_in wsX150 [541] (by decide +kernel) (by decide +kernel)
/-! WhichOneAllKnow$Shorts -/
set_option maxRecDepth 100000
def RX16 : String := "WhichOneAllKnow$Shorts"
def TX16 : u_T := fun k => match k with
  | _ => ("WhichOneAllKnow$Shorts", "e", "[S", true)
def tyX16 : Nat → FieldType := fun k => match k with
  | _ => .array .short
abbrev wsX160 : List Cond := u_ws RX16 TX16 1
theorem nmX16 : ∀ a, a < 1 → ∀ b, b < 1 → a ≠ b → (TX16 a).2.1 ≠ (TX16 b).2.1 := by decide +kernel
theorem tyX16_ok : ∀ k, k < 1 → parseFieldDescriptor (TX16 k).2.2.1 = some (tyX16 k) := by decide +kernel
abbrev cX16_init : ByteArray := prog_18_method_1_code
def yX16_init : MethodName := ⟨RX16, "<init>", "(I)V"⟩
def dkwX16_init_0 : List UInt8 := [42, 183, 0, 1, 42, 27, 188, 9, 181, 0, 7, 177]
abbrev dktX16_init_0 : List UInt8 := dkwX16_init_0 ++ []
theorem dksX16_init_0 : cX16_init.data.toList.drop 0 = dktX16_init_0 := by decide +kernel
theorem dX16_init_0 : decode cX16_init 0 = .ok (.aload_n 0, 1) := dk_42 (dk_at dksX16_init_0 0 rfl rfl)
theorem dX16_init_1 : decode cX16_init 1 = .ok (.invokespecial 1, 3) := dk_183 0 1 (dk_at dksX16_init_0 1 rfl rfl)
theorem dX16_init_4 : decode cX16_init 4 = .ok (.aload_n 0, 1) := dk_42 (dk_at dksX16_init_0 4 rfl rfl)
theorem dX16_init_5 : decode cX16_init 5 = .ok (.iload_n 1, 1) := dk_27 (dk_at dksX16_init_0 5 rfl rfl)
theorem dX16_init_6 : decode cX16_init 6 = .ok (.newarray .short, 2) := dk_188_9 (dk_at dksX16_init_0 6 rfl rfl)
theorem dX16_init_8 : decode cX16_init 8 = .ok (.putfield 7, 3) := dk_181 0 7 (dk_at dksX16_init_0 8 rfl rfl)
theorem dX16_init_11 : decode cX16_init 11 = .ok (.return_, 1) := dk_177 (dk_at dksX16_init_0 11 rfl rfl)
abbrev cX16_put : ByteArray := prog_18_method_4_code
def yX16_put : MethodName := ⟨RX16, "put", "(IJ)V"⟩
def dkwX16_put_0 : List UInt8 := [42, 180, 0, 7, 27, 32, 136, 147, 86, 177]
abbrev dktX16_put_0 : List UInt8 := dkwX16_put_0 ++ []
theorem dksX16_put_0 : cX16_put.data.toList.drop 0 = dktX16_put_0 := by decide +kernel
theorem dX16_put_0 : decode cX16_put 0 = .ok (.aload_n 0, 1) := dk_42 (dk_at dksX16_put_0 0 rfl rfl)
theorem dX16_put_1 : decode cX16_put 1 = .ok (.getfield 7, 3) := dk_180 0 7 (dk_at dksX16_put_0 1 rfl rfl)
theorem dX16_put_4 : decode cX16_put 4 = .ok (.iload_n 1, 1) := dk_27 (dk_at dksX16_put_0 4 rfl rfl)
theorem dX16_put_5 : decode cX16_put 5 = .ok (.lload_n 2, 1) := dk_32 (dk_at dksX16_put_0 5 rfl rfl)
theorem dX16_put_6 : decode cX16_put 6 = .ok (.l2i, 1) := dk_136 (dk_at dksX16_put_0 6 rfl rfl)
theorem dX16_put_7 : decode cX16_put 7 = .ok (.i2s, 1) := dk_147 (dk_at dksX16_put_0 7 rfl rfl)
theorem dX16_put_8 : decode cX16_put 8 = .ok (.sastore, 1) := dk_86 (dk_at dksX16_put_0 8 rfl rfl)
theorem dX16_put_9 : decode cX16_put 9 = .ok (.return_, 1) := dk_177 (dk_at dksX16_put_0 9 rfl rfl)
abbrev cX16_sort : ByteArray := prog_18_method_2_code
def yX16_sort : MethodName := ⟨RX16, "sort", "()I"⟩
theorem dX16_sort_0 : decode cX16_sort 0 = .ok (.iconst 1, 1) := by decide +kernel
theorem dX16_sort_1 : decode cX16_sort 1 = .ok (.ireturn, 1) := by decide +kernel
abbrev cX16_held : ByteArray := prog_18_method_8_code
def yX16_held : MethodName := ⟨RX16, "held", "()Ljava/lang/Object;"⟩
theorem dX16_held_0 : decode cX16_held 0 = .ok (.aload_n 0, 1) := by decide +kernel
theorem dX16_held_1 : decode cX16_held 1 = .ok (.getfield 7, 3) := by decide +kernel
theorem dX16_held_4 : decode cX16_held 4 = .ok (.areturn, 1) := by decide +kernel
abbrev cX16_get : ByteArray := prog_18_method_5_code
def yX16_get : MethodName := ⟨RX16, "get", "(I)J"⟩
def dkwX16_get_0 : List UInt8 := [42, 180, 0, 7, 27, 53, 133, 173]
abbrev dktX16_get_0 : List UInt8 := dkwX16_get_0 ++ []
theorem dksX16_get_0 : cX16_get.data.toList.drop 0 = dktX16_get_0 := by decide +kernel
theorem dX16_get_0 : decode cX16_get 0 = .ok (.aload_n 0, 1) := dk_42 (dk_at dksX16_get_0 0 rfl rfl)
theorem dX16_get_1 : decode cX16_get 1 = .ok (.getfield 7, 3) := dk_180 0 7 (dk_at dksX16_get_0 1 rfl rfl)
theorem dX16_get_4 : decode cX16_get 4 = .ok (.iload_n 1, 1) := dk_27 (dk_at dksX16_get_0 4 rfl rfl)
theorem dX16_get_5 : decode cX16_get 5 = .ok (.saload, 1) := dk_53 (dk_at dksX16_get_0 5 rfl rfl)
theorem dX16_get_6 : decode cX16_get 6 = .ok (.i2l, 1) := dk_133 (dk_at dksX16_get_0 6 rfl rfl)
theorem dX16_get_7 : decode cX16_get 7 = .ok (.lreturn, 1) := dk_173 (dk_at dksX16_get_0 7 rfl rfl)
abbrev cX16_length : ByteArray := prog_18_method_3_code
def yX16_length : MethodName := ⟨RX16, "length", "()I"⟩
def dkwX16_length_0 : List UInt8 := [42, 180, 0, 7, 190, 172]
abbrev dktX16_length_0 : List UInt8 := dkwX16_length_0 ++ []
theorem dksX16_length_0 : cX16_length.data.toList.drop 0 = dktX16_length_0 := by decide +kernel
theorem dX16_length_0 : decode cX16_length 0 = .ok (.aload_n 0, 1) := dk_42 (dk_at dksX16_length_0 0 rfl rfl)
theorem dX16_length_1 : decode cX16_length 1 = .ok (.getfield 7, 3) := dk_180 0 7 (dk_at dksX16_length_0 1 rfl rfl)
theorem dX16_length_4 : decode cX16_length 4 = .ok (.arraylength, 1) := dk_190 (dk_at dksX16_length_0 4 rfl rfl)
theorem dX16_length_5 : decode cX16_length 5 = .ok (.ireturn, 1) := dk_172 (dk_at dksX16_length_0 5 rfl rfl)
theorem q106 : (Jvm.Cond.initialized "WhichOneAllKnow$Shorts") ∈ lw_all := lw_g (lw_at lw_m1 24 rfl) rfl
theorem q545 : (Jvm.Cond.instantiable "WhichOneAllKnow$Shorts" (1 : Nat)) ∈ lw_all := lw_g (lw_at lw_m2 223 rfl) rfl
theorem q547 : (Jvm.Cond.instanceMethod ({ cls := "WhichOneAllKnow$Shorts", name := "<init>", desc := "(I)V" } : Jvm.MethodName)) ∈ lw_all := lw_g (lw_at lw_m2 225 rfl) rfl
theorem q548 : (Jvm.Cond.code ({ cls := "WhichOneAllKnow$Shorts", name := "<init>", desc := "(I)V" } : Jvm.MethodName) prog_18_method_1_code (2 : Nat) (Option.none : Option Jvm.ClassFile.FieldType)) ∈ lw_all := lw_g (lw_at lw_m2 226 rfl) rfl
theorem q549 : (Jvm.Cond.methodLink "WhichOneAllKnow$Shorts" (1 : Nat) ({ cls := "WhichOneAllKnow$Row", name := "<init>", desc := "()V" } : Jvm.MethodName)) ∈ lw_all := lw_g (lw_at lw_m2 227 rfl) rfl
theorem q550 : (Jvm.Cond.fieldLink "WhichOneAllKnow$Shorts" (7 : Nat) "WhichOneAllKnow$Shorts" "e" "[S") ∈ lw_all := lw_g (lw_at lw_m2 228 rfl) rfl
theorem q551 : (Jvm.Cond.laysFinal "WhichOneAllKnow$Shorts" "WhichOneAllKnow$Shorts" "e" "[S") ∈ lw_all := lw_g (lw_at lw_m2 229 rfl) rfl
theorem q552 : (Jvm.Cond.soleField "WhichOneAllKnow$Shorts" "e") ∈ lw_all := lw_g (lw_at lw_m2 230 rfl) rfl
theorem q553 : (Jvm.Cond.superclass "WhichOneAllKnow$Shorts" "WhichOneAllKnow$Row") ∈ lw_all := lw_g (lw_at lw_m2 231 rfl) rfl
theorem q618 : (Jvm.Cond.selects "WhichOneAllKnow$Shorts" ({ cls := "WhichOneAllKnow$Row", name := "put", desc := "(IJ)V" } : Jvm.MethodName) ({ cls := "WhichOneAllKnow$Shorts", name := "put", desc := "(IJ)V" } : Jvm.MethodName)) ∈ lw_all := lw_g (lw_at lw_m3 56 rfl) rfl
theorem q619 : (Jvm.Cond.instanceMethod ({ cls := "WhichOneAllKnow$Shorts", name := "put", desc := "(IJ)V" } : Jvm.MethodName)) ∈ lw_all := lw_g (lw_at lw_m3 57 rfl) rfl
theorem q620 : (Jvm.Cond.code ({ cls := "WhichOneAllKnow$Shorts", name := "put", desc := "(IJ)V" } : Jvm.MethodName) prog_18_method_4_code (4 : Nat) (Option.none : Option Jvm.ClassFile.FieldType)) ∈ lw_all := lw_g (lw_at lw_m3 58 rfl) rfl
theorem q643 : (Jvm.Cond.selects "WhichOneAllKnow$Shorts" ({ cls := "WhichOneAllKnow$Row", name := "sort", desc := "()I" } : Jvm.MethodName) ({ cls := "WhichOneAllKnow$Shorts", name := "sort", desc := "()I" } : Jvm.MethodName)) ∈ lw_all := lw_g (lw_at lw_m3 81 rfl) rfl
theorem q644 : (Jvm.Cond.instanceMethod ({ cls := "WhichOneAllKnow$Shorts", name := "sort", desc := "()I" } : Jvm.MethodName)) ∈ lw_all := lw_g (lw_at lw_m3 82 rfl) rfl
theorem q645 : (Jvm.Cond.code ({ cls := "WhichOneAllKnow$Shorts", name := "sort", desc := "()I" } : Jvm.MethodName) prog_18_method_2_code (1 : Nat) (Option.some Jvm.ClassFile.FieldType.int)) ∈ lw_all := lw_g (lw_at lw_m3 83 rfl) rfl
theorem q658 : (Jvm.Cond.selects "WhichOneAllKnow$Shorts" ({ cls := "WhichOneAllKnow$Row", name := "held", desc := "()Ljava/lang/Object;" } : Jvm.MethodName) ({ cls := "WhichOneAllKnow$Shorts", name := "held", desc := "()Ljava/lang/Object;" } : Jvm.MethodName)) ∈ lw_all := lw_g (lw_at lw_m3 96 rfl) rfl
theorem q659 : (Jvm.Cond.instanceMethod ({ cls := "WhichOneAllKnow$Shorts", name := "held", desc := "()Ljava/lang/Object;" } : Jvm.MethodName)) ∈ lw_all := lw_g (lw_at lw_m3 97 rfl) rfl
theorem q660 : (Jvm.Cond.code ({ cls := "WhichOneAllKnow$Shorts", name := "held", desc := "()Ljava/lang/Object;" } : Jvm.MethodName) prog_18_method_8_code (1 : Nat) (Option.some (Jvm.ClassFile.FieldType.object "java/lang/Object"))) ∈ lw_all := lw_g (lw_at lw_m3 98 rfl) rfl
theorem q680 : (Jvm.Cond.selects "WhichOneAllKnow$Shorts" ({ cls := "WhichOneAllKnow$Row", name := "get", desc := "(I)J" } : Jvm.MethodName) ({ cls := "WhichOneAllKnow$Shorts", name := "get", desc := "(I)J" } : Jvm.MethodName)) ∈ lw_all := lw_g (lw_at lw_m3 118 rfl) rfl
theorem q681 : (Jvm.Cond.instanceMethod ({ cls := "WhichOneAllKnow$Shorts", name := "get", desc := "(I)J" } : Jvm.MethodName)) ∈ lw_all := lw_g (lw_at lw_m3 119 rfl) rfl
theorem q682 : (Jvm.Cond.code ({ cls := "WhichOneAllKnow$Shorts", name := "get", desc := "(I)J" } : Jvm.MethodName) prog_18_method_5_code (2 : Nat) (Option.some Jvm.ClassFile.FieldType.long)) ∈ lw_all := lw_g (lw_at lw_m3 120 rfl) rfl
theorem q860 : (Jvm.Cond.selects "WhichOneAllKnow$Shorts" ({ cls := "WhichOneAllKnow$Row", name := "length", desc := "()I" } : Jvm.MethodName) ({ cls := "WhichOneAllKnow$Shorts", name := "length", desc := "()I" } : Jvm.MethodName)) ∈ lw_all := lw_g (lw_at lw_m4 58 rfl) rfl
theorem q861 : (Jvm.Cond.instanceMethod ({ cls := "WhichOneAllKnow$Shorts", name := "length", desc := "()I" } : Jvm.MethodName)) ∈ lw_all := lw_g (lw_at lw_m4 59 rfl) rfl
theorem q862 : (Jvm.Cond.code ({ cls := "WhichOneAllKnow$Shorts", name := "length", desc := "()I" } : Jvm.MethodName) prog_18_method_3_code (1 : Nat) (Option.some Jvm.ClassFile.FieldType.int)) ∈ lw_all := lw_g (lw_at lw_m4 60 rfl) rfl
theorem q869 : (Jvm.Cond.selects "WhichOneAllKnow$Shorts" ({ cls := "WhichOneAllKnow$Row", name := "asInt", desc := "(I)I" } : Jvm.MethodName) ({ cls := "WhichOneAllKnow$Row", name := "asInt", desc := "(I)I" } : Jvm.MethodName)) ∈ lw_all := lw_g (lw_at lw_m4 67 rfl) rfl
theorem q1839 : (Jvm.Cond.castable "WhichOneAllKnow$Shorts" "WhichOneAllKnow$Row") ∈ lw_tbl := lw_at lw_m8 77 rfl
theorem in_X16 : ∀ w ∈ wsX160, w ∈ lw_all := lw_in wsX160 [551] (by decide +kernel) (by decide +kernel)
/-! WhichOneAllKnow$Ints -/
set_option maxRecDepth 100000
def RX17 : String := "WhichOneAllKnow$Ints"
def TX17 : u_T := fun k => match k with
  | _ => ("WhichOneAllKnow$Ints", "e", "[I", true)
def tyX17 : Nat → FieldType := fun k => match k with
  | _ => .array .int
abbrev wsX170 : List Cond := u_ws RX17 TX17 1
theorem nmX17 : ∀ a, a < 1 → ∀ b, b < 1 → a ≠ b → (TX17 a).2.1 ≠ (TX17 b).2.1 := by decide +kernel
theorem tyX17_ok : ∀ k, k < 1 → parseFieldDescriptor (TX17 k).2.2.1 = some (tyX17 k) := by decide +kernel
abbrev cX17_init : ByteArray := prog_9_method_1_code
def yX17_init : MethodName := ⟨RX17, "<init>", "(I)V"⟩
def dkwX17_init_0 : List UInt8 := [42, 183, 0, 1, 42, 27, 188, 10, 181, 0, 7, 177]
abbrev dktX17_init_0 : List UInt8 := dkwX17_init_0 ++ []
theorem dksX17_init_0 : cX17_init.data.toList.drop 0 = dktX17_init_0 := by decide +kernel
theorem dX17_init_0 : decode cX17_init 0 = .ok (.aload_n 0, 1) := dk_42 (dk_at dksX17_init_0 0 rfl rfl)
theorem dX17_init_1 : decode cX17_init 1 = .ok (.invokespecial 1, 3) := dk_183 0 1 (dk_at dksX17_init_0 1 rfl rfl)
theorem dX17_init_4 : decode cX17_init 4 = .ok (.aload_n 0, 1) := dk_42 (dk_at dksX17_init_0 4 rfl rfl)
theorem dX17_init_5 : decode cX17_init 5 = .ok (.iload_n 1, 1) := dk_27 (dk_at dksX17_init_0 5 rfl rfl)
theorem dX17_init_6 : decode cX17_init 6 = .ok (.newarray .int, 2) := dk_188_10 (dk_at dksX17_init_0 6 rfl rfl)
theorem dX17_init_8 : decode cX17_init 8 = .ok (.putfield 7, 3) := dk_181 0 7 (dk_at dksX17_init_0 8 rfl rfl)
theorem dX17_init_11 : decode cX17_init 11 = .ok (.return_, 1) := dk_177 (dk_at dksX17_init_0 11 rfl rfl)
abbrev cX17_put : ByteArray := prog_9_method_4_code
def yX17_put : MethodName := ⟨RX17, "put", "(IJ)V"⟩
def dkwX17_put_0 : List UInt8 := [42, 180, 0, 7, 27, 32, 136, 79, 177]
abbrev dktX17_put_0 : List UInt8 := dkwX17_put_0 ++ []
theorem dksX17_put_0 : cX17_put.data.toList.drop 0 = dktX17_put_0 := by decide +kernel
theorem dX17_put_0 : decode cX17_put 0 = .ok (.aload_n 0, 1) := dk_42 (dk_at dksX17_put_0 0 rfl rfl)
theorem dX17_put_1 : decode cX17_put 1 = .ok (.getfield 7, 3) := dk_180 0 7 (dk_at dksX17_put_0 1 rfl rfl)
theorem dX17_put_4 : decode cX17_put 4 = .ok (.iload_n 1, 1) := dk_27 (dk_at dksX17_put_0 4 rfl rfl)
theorem dX17_put_5 : decode cX17_put 5 = .ok (.lload_n 2, 1) := dk_32 (dk_at dksX17_put_0 5 rfl rfl)
theorem dX17_put_6 : decode cX17_put 6 = .ok (.l2i, 1) := dk_136 (dk_at dksX17_put_0 6 rfl rfl)
theorem dX17_put_7 : decode cX17_put 7 = .ok (.iastore, 1) := dk_79 (dk_at dksX17_put_0 7 rfl rfl)
theorem dX17_put_8 : decode cX17_put 8 = .ok (.return_, 1) := dk_177 (dk_at dksX17_put_0 8 rfl rfl)
abbrev cX17_sort : ByteArray := prog_9_method_2_code
def yX17_sort : MethodName := ⟨RX17, "sort", "()I"⟩
theorem dX17_sort_0 : decode cX17_sort 0 = .ok (.iconst 2, 1) := by decide +kernel
theorem dX17_sort_1 : decode cX17_sort 1 = .ok (.ireturn, 1) := by decide +kernel
abbrev cX17_held : ByteArray := prog_9_method_8_code
def yX17_held : MethodName := ⟨RX17, "held", "()Ljava/lang/Object;"⟩
theorem dX17_held_0 : decode cX17_held 0 = .ok (.aload_n 0, 1) := by decide +kernel
theorem dX17_held_1 : decode cX17_held 1 = .ok (.getfield 7, 3) := by decide +kernel
theorem dX17_held_4 : decode cX17_held 4 = .ok (.areturn, 1) := by decide +kernel
abbrev cX17_get : ByteArray := prog_9_method_5_code
def yX17_get : MethodName := ⟨RX17, "get", "(I)J"⟩
def dkwX17_get_0 : List UInt8 := [42, 180, 0, 7, 27, 46, 133, 173]
abbrev dktX17_get_0 : List UInt8 := dkwX17_get_0 ++ []
theorem dksX17_get_0 : cX17_get.data.toList.drop 0 = dktX17_get_0 := by decide +kernel
theorem dX17_get_0 : decode cX17_get 0 = .ok (.aload_n 0, 1) := dk_42 (dk_at dksX17_get_0 0 rfl rfl)
theorem dX17_get_1 : decode cX17_get 1 = .ok (.getfield 7, 3) := dk_180 0 7 (dk_at dksX17_get_0 1 rfl rfl)
theorem dX17_get_4 : decode cX17_get 4 = .ok (.iload_n 1, 1) := dk_27 (dk_at dksX17_get_0 4 rfl rfl)
theorem dX17_get_5 : decode cX17_get 5 = .ok (.iaload, 1) := dk_46 (dk_at dksX17_get_0 5 rfl rfl)
theorem dX17_get_6 : decode cX17_get 6 = .ok (.i2l, 1) := dk_133 (dk_at dksX17_get_0 6 rfl rfl)
theorem dX17_get_7 : decode cX17_get 7 = .ok (.lreturn, 1) := dk_173 (dk_at dksX17_get_0 7 rfl rfl)
abbrev cX17_length : ByteArray := prog_9_method_3_code
def yX17_length : MethodName := ⟨RX17, "length", "()I"⟩
def dkwX17_length_0 : List UInt8 := [42, 180, 0, 7, 190, 172]
abbrev dktX17_length_0 : List UInt8 := dkwX17_length_0 ++ []
theorem dksX17_length_0 : cX17_length.data.toList.drop 0 = dktX17_length_0 := by decide +kernel
theorem dX17_length_0 : decode cX17_length 0 = .ok (.aload_n 0, 1) := dk_42 (dk_at dksX17_length_0 0 rfl rfl)
theorem dX17_length_1 : decode cX17_length 1 = .ok (.getfield 7, 3) := dk_180 0 7 (dk_at dksX17_length_0 1 rfl rfl)
theorem dX17_length_4 : decode cX17_length 4 = .ok (.arraylength, 1) := dk_190 (dk_at dksX17_length_0 4 rfl rfl)
theorem dX17_length_5 : decode cX17_length 5 = .ok (.ireturn, 1) := dk_172 (dk_at dksX17_length_0 5 rfl rfl)
theorem q107 : (Jvm.Cond.initialized "WhichOneAllKnow$Ints") ∈ lw_all := lw_g (lw_at lw_m1 25 rfl) rfl
theorem q556 : (Jvm.Cond.instantiable "WhichOneAllKnow$Ints" (1 : Nat)) ∈ lw_all := lw_g (lw_at lw_m2 234 rfl) rfl
theorem q558 : (Jvm.Cond.instanceMethod ({ cls := "WhichOneAllKnow$Ints", name := "<init>", desc := "(I)V" } : Jvm.MethodName)) ∈ lw_all := lw_g (lw_at lw_m2 236 rfl) rfl
theorem q559 : (Jvm.Cond.code ({ cls := "WhichOneAllKnow$Ints", name := "<init>", desc := "(I)V" } : Jvm.MethodName) prog_9_method_1_code (2 : Nat) (Option.none : Option Jvm.ClassFile.FieldType)) ∈ lw_all := lw_g (lw_at lw_m2 237 rfl) rfl
theorem q560 : (Jvm.Cond.methodLink "WhichOneAllKnow$Ints" (1 : Nat) ({ cls := "WhichOneAllKnow$Row", name := "<init>", desc := "()V" } : Jvm.MethodName)) ∈ lw_all := lw_g (lw_at lw_m2 238 rfl) rfl
theorem q561 : (Jvm.Cond.fieldLink "WhichOneAllKnow$Ints" (7 : Nat) "WhichOneAllKnow$Ints" "e" "[I") ∈ lw_all := lw_g (lw_at lw_m2 239 rfl) rfl
theorem q562 : (Jvm.Cond.laysFinal "WhichOneAllKnow$Ints" "WhichOneAllKnow$Ints" "e" "[I") ∈ lw_all := lw_g (lw_at lw_m3 0 rfl) rfl
theorem q563 : (Jvm.Cond.soleField "WhichOneAllKnow$Ints" "e") ∈ lw_all := lw_g (lw_at lw_m3 1 rfl) rfl
theorem q564 : (Jvm.Cond.superclass "WhichOneAllKnow$Ints" "WhichOneAllKnow$Row") ∈ lw_all := lw_g (lw_at lw_m3 2 rfl) rfl
theorem q612 : (Jvm.Cond.selects "WhichOneAllKnow$Ints" ({ cls := "WhichOneAllKnow$Row", name := "put", desc := "(IJ)V" } : Jvm.MethodName) ({ cls := "WhichOneAllKnow$Ints", name := "put", desc := "(IJ)V" } : Jvm.MethodName)) ∈ lw_all := lw_g (lw_at lw_m3 50 rfl) rfl
theorem q613 : (Jvm.Cond.instanceMethod ({ cls := "WhichOneAllKnow$Ints", name := "put", desc := "(IJ)V" } : Jvm.MethodName)) ∈ lw_all := lw_g (lw_at lw_m3 51 rfl) rfl
theorem q614 : (Jvm.Cond.code ({ cls := "WhichOneAllKnow$Ints", name := "put", desc := "(IJ)V" } : Jvm.MethodName) prog_9_method_4_code (4 : Nat) (Option.none : Option Jvm.ClassFile.FieldType)) ∈ lw_all := lw_g (lw_at lw_m3 52 rfl) rfl
theorem q637 : (Jvm.Cond.selects "WhichOneAllKnow$Ints" ({ cls := "WhichOneAllKnow$Row", name := "sort", desc := "()I" } : Jvm.MethodName) ({ cls := "WhichOneAllKnow$Ints", name := "sort", desc := "()I" } : Jvm.MethodName)) ∈ lw_all := lw_g (lw_at lw_m3 75 rfl) rfl
theorem q638 : (Jvm.Cond.instanceMethod ({ cls := "WhichOneAllKnow$Ints", name := "sort", desc := "()I" } : Jvm.MethodName)) ∈ lw_all := lw_g (lw_at lw_m3 76 rfl) rfl
theorem q639 : (Jvm.Cond.code ({ cls := "WhichOneAllKnow$Ints", name := "sort", desc := "()I" } : Jvm.MethodName) prog_9_method_2_code (1 : Nat) (Option.some Jvm.ClassFile.FieldType.int)) ∈ lw_all := lw_g (lw_at lw_m3 77 rfl) rfl
theorem q652 : (Jvm.Cond.selects "WhichOneAllKnow$Ints" ({ cls := "WhichOneAllKnow$Row", name := "held", desc := "()Ljava/lang/Object;" } : Jvm.MethodName) ({ cls := "WhichOneAllKnow$Ints", name := "held", desc := "()Ljava/lang/Object;" } : Jvm.MethodName)) ∈ lw_all := lw_g (lw_at lw_m3 90 rfl) rfl
theorem q653 : (Jvm.Cond.instanceMethod ({ cls := "WhichOneAllKnow$Ints", name := "held", desc := "()Ljava/lang/Object;" } : Jvm.MethodName)) ∈ lw_all := lw_g (lw_at lw_m3 91 rfl) rfl
theorem q654 : (Jvm.Cond.code ({ cls := "WhichOneAllKnow$Ints", name := "held", desc := "()Ljava/lang/Object;" } : Jvm.MethodName) prog_9_method_8_code (1 : Nat) (Option.some (Jvm.ClassFile.FieldType.object "java/lang/Object"))) ∈ lw_all := lw_g (lw_at lw_m3 92 rfl) rfl
theorem q674 : (Jvm.Cond.selects "WhichOneAllKnow$Ints" ({ cls := "WhichOneAllKnow$Row", name := "get", desc := "(I)J" } : Jvm.MethodName) ({ cls := "WhichOneAllKnow$Ints", name := "get", desc := "(I)J" } : Jvm.MethodName)) ∈ lw_all := lw_g (lw_at lw_m3 112 rfl) rfl
theorem q675 : (Jvm.Cond.instanceMethod ({ cls := "WhichOneAllKnow$Ints", name := "get", desc := "(I)J" } : Jvm.MethodName)) ∈ lw_all := lw_g (lw_at lw_m3 113 rfl) rfl
theorem q676 : (Jvm.Cond.code ({ cls := "WhichOneAllKnow$Ints", name := "get", desc := "(I)J" } : Jvm.MethodName) prog_9_method_5_code (2 : Nat) (Option.some Jvm.ClassFile.FieldType.long)) ∈ lw_all := lw_g (lw_at lw_m3 114 rfl) rfl
theorem q854 : (Jvm.Cond.selects "WhichOneAllKnow$Ints" ({ cls := "WhichOneAllKnow$Row", name := "length", desc := "()I" } : Jvm.MethodName) ({ cls := "WhichOneAllKnow$Ints", name := "length", desc := "()I" } : Jvm.MethodName)) ∈ lw_all := lw_g (lw_at lw_m4 52 rfl) rfl
theorem q855 : (Jvm.Cond.instanceMethod ({ cls := "WhichOneAllKnow$Ints", name := "length", desc := "()I" } : Jvm.MethodName)) ∈ lw_all := lw_g (lw_at lw_m4 53 rfl) rfl
theorem q856 : (Jvm.Cond.code ({ cls := "WhichOneAllKnow$Ints", name := "length", desc := "()I" } : Jvm.MethodName) prog_9_method_3_code (1 : Nat) (Option.some Jvm.ClassFile.FieldType.int)) ∈ lw_all := lw_g (lw_at lw_m4 54 rfl) rfl
theorem q867 : (Jvm.Cond.selects "WhichOneAllKnow$Ints" ({ cls := "WhichOneAllKnow$Row", name := "asInt", desc := "(I)I" } : Jvm.MethodName) ({ cls := "WhichOneAllKnow$Row", name := "asInt", desc := "(I)I" } : Jvm.MethodName)) ∈ lw_all := lw_g (lw_at lw_m4 65 rfl) rfl
theorem q1837 : (Jvm.Cond.castable "WhichOneAllKnow$Ints" "WhichOneAllKnow$Row") ∈ lw_tbl := lw_at lw_m8 75 rfl
theorem in_X17 : ∀ w ∈ wsX170, w ∈ lw_all := lw_in wsX170 [562] (by decide +kernel) (by decide +kernel)
/-! WhichOneAllKnow$Longs -/
set_option maxRecDepth 100000
def RX18 : String := "WhichOneAllKnow$Longs"
def TX18 : u_T := fun k => match k with
  | _ => ("WhichOneAllKnow$Longs", "e", "[J", true)
def tyX18 : Nat → FieldType := fun k => match k with
  | _ => .array .long
abbrev wsX180 : List Cond := u_ws RX18 TX18 1
theorem nmX18 : ∀ a, a < 1 → ∀ b, b < 1 → a ≠ b → (TX18 a).2.1 ≠ (TX18 b).2.1 := by decide +kernel
theorem tyX18_ok : ∀ k, k < 1 → parseFieldDescriptor (TX18 k).2.2.1 = some (tyX18 k) := by decide +kernel
abbrev cX18_init : ByteArray := prog_12_method_1_code
def yX18_init : MethodName := ⟨RX18, "<init>", "(I)V"⟩
def dkwX18_init_0 : List UInt8 := [42, 183, 0, 1, 42, 27, 188, 11, 181, 0, 7, 177]
abbrev dktX18_init_0 : List UInt8 := dkwX18_init_0 ++ []
theorem dksX18_init_0 : cX18_init.data.toList.drop 0 = dktX18_init_0 := by decide +kernel
theorem dX18_init_0 : decode cX18_init 0 = .ok (.aload_n 0, 1) := dk_42 (dk_at dksX18_init_0 0 rfl rfl)
theorem dX18_init_1 : decode cX18_init 1 = .ok (.invokespecial 1, 3) := dk_183 0 1 (dk_at dksX18_init_0 1 rfl rfl)
theorem dX18_init_4 : decode cX18_init 4 = .ok (.aload_n 0, 1) := dk_42 (dk_at dksX18_init_0 4 rfl rfl)
theorem dX18_init_5 : decode cX18_init 5 = .ok (.iload_n 1, 1) := dk_27 (dk_at dksX18_init_0 5 rfl rfl)
theorem dX18_init_6 : decode cX18_init 6 = .ok (.newarray .long, 2) := dk_188_11 (dk_at dksX18_init_0 6 rfl rfl)
theorem dX18_init_8 : decode cX18_init 8 = .ok (.putfield 7, 3) := dk_181 0 7 (dk_at dksX18_init_0 8 rfl rfl)
theorem dX18_init_11 : decode cX18_init 11 = .ok (.return_, 1) := dk_177 (dk_at dksX18_init_0 11 rfl rfl)
abbrev cX18_put : ByteArray := prog_12_method_4_code
def yX18_put : MethodName := ⟨RX18, "put", "(IJ)V"⟩
def dkwX18_put_0 : List UInt8 := [42, 180, 0, 7, 27, 32, 80, 177]
abbrev dktX18_put_0 : List UInt8 := dkwX18_put_0 ++ []
theorem dksX18_put_0 : cX18_put.data.toList.drop 0 = dktX18_put_0 := by decide +kernel
theorem dX18_put_0 : decode cX18_put 0 = .ok (.aload_n 0, 1) := dk_42 (dk_at dksX18_put_0 0 rfl rfl)
theorem dX18_put_1 : decode cX18_put 1 = .ok (.getfield 7, 3) := dk_180 0 7 (dk_at dksX18_put_0 1 rfl rfl)
theorem dX18_put_4 : decode cX18_put 4 = .ok (.iload_n 1, 1) := dk_27 (dk_at dksX18_put_0 4 rfl rfl)
theorem dX18_put_5 : decode cX18_put 5 = .ok (.lload_n 2, 1) := dk_32 (dk_at dksX18_put_0 5 rfl rfl)
theorem dX18_put_6 : decode cX18_put 6 = .ok (.lastore, 1) := dk_80 (dk_at dksX18_put_0 6 rfl rfl)
theorem dX18_put_7 : decode cX18_put 7 = .ok (.return_, 1) := dk_177 (dk_at dksX18_put_0 7 rfl rfl)
abbrev cX18_sort : ByteArray := prog_12_method_2_code
def yX18_sort : MethodName := ⟨RX18, "sort", "()I"⟩
theorem dX18_sort_0 : decode cX18_sort 0 = .ok (.iconst 3, 1) := by decide +kernel
theorem dX18_sort_1 : decode cX18_sort 1 = .ok (.ireturn, 1) := by decide +kernel
abbrev cX18_held : ByteArray := prog_12_method_8_code
def yX18_held : MethodName := ⟨RX18, "held", "()Ljava/lang/Object;"⟩
theorem dX18_held_0 : decode cX18_held 0 = .ok (.aload_n 0, 1) := by decide +kernel
theorem dX18_held_1 : decode cX18_held 1 = .ok (.getfield 7, 3) := by decide +kernel
theorem dX18_held_4 : decode cX18_held 4 = .ok (.areturn, 1) := by decide +kernel
abbrev cX18_get : ByteArray := prog_12_method_5_code
def yX18_get : MethodName := ⟨RX18, "get", "(I)J"⟩
def dkwX18_get_0 : List UInt8 := [42, 180, 0, 7, 27, 47, 173]
abbrev dktX18_get_0 : List UInt8 := dkwX18_get_0 ++ []
theorem dksX18_get_0 : cX18_get.data.toList.drop 0 = dktX18_get_0 := by decide +kernel
theorem dX18_get_0 : decode cX18_get 0 = .ok (.aload_n 0, 1) := dk_42 (dk_at dksX18_get_0 0 rfl rfl)
theorem dX18_get_1 : decode cX18_get 1 = .ok (.getfield 7, 3) := dk_180 0 7 (dk_at dksX18_get_0 1 rfl rfl)
theorem dX18_get_4 : decode cX18_get 4 = .ok (.iload_n 1, 1) := dk_27 (dk_at dksX18_get_0 4 rfl rfl)
theorem dX18_get_5 : decode cX18_get 5 = .ok (.laload, 1) := dk_47 (dk_at dksX18_get_0 5 rfl rfl)
theorem dX18_get_6 : decode cX18_get 6 = .ok (.lreturn, 1) := dk_173 (dk_at dksX18_get_0 6 rfl rfl)
abbrev cX18_length : ByteArray := prog_12_method_3_code
def yX18_length : MethodName := ⟨RX18, "length", "()I"⟩
def dkwX18_length_0 : List UInt8 := [42, 180, 0, 7, 190, 172]
abbrev dktX18_length_0 : List UInt8 := dkwX18_length_0 ++ []
theorem dksX18_length_0 : cX18_length.data.toList.drop 0 = dktX18_length_0 := by decide +kernel
theorem dX18_length_0 : decode cX18_length 0 = .ok (.aload_n 0, 1) := dk_42 (dk_at dksX18_length_0 0 rfl rfl)
theorem dX18_length_1 : decode cX18_length 1 = .ok (.getfield 7, 3) := dk_180 0 7 (dk_at dksX18_length_0 1 rfl rfl)
theorem dX18_length_4 : decode cX18_length 4 = .ok (.arraylength, 1) := dk_190 (dk_at dksX18_length_0 4 rfl rfl)
theorem dX18_length_5 : decode cX18_length 5 = .ok (.ireturn, 1) := dk_172 (dk_at dksX18_length_0 5 rfl rfl)
theorem q108 : (Jvm.Cond.initialized "WhichOneAllKnow$Longs") ∈ lw_all := lw_g (lw_at lw_m1 26 rfl) rfl
theorem q566 : (Jvm.Cond.instantiable "WhichOneAllKnow$Longs" (1 : Nat)) ∈ lw_all := lw_g (lw_at lw_m3 4 rfl) rfl
theorem q568 : (Jvm.Cond.instanceMethod ({ cls := "WhichOneAllKnow$Longs", name := "<init>", desc := "(I)V" } : Jvm.MethodName)) ∈ lw_all := lw_g (lw_at lw_m3 6 rfl) rfl
theorem q569 : (Jvm.Cond.code ({ cls := "WhichOneAllKnow$Longs", name := "<init>", desc := "(I)V" } : Jvm.MethodName) prog_12_method_1_code (2 : Nat) (Option.none : Option Jvm.ClassFile.FieldType)) ∈ lw_all := lw_g (lw_at lw_m3 7 rfl) rfl
theorem q570 : (Jvm.Cond.methodLink "WhichOneAllKnow$Longs" (1 : Nat) ({ cls := "WhichOneAllKnow$Row", name := "<init>", desc := "()V" } : Jvm.MethodName)) ∈ lw_all := lw_g (lw_at lw_m3 8 rfl) rfl
theorem q571 : (Jvm.Cond.fieldLink "WhichOneAllKnow$Longs" (7 : Nat) "WhichOneAllKnow$Longs" "e" "[J") ∈ lw_all := lw_g (lw_at lw_m3 9 rfl) rfl
theorem q572 : (Jvm.Cond.laysFinal "WhichOneAllKnow$Longs" "WhichOneAllKnow$Longs" "e" "[J") ∈ lw_all := lw_g (lw_at lw_m3 10 rfl) rfl
theorem q573 : (Jvm.Cond.soleField "WhichOneAllKnow$Longs" "e") ∈ lw_all := lw_g (lw_at lw_m3 11 rfl) rfl
theorem q574 : (Jvm.Cond.superclass "WhichOneAllKnow$Longs" "WhichOneAllKnow$Row") ∈ lw_all := lw_g (lw_at lw_m3 12 rfl) rfl
theorem q615 : (Jvm.Cond.selects "WhichOneAllKnow$Longs" ({ cls := "WhichOneAllKnow$Row", name := "put", desc := "(IJ)V" } : Jvm.MethodName) ({ cls := "WhichOneAllKnow$Longs", name := "put", desc := "(IJ)V" } : Jvm.MethodName)) ∈ lw_all := lw_g (lw_at lw_m3 53 rfl) rfl
theorem q616 : (Jvm.Cond.instanceMethod ({ cls := "WhichOneAllKnow$Longs", name := "put", desc := "(IJ)V" } : Jvm.MethodName)) ∈ lw_all := lw_g (lw_at lw_m3 54 rfl) rfl
theorem q617 : (Jvm.Cond.code ({ cls := "WhichOneAllKnow$Longs", name := "put", desc := "(IJ)V" } : Jvm.MethodName) prog_12_method_4_code (4 : Nat) (Option.none : Option Jvm.ClassFile.FieldType)) ∈ lw_all := lw_g (lw_at lw_m3 55 rfl) rfl
theorem q640 : (Jvm.Cond.selects "WhichOneAllKnow$Longs" ({ cls := "WhichOneAllKnow$Row", name := "sort", desc := "()I" } : Jvm.MethodName) ({ cls := "WhichOneAllKnow$Longs", name := "sort", desc := "()I" } : Jvm.MethodName)) ∈ lw_all := lw_g (lw_at lw_m3 78 rfl) rfl
theorem q641 : (Jvm.Cond.instanceMethod ({ cls := "WhichOneAllKnow$Longs", name := "sort", desc := "()I" } : Jvm.MethodName)) ∈ lw_all := lw_g (lw_at lw_m3 79 rfl) rfl
theorem q642 : (Jvm.Cond.code ({ cls := "WhichOneAllKnow$Longs", name := "sort", desc := "()I" } : Jvm.MethodName) prog_12_method_2_code (1 : Nat) (Option.some Jvm.ClassFile.FieldType.int)) ∈ lw_all := lw_g (lw_at lw_m3 80 rfl) rfl
theorem q655 : (Jvm.Cond.selects "WhichOneAllKnow$Longs" ({ cls := "WhichOneAllKnow$Row", name := "held", desc := "()Ljava/lang/Object;" } : Jvm.MethodName) ({ cls := "WhichOneAllKnow$Longs", name := "held", desc := "()Ljava/lang/Object;" } : Jvm.MethodName)) ∈ lw_all := lw_g (lw_at lw_m3 93 rfl) rfl
theorem q656 : (Jvm.Cond.instanceMethod ({ cls := "WhichOneAllKnow$Longs", name := "held", desc := "()Ljava/lang/Object;" } : Jvm.MethodName)) ∈ lw_all := lw_g (lw_at lw_m3 94 rfl) rfl
theorem q657 : (Jvm.Cond.code ({ cls := "WhichOneAllKnow$Longs", name := "held", desc := "()Ljava/lang/Object;" } : Jvm.MethodName) prog_12_method_8_code (1 : Nat) (Option.some (Jvm.ClassFile.FieldType.object "java/lang/Object"))) ∈ lw_all := lw_g (lw_at lw_m3 95 rfl) rfl
theorem q677 : (Jvm.Cond.selects "WhichOneAllKnow$Longs" ({ cls := "WhichOneAllKnow$Row", name := "get", desc := "(I)J" } : Jvm.MethodName) ({ cls := "WhichOneAllKnow$Longs", name := "get", desc := "(I)J" } : Jvm.MethodName)) ∈ lw_all := lw_g (lw_at lw_m3 115 rfl) rfl
theorem q678 : (Jvm.Cond.instanceMethod ({ cls := "WhichOneAllKnow$Longs", name := "get", desc := "(I)J" } : Jvm.MethodName)) ∈ lw_all := lw_g (lw_at lw_m3 116 rfl) rfl
theorem q679 : (Jvm.Cond.code ({ cls := "WhichOneAllKnow$Longs", name := "get", desc := "(I)J" } : Jvm.MethodName) prog_12_method_5_code (2 : Nat) (Option.some Jvm.ClassFile.FieldType.long)) ∈ lw_all := lw_g (lw_at lw_m3 117 rfl) rfl
theorem q857 : (Jvm.Cond.selects "WhichOneAllKnow$Longs" ({ cls := "WhichOneAllKnow$Row", name := "length", desc := "()I" } : Jvm.MethodName) ({ cls := "WhichOneAllKnow$Longs", name := "length", desc := "()I" } : Jvm.MethodName)) ∈ lw_all := lw_g (lw_at lw_m4 55 rfl) rfl
theorem q858 : (Jvm.Cond.instanceMethod ({ cls := "WhichOneAllKnow$Longs", name := "length", desc := "()I" } : Jvm.MethodName)) ∈ lw_all := lw_g (lw_at lw_m4 56 rfl) rfl
theorem q859 : (Jvm.Cond.code ({ cls := "WhichOneAllKnow$Longs", name := "length", desc := "()I" } : Jvm.MethodName) prog_12_method_3_code (1 : Nat) (Option.some Jvm.ClassFile.FieldType.int)) ∈ lw_all := lw_g (lw_at lw_m4 57 rfl) rfl
theorem q868 : (Jvm.Cond.selects "WhichOneAllKnow$Longs" ({ cls := "WhichOneAllKnow$Row", name := "asInt", desc := "(I)I" } : Jvm.MethodName) ({ cls := "WhichOneAllKnow$Row", name := "asInt", desc := "(I)I" } : Jvm.MethodName)) ∈ lw_all := lw_g (lw_at lw_m4 66 rfl) rfl
theorem q1838 : (Jvm.Cond.castable "WhichOneAllKnow$Longs" "WhichOneAllKnow$Row") ∈ lw_tbl := lw_at lw_m8 76 rfl
theorem in_X18 : ∀ w ∈ wsX180, w ∈ lw_all := lw_in wsX180 [572] (by decide +kernel) (by decide +kernel)
/-! WhichOneAllKnow$Reader -/
set_option maxRecDepth 100000
def RX19 : String := "WhichOneAllKnow$Reader"
def TX19 : u_T := fun k => match k with
  | 0 => ("WhichOneAllKnow$Reader", "text", "LWhichOneAllKnow$Row;", true)
  | 1 => ("WhichOneAllKnow$Reader", "w", "LWhichOneAllKnow$Church;", true)
  | 2 => ("WhichOneAllKnow$Reader", "at", "I", false)
  | _ => ("WhichOneAllKnow$Reader", "place", "I", false)
def tyX19 : Nat → FieldType := fun k => match k with
  | 0 => .object "WhichOneAllKnow$Row"
  | 1 => .object "WhichOneAllKnow$Church"
  | 2 => .int
  | _ => .int
abbrev wsX190 : List Cond := u_ws RX19 TX19 4
theorem nmX19 : ∀ a, a < 4 → ∀ b, b < 4 → a ≠ b → (TX19 a).2.1 ≠ (TX19 b).2.1 := by decide +kernel
theorem tyX19_ok : ∀ k, k < 4 → parseFieldDescriptor (TX19 k).2.2.1 = some (tyX19 k) := by decide +kernel
abbrev cX19_init : ByteArray := prog_14_method_1_code
def yX19_init : MethodName := ⟨RX19, "<init>", "(LWhichOneAllKnow$Row;LWhichOneAllKnow$Church;)V"⟩
def dkwX19_init_0 : List UInt8 := [42, 183, 0, 3, 42, 43, 181, 0, 9, 42, 44, 181, 0, 15, 177]
abbrev dktX19_init_0 : List UInt8 := dkwX19_init_0 ++ []
theorem dksX19_init_0 : cX19_init.data.toList.drop 0 = dktX19_init_0 := by decide +kernel
theorem dX19_init_0 : decode cX19_init 0 = .ok (.aload_n 0, 1) := dk_42 (dk_at dksX19_init_0 0 rfl rfl)
theorem dX19_init_1 : decode cX19_init 1 = .ok (.invokespecial 3, 3) := dk_183 0 3 (dk_at dksX19_init_0 1 rfl rfl)
theorem dX19_init_4 : decode cX19_init 4 = .ok (.aload_n 0, 1) := dk_42 (dk_at dksX19_init_0 4 rfl rfl)
theorem dX19_init_5 : decode cX19_init 5 = .ok (.aload_n 1, 1) := dk_43 (dk_at dksX19_init_0 5 rfl rfl)
theorem dX19_init_6 : decode cX19_init 6 = .ok (.putfield 9, 3) := dk_181 0 9 (dk_at dksX19_init_0 6 rfl rfl)
theorem dX19_init_9 : decode cX19_init 9 = .ok (.aload_n 0, 1) := dk_42 (dk_at dksX19_init_0 9 rfl rfl)
theorem dX19_init_10 : decode cX19_init 10 = .ok (.aload_n 2, 1) := dk_44 (dk_at dksX19_init_0 10 rfl rfl)
theorem dX19_init_11 : decode cX19_init 11 = .ok (.putfield 15, 3) := dk_181 0 15 (dk_at dksX19_init_0 11 rfl rfl)
theorem dX19_init_14 : decode cX19_init 14 = .ok (.return_, 1) := dk_177 (dk_at dksX19_init_0 14 rfl rfl)
abbrev cX19_items : ByteArray := prog_14_method_9_code
def yX19_items : MethodName := ⟨RX19, "items", "()I"⟩
def dkwX19_items_1 : List UInt8 := [132, 1, 1, 167, 255, 236, 27, 172]
abbrev dktX19_items_1 : List UInt8 := dkwX19_items_1 ++ []
def dkwX19_items_0 : List UInt8 := [4, 60, 42, 182, 0, 70, 42, 182, 0, 29, 154, 0, 19, 42, 16, 59, 182, 0, 53, 42, 182, 0, 70]
abbrev dktX19_items_0 : List UInt8 := dkwX19_items_0 ++ dktX19_items_1
theorem dksX19_items_0 : cX19_items.data.toList.drop 0 = dktX19_items_0 := by decide +kernel
theorem dksX19_items_1 : cX19_items.data.toList.drop 23 = dktX19_items_1 := dk_seg dksX19_items_0 23 rfl rfl
theorem dX19_items_0 : decode cX19_items 0 = .ok (.iconst 1, 1) := dk_4 (dk_at dksX19_items_0 0 rfl rfl)
theorem dX19_items_1 : decode cX19_items 1 = .ok (.istore_n 1, 1) := dk_60 (dk_at dksX19_items_0 1 rfl rfl)
theorem dX19_items_2 : decode cX19_items 2 = .ok (.aload_n 0, 1) := dk_42 (dk_at dksX19_items_0 2 rfl rfl)
theorem dX19_items_3 : decode cX19_items 3 = .ok (.invokevirtual 70, 3) := dk_182 0 70 (dk_at dksX19_items_0 3 rfl rfl)
theorem dX19_items_6 : decode cX19_items 6 = .ok (.aload_n 0, 1) := dk_42 (dk_at dksX19_items_0 6 rfl rfl)
theorem dX19_items_7 : decode cX19_items 7 = .ok (.invokevirtual 29, 3) := dk_182 0 29 (dk_at dksX19_items_0 7 rfl rfl)
theorem dX19_items_10 : decode cX19_items 10 = .ok (.ifCond .ne 19, 3) := dk_154 0 19 (dk_at dksX19_items_0 10 rfl rfl)
theorem dX19_items_13 : decode cX19_items 13 = .ok (.aload_n 0, 1) := dk_42 (dk_at dksX19_items_0 13 rfl rfl)
theorem dX19_items_14 : decode cX19_items 14 = .ok (.bipush 59, 2) := dk_16 59 (dk_at dksX19_items_0 14 rfl rfl)
theorem dX19_items_16 : decode cX19_items 16 = .ok (.invokevirtual 53, 3) := dk_182 0 53 (dk_at dksX19_items_0 16 rfl rfl)
theorem dX19_items_19 : decode cX19_items 19 = .ok (.aload_n 0, 1) := dk_42 (dk_at dksX19_items_0 19 rfl rfl)
theorem dX19_items_20 : decode cX19_items 20 = .ok (.invokevirtual 70, 3) := dk_182 0 70 (dk_at dksX19_items_0 20 rfl rfl)
theorem dX19_items_23 : decode cX19_items 23 = .ok (.iinc 1 1, 3) := dk_132 1 1 (dk_at dksX19_items_1 0 rfl rfl)
theorem dX19_items_26 : decode cX19_items 26 = .ok (.goto (-20), 3) := dk_167 255 236 (dk_at dksX19_items_1 3 rfl rfl)
theorem dX19_items_29 : decode cX19_items 29 = .ok (.iload_n 1, 1) := dk_27 (dk_at dksX19_items_1 6 rfl rfl)
theorem dX19_items_30 : decode cX19_items 30 = .ok (.ireturn, 1) := dk_172 (dk_at dksX19_items_1 7 rfl rfl)
abbrev cX19_item : ByteArray := prog_14_method_12_code
def yX19_item : MethodName := ⟨RX19, "item", "()V"⟩
def dkwX19_item_8 : List UInt8 := [182, 0, 84, 42, 180, 0, 15, 42, 3, 16, 9, 182, 0, 73, 181, 0, 123, 177]
abbrev dktX19_item_8 : List UInt8 := dkwX19_item_8 ++ []
def dkwX19_item_7 : List UInt8 := [182, 0, 73, 61, 42, 180, 0, 15, 180, 0, 119, 28, 42, 182, 0, 91, 79, 167, 0, 23, 42, 18, 121]
abbrev dktX19_item_7 : List UInt8 := dkwX19_item_7 ++ dktX19_item_8
def dkwX19_item_6 : List UInt8 := [182, 0, 37, 153, 0, 40, 42, 18, 117, 182, 0, 84, 42, 3, 42, 180, 0, 15, 180, 0, 88, 4, 100]
abbrev dktX19_item_6 : List UInt8 := dkwX19_item_6 ++ dktX19_item_7
def dkwX19_item_5 : List UInt8 := [3, 42, 180, 0, 15, 180, 0, 104, 4, 100, 182, 0, 73, 120, 128, 79, 167, 0, 69, 42, 16, 109]
abbrev dktX19_item_5 : List UInt8 := dkwX19_item_5 ++ dktX19_item_6
def dkwX19_item_4 : List UInt8 := [180, 0, 15, 180, 0, 88, 4, 100, 182, 0, 73, 61, 42, 180, 0, 15, 180, 0, 114, 28, 92, 46, 4, 42]
abbrev dktX19_item_4 : List UInt8 := dkwX19_item_4 ++ dktX19_item_5
def dkwX19_item_3 : List UInt8 := [182, 0, 110, 167, 0, 130, 42, 16, 107, 182, 0, 37, 153, 0, 55, 42, 18, 112, 182, 0, 84, 42, 3, 42]
abbrev dktX19_item_3 : List UInt8 := dkwX19_item_3 ++ dktX19_item_4
def dkwX19_item_2 : List UInt8 := [42, 3, 16, 11, 182, 0, 73, 182, 0, 107, 167, 0, 147, 42, 16, 118, 182, 0, 37, 153, 0, 11, 42, 27]
abbrev dktX19_item_2 : List UInt8 := dkwX19_item_2 ++ dktX19_item_3
def dkwX19_item_1 : List UInt8 := [180, 0, 15, 180, 0, 104, 16, 6, 162, 0, 7, 4, 167, 0, 4, 3, 27, 182, 0, 66, 42, 180, 0, 15]
abbrev dktX19_item_1 : List UInt8 := dkwX19_item_1 ++ dktX19_item_2
def dkwX19_item_0 : List UInt8 := [42, 180, 0, 19, 60, 42, 16, 116, 182, 0, 37, 153, 0, 48, 42, 18, 102, 182, 0, 84, 42, 42]
abbrev dktX19_item_0 : List UInt8 := dkwX19_item_0 ++ dktX19_item_1
theorem dksX19_item_0 : cX19_item.data.toList.drop 0 = dktX19_item_0 := by decide +kernel
theorem dksX19_item_1 : cX19_item.data.toList.drop 22 = dktX19_item_1 := dk_seg dksX19_item_0 22 rfl rfl
theorem dksX19_item_2 : cX19_item.data.toList.drop 46 = dktX19_item_2 := dk_seg dksX19_item_1 24 rfl rfl
theorem dksX19_item_3 : cX19_item.data.toList.drop 70 = dktX19_item_3 := dk_seg dksX19_item_2 24 rfl rfl
theorem dksX19_item_4 : cX19_item.data.toList.drop 94 = dktX19_item_4 := dk_seg dksX19_item_3 24 rfl rfl
theorem dksX19_item_5 : cX19_item.data.toList.drop 118 = dktX19_item_5 := dk_seg dksX19_item_4 24 rfl rfl
theorem dksX19_item_6 : cX19_item.data.toList.drop 140 = dktX19_item_6 := dk_seg dksX19_item_5 22 rfl rfl
theorem dksX19_item_7 : cX19_item.data.toList.drop 163 = dktX19_item_7 := dk_seg dksX19_item_6 23 rfl rfl
theorem dksX19_item_8 : cX19_item.data.toList.drop 186 = dktX19_item_8 := dk_seg dksX19_item_7 23 rfl rfl
theorem dX19_item_0 : decode cX19_item 0 = .ok (.aload_n 0, 1) := dk_42 (dk_at dksX19_item_0 0 rfl rfl)
theorem dX19_item_1 : decode cX19_item 1 = .ok (.getfield 19, 3) := dk_180 0 19 (dk_at dksX19_item_0 1 rfl rfl)
theorem dX19_item_4 : decode cX19_item 4 = .ok (.istore_n 1, 1) := dk_60 (dk_at dksX19_item_0 4 rfl rfl)
theorem dX19_item_5 : decode cX19_item 5 = .ok (.aload_n 0, 1) := dk_42 (dk_at dksX19_item_0 5 rfl rfl)
theorem dX19_item_6 : decode cX19_item 6 = .ok (.bipush 116, 2) := dk_16 116 (dk_at dksX19_item_0 6 rfl rfl)
theorem dX19_item_8 : decode cX19_item 8 = .ok (.invokevirtual 37, 3) := dk_182 0 37 (dk_at dksX19_item_0 8 rfl rfl)
theorem dX19_item_11 : decode cX19_item 11 = .ok (.ifCond .eq 48, 3) := dk_153 0 48 (dk_at dksX19_item_0 11 rfl rfl)
theorem dX19_item_14 : decode cX19_item 14 = .ok (.aload_n 0, 1) := dk_42 (dk_at dksX19_item_0 14 rfl rfl)
theorem dX19_item_15 : decode cX19_item 15 = .ok (.ldc 102, 2) := dk_18 102 (dk_at dksX19_item_0 15 rfl rfl)
theorem dX19_item_17 : decode cX19_item 17 = .ok (.invokevirtual 84, 3) := dk_182 0 84 (dk_at dksX19_item_0 17 rfl rfl)
theorem dX19_item_20 : decode cX19_item 20 = .ok (.aload_n 0, 1) := dk_42 (dk_at dksX19_item_0 20 rfl rfl)
theorem dX19_item_21 : decode cX19_item 21 = .ok (.aload_n 0, 1) := dk_42 (dk_at dksX19_item_0 21 rfl rfl)
theorem dX19_item_22 : decode cX19_item 22 = .ok (.getfield 15, 3) := dk_180 0 15 (dk_at dksX19_item_1 0 rfl rfl)
theorem dX19_item_25 : decode cX19_item 25 = .ok (.getfield 104, 3) := dk_180 0 104 (dk_at dksX19_item_1 3 rfl rfl)
theorem dX19_item_28 : decode cX19_item 28 = .ok (.bipush 6, 2) := dk_16 6 (dk_at dksX19_item_1 6 rfl rfl)
theorem dX19_item_30 : decode cX19_item 30 = .ok (.if_icmp .ge 7, 3) := dk_162 0 7 (dk_at dksX19_item_1 8 rfl rfl)
theorem dX19_item_33 : decode cX19_item 33 = .ok (.iconst 1, 1) := dk_4 (dk_at dksX19_item_1 11 rfl rfl)
theorem dX19_item_34 : decode cX19_item 34 = .ok (.goto 4, 3) := dk_167 0 4 (dk_at dksX19_item_1 12 rfl rfl)
theorem dX19_item_37 : decode cX19_item 37 = .ok (.iconst 0, 1) := dk_3 (dk_at dksX19_item_1 15 rfl rfl)
theorem dX19_item_38 : decode cX19_item 38 = .ok (.iload_n 1, 1) := dk_27 (dk_at dksX19_item_1 16 rfl rfl)
theorem dX19_item_39 : decode cX19_item 39 = .ok (.invokevirtual 66, 3) := dk_182 0 66 (dk_at dksX19_item_1 17 rfl rfl)
theorem dX19_item_42 : decode cX19_item 42 = .ok (.aload_n 0, 1) := dk_42 (dk_at dksX19_item_1 20 rfl rfl)
theorem dX19_item_43 : decode cX19_item 43 = .ok (.getfield 15, 3) := dk_180 0 15 (dk_at dksX19_item_1 21 rfl rfl)
theorem dX19_item_46 : decode cX19_item 46 = .ok (.aload_n 0, 1) := dk_42 (dk_at dksX19_item_2 0 rfl rfl)
theorem dX19_item_47 : decode cX19_item 47 = .ok (.iconst 0, 1) := dk_3 (dk_at dksX19_item_2 1 rfl rfl)
theorem dX19_item_48 : decode cX19_item 48 = .ok (.bipush 11, 2) := dk_16 11 (dk_at dksX19_item_2 2 rfl rfl)
theorem dX19_item_50 : decode cX19_item 50 = .ok (.invokevirtual 73, 3) := dk_182 0 73 (dk_at dksX19_item_2 4 rfl rfl)
theorem dX19_item_53 : decode cX19_item 53 = .ok (.invokevirtual 107, 3) := dk_182 0 107 (dk_at dksX19_item_2 7 rfl rfl)
theorem dX19_item_56 : decode cX19_item 56 = .ok (.goto 147, 3) := dk_167 0 147 (dk_at dksX19_item_2 10 rfl rfl)
theorem dX19_item_59 : decode cX19_item 59 = .ok (.aload_n 0, 1) := dk_42 (dk_at dksX19_item_2 13 rfl rfl)
theorem dX19_item_60 : decode cX19_item 60 = .ok (.bipush 118, 2) := dk_16 118 (dk_at dksX19_item_2 14 rfl rfl)
theorem dX19_item_62 : decode cX19_item 62 = .ok (.invokevirtual 37, 3) := dk_182 0 37 (dk_at dksX19_item_2 16 rfl rfl)
theorem dX19_item_65 : decode cX19_item 65 = .ok (.ifCond .eq 11, 3) := dk_153 0 11 (dk_at dksX19_item_2 19 rfl rfl)
theorem dX19_item_68 : decode cX19_item 68 = .ok (.aload_n 0, 1) := dk_42 (dk_at dksX19_item_2 22 rfl rfl)
theorem dX19_item_69 : decode cX19_item 69 = .ok (.iload_n 1, 1) := dk_27 (dk_at dksX19_item_2 23 rfl rfl)
theorem dX19_item_70 : decode cX19_item 70 = .ok (.invokevirtual 110, 3) := dk_182 0 110 (dk_at dksX19_item_3 0 rfl rfl)
theorem dX19_item_73 : decode cX19_item 73 = .ok (.goto 130, 3) := dk_167 0 130 (dk_at dksX19_item_3 3 rfl rfl)
theorem dX19_item_76 : decode cX19_item 76 = .ok (.aload_n 0, 1) := dk_42 (dk_at dksX19_item_3 6 rfl rfl)
theorem dX19_item_77 : decode cX19_item 77 = .ok (.bipush 107, 2) := dk_16 107 (dk_at dksX19_item_3 7 rfl rfl)
theorem dX19_item_79 : decode cX19_item 79 = .ok (.invokevirtual 37, 3) := dk_182 0 37 (dk_at dksX19_item_3 9 rfl rfl)
theorem dX19_item_82 : decode cX19_item 82 = .ok (.ifCond .eq 55, 3) := dk_153 0 55 (dk_at dksX19_item_3 12 rfl rfl)
theorem dX19_item_85 : decode cX19_item 85 = .ok (.aload_n 0, 1) := dk_42 (dk_at dksX19_item_3 15 rfl rfl)
theorem dX19_item_86 : decode cX19_item 86 = .ok (.ldc 112, 2) := dk_18 112 (dk_at dksX19_item_3 16 rfl rfl)
theorem dX19_item_88 : decode cX19_item 88 = .ok (.invokevirtual 84, 3) := dk_182 0 84 (dk_at dksX19_item_3 18 rfl rfl)
theorem dX19_item_91 : decode cX19_item 91 = .ok (.aload_n 0, 1) := dk_42 (dk_at dksX19_item_3 21 rfl rfl)
theorem dX19_item_92 : decode cX19_item 92 = .ok (.iconst 0, 1) := dk_3 (dk_at dksX19_item_3 22 rfl rfl)
theorem dX19_item_93 : decode cX19_item 93 = .ok (.aload_n 0, 1) := dk_42 (dk_at dksX19_item_3 23 rfl rfl)
theorem dX19_item_94 : decode cX19_item 94 = .ok (.getfield 15, 3) := dk_180 0 15 (dk_at dksX19_item_4 0 rfl rfl)
theorem dX19_item_97 : decode cX19_item 97 = .ok (.getfield 88, 3) := dk_180 0 88 (dk_at dksX19_item_4 3 rfl rfl)
theorem dX19_item_100 : decode cX19_item 100 = .ok (.iconst 1, 1) := dk_4 (dk_at dksX19_item_4 6 rfl rfl)
theorem dX19_item_101 : decode cX19_item 101 = .ok (.isub, 1) := dk_100 (dk_at dksX19_item_4 7 rfl rfl)
theorem dX19_item_102 : decode cX19_item 102 = .ok (.invokevirtual 73, 3) := dk_182 0 73 (dk_at dksX19_item_4 8 rfl rfl)
theorem dX19_item_105 : decode cX19_item 105 = .ok (.istore_n 2, 1) := dk_61 (dk_at dksX19_item_4 11 rfl rfl)
theorem dX19_item_106 : decode cX19_item 106 = .ok (.aload_n 0, 1) := dk_42 (dk_at dksX19_item_4 12 rfl rfl)
theorem dX19_item_107 : decode cX19_item 107 = .ok (.getfield 15, 3) := dk_180 0 15 (dk_at dksX19_item_4 13 rfl rfl)
theorem dX19_item_110 : decode cX19_item 110 = .ok (.getfield 114, 3) := dk_180 0 114 (dk_at dksX19_item_4 16 rfl rfl)
theorem dX19_item_113 : decode cX19_item 113 = .ok (.iload_n 2, 1) := dk_28 (dk_at dksX19_item_4 19 rfl rfl)
theorem dX19_item_114 : decode cX19_item 114 = .ok (.dup2, 1) := dk_92 (dk_at dksX19_item_4 20 rfl rfl)
theorem dX19_item_115 : decode cX19_item 115 = .ok (.iaload, 1) := dk_46 (dk_at dksX19_item_4 21 rfl rfl)
theorem dX19_item_116 : decode cX19_item 116 = .ok (.iconst 1, 1) := dk_4 (dk_at dksX19_item_4 22 rfl rfl)
theorem dX19_item_117 : decode cX19_item 117 = .ok (.aload_n 0, 1) := dk_42 (dk_at dksX19_item_4 23 rfl rfl)
theorem dX19_item_118 : decode cX19_item 118 = .ok (.iconst 0, 1) := dk_3 (dk_at dksX19_item_5 0 rfl rfl)
theorem dX19_item_119 : decode cX19_item 119 = .ok (.aload_n 0, 1) := dk_42 (dk_at dksX19_item_5 1 rfl rfl)
theorem dX19_item_120 : decode cX19_item 120 = .ok (.getfield 15, 3) := dk_180 0 15 (dk_at dksX19_item_5 2 rfl rfl)
theorem dX19_item_123 : decode cX19_item 123 = .ok (.getfield 104, 3) := dk_180 0 104 (dk_at dksX19_item_5 5 rfl rfl)
theorem dX19_item_126 : decode cX19_item 126 = .ok (.iconst 1, 1) := dk_4 (dk_at dksX19_item_5 8 rfl rfl)
theorem dX19_item_127 : decode cX19_item 127 = .ok (.isub, 1) := dk_100 (dk_at dksX19_item_5 9 rfl rfl)
theorem dX19_item_128 : decode cX19_item 128 = .ok (.invokevirtual 73, 3) := dk_182 0 73 (dk_at dksX19_item_5 10 rfl rfl)
theorem dX19_item_131 : decode cX19_item 131 = .ok (.ishl, 1) := dk_120 (dk_at dksX19_item_5 13 rfl rfl)
theorem dX19_item_132 : decode cX19_item 132 = .ok (.ior, 1) := dk_128 (dk_at dksX19_item_5 14 rfl rfl)
theorem dX19_item_133 : decode cX19_item 133 = .ok (.iastore, 1) := dk_79 (dk_at dksX19_item_5 15 rfl rfl)
theorem dX19_item_134 : decode cX19_item 134 = .ok (.goto 69, 3) := dk_167 0 69 (dk_at dksX19_item_5 16 rfl rfl)
theorem dX19_item_137 : decode cX19_item 137 = .ok (.aload_n 0, 1) := dk_42 (dk_at dksX19_item_5 19 rfl rfl)
theorem dX19_item_138 : decode cX19_item 138 = .ok (.bipush 109, 2) := dk_16 109 (dk_at dksX19_item_5 20 rfl rfl)
theorem dX19_item_140 : decode cX19_item 140 = .ok (.invokevirtual 37, 3) := dk_182 0 37 (dk_at dksX19_item_6 0 rfl rfl)
theorem dX19_item_143 : decode cX19_item 143 = .ok (.ifCond .eq 40, 3) := dk_153 0 40 (dk_at dksX19_item_6 3 rfl rfl)
theorem dX19_item_146 : decode cX19_item 146 = .ok (.aload_n 0, 1) := dk_42 (dk_at dksX19_item_6 6 rfl rfl)
theorem dX19_item_147 : decode cX19_item 147 = .ok (.ldc 117, 2) := dk_18 117 (dk_at dksX19_item_6 7 rfl rfl)
theorem dX19_item_149 : decode cX19_item 149 = .ok (.invokevirtual 84, 3) := dk_182 0 84 (dk_at dksX19_item_6 9 rfl rfl)
theorem dX19_item_152 : decode cX19_item 152 = .ok (.aload_n 0, 1) := dk_42 (dk_at dksX19_item_6 12 rfl rfl)
theorem dX19_item_153 : decode cX19_item 153 = .ok (.iconst 0, 1) := dk_3 (dk_at dksX19_item_6 13 rfl rfl)
theorem dX19_item_154 : decode cX19_item 154 = .ok (.aload_n 0, 1) := dk_42 (dk_at dksX19_item_6 14 rfl rfl)
theorem dX19_item_155 : decode cX19_item 155 = .ok (.getfield 15, 3) := dk_180 0 15 (dk_at dksX19_item_6 15 rfl rfl)
theorem dX19_item_158 : decode cX19_item 158 = .ok (.getfield 88, 3) := dk_180 0 88 (dk_at dksX19_item_6 18 rfl rfl)
theorem dX19_item_161 : decode cX19_item 161 = .ok (.iconst 1, 1) := dk_4 (dk_at dksX19_item_6 21 rfl rfl)
theorem dX19_item_162 : decode cX19_item 162 = .ok (.isub, 1) := dk_100 (dk_at dksX19_item_6 22 rfl rfl)
theorem dX19_item_163 : decode cX19_item 163 = .ok (.invokevirtual 73, 3) := dk_182 0 73 (dk_at dksX19_item_7 0 rfl rfl)
theorem dX19_item_166 : decode cX19_item 166 = .ok (.istore_n 2, 1) := dk_61 (dk_at dksX19_item_7 3 rfl rfl)
theorem dX19_item_167 : decode cX19_item 167 = .ok (.aload_n 0, 1) := dk_42 (dk_at dksX19_item_7 4 rfl rfl)
theorem dX19_item_168 : decode cX19_item 168 = .ok (.getfield 15, 3) := dk_180 0 15 (dk_at dksX19_item_7 5 rfl rfl)
theorem dX19_item_171 : decode cX19_item 171 = .ok (.getfield 119, 3) := dk_180 0 119 (dk_at dksX19_item_7 8 rfl rfl)
theorem dX19_item_174 : decode cX19_item 174 = .ok (.iload_n 2, 1) := dk_28 (dk_at dksX19_item_7 11 rfl rfl)
theorem dX19_item_175 : decode cX19_item 175 = .ok (.aload_n 0, 1) := dk_42 (dk_at dksX19_item_7 12 rfl rfl)
theorem dX19_item_176 : decode cX19_item 176 = .ok (.invokevirtual 91, 3) := dk_182 0 91 (dk_at dksX19_item_7 13 rfl rfl)
theorem dX19_item_179 : decode cX19_item 179 = .ok (.iastore, 1) := dk_79 (dk_at dksX19_item_7 16 rfl rfl)
theorem dX19_item_180 : decode cX19_item 180 = .ok (.goto 23, 3) := dk_167 0 23 (dk_at dksX19_item_7 17 rfl rfl)
theorem dX19_item_183 : decode cX19_item 183 = .ok (.aload_n 0, 1) := dk_42 (dk_at dksX19_item_7 20 rfl rfl)
theorem dX19_item_184 : decode cX19_item 184 = .ok (.ldc 121, 2) := dk_18 121 (dk_at dksX19_item_7 21 rfl rfl)
theorem dX19_item_186 : decode cX19_item 186 = .ok (.invokevirtual 84, 3) := dk_182 0 84 (dk_at dksX19_item_8 0 rfl rfl)
theorem dX19_item_189 : decode cX19_item 189 = .ok (.aload_n 0, 1) := dk_42 (dk_at dksX19_item_8 3 rfl rfl)
theorem dX19_item_190 : decode cX19_item 190 = .ok (.getfield 15, 3) := dk_180 0 15 (dk_at dksX19_item_8 4 rfl rfl)
theorem dX19_item_193 : decode cX19_item 193 = .ok (.aload_n 0, 1) := dk_42 (dk_at dksX19_item_8 7 rfl rfl)
theorem dX19_item_194 : decode cX19_item 194 = .ok (.iconst 0, 1) := dk_3 (dk_at dksX19_item_8 8 rfl rfl)
theorem dX19_item_195 : decode cX19_item 195 = .ok (.bipush 9, 2) := dk_16 9 (dk_at dksX19_item_8 9 rfl rfl)
theorem dX19_item_197 : decode cX19_item 197 = .ok (.invokevirtual 73, 3) := dk_182 0 73 (dk_at dksX19_item_8 11 rfl rfl)
theorem dX19_item_200 : decode cX19_item 200 = .ok (.putfield 123, 3) := dk_181 0 123 (dk_at dksX19_item_8 14 rfl rfl)
theorem dX19_item_203 : decode cX19_item 203 = .ok (.return_, 1) := dk_177 (dk_at dksX19_item_8 17 rfl rfl)
abbrev cX19_sees : ByteArray := prog_14_method_3_code
def yX19_sees : MethodName := ⟨RX19, "sees", "(I)Z"⟩
def dkwX19_sees_1 : List UInt8 := [167, 0, 4, 3, 172]
abbrev dktX19_sees_1 : List UInt8 := dkwX19_sees_1 ++ []
def dkwX19_sees_0 : List UInt8 := [42, 182, 0, 29, 154, 0, 22, 42, 180, 0, 9, 42, 180, 0, 19, 182, 0, 33, 27, 160, 0, 7, 4]
abbrev dktX19_sees_0 : List UInt8 := dkwX19_sees_0 ++ dktX19_sees_1
theorem dksX19_sees_0 : cX19_sees.data.toList.drop 0 = dktX19_sees_0 := by decide +kernel
theorem dksX19_sees_1 : cX19_sees.data.toList.drop 23 = dktX19_sees_1 := dk_seg dksX19_sees_0 23 rfl rfl
theorem dX19_sees_0 : decode cX19_sees 0 = .ok (.aload_n 0, 1) := dk_42 (dk_at dksX19_sees_0 0 rfl rfl)
theorem dX19_sees_1 : decode cX19_sees 1 = .ok (.invokevirtual 29, 3) := dk_182 0 29 (dk_at dksX19_sees_0 1 rfl rfl)
theorem dX19_sees_4 : decode cX19_sees 4 = .ok (.ifCond .ne 22, 3) := dk_154 0 22 (dk_at dksX19_sees_0 4 rfl rfl)
theorem dX19_sees_7 : decode cX19_sees 7 = .ok (.aload_n 0, 1) := dk_42 (dk_at dksX19_sees_0 7 rfl rfl)
theorem dX19_sees_8 : decode cX19_sees 8 = .ok (.getfield 9, 3) := dk_180 0 9 (dk_at dksX19_sees_0 8 rfl rfl)
theorem dX19_sees_11 : decode cX19_sees 11 = .ok (.aload_n 0, 1) := dk_42 (dk_at dksX19_sees_0 11 rfl rfl)
theorem dX19_sees_12 : decode cX19_sees 12 = .ok (.getfield 19, 3) := dk_180 0 19 (dk_at dksX19_sees_0 12 rfl rfl)
theorem dX19_sees_15 : decode cX19_sees 15 = .ok (.invokevirtual 33, 3) := dk_182 0 33 (dk_at dksX19_sees_0 15 rfl rfl)
theorem dX19_sees_18 : decode cX19_sees 18 = .ok (.iload_n 1, 1) := dk_27 (dk_at dksX19_sees_0 18 rfl rfl)
theorem dX19_sees_19 : decode cX19_sees 19 = .ok (.if_icmp .ne 7, 3) := dk_160 0 7 (dk_at dksX19_sees_0 19 rfl rfl)
theorem dX19_sees_22 : decode cX19_sees 22 = .ok (.iconst 1, 1) := dk_4 (dk_at dksX19_sees_0 22 rfl rfl)
theorem dX19_sees_23 : decode cX19_sees 23 = .ok (.goto 4, 3) := dk_167 0 4 (dk_at dksX19_sees_1 0 rfl rfl)
theorem dX19_sees_26 : decode cX19_sees 26 = .ok (.iconst 0, 1) := dk_3 (dk_at dksX19_sees_1 3 rfl rfl)
theorem dX19_sees_27 : decode cX19_sees 27 = .ok (.ireturn, 1) := dk_172 (dk_at dksX19_sees_1 4 rfl rfl)
abbrev cX19_ends : ByteArray := prog_14_method_2_code
def yX19_ends : MethodName := ⟨RX19, "ends", "()Z"⟩
def dkwX19_ends_0 : List UInt8 := [42, 180, 0, 19, 42, 180, 0, 9, 182, 0, 23, 160, 0, 7, 4, 167, 0, 4, 3, 172]
abbrev dktX19_ends_0 : List UInt8 := dkwX19_ends_0 ++ []
theorem dksX19_ends_0 : cX19_ends.data.toList.drop 0 = dktX19_ends_0 := by decide +kernel
theorem dX19_ends_0 : decode cX19_ends 0 = .ok (.aload_n 0, 1) := dk_42 (dk_at dksX19_ends_0 0 rfl rfl)
theorem dX19_ends_1 : decode cX19_ends 1 = .ok (.getfield 19, 3) := dk_180 0 19 (dk_at dksX19_ends_0 1 rfl rfl)
theorem dX19_ends_4 : decode cX19_ends 4 = .ok (.aload_n 0, 1) := dk_42 (dk_at dksX19_ends_0 4 rfl rfl)
theorem dX19_ends_5 : decode cX19_ends 5 = .ok (.getfield 9, 3) := dk_180 0 9 (dk_at dksX19_ends_0 5 rfl rfl)
theorem dX19_ends_8 : decode cX19_ends 8 = .ok (.invokevirtual 23, 3) := dk_182 0 23 (dk_at dksX19_ends_0 8 rfl rfl)
theorem dX19_ends_11 : decode cX19_ends 11 = .ok (.if_icmp .ne 7, 3) := dk_160 0 7 (dk_at dksX19_ends_0 11 rfl rfl)
theorem dX19_ends_14 : decode cX19_ends 14 = .ok (.iconst 1, 1) := dk_4 (dk_at dksX19_ends_0 14 rfl rfl)
theorem dX19_ends_15 : decode cX19_ends 15 = .ok (.goto 4, 3) := dk_167 0 4 (dk_at dksX19_ends_0 15 rfl rfl)
theorem dX19_ends_18 : decode cX19_ends 18 = .ok (.iconst 0, 1) := dk_3 (dk_at dksX19_ends_0 18 rfl rfl)
theorem dX19_ends_19 : decode cX19_ends 19 = .ok (.ireturn, 1) := dk_172 (dk_at dksX19_ends_0 19 rfl rfl)
abbrev cX19_word : ByteArray := prog_14_method_5_code
def yX19_word : MethodName := ⟨RX19, "word", "(Ljava/lang/String;)V"⟩
def dkwX19_word_1 : List UInt8 := [167, 255, 236, 177]
abbrev dktX19_word_1 : List UInt8 := dkwX19_word_1 ++ []
def dkwX19_word_0 : List UInt8 := [3, 61, 28, 43, 182, 0, 46, 162, 0, 18, 42, 43, 28, 182, 0, 49, 182, 0, 53, 132, 2, 1]
abbrev dktX19_word_0 : List UInt8 := dkwX19_word_0 ++ dktX19_word_1
theorem dksX19_word_0 : cX19_word.data.toList.drop 0 = dktX19_word_0 := by decide +kernel
theorem dksX19_word_1 : cX19_word.data.toList.drop 22 = dktX19_word_1 := dk_seg dksX19_word_0 22 rfl rfl
theorem dX19_word_0 : decode cX19_word 0 = .ok (.iconst 0, 1) := dk_3 (dk_at dksX19_word_0 0 rfl rfl)
theorem dX19_word_1 : decode cX19_word 1 = .ok (.istore_n 2, 1) := dk_61 (dk_at dksX19_word_0 1 rfl rfl)
theorem dX19_word_2 : decode cX19_word 2 = .ok (.iload_n 2, 1) := dk_28 (dk_at dksX19_word_0 2 rfl rfl)
theorem dX19_word_3 : decode cX19_word 3 = .ok (.aload_n 1, 1) := dk_43 (dk_at dksX19_word_0 3 rfl rfl)
theorem dX19_word_4 : decode cX19_word 4 = .ok (.invokevirtual 46, 3) := dk_182 0 46 (dk_at dksX19_word_0 4 rfl rfl)
theorem dX19_word_7 : decode cX19_word 7 = .ok (.if_icmp .ge 18, 3) := dk_162 0 18 (dk_at dksX19_word_0 7 rfl rfl)
theorem dX19_word_10 : decode cX19_word 10 = .ok (.aload_n 0, 1) := dk_42 (dk_at dksX19_word_0 10 rfl rfl)
theorem dX19_word_11 : decode cX19_word 11 = .ok (.aload_n 1, 1) := dk_43 (dk_at dksX19_word_0 11 rfl rfl)
theorem dX19_word_12 : decode cX19_word 12 = .ok (.iload_n 2, 1) := dk_28 (dk_at dksX19_word_0 12 rfl rfl)
theorem dX19_word_13 : decode cX19_word 13 = .ok (.invokevirtual 49, 3) := dk_182 0 49 (dk_at dksX19_word_0 13 rfl rfl)
theorem dX19_word_16 : decode cX19_word 16 = .ok (.invokevirtual 53, 3) := dk_182 0 53 (dk_at dksX19_word_0 16 rfl rfl)
theorem dX19_word_19 : decode cX19_word 19 = .ok (.iinc 2 1, 3) := dk_132 2 1 (dk_at dksX19_word_0 19 rfl rfl)
theorem dX19_word_22 : decode cX19_word 22 = .ok (.goto (-20), 3) := dk_167 255 236 (dk_at dksX19_word_1 0 rfl rfl)
theorem dX19_word_25 : decode cX19_word 25 = .ok (.return_, 1) := dk_177 (dk_at dksX19_word_1 3 rfl rfl)
abbrev cX19_must : ByteArray := prog_14_method_4_code
def yX19_must : MethodName := ⟨RX19, "must", "(I)V"⟩
def dkwX19_must_1 : List UInt8 := [180, 0, 19, 4, 96, 181, 0, 19, 177]
abbrev dktX19_must_1 : List UInt8 := dkwX19_must_1 ++ []
def dkwX19_must_0 : List UInt8 := [42, 27, 182, 0, 37, 154, 0, 15, 187, 0, 41, 89, 42, 180, 0, 19, 183, 0, 43, 191, 42, 89]
abbrev dktX19_must_0 : List UInt8 := dkwX19_must_0 ++ dktX19_must_1
theorem dksX19_must_0 : cX19_must.data.toList.drop 0 = dktX19_must_0 := by decide +kernel
theorem dksX19_must_1 : cX19_must.data.toList.drop 22 = dktX19_must_1 := dk_seg dksX19_must_0 22 rfl rfl
theorem dX19_must_0 : decode cX19_must 0 = .ok (.aload_n 0, 1) := dk_42 (dk_at dksX19_must_0 0 rfl rfl)
theorem dX19_must_1 : decode cX19_must 1 = .ok (.iload_n 1, 1) := dk_27 (dk_at dksX19_must_0 1 rfl rfl)
theorem dX19_must_2 : decode cX19_must 2 = .ok (.invokevirtual 37, 3) := dk_182 0 37 (dk_at dksX19_must_0 2 rfl rfl)
theorem dX19_must_5 : decode cX19_must 5 = .ok (.ifCond .ne 15, 3) := dk_154 0 15 (dk_at dksX19_must_0 5 rfl rfl)
theorem dX19_must_8 : decode cX19_must 8 = .ok (.new 41, 3) := dk_187 0 41 (dk_at dksX19_must_0 8 rfl rfl)
theorem dX19_must_11 : decode cX19_must 11 = .ok (.dup, 1) := dk_89 (dk_at dksX19_must_0 11 rfl rfl)
theorem dX19_must_12 : decode cX19_must 12 = .ok (.aload_n 0, 1) := dk_42 (dk_at dksX19_must_0 12 rfl rfl)
theorem dX19_must_13 : decode cX19_must 13 = .ok (.getfield 19, 3) := dk_180 0 19 (dk_at dksX19_must_0 13 rfl rfl)
theorem dX19_must_16 : decode cX19_must 16 = .ok (.invokespecial 43, 3) := dk_183 0 43 (dk_at dksX19_must_0 16 rfl rfl)
theorem dX19_must_19 : decode cX19_must 19 = .ok (.athrow, 1) := dk_191 (dk_at dksX19_must_0 19 rfl rfl)
theorem dX19_must_20 : decode cX19_must 20 = .ok (.aload_n 0, 1) := dk_42 (dk_at dksX19_must_0 20 rfl rfl)
theorem dX19_must_21 : decode cX19_must 21 = .ok (.dup, 1) := dk_89 (dk_at dksX19_must_0 21 rfl rfl)
theorem dX19_must_22 : decode cX19_must 22 = .ok (.getfield 19, 3) := dk_180 0 19 (dk_at dksX19_must_1 0 rfl rfl)
theorem dX19_must_25 : decode cX19_must 25 = .ok (.iconst 1, 1) := dk_4 (dk_at dksX19_must_1 3 rfl rfl)
theorem dX19_must_26 : decode cX19_must 26 = .ok (.iadd, 1) := dk_96 (dk_at dksX19_must_1 4 rfl rfl)
theorem dX19_must_27 : decode cX19_must 27 = .ok (.putfield 19, 3) := dk_181 0 19 (dk_at dksX19_must_1 5 rfl rfl)
theorem dX19_must_30 : decode cX19_must 30 = .ok (.return_, 1) := dk_177 (dk_at dksX19_must_1 8 rfl rfl)
abbrev cX19_hasRoom : ByteArray := prog_14_method_8_code
def yX19_hasRoom : MethodName := ⟨RX19, "hasRoom", "(ZI)V"⟩
def dkwX19_hasRoom_0 : List UInt8 := [27, 154, 0, 12, 187, 0, 41, 89, 28, 183, 0, 43, 191, 177]
abbrev dktX19_hasRoom_0 : List UInt8 := dkwX19_hasRoom_0 ++ []
theorem dksX19_hasRoom_0 : cX19_hasRoom.data.toList.drop 0 = dktX19_hasRoom_0 := by decide +kernel
theorem dX19_hasRoom_0 : decode cX19_hasRoom 0 = .ok (.iload_n 1, 1) := dk_27 (dk_at dksX19_hasRoom_0 0 rfl rfl)
theorem dX19_hasRoom_1 : decode cX19_hasRoom 1 = .ok (.ifCond .ne 12, 3) := dk_154 0 12 (dk_at dksX19_hasRoom_0 1 rfl rfl)
theorem dX19_hasRoom_4 : decode cX19_hasRoom 4 = .ok (.new 41, 3) := dk_187 0 41 (dk_at dksX19_hasRoom_0 4 rfl rfl)
theorem dX19_hasRoom_7 : decode cX19_hasRoom 7 = .ok (.dup, 1) := dk_89 (dk_at dksX19_hasRoom_0 7 rfl rfl)
theorem dX19_hasRoom_8 : decode cX19_hasRoom 8 = .ok (.iload_n 2, 1) := dk_28 (dk_at dksX19_hasRoom_0 8 rfl rfl)
theorem dX19_hasRoom_9 : decode cX19_hasRoom 9 = .ok (.invokespecial 43, 3) := dk_183 0 43 (dk_at dksX19_hasRoom_0 9 rfl rfl)
theorem dX19_hasRoom_12 : decode cX19_hasRoom 12 = .ok (.athrow, 1) := dk_191 (dk_at dksX19_hasRoom_0 12 rfl rfl)
theorem dX19_hasRoom_13 : decode cX19_hasRoom 13 = .ok (.return_, 1) := dk_177 (dk_at dksX19_hasRoom_0 13 rfl rfl)
abbrev cX19_number : ByteArray := prog_14_method_7_code
def yX19_number : MethodName := ⟨RX19, "number", "(II)I"⟩
def dkwX19_number_4 : List UInt8 := [42, 180, 0, 56, 182, 0, 66, 29, 172]
abbrev dktX19_number_4 : List UInt8 := dkwX19_number_4 ++ []
def dkwX19_number_3 : List UInt8 := [182, 0, 33, 96, 16, 48, 100, 62, 132, 4, 1, 167, 255, 213, 42, 29, 133, 27, 133, 28, 133, 184, 0, 62]
abbrev dktX19_number_3 : List UInt8 := dkwX19_number_3 ++ dktX19_number_4
def dkwX19_number_2 : List UInt8 := [153, 0, 36, 16, 10, 29, 104, 42, 180, 0, 9, 42, 89, 180, 0, 19, 90, 4, 96, 181, 0, 19]
abbrev dktX19_number_2 : List UInt8 := dkwX19_number_2 ++ dktX19_number_3
def dkwX19_number_1 : List UInt8 := [89, 42, 180, 0, 19, 183, 0, 43, 191, 3, 62, 3, 54, 4, 21, 4, 5, 162, 0, 43, 42, 182, 0, 59]
abbrev dktX19_number_1 : List UInt8 := dkwX19_number_1 ++ dktX19_number_2
def dkwX19_number_0 : List UInt8 := [42, 16, 32, 182, 0, 53, 42, 42, 180, 0, 19, 181, 0, 56, 42, 182, 0, 59, 154, 0, 15, 187, 0, 41]
abbrev dktX19_number_0 : List UInt8 := dkwX19_number_0 ++ dktX19_number_1
theorem dksX19_number_0 : cX19_number.data.toList.drop 0 = dktX19_number_0 := by decide +kernel
theorem dksX19_number_1 : cX19_number.data.toList.drop 24 = dktX19_number_1 := dk_seg dksX19_number_0 24 rfl rfl
theorem dksX19_number_2 : cX19_number.data.toList.drop 48 = dktX19_number_2 := dk_seg dksX19_number_1 24 rfl rfl
theorem dksX19_number_3 : cX19_number.data.toList.drop 70 = dktX19_number_3 := dk_seg dksX19_number_2 22 rfl rfl
theorem dksX19_number_4 : cX19_number.data.toList.drop 94 = dktX19_number_4 := dk_seg dksX19_number_3 24 rfl rfl
theorem dX19_number_0 : decode cX19_number 0 = .ok (.aload_n 0, 1) := dk_42 (dk_at dksX19_number_0 0 rfl rfl)
theorem dX19_number_1 : decode cX19_number 1 = .ok (.bipush 32, 2) := dk_16 32 (dk_at dksX19_number_0 1 rfl rfl)
theorem dX19_number_3 : decode cX19_number 3 = .ok (.invokevirtual 53, 3) := dk_182 0 53 (dk_at dksX19_number_0 3 rfl rfl)
theorem dX19_number_6 : decode cX19_number 6 = .ok (.aload_n 0, 1) := dk_42 (dk_at dksX19_number_0 6 rfl rfl)
theorem dX19_number_7 : decode cX19_number 7 = .ok (.aload_n 0, 1) := dk_42 (dk_at dksX19_number_0 7 rfl rfl)
theorem dX19_number_8 : decode cX19_number 8 = .ok (.getfield 19, 3) := dk_180 0 19 (dk_at dksX19_number_0 8 rfl rfl)
theorem dX19_number_11 : decode cX19_number 11 = .ok (.putfield 56, 3) := dk_181 0 56 (dk_at dksX19_number_0 11 rfl rfl)
theorem dX19_number_14 : decode cX19_number 14 = .ok (.aload_n 0, 1) := dk_42 (dk_at dksX19_number_0 14 rfl rfl)
theorem dX19_number_15 : decode cX19_number 15 = .ok (.invokevirtual 59, 3) := dk_182 0 59 (dk_at dksX19_number_0 15 rfl rfl)
theorem dX19_number_18 : decode cX19_number 18 = .ok (.ifCond .ne 15, 3) := dk_154 0 15 (dk_at dksX19_number_0 18 rfl rfl)
theorem dX19_number_21 : decode cX19_number 21 = .ok (.new 41, 3) := dk_187 0 41 (dk_at dksX19_number_0 21 rfl rfl)
theorem dX19_number_24 : decode cX19_number 24 = .ok (.dup, 1) := dk_89 (dk_at dksX19_number_1 0 rfl rfl)
theorem dX19_number_25 : decode cX19_number 25 = .ok (.aload_n 0, 1) := dk_42 (dk_at dksX19_number_1 1 rfl rfl)
theorem dX19_number_26 : decode cX19_number 26 = .ok (.getfield 19, 3) := dk_180 0 19 (dk_at dksX19_number_1 2 rfl rfl)
theorem dX19_number_29 : decode cX19_number 29 = .ok (.invokespecial 43, 3) := dk_183 0 43 (dk_at dksX19_number_1 5 rfl rfl)
theorem dX19_number_32 : decode cX19_number 32 = .ok (.athrow, 1) := dk_191 (dk_at dksX19_number_1 8 rfl rfl)
theorem dX19_number_33 : decode cX19_number 33 = .ok (.iconst 0, 1) := dk_3 (dk_at dksX19_number_1 9 rfl rfl)
theorem dX19_number_34 : decode cX19_number 34 = .ok (.istore_n 3, 1) := dk_62 (dk_at dksX19_number_1 10 rfl rfl)
theorem dX19_number_35 : decode cX19_number 35 = .ok (.iconst 0, 1) := dk_3 (dk_at dksX19_number_1 11 rfl rfl)
theorem dX19_number_36 : decode cX19_number 36 = .ok (.istore 4, 2) := dk_54 4 (dk_at dksX19_number_1 12 rfl rfl)
theorem dX19_number_38 : decode cX19_number 38 = .ok (.iload 4, 2) := dk_21 4 (dk_at dksX19_number_1 14 rfl rfl)
theorem dX19_number_40 : decode cX19_number 40 = .ok (.iconst 2, 1) := dk_5 (dk_at dksX19_number_1 16 rfl rfl)
theorem dX19_number_41 : decode cX19_number 41 = .ok (.if_icmp .ge 43, 3) := dk_162 0 43 (dk_at dksX19_number_1 17 rfl rfl)
theorem dX19_number_44 : decode cX19_number 44 = .ok (.aload_n 0, 1) := dk_42 (dk_at dksX19_number_1 20 rfl rfl)
theorem dX19_number_45 : decode cX19_number 45 = .ok (.invokevirtual 59, 3) := dk_182 0 59 (dk_at dksX19_number_1 21 rfl rfl)
theorem dX19_number_48 : decode cX19_number 48 = .ok (.ifCond .eq 36, 3) := dk_153 0 36 (dk_at dksX19_number_2 0 rfl rfl)
theorem dX19_number_51 : decode cX19_number 51 = .ok (.bipush 10, 2) := dk_16 10 (dk_at dksX19_number_2 3 rfl rfl)
theorem dX19_number_53 : decode cX19_number 53 = .ok (.iload_n 3, 1) := dk_29 (dk_at dksX19_number_2 5 rfl rfl)
theorem dX19_number_54 : decode cX19_number 54 = .ok (.imul, 1) := dk_104 (dk_at dksX19_number_2 6 rfl rfl)
theorem dX19_number_55 : decode cX19_number 55 = .ok (.aload_n 0, 1) := dk_42 (dk_at dksX19_number_2 7 rfl rfl)
theorem dX19_number_56 : decode cX19_number 56 = .ok (.getfield 9, 3) := dk_180 0 9 (dk_at dksX19_number_2 8 rfl rfl)
theorem dX19_number_59 : decode cX19_number 59 = .ok (.aload_n 0, 1) := dk_42 (dk_at dksX19_number_2 11 rfl rfl)
theorem dX19_number_60 : decode cX19_number 60 = .ok (.dup, 1) := dk_89 (dk_at dksX19_number_2 12 rfl rfl)
theorem dX19_number_61 : decode cX19_number 61 = .ok (.getfield 19, 3) := dk_180 0 19 (dk_at dksX19_number_2 13 rfl rfl)
theorem dX19_number_64 : decode cX19_number 64 = .ok (.dup_x1, 1) := dk_90 (dk_at dksX19_number_2 16 rfl rfl)
theorem dX19_number_65 : decode cX19_number 65 = .ok (.iconst 1, 1) := dk_4 (dk_at dksX19_number_2 17 rfl rfl)
theorem dX19_number_66 : decode cX19_number 66 = .ok (.iadd, 1) := dk_96 (dk_at dksX19_number_2 18 rfl rfl)
theorem dX19_number_67 : decode cX19_number 67 = .ok (.putfield 19, 3) := dk_181 0 19 (dk_at dksX19_number_2 19 rfl rfl)
theorem dX19_number_70 : decode cX19_number 70 = .ok (.invokevirtual 33, 3) := dk_182 0 33 (dk_at dksX19_number_3 0 rfl rfl)
theorem dX19_number_73 : decode cX19_number 73 = .ok (.iadd, 1) := dk_96 (dk_at dksX19_number_3 3 rfl rfl)
theorem dX19_number_74 : decode cX19_number 74 = .ok (.bipush 48, 2) := dk_16 48 (dk_at dksX19_number_3 4 rfl rfl)
theorem dX19_number_76 : decode cX19_number 76 = .ok (.isub, 1) := dk_100 (dk_at dksX19_number_3 6 rfl rfl)
theorem dX19_number_77 : decode cX19_number 77 = .ok (.istore_n 3, 1) := dk_62 (dk_at dksX19_number_3 7 rfl rfl)
theorem dX19_number_78 : decode cX19_number 78 = .ok (.iinc 4 1, 3) := dk_132 4 1 (dk_at dksX19_number_3 8 rfl rfl)
theorem dX19_number_81 : decode cX19_number 81 = .ok (.goto (-43), 3) := dk_167 255 213 (dk_at dksX19_number_3 11 rfl rfl)
theorem dX19_number_84 : decode cX19_number 84 = .ok (.aload_n 0, 1) := dk_42 (dk_at dksX19_number_3 14 rfl rfl)
theorem dX19_number_85 : decode cX19_number 85 = .ok (.iload_n 3, 1) := dk_29 (dk_at dksX19_number_3 15 rfl rfl)
theorem dX19_number_86 : decode cX19_number 86 = .ok (.i2l, 1) := dk_133 (dk_at dksX19_number_3 16 rfl rfl)
theorem dX19_number_87 : decode cX19_number 87 = .ok (.iload_n 1, 1) := dk_27 (dk_at dksX19_number_3 17 rfl rfl)
theorem dX19_number_88 : decode cX19_number 88 = .ok (.i2l, 1) := dk_133 (dk_at dksX19_number_3 18 rfl rfl)
theorem dX19_number_89 : decode cX19_number 89 = .ok (.iload_n 2, 1) := dk_28 (dk_at dksX19_number_3 19 rfl rfl)
theorem dX19_number_90 : decode cX19_number 90 = .ok (.i2l, 1) := dk_133 (dk_at dksX19_number_3 20 rfl rfl)
theorem dX19_number_91 : decode cX19_number 91 = .ok (.invokestatic 62, 3) := dk_184 0 62 (dk_at dksX19_number_3 21 rfl rfl)
theorem dX19_number_94 : decode cX19_number 94 = .ok (.aload_n 0, 1) := dk_42 (dk_at dksX19_number_4 0 rfl rfl)
theorem dX19_number_95 : decode cX19_number 95 = .ok (.getfield 56, 3) := dk_180 0 56 (dk_at dksX19_number_4 1 rfl rfl)
theorem dX19_number_98 : decode cX19_number 98 = .ok (.invokevirtual 66, 3) := dk_182 0 66 (dk_at dksX19_number_4 4 rfl rfl)
theorem dX19_number_101 : decode cX19_number 101 = .ok (.iload_n 3, 1) := dk_29 (dk_at dksX19_number_4 7 rfl rfl)
theorem dX19_number_102 : decode cX19_number 102 = .ok (.ireturn, 1) := dk_172 (dk_at dksX19_number_4 8 rfl rfl)
abbrev cX19_digit : ByteArray := prog_14_method_6_code
def yX19_digit : MethodName := ⟨RX19, "digit", "()Z"⟩
def dkwX19_digit_1 : List UInt8 := [180, 0, 9, 42, 180, 0, 19, 182, 0, 33, 16, 57, 163, 0, 7, 4, 167, 0, 4, 3, 172]
abbrev dktX19_digit_1 : List UInt8 := dkwX19_digit_1 ++ []
def dkwX19_digit_0 : List UInt8 := [42, 182, 0, 29, 154, 0, 39, 42, 180, 0, 9, 42, 180, 0, 19, 182, 0, 33, 16, 48, 161, 0, 23, 42]
abbrev dktX19_digit_0 : List UInt8 := dkwX19_digit_0 ++ dktX19_digit_1
theorem dksX19_digit_0 : cX19_digit.data.toList.drop 0 = dktX19_digit_0 := by decide +kernel
theorem dksX19_digit_1 : cX19_digit.data.toList.drop 24 = dktX19_digit_1 := dk_seg dksX19_digit_0 24 rfl rfl
theorem dX19_digit_0 : decode cX19_digit 0 = .ok (.aload_n 0, 1) := dk_42 (dk_at dksX19_digit_0 0 rfl rfl)
theorem dX19_digit_1 : decode cX19_digit 1 = .ok (.invokevirtual 29, 3) := dk_182 0 29 (dk_at dksX19_digit_0 1 rfl rfl)
theorem dX19_digit_4 : decode cX19_digit 4 = .ok (.ifCond .ne 39, 3) := dk_154 0 39 (dk_at dksX19_digit_0 4 rfl rfl)
theorem dX19_digit_7 : decode cX19_digit 7 = .ok (.aload_n 0, 1) := dk_42 (dk_at dksX19_digit_0 7 rfl rfl)
theorem dX19_digit_8 : decode cX19_digit 8 = .ok (.getfield 9, 3) := dk_180 0 9 (dk_at dksX19_digit_0 8 rfl rfl)
theorem dX19_digit_11 : decode cX19_digit 11 = .ok (.aload_n 0, 1) := dk_42 (dk_at dksX19_digit_0 11 rfl rfl)
theorem dX19_digit_12 : decode cX19_digit 12 = .ok (.getfield 19, 3) := dk_180 0 19 (dk_at dksX19_digit_0 12 rfl rfl)
theorem dX19_digit_15 : decode cX19_digit 15 = .ok (.invokevirtual 33, 3) := dk_182 0 33 (dk_at dksX19_digit_0 15 rfl rfl)
theorem dX19_digit_18 : decode cX19_digit 18 = .ok (.bipush 48, 2) := dk_16 48 (dk_at dksX19_digit_0 18 rfl rfl)
theorem dX19_digit_20 : decode cX19_digit 20 = .ok (.if_icmp .lt 23, 3) := dk_161 0 23 (dk_at dksX19_digit_0 20 rfl rfl)
theorem dX19_digit_23 : decode cX19_digit 23 = .ok (.aload_n 0, 1) := dk_42 (dk_at dksX19_digit_0 23 rfl rfl)
theorem dX19_digit_24 : decode cX19_digit 24 = .ok (.getfield 9, 3) := dk_180 0 9 (dk_at dksX19_digit_1 0 rfl rfl)
theorem dX19_digit_27 : decode cX19_digit 27 = .ok (.aload_n 0, 1) := dk_42 (dk_at dksX19_digit_1 3 rfl rfl)
theorem dX19_digit_28 : decode cX19_digit 28 = .ok (.getfield 19, 3) := dk_180 0 19 (dk_at dksX19_digit_1 4 rfl rfl)
theorem dX19_digit_31 : decode cX19_digit 31 = .ok (.invokevirtual 33, 3) := dk_182 0 33 (dk_at dksX19_digit_1 7 rfl rfl)
theorem dX19_digit_34 : decode cX19_digit 34 = .ok (.bipush 57, 2) := dk_16 57 (dk_at dksX19_digit_1 10 rfl rfl)
theorem dX19_digit_36 : decode cX19_digit 36 = .ok (.if_icmp .gt 7, 3) := dk_163 0 7 (dk_at dksX19_digit_1 12 rfl rfl)
theorem dX19_digit_39 : decode cX19_digit 39 = .ok (.iconst 1, 1) := dk_4 (dk_at dksX19_digit_1 15 rfl rfl)
theorem dX19_digit_40 : decode cX19_digit 40 = .ok (.goto 4, 3) := dk_167 0 4 (dk_at dksX19_digit_1 16 rfl rfl)
theorem dX19_digit_43 : decode cX19_digit 43 = .ok (.iconst 0, 1) := dk_3 (dk_at dksX19_digit_1 19 rfl rfl)
theorem dX19_digit_44 : decode cX19_digit 44 = .ok (.ireturn, 1) := dk_172 (dk_at dksX19_digit_1 20 rfl rfl)
abbrev cX19_voice : ByteArray := prog_14_method_11_code
def yX19_voice : MethodName := ⟨RX19, "voice", "(I)V"⟩
def dkwX19_voice_3 : List UInt8 := [21, 5, 42, 3, 16, 11, 182, 0, 73, 184, 0, 94, 21, 4, 182, 0, 98, 177]
abbrev dktX19_voice_3 : List UInt8 := dkwX19_voice_3 ++ []
def dkwX19_voice_2 : List UInt8 := [54, 4, 42, 3, 8, 182, 0, 73, 54, 5, 42, 180, 0, 15, 28, 42, 180, 0, 15, 180, 0, 88, 29]
abbrev dktX19_voice_2 : List UInt8 := dkwX19_voice_2 ++ dktX19_voice_3
def dkwX19_voice_1 : List UInt8 := [27, 182, 0, 66, 42, 3, 16, 6, 182, 0, 73, 61, 42, 3, 16, 9, 182, 0, 73, 62, 42, 182, 0, 91]
abbrev dktX19_voice_1 : List UInt8 := dkwX19_voice_1 ++ dktX19_voice_2
def dkwX19_voice_0 : List UInt8 := [42, 18, 82, 182, 0, 84, 42, 42, 180, 0, 15, 180, 0, 88, 16, 12, 162, 0, 7, 4, 167, 0, 4, 3]
abbrev dktX19_voice_0 : List UInt8 := dkwX19_voice_0 ++ dktX19_voice_1
theorem dksX19_voice_0 : cX19_voice.data.toList.drop 0 = dktX19_voice_0 := by decide +kernel
theorem dksX19_voice_1 : cX19_voice.data.toList.drop 24 = dktX19_voice_1 := dk_seg dksX19_voice_0 24 rfl rfl
theorem dksX19_voice_2 : cX19_voice.data.toList.drop 48 = dktX19_voice_2 := dk_seg dksX19_voice_1 24 rfl rfl
theorem dksX19_voice_3 : cX19_voice.data.toList.drop 71 = dktX19_voice_3 := dk_seg dksX19_voice_2 23 rfl rfl
theorem dX19_voice_0 : decode cX19_voice 0 = .ok (.aload_n 0, 1) := dk_42 (dk_at dksX19_voice_0 0 rfl rfl)
theorem dX19_voice_1 : decode cX19_voice 1 = .ok (.ldc 82, 2) := dk_18 82 (dk_at dksX19_voice_0 1 rfl rfl)
theorem dX19_voice_3 : decode cX19_voice 3 = .ok (.invokevirtual 84, 3) := dk_182 0 84 (dk_at dksX19_voice_0 3 rfl rfl)
theorem dX19_voice_6 : decode cX19_voice 6 = .ok (.aload_n 0, 1) := dk_42 (dk_at dksX19_voice_0 6 rfl rfl)
theorem dX19_voice_7 : decode cX19_voice 7 = .ok (.aload_n 0, 1) := dk_42 (dk_at dksX19_voice_0 7 rfl rfl)
theorem dX19_voice_8 : decode cX19_voice 8 = .ok (.getfield 15, 3) := dk_180 0 15 (dk_at dksX19_voice_0 8 rfl rfl)
theorem dX19_voice_11 : decode cX19_voice 11 = .ok (.getfield 88, 3) := dk_180 0 88 (dk_at dksX19_voice_0 11 rfl rfl)
theorem dX19_voice_14 : decode cX19_voice 14 = .ok (.bipush 12, 2) := dk_16 12 (dk_at dksX19_voice_0 14 rfl rfl)
theorem dX19_voice_16 : decode cX19_voice 16 = .ok (.if_icmp .ge 7, 3) := dk_162 0 7 (dk_at dksX19_voice_0 16 rfl rfl)
theorem dX19_voice_19 : decode cX19_voice 19 = .ok (.iconst 1, 1) := dk_4 (dk_at dksX19_voice_0 19 rfl rfl)
theorem dX19_voice_20 : decode cX19_voice 20 = .ok (.goto 4, 3) := dk_167 0 4 (dk_at dksX19_voice_0 20 rfl rfl)
theorem dX19_voice_23 : decode cX19_voice 23 = .ok (.iconst 0, 1) := dk_3 (dk_at dksX19_voice_0 23 rfl rfl)
theorem dX19_voice_24 : decode cX19_voice 24 = .ok (.iload_n 1, 1) := dk_27 (dk_at dksX19_voice_1 0 rfl rfl)
theorem dX19_voice_25 : decode cX19_voice 25 = .ok (.invokevirtual 66, 3) := dk_182 0 66 (dk_at dksX19_voice_1 1 rfl rfl)
theorem dX19_voice_28 : decode cX19_voice 28 = .ok (.aload_n 0, 1) := dk_42 (dk_at dksX19_voice_1 4 rfl rfl)
theorem dX19_voice_29 : decode cX19_voice 29 = .ok (.iconst 0, 1) := dk_3 (dk_at dksX19_voice_1 5 rfl rfl)
theorem dX19_voice_30 : decode cX19_voice 30 = .ok (.bipush 6, 2) := dk_16 6 (dk_at dksX19_voice_1 6 rfl rfl)
theorem dX19_voice_32 : decode cX19_voice 32 = .ok (.invokevirtual 73, 3) := dk_182 0 73 (dk_at dksX19_voice_1 8 rfl rfl)
theorem dX19_voice_35 : decode cX19_voice 35 = .ok (.istore_n 2, 1) := dk_61 (dk_at dksX19_voice_1 11 rfl rfl)
theorem dX19_voice_36 : decode cX19_voice 36 = .ok (.aload_n 0, 1) := dk_42 (dk_at dksX19_voice_1 12 rfl rfl)
theorem dX19_voice_37 : decode cX19_voice 37 = .ok (.iconst 0, 1) := dk_3 (dk_at dksX19_voice_1 13 rfl rfl)
theorem dX19_voice_38 : decode cX19_voice 38 = .ok (.bipush 9, 2) := dk_16 9 (dk_at dksX19_voice_1 14 rfl rfl)
theorem dX19_voice_40 : decode cX19_voice 40 = .ok (.invokevirtual 73, 3) := dk_182 0 73 (dk_at dksX19_voice_1 16 rfl rfl)
theorem dX19_voice_43 : decode cX19_voice 43 = .ok (.istore_n 3, 1) := dk_62 (dk_at dksX19_voice_1 19 rfl rfl)
theorem dX19_voice_44 : decode cX19_voice 44 = .ok (.aload_n 0, 1) := dk_42 (dk_at dksX19_voice_1 20 rfl rfl)
theorem dX19_voice_45 : decode cX19_voice 45 = .ok (.invokevirtual 91, 3) := dk_182 0 91 (dk_at dksX19_voice_1 21 rfl rfl)
theorem dX19_voice_48 : decode cX19_voice 48 = .ok (.istore 4, 2) := dk_54 4 (dk_at dksX19_voice_2 0 rfl rfl)
theorem dX19_voice_50 : decode cX19_voice 50 = .ok (.aload_n 0, 1) := dk_42 (dk_at dksX19_voice_2 2 rfl rfl)
theorem dX19_voice_51 : decode cX19_voice 51 = .ok (.iconst 0, 1) := dk_3 (dk_at dksX19_voice_2 3 rfl rfl)
theorem dX19_voice_52 : decode cX19_voice 52 = .ok (.iconst 5, 1) := dk_8 (dk_at dksX19_voice_2 4 rfl rfl)
theorem dX19_voice_53 : decode cX19_voice 53 = .ok (.invokevirtual 73, 3) := dk_182 0 73 (dk_at dksX19_voice_2 5 rfl rfl)
theorem dX19_voice_56 : decode cX19_voice 56 = .ok (.istore 5, 2) := dk_54 5 (dk_at dksX19_voice_2 8 rfl rfl)
theorem dX19_voice_58 : decode cX19_voice 58 = .ok (.aload_n 0, 1) := dk_42 (dk_at dksX19_voice_2 10 rfl rfl)
theorem dX19_voice_59 : decode cX19_voice 59 = .ok (.getfield 15, 3) := dk_180 0 15 (dk_at dksX19_voice_2 11 rfl rfl)
theorem dX19_voice_62 : decode cX19_voice 62 = .ok (.iload_n 2, 1) := dk_28 (dk_at dksX19_voice_2 14 rfl rfl)
theorem dX19_voice_63 : decode cX19_voice 63 = .ok (.aload_n 0, 1) := dk_42 (dk_at dksX19_voice_2 15 rfl rfl)
theorem dX19_voice_64 : decode cX19_voice 64 = .ok (.getfield 15, 3) := dk_180 0 15 (dk_at dksX19_voice_2 16 rfl rfl)
theorem dX19_voice_67 : decode cX19_voice 67 = .ok (.getfield 88, 3) := dk_180 0 88 (dk_at dksX19_voice_2 19 rfl rfl)
theorem dX19_voice_70 : decode cX19_voice 70 = .ok (.iload_n 3, 1) := dk_29 (dk_at dksX19_voice_2 22 rfl rfl)
theorem dX19_voice_71 : decode cX19_voice 71 = .ok (.iload 5, 2) := dk_21 5 (dk_at dksX19_voice_3 0 rfl rfl)
theorem dX19_voice_73 : decode cX19_voice 73 = .ok (.aload_n 0, 1) := dk_42 (dk_at dksX19_voice_3 2 rfl rfl)
theorem dX19_voice_74 : decode cX19_voice 74 = .ok (.iconst 0, 1) := dk_3 (dk_at dksX19_voice_3 3 rfl rfl)
theorem dX19_voice_75 : decode cX19_voice 75 = .ok (.bipush 11, 2) := dk_16 11 (dk_at dksX19_voice_3 4 rfl rfl)
theorem dX19_voice_77 : decode cX19_voice 77 = .ok (.invokevirtual 73, 3) := dk_182 0 73 (dk_at dksX19_voice_3 6 rfl rfl)
theorem dX19_voice_80 : decode cX19_voice 80 = .ok (.invokestatic 94, 3) := dk_184 0 94 (dk_at dksX19_voice_3 9 rfl rfl)
theorem dX19_voice_83 : decode cX19_voice 83 = .ok (.iload 4, 2) := dk_21 4 (dk_at dksX19_voice_3 12 rfl rfl)
theorem dX19_voice_85 : decode cX19_voice 85 = .ok (.invokevirtual 98, 3) := dk_182 0 98 (dk_at dksX19_voice_3 14 rfl rfl)
theorem dX19_voice_88 : decode cX19_voice 88 = .ok (.return_, 1) := dk_177 (dk_at dksX19_voice_3 17 rfl rfl)
abbrev cX19_free : ByteArray := prog_14_method_10_code
def yX19_free : MethodName := ⟨RX19, "free", "()I"⟩
def dkwX19_free_1 : List UInt8 := [27, 172]
abbrev dktX19_free_1 : List UInt8 := dkwX19_free_1 ++ []
def dkwX19_free_0 : List UInt8 := [42, 3, 16, 23, 182, 0, 73, 60, 42, 42, 180, 0, 15, 27, 182, 0, 77, 42, 180, 0, 56, 182, 0, 66]
abbrev dktX19_free_0 : List UInt8 := dkwX19_free_0 ++ dktX19_free_1
theorem dksX19_free_0 : cX19_free.data.toList.drop 0 = dktX19_free_0 := by decide +kernel
theorem dksX19_free_1 : cX19_free.data.toList.drop 24 = dktX19_free_1 := dk_seg dksX19_free_0 24 rfl rfl
theorem dX19_free_0 : decode cX19_free 0 = .ok (.aload_n 0, 1) := dk_42 (dk_at dksX19_free_0 0 rfl rfl)
theorem dX19_free_1 : decode cX19_free 1 = .ok (.iconst 0, 1) := dk_3 (dk_at dksX19_free_0 1 rfl rfl)
theorem dX19_free_2 : decode cX19_free 2 = .ok (.bipush 23, 2) := dk_16 23 (dk_at dksX19_free_0 2 rfl rfl)
theorem dX19_free_4 : decode cX19_free 4 = .ok (.invokevirtual 73, 3) := dk_182 0 73 (dk_at dksX19_free_0 4 rfl rfl)
theorem dX19_free_7 : decode cX19_free 7 = .ok (.istore_n 1, 1) := dk_60 (dk_at dksX19_free_0 7 rfl rfl)
theorem dX19_free_8 : decode cX19_free 8 = .ok (.aload_n 0, 1) := dk_42 (dk_at dksX19_free_0 8 rfl rfl)
theorem dX19_free_9 : decode cX19_free 9 = .ok (.aload_n 0, 1) := dk_42 (dk_at dksX19_free_0 9 rfl rfl)
theorem dX19_free_10 : decode cX19_free 10 = .ok (.getfield 15, 3) := dk_180 0 15 (dk_at dksX19_free_0 10 rfl rfl)
theorem dX19_free_13 : decode cX19_free 13 = .ok (.iload_n 1, 1) := dk_27 (dk_at dksX19_free_0 13 rfl rfl)
theorem dX19_free_14 : decode cX19_free 14 = .ok (.invokevirtual 77, 3) := dk_182 0 77 (dk_at dksX19_free_0 14 rfl rfl)
theorem dX19_free_17 : decode cX19_free 17 = .ok (.aload_n 0, 1) := dk_42 (dk_at dksX19_free_0 17 rfl rfl)
theorem dX19_free_18 : decode cX19_free 18 = .ok (.getfield 56, 3) := dk_180 0 56 (dk_at dksX19_free_0 18 rfl rfl)
theorem dX19_free_21 : decode cX19_free 21 = .ok (.invokevirtual 66, 3) := dk_182 0 66 (dk_at dksX19_free_0 21 rfl rfl)
theorem dX19_free_24 : decode cX19_free 24 = .ok (.iload_n 1, 1) := dk_27 (dk_at dksX19_free_1 0 rfl rfl)
theorem dX19_free_25 : decode cX19_free 25 = .ok (.ireturn, 1) := dk_172 (dk_at dksX19_free_1 1 rfl rfl)
theorem q112 : (Jvm.Cond.initialized "WhichOneAllKnow$Reader") ∈ lw_all := lw_g (lw_at lw_m1 30 rfl) rfl
theorem q154 : (Jvm.Cond.fieldLink "WhichOneAllKnow$Reader" (88 : Nat) "WhichOneAllKnow$Church" "many" "I") ∈ lw_all := lw_g (lw_at lw_m1 72 rfl) rfl
theorem q157 : (Jvm.Cond.fieldLink "WhichOneAllKnow$Reader" (104 : Nat) "WhichOneAllKnow$Church" "tunes" "I") ∈ lw_all := lw_g (lw_at lw_m1 75 rfl) rfl
theorem q160 : (Jvm.Cond.fieldLink "WhichOneAllKnow$Reader" (123 : Nat) "WhichOneAllKnow$Church" "wait" "I") ∈ lw_all := lw_g (lw_at lw_m1 78 rfl) rfl
theorem q174 : (Jvm.Cond.fieldLink "WhichOneAllKnow$Reader" (119 : Nat) "WhichOneAllKnow$Church" "place" "[I") ∈ lw_all := lw_g (lw_at lw_m1 92 rfl) rfl
theorem q177 : (Jvm.Cond.fieldLink "WhichOneAllKnow$Reader" (114 : Nat) "WhichOneAllKnow$Church" "knows" "[I") ∈ lw_all := lw_g (lw_at lw_m1 95 rfl) rfl
theorem q814 : (Jvm.Cond.instantiable "WhichOneAllKnow$Reader" (4 : Nat)) ∈ lw_all := lw_g (lw_at lw_m4 12 rfl) rfl
theorem q816 : (Jvm.Cond.instanceMethod ({ cls := "WhichOneAllKnow$Reader", name := "<init>", desc := "(LWhichOneAllKnow$Row;LWhichOneAllKnow$Church;)V" } : Jvm.MethodName)) ∈ lw_all := lw_g (lw_at lw_m4 14 rfl) rfl
theorem q817 : (Jvm.Cond.code ({ cls := "WhichOneAllKnow$Reader", name := "<init>", desc := "(LWhichOneAllKnow$Row;LWhichOneAllKnow$Church;)V" } : Jvm.MethodName) prog_14_method_1_code (3 : Nat) (Option.none : Option Jvm.ClassFile.FieldType)) ∈ lw_all := lw_g (lw_at lw_m4 15 rfl) rfl
theorem q818 : (Jvm.Cond.methodLink "WhichOneAllKnow$Reader" (3 : Nat) ({ cls := "java/lang/Object", name := "<init>", desc := "()V" } : Jvm.MethodName)) ∈ lw_all := lw_g (lw_at lw_m4 16 rfl) rfl
theorem q819 : (Jvm.Cond.fieldLink "WhichOneAllKnow$Reader" (9 : Nat) "WhichOneAllKnow$Reader" "text" "LWhichOneAllKnow$Row;") ∈ lw_all := lw_g (lw_at lw_m4 17 rfl) rfl
theorem q820 : (Jvm.Cond.fieldLink "WhichOneAllKnow$Reader" (15 : Nat) "WhichOneAllKnow$Reader" "w" "LWhichOneAllKnow$Church;") ∈ lw_all := lw_g (lw_at lw_m4 18 rfl) rfl
theorem q821 : (Jvm.Cond.fieldLink "WhichOneAllKnow$Reader" (19 : Nat) "WhichOneAllKnow$Reader" "at" "I") ∈ lw_all := lw_g (lw_at lw_m4 19 rfl) rfl
theorem q822 : (Jvm.Cond.fieldLink "WhichOneAllKnow$Reader" (56 : Nat) "WhichOneAllKnow$Reader" "place" "I") ∈ lw_all := lw_g (lw_at lw_m4 20 rfl) rfl
theorem q823 : (Jvm.Cond.laysFinal "WhichOneAllKnow$Reader" "WhichOneAllKnow$Reader" "text" "LWhichOneAllKnow$Row;") ∈ lw_all := lw_g (lw_at lw_m4 21 rfl) rfl
theorem q824 : (Jvm.Cond.soleField "WhichOneAllKnow$Reader" "text") ∈ lw_all := lw_g (lw_at lw_m4 22 rfl) rfl
theorem q825 : (Jvm.Cond.laysFinal "WhichOneAllKnow$Reader" "WhichOneAllKnow$Reader" "w" "LWhichOneAllKnow$Church;") ∈ lw_all := lw_g (lw_at lw_m4 23 rfl) rfl
theorem q826 : (Jvm.Cond.soleField "WhichOneAllKnow$Reader" "w") ∈ lw_all := lw_g (lw_at lw_m4 24 rfl) rfl
theorem q827 : (Jvm.Cond.lays "WhichOneAllKnow$Reader" "WhichOneAllKnow$Reader" "at" "I") ∈ lw_all := lw_g (lw_at lw_m4 25 rfl) rfl
theorem q828 : (Jvm.Cond.soleField "WhichOneAllKnow$Reader" "at") ∈ lw_all := lw_g (lw_at lw_m4 26 rfl) rfl
theorem q829 : (Jvm.Cond.lays "WhichOneAllKnow$Reader" "WhichOneAllKnow$Reader" "place" "I") ∈ lw_all := lw_g (lw_at lw_m4 27 rfl) rfl
theorem q830 : (Jvm.Cond.soleField "WhichOneAllKnow$Reader" "place") ∈ lw_all := lw_g (lw_at lw_m4 28 rfl) rfl
theorem q831 : (Jvm.Cond.superclass "WhichOneAllKnow$Reader" "java/lang/Object") ∈ lw_all := lw_g (lw_at lw_m4 29 rfl) rfl
theorem q833 : (Jvm.Cond.instanceMethod ({ cls := "WhichOneAllKnow$Reader", name := "items", desc := "()I" } : Jvm.MethodName)) ∈ lw_all := lw_g (lw_at lw_m4 31 rfl) rfl
theorem q834 : (Jvm.Cond.selects "WhichOneAllKnow$Reader" ({ cls := "WhichOneAllKnow$Reader", name := "items", desc := "()I" } : Jvm.MethodName) ({ cls := "WhichOneAllKnow$Reader", name := "items", desc := "()I" } : Jvm.MethodName)) ∈ lw_all := lw_g (lw_at lw_m4 32 rfl) rfl
theorem q835 : (Jvm.Cond.code ({ cls := "WhichOneAllKnow$Reader", name := "items", desc := "()I" } : Jvm.MethodName) prog_14_method_9_code (2 : Nat) (Option.some Jvm.ClassFile.FieldType.int)) ∈ lw_all := lw_g (lw_at lw_m4 33 rfl) rfl
theorem q836 : (Jvm.Cond.methodLink "WhichOneAllKnow$Reader" (70 : Nat) ({ cls := "WhichOneAllKnow$Reader", name := "item", desc := "()V" } : Jvm.MethodName)) ∈ lw_all := lw_g (lw_at lw_m4 34 rfl) rfl
theorem q837 : (Jvm.Cond.privateMethod ({ cls := "WhichOneAllKnow$Reader", name := "item", desc := "()V" } : Jvm.MethodName)) ∈ lw_tbl := lw_at lw_m4 35 rfl
theorem q838 : (Jvm.Cond.instanceMethod ({ cls := "WhichOneAllKnow$Reader", name := "item", desc := "()V" } : Jvm.MethodName)) ∈ lw_all := lw_g (lw_at lw_m4 36 rfl) rfl
theorem q839 : (Jvm.Cond.code ({ cls := "WhichOneAllKnow$Reader", name := "item", desc := "()V" } : Jvm.MethodName) prog_14_method_12_code (3 : Nat) (Option.none : Option Jvm.ClassFile.FieldType)) ∈ lw_all := lw_g (lw_at lw_m4 37 rfl) rfl
theorem q840 : (Jvm.Cond.methodLink "WhichOneAllKnow$Reader" (37 : Nat) ({ cls := "WhichOneAllKnow$Reader", name := "sees", desc := "(I)Z" } : Jvm.MethodName)) ∈ lw_all := lw_g (lw_at lw_m4 38 rfl) rfl
theorem q841 : (Jvm.Cond.privateMethod ({ cls := "WhichOneAllKnow$Reader", name := "sees", desc := "(I)Z" } : Jvm.MethodName)) ∈ lw_tbl := lw_at lw_m4 39 rfl
theorem q842 : (Jvm.Cond.instanceMethod ({ cls := "WhichOneAllKnow$Reader", name := "sees", desc := "(I)Z" } : Jvm.MethodName)) ∈ lw_all := lw_g (lw_at lw_m4 40 rfl) rfl
theorem q843 : (Jvm.Cond.code ({ cls := "WhichOneAllKnow$Reader", name := "sees", desc := "(I)Z" } : Jvm.MethodName) prog_14_method_3_code (2 : Nat) (Option.some Jvm.ClassFile.FieldType.boolean)) ∈ lw_all := lw_g (lw_at lw_m4 41 rfl) rfl
theorem q844 : (Jvm.Cond.methodLink "WhichOneAllKnow$Reader" (29 : Nat) ({ cls := "WhichOneAllKnow$Reader", name := "ends", desc := "()Z" } : Jvm.MethodName)) ∈ lw_all := lw_g (lw_at lw_m4 42 rfl) rfl
theorem q845 : (Jvm.Cond.privateMethod ({ cls := "WhichOneAllKnow$Reader", name := "ends", desc := "()Z" } : Jvm.MethodName)) ∈ lw_tbl := lw_at lw_m4 43 rfl
theorem q846 : (Jvm.Cond.instanceMethod ({ cls := "WhichOneAllKnow$Reader", name := "ends", desc := "()Z" } : Jvm.MethodName)) ∈ lw_all := lw_g (lw_at lw_m4 44 rfl) rfl
theorem q847 : (Jvm.Cond.code ({ cls := "WhichOneAllKnow$Reader", name := "ends", desc := "()Z" } : Jvm.MethodName) prog_14_method_2_code (1 : Nat) (Option.some Jvm.ClassFile.FieldType.boolean)) ∈ lw_all := lw_g (lw_at lw_m4 45 rfl) rfl
theorem q848 : (Jvm.Cond.methodLink "WhichOneAllKnow$Reader" (23 : Nat) ({ cls := "WhichOneAllKnow$Row", name := "length", desc := "()I" } : Jvm.MethodName)) ∈ lw_all := lw_g (lw_at lw_m4 46 rfl) rfl
theorem q863 : (Jvm.Cond.methodLink "WhichOneAllKnow$Reader" (33 : Nat) ({ cls := "WhichOneAllKnow$Row", name := "asInt", desc := "(I)I" } : Jvm.MethodName)) ∈ lw_all := lw_g (lw_at lw_m4 61 rfl) rfl
theorem q872 : (Jvm.Cond.stringRef "WhichOneAllKnow$Reader" (102 : Nat) "tune") ∈ lw_tbl := lw_at lw_m4 70 rfl
theorem q873 : (Jvm.Cond.methodLink "WhichOneAllKnow$Reader" (84 : Nat) ({ cls := "WhichOneAllKnow$Reader", name := "word", desc := "(Ljava/lang/String;)V" } : Jvm.MethodName)) ∈ lw_all := lw_g (lw_at lw_m4 71 rfl) rfl
theorem q874 : (Jvm.Cond.privateMethod ({ cls := "WhichOneAllKnow$Reader", name := "word", desc := "(Ljava/lang/String;)V" } : Jvm.MethodName)) ∈ lw_tbl := lw_at lw_m4 72 rfl
theorem q875 : (Jvm.Cond.instanceMethod ({ cls := "WhichOneAllKnow$Reader", name := "word", desc := "(Ljava/lang/String;)V" } : Jvm.MethodName)) ∈ lw_all := lw_g (lw_at lw_m4 73 rfl) rfl
theorem q876 : (Jvm.Cond.code ({ cls := "WhichOneAllKnow$Reader", name := "word", desc := "(Ljava/lang/String;)V" } : Jvm.MethodName) prog_14_method_5_code (3 : Nat) (Option.none : Option Jvm.ClassFile.FieldType)) ∈ lw_all := lw_g (lw_at lw_m4 74 rfl) rfl
theorem q877 : (Jvm.Cond.methodLink "WhichOneAllKnow$Reader" (46 : Nat) ({ cls := "java/lang/String", name := "length", desc := "()I" } : Jvm.MethodName)) ∈ lw_all := lw_g (lw_at lw_m4 75 rfl) rfl
theorem q887 : (Jvm.Cond.methodLink "WhichOneAllKnow$Reader" (49 : Nat) ({ cls := "java/lang/String", name := "charAt", desc := "(I)C" } : Jvm.MethodName)) ∈ lw_all := lw_g (lw_at lw_m4 85 rfl) rfl
theorem q925 : (Jvm.Cond.methodLink "WhichOneAllKnow$Reader" (53 : Nat) ({ cls := "WhichOneAllKnow$Reader", name := "must", desc := "(I)V" } : Jvm.MethodName)) ∈ lw_all := lw_g (lw_at lw_m4 123 rfl) rfl
theorem q926 : (Jvm.Cond.privateMethod ({ cls := "WhichOneAllKnow$Reader", name := "must", desc := "(I)V" } : Jvm.MethodName)) ∈ lw_tbl := lw_at lw_m4 124 rfl
theorem q927 : (Jvm.Cond.instanceMethod ({ cls := "WhichOneAllKnow$Reader", name := "must", desc := "(I)V" } : Jvm.MethodName)) ∈ lw_all := lw_g (lw_at lw_m4 125 rfl) rfl
theorem q928 : (Jvm.Cond.code ({ cls := "WhichOneAllKnow$Reader", name := "must", desc := "(I)V" } : Jvm.MethodName) prog_14_method_4_code (2 : Nat) (Option.none : Option Jvm.ClassFile.FieldType)) ∈ lw_all := lw_g (lw_at lw_m4 126 rfl) rfl
theorem q929 : (Jvm.Cond.classLink "WhichOneAllKnow$Reader" (41 : Nat) "WhichOneAllKnow$Faulty") ∈ lw_all := lw_g (lw_at lw_m4 127 rfl) rfl
theorem q938 : (Jvm.Cond.methodLink "WhichOneAllKnow$Reader" (43 : Nat) ({ cls := "WhichOneAllKnow$Faulty", name := "<init>", desc := "(I)V" } : Jvm.MethodName)) ∈ lw_all := lw_g (lw_at lw_m4 136 rfl) rfl
theorem q948 : (Jvm.Cond.methodLink "WhichOneAllKnow$Reader" (66 : Nat) ({ cls := "WhichOneAllKnow$Reader", name := "hasRoom", desc := "(ZI)V" } : Jvm.MethodName)) ∈ lw_all := lw_g (lw_at lw_m4 146 rfl) rfl
theorem q949 : (Jvm.Cond.privateMethod ({ cls := "WhichOneAllKnow$Reader", name := "hasRoom", desc := "(ZI)V" } : Jvm.MethodName)) ∈ lw_tbl := lw_at lw_m4 147 rfl
theorem q950 : (Jvm.Cond.instanceMethod ({ cls := "WhichOneAllKnow$Reader", name := "hasRoom", desc := "(ZI)V" } : Jvm.MethodName)) ∈ lw_all := lw_g (lw_at lw_m4 148 rfl) rfl
theorem q951 : (Jvm.Cond.code ({ cls := "WhichOneAllKnow$Reader", name := "hasRoom", desc := "(ZI)V" } : Jvm.MethodName) prog_14_method_8_code (3 : Nat) (Option.none : Option Jvm.ClassFile.FieldType)) ∈ lw_all := lw_g (lw_at lw_m4 149 rfl) rfl
theorem q952 : (Jvm.Cond.methodLink "WhichOneAllKnow$Reader" (73 : Nat) ({ cls := "WhichOneAllKnow$Reader", name := "number", desc := "(II)I" } : Jvm.MethodName)) ∈ lw_all := lw_g (lw_at lw_m4 150 rfl) rfl
theorem q953 : (Jvm.Cond.privateMethod ({ cls := "WhichOneAllKnow$Reader", name := "number", desc := "(II)I" } : Jvm.MethodName)) ∈ lw_tbl := lw_at lw_m4 151 rfl
theorem q954 : (Jvm.Cond.instanceMethod ({ cls := "WhichOneAllKnow$Reader", name := "number", desc := "(II)I" } : Jvm.MethodName)) ∈ lw_all := lw_g (lw_at lw_m4 152 rfl) rfl
theorem q955 : (Jvm.Cond.code ({ cls := "WhichOneAllKnow$Reader", name := "number", desc := "(II)I" } : Jvm.MethodName) prog_14_method_7_code (5 : Nat) (Option.some Jvm.ClassFile.FieldType.int)) ∈ lw_all := lw_g (lw_at lw_m4 153 rfl) rfl
theorem q956 : (Jvm.Cond.methodLink "WhichOneAllKnow$Reader" (59 : Nat) ({ cls := "WhichOneAllKnow$Reader", name := "digit", desc := "()Z" } : Jvm.MethodName)) ∈ lw_all := lw_g (lw_at lw_m4 154 rfl) rfl
theorem q957 : (Jvm.Cond.privateMethod ({ cls := "WhichOneAllKnow$Reader", name := "digit", desc := "()Z" } : Jvm.MethodName)) ∈ lw_tbl := lw_at lw_m4 155 rfl
theorem q958 : (Jvm.Cond.instanceMethod ({ cls := "WhichOneAllKnow$Reader", name := "digit", desc := "()Z" } : Jvm.MethodName)) ∈ lw_all := lw_g (lw_at lw_m4 156 rfl) rfl
theorem q959 : (Jvm.Cond.code ({ cls := "WhichOneAllKnow$Reader", name := "digit", desc := "()Z" } : Jvm.MethodName) prog_14_method_6_code (1 : Nat) (Option.some Jvm.ClassFile.FieldType.boolean)) ∈ lw_all := lw_g (lw_at lw_m4 157 rfl) rfl
theorem q960 : (Jvm.Cond.methodLink "WhichOneAllKnow$Reader" (62 : Nat) ({ cls := "WhichOneAllKnow", name := "in", desc := "(JJJ)Z" } : Jvm.MethodName)) ∈ lw_all := lw_g (lw_at lw_m4 158 rfl) rfl
theorem q961 : (Jvm.Cond.methodLink "WhichOneAllKnow$Reader" (107 : Nat) ({ cls := "WhichOneAllKnow$Church", name := "addTune", desc := "(I)V" } : Jvm.MethodName)) ∈ lw_all := lw_g (lw_at lw_m4 159 rfl) rfl
theorem q962 : (Jvm.Cond.methodLink "WhichOneAllKnow$Reader" (110 : Nat) ({ cls := "WhichOneAllKnow$Reader", name := "voice", desc := "(I)V" } : Jvm.MethodName)) ∈ lw_all := lw_g (lw_at lw_m4 160 rfl) rfl
theorem q963 : (Jvm.Cond.privateMethod ({ cls := "WhichOneAllKnow$Reader", name := "voice", desc := "(I)V" } : Jvm.MethodName)) ∈ lw_tbl := lw_at lw_m4 161 rfl
theorem q964 : (Jvm.Cond.instanceMethod ({ cls := "WhichOneAllKnow$Reader", name := "voice", desc := "(I)V" } : Jvm.MethodName)) ∈ lw_all := lw_g (lw_at lw_m4 162 rfl) rfl
theorem q965 : (Jvm.Cond.code ({ cls := "WhichOneAllKnow$Reader", name := "voice", desc := "(I)V" } : Jvm.MethodName) prog_14_method_11_code (6 : Nat) (Option.none : Option Jvm.ClassFile.FieldType)) ∈ lw_all := lw_g (lw_at lw_m4 163 rfl) rfl
theorem q966 : (Jvm.Cond.stringRef "WhichOneAllKnow$Reader" (82 : Nat) "voice") ∈ lw_tbl := lw_at lw_m4 164 rfl
theorem q967 : (Jvm.Cond.methodLink "WhichOneAllKnow$Reader" (91 : Nat) ({ cls := "WhichOneAllKnow$Reader", name := "free", desc := "()I" } : Jvm.MethodName)) ∈ lw_all := lw_g (lw_at lw_m4 165 rfl) rfl
theorem q968 : (Jvm.Cond.privateMethod ({ cls := "WhichOneAllKnow$Reader", name := "free", desc := "()I" } : Jvm.MethodName)) ∈ lw_tbl := lw_at lw_m4 166 rfl
theorem q969 : (Jvm.Cond.instanceMethod ({ cls := "WhichOneAllKnow$Reader", name := "free", desc := "()I" } : Jvm.MethodName)) ∈ lw_all := lw_g (lw_at lw_m4 167 rfl) rfl
theorem q970 : (Jvm.Cond.code ({ cls := "WhichOneAllKnow$Reader", name := "free", desc := "()I" } : Jvm.MethodName) prog_14_method_10_code (2 : Nat) (Option.some Jvm.ClassFile.FieldType.int)) ∈ lw_all := lw_g (lw_at lw_m4 168 rfl) rfl
theorem q971 : (Jvm.Cond.methodLink "WhichOneAllKnow$Reader" (77 : Nat) ({ cls := "WhichOneAllKnow$Church", name := "isFree", desc := "(I)Z" } : Jvm.MethodName)) ∈ lw_all := lw_g (lw_at lw_m4 169 rfl) rfl
theorem q972 : (Jvm.Cond.methodLink "WhichOneAllKnow$Reader" (94 : Nat) ({ cls := "WhichOneAllKnow", name := "voiceOfKind", desc := "(IIIII)LWhichOneAllKnow$Voice;" } : Jvm.MethodName)) ∈ lw_all := lw_g (lw_at lw_m4 170 rfl) rfl
theorem q973 : (Jvm.Cond.methodLink "WhichOneAllKnow$Reader" (98 : Nat) ({ cls := "WhichOneAllKnow$Church", name := "addVoice", desc := "(LWhichOneAllKnow$Voice;I)V" } : Jvm.MethodName)) ∈ lw_all := lw_g (lw_at lw_m4 171 rfl) rfl
theorem q974 : (Jvm.Cond.stringRef "WhichOneAllKnow$Reader" (112 : Nat) "knows") ∈ lw_tbl := lw_at lw_m4 172 rfl
theorem q975 : (Jvm.Cond.stringRef "WhichOneAllKnow$Reader" (117 : Nat) "moves") ∈ lw_tbl := lw_at lw_m4 173 rfl
theorem q976 : (Jvm.Cond.stringRef "WhichOneAllKnow$Reader" (121 : Nat) "wait") ∈ lw_tbl := lw_at lw_m4 174 rfl
theorem in_X19 : ∀ w ∈ wsX190, w ∈ lw_all := lw_in wsX190 [823, 825, 827, 829] (by decide +kernel) (by decide +kernel)
/-! WhichOneAllKnow$Faulty -/
set_option maxRecDepth 100000
def RX20 : String := "WhichOneAllKnow$Faulty"
def TX20 : u_T := fun k => match k with
  | 0 => ("java/lang/Throwable", "cause", "Ljava/lang/Throwable;", false)
  | 1 => ("java/lang/Throwable", "stackTrace", "[Ljava/lang/StackTraceElement;", false)
  | 2 => ("java/lang/Throwable", "suppressedExceptions", "Ljava/util/List;", false)
  | 3 => ("java/lang/Throwable", "detailMessage", "Ljava/lang/String;", false)
  | 4 => ("java/lang/Throwable", "backtrace", "Ljava/lang/Object;", false)
  | 5 => ("java/lang/Throwable", "depth", "I", false)
  | _ => ("WhichOneAllKnow$Faulty", "place", "I", true)
def tyX20 : Nat → FieldType := fun k => match k with
  | 0 => .object "java/lang/Throwable"
  | 1 => .array (.object "java/lang/StackTraceElement")
  | 2 => .object "java/util/List"
  | 3 => .object "java/lang/String"
  | 4 => .object "java/lang/Object"
  | 5 => .int
  | _ => .int
abbrev wsX200 : List Cond := u_ws RX20 TX20 7
theorem nmX20 : ∀ a, a < 7 → ∀ b, b < 7 → a ≠ b → (TX20 a).2.1 ≠ (TX20 b).2.1 := by decide +kernel
theorem tyX20_ok : ∀ k, k < 7 → parseFieldDescriptor (TX20 k).2.2.1 = some (tyX20 k) := by decide +kernel
abbrev cX20_init : ByteArray := prog_7_method_1_code
def yX20_init : MethodName := ⟨RX20, "<init>", "(I)V"⟩
def dkwX20_init_0 : List UInt8 := [42, 1, 1, 3, 3, 183, 0, 1, 42, 27, 181, 0, 7, 177]
abbrev dktX20_init_0 : List UInt8 := dkwX20_init_0 ++ []
theorem dksX20_init_0 : cX20_init.data.toList.drop 0 = dktX20_init_0 := by decide +kernel
theorem dX20_init_0 : decode cX20_init 0 = .ok (.aload_n 0, 1) := dk_42 (dk_at dksX20_init_0 0 rfl rfl)
theorem dX20_init_1 : decode cX20_init 1 = .ok (.aconst_null, 1) := dk_1 (dk_at dksX20_init_0 1 rfl rfl)
theorem dX20_init_2 : decode cX20_init 2 = .ok (.aconst_null, 1) := dk_1 (dk_at dksX20_init_0 2 rfl rfl)
theorem dX20_init_3 : decode cX20_init 3 = .ok (.iconst 0, 1) := dk_3 (dk_at dksX20_init_0 3 rfl rfl)
theorem dX20_init_4 : decode cX20_init 4 = .ok (.iconst 0, 1) := dk_3 (dk_at dksX20_init_0 4 rfl rfl)
theorem dX20_init_5 : decode cX20_init 5 = .ok (.invokespecial 1, 3) := dk_183 0 1 (dk_at dksX20_init_0 5 rfl rfl)
theorem dX20_init_8 : decode cX20_init 8 = .ok (.aload_n 0, 1) := dk_42 (dk_at dksX20_init_0 8 rfl rfl)
theorem dX20_init_9 : decode cX20_init 9 = .ok (.iload_n 1, 1) := dk_27 (dk_at dksX20_init_0 9 rfl rfl)
theorem dX20_init_10 : decode cX20_init 10 = .ok (.putfield 7, 3) := dk_181 0 7 (dk_at dksX20_init_0 10 rfl rfl)
theorem dX20_init_13 : decode cX20_init 13 = .ok (.return_, 1) := dk_177 (dk_at dksX20_init_0 13 rfl rfl)
theorem q116 : (Jvm.Cond.initialized "WhichOneAllKnow$Faulty") ∈ lw_all := lw_g (lw_at lw_m1 34 rfl) rfl
theorem q430 : (Jvm.Cond.selects "WhichOneAllKnow$Faulty" ({ cls := "java/lang/Throwable", name := "fillInStackTrace", desc := "()Ljava/lang/Throwable;" } : Jvm.MethodName) ({ cls := "java/lang/Throwable", name := "fillInStackTrace", desc := "()Ljava/lang/Throwable;" } : Jvm.MethodName)) ∈ lw_all := lw_g (lw_at lw_m2 108 rfl) rfl
theorem q930 : (Jvm.Cond.instantiable "WhichOneAllKnow$Faulty" (7 : Nat)) ∈ lw_all := lw_g (lw_at lw_m4 128 rfl) rfl
theorem q931 : (Jvm.Cond.castable "WhichOneAllKnow$Faulty" "WhichOneAllKnow$Faulty") ∈ lw_tbl := lw_at lw_m4 129 rfl
theorem q932 : (Jvm.Cond.selects "WhichOneAllKnow$Faulty" ({ cls := "java/lang/Throwable", name := "fillInStackTrace", desc := "(I)Ljava/lang/Throwable;" } : Jvm.MethodName) ({ cls := "java/lang/Throwable", name := "fillInStackTrace", desc := "(I)Ljava/lang/Throwable;" } : Jvm.MethodName)) ∈ lw_all := lw_g (lw_at lw_m4 130 rfl) rfl
theorem q933 : (Jvm.Cond.lays "WhichOneAllKnow$Faulty" "java/lang/Throwable" "cause" "Ljava/lang/Throwable;") ∈ lw_all := lw_g (lw_at lw_m4 131 rfl) rfl
theorem q934 : (Jvm.Cond.lays "WhichOneAllKnow$Faulty" "java/lang/Throwable" "stackTrace" "[Ljava/lang/StackTraceElement;") ∈ lw_all := lw_g (lw_at lw_m4 132 rfl) rfl
theorem q935 : (Jvm.Cond.lays "WhichOneAllKnow$Faulty" "java/lang/Throwable" "suppressedExceptions" "Ljava/util/List;") ∈ lw_all := lw_g (lw_at lw_m4 133 rfl) rfl
theorem q936 : (Jvm.Cond.lays "WhichOneAllKnow$Faulty" "java/lang/Throwable" "detailMessage" "Ljava/lang/String;") ∈ lw_all := lw_g (lw_at lw_m4 134 rfl) rfl
theorem q937 : (Jvm.Cond.lays "WhichOneAllKnow$Faulty" "java/lang/Throwable" "backtrace" "Ljava/lang/Object;") ∈ lw_all := lw_g (lw_at lw_m4 135 rfl) rfl
theorem q939 : (Jvm.Cond.instanceMethod ({ cls := "WhichOneAllKnow$Faulty", name := "<init>", desc := "(I)V" } : Jvm.MethodName)) ∈ lw_all := lw_g (lw_at lw_m4 137 rfl) rfl
theorem q940 : (Jvm.Cond.code ({ cls := "WhichOneAllKnow$Faulty", name := "<init>", desc := "(I)V" } : Jvm.MethodName) prog_7_method_1_code (2 : Nat) (Option.none : Option Jvm.ClassFile.FieldType)) ∈ lw_all := lw_g (lw_at lw_m4 138 rfl) rfl
theorem q941 : (Jvm.Cond.methodLink "WhichOneAllKnow$Faulty" (1 : Nat) ({ cls := "java/lang/Exception", name := "<init>", desc := "(Ljava/lang/String;Ljava/lang/Throwable;ZZ)V" } : Jvm.MethodName)) ∈ lw_all := lw_g (lw_at lw_m4 139 rfl) rfl
theorem q942 : (Jvm.Cond.fieldLink "WhichOneAllKnow$Faulty" (7 : Nat) "WhichOneAllKnow$Faulty" "place" "I") ∈ lw_all := lw_g (lw_at lw_m4 140 rfl) rfl
theorem q944 : (Jvm.Cond.laysFinal "WhichOneAllKnow$Faulty" "WhichOneAllKnow$Faulty" "place" "I") ∈ lw_all := lw_g (lw_at lw_m4 142 rfl) rfl
theorem q945 : (Jvm.Cond.soleField "WhichOneAllKnow$Faulty" "place") ∈ lw_all := lw_g (lw_at lw_m4 143 rfl) rfl
theorem q946 : (Jvm.Cond.lays "WhichOneAllKnow$Faulty" "java/lang/Throwable" "depth" "I") ∈ lw_all := lw_g (lw_at lw_m4 144 rfl) rfl
theorem q947 : (Jvm.Cond.superclass "WhichOneAllKnow$Faulty" "java/lang/Exception") ∈ lw_all := lw_g (lw_at lw_m4 145 rfl) rfl
theorem in_X20 : ∀ w ∈ wsX200, w ∈ lw_all := lw_in wsX200 [933, 934, 935, 936, 937, 946, 944] (by decide +kernel) (by decide +kernel)
/-! java/lang/Throwable -/
set_option maxRecDepth 100000
def RJ0 : String := "java/lang/Throwable"
def TJ0 : u_T := fun k => match k with
  | 0 => ("java/lang/Throwable", "cause", "Ljava/lang/Throwable;", false)
  | 1 => ("java/lang/Throwable", "stackTrace", "[Ljava/lang/StackTraceElement;", false)
  | 2 => ("java/lang/Throwable", "suppressedExceptions", "Ljava/util/List;", false)
  | 3 => ("java/lang/Throwable", "detailMessage", "Ljava/lang/String;", false)
  | _ => ("java/lang/Throwable", "backtrace", "Ljava/lang/Object;", false)
def tyJ0 : Nat → FieldType := fun k => match k with
  | 0 => .object "java/lang/Throwable"
  | 1 => .array (.object "java/lang/StackTraceElement")
  | 2 => .object "java/util/List"
  | 3 => .object "java/lang/String"
  | _ => .object "java/lang/Object"
abbrev wsJ00 : List Cond := u_ws RJ0 TJ0 5
theorem nmJ0 : ∀ a, a < 5 → ∀ b, b < 5 → a ≠ b → (TJ0 a).2.1 ≠ (TJ0 b).2.1 := by decide +kernel
theorem tyJ0_ok : ∀ k, k < 5 → parseFieldDescriptor (TJ0 k).2.2.1 = some (tyJ0 k) := by decide +kernel
abbrev cJ0_init : ByteArray := prog_35_method_2_code
def yJ0_init : MethodName := ⟨RJ0, "<init>", "(Ljava/lang/String;)V"⟩
def dkwJ0_init_1 : List UInt8 := [182, 0, 27, 87, 42, 43, 181, 0, 31, 177]
abbrev dktJ0_init_1 : List UInt8 := dkwJ0_init_1 ++ []
def dkwJ0_init_0 : List UInt8 := [42, 183, 0, 1, 42, 42, 181, 0, 7, 42, 178, 0, 13, 181, 0, 17, 42, 178, 0, 20, 181, 0, 24, 42]
abbrev dktJ0_init_0 : List UInt8 := dkwJ0_init_0 ++ dktJ0_init_1
theorem dksJ0_init_0 : cJ0_init.data.toList.drop 0 = dktJ0_init_0 := by decide +kernel
theorem dksJ0_init_1 : cJ0_init.data.toList.drop 24 = dktJ0_init_1 := dk_seg dksJ0_init_0 24 rfl rfl
theorem dJ0_init_0 : decode cJ0_init 0 = .ok (.aload_n 0, 1) := dk_42 (dk_at dksJ0_init_0 0 rfl rfl)
theorem dJ0_init_1 : decode cJ0_init 1 = .ok (.invokespecial 1, 3) := dk_183 0 1 (dk_at dksJ0_init_0 1 rfl rfl)
theorem dJ0_init_4 : decode cJ0_init 4 = .ok (.aload_n 0, 1) := dk_42 (dk_at dksJ0_init_0 4 rfl rfl)
theorem dJ0_init_5 : decode cJ0_init 5 = .ok (.aload_n 0, 1) := dk_42 (dk_at dksJ0_init_0 5 rfl rfl)
theorem dJ0_init_6 : decode cJ0_init 6 = .ok (.putfield 7, 3) := dk_181 0 7 (dk_at dksJ0_init_0 6 rfl rfl)
theorem dJ0_init_9 : decode cJ0_init 9 = .ok (.aload_n 0, 1) := dk_42 (dk_at dksJ0_init_0 9 rfl rfl)
theorem dJ0_init_10 : decode cJ0_init 10 = .ok (.getstatic 13, 3) := dk_178 0 13 (dk_at dksJ0_init_0 10 rfl rfl)
theorem dJ0_init_13 : decode cJ0_init 13 = .ok (.putfield 17, 3) := dk_181 0 17 (dk_at dksJ0_init_0 13 rfl rfl)
theorem dJ0_init_16 : decode cJ0_init 16 = .ok (.aload_n 0, 1) := dk_42 (dk_at dksJ0_init_0 16 rfl rfl)
theorem dJ0_init_17 : decode cJ0_init 17 = .ok (.getstatic 20, 3) := dk_178 0 20 (dk_at dksJ0_init_0 17 rfl rfl)
theorem dJ0_init_20 : decode cJ0_init 20 = .ok (.putfield 24, 3) := dk_181 0 24 (dk_at dksJ0_init_0 20 rfl rfl)
theorem dJ0_init_23 : decode cJ0_init 23 = .ok (.aload_n 0, 1) := dk_42 (dk_at dksJ0_init_0 23 rfl rfl)
theorem dJ0_init_24 : decode cJ0_init 24 = .ok (.invokevirtual 27, 3) := dk_182 0 27 (dk_at dksJ0_init_1 0 rfl rfl)
theorem dJ0_init_27 : decode cJ0_init 27 = .ok (.pop, 1) := dk_87 (dk_at dksJ0_init_1 3 rfl rfl)
theorem dJ0_init_28 : decode cJ0_init 28 = .ok (.aload_n 0, 1) := dk_42 (dk_at dksJ0_init_1 4 rfl rfl)
theorem dJ0_init_29 : decode cJ0_init 29 = .ok (.aload_n 1, 1) := dk_43 (dk_at dksJ0_init_1 5 rfl rfl)
theorem dJ0_init_30 : decode cJ0_init 30 = .ok (.putfield 31, 3) := dk_181 0 31 (dk_at dksJ0_init_1 6 rfl rfl)
theorem dJ0_init_33 : decode cJ0_init 33 = .ok (.return_, 1) := dk_177 (dk_at dksJ0_init_1 9 rfl rfl)
abbrev cJ0_init_2 : ByteArray := prog_35_method_1_code
def yJ0_init_2 : MethodName := ⟨RJ0, "<init>", "()V"⟩
def dkwJ0_init_2_1 : List UInt8 := [182, 0, 27, 87, 177]
abbrev dktJ0_init_2_1 : List UInt8 := dkwJ0_init_2_1 ++ []
def dkwJ0_init_2_0 : List UInt8 := [42, 183, 0, 1, 42, 42, 181, 0, 7, 42, 178, 0, 13, 181, 0, 17, 42, 178, 0, 20, 181, 0, 24, 42]
abbrev dktJ0_init_2_0 : List UInt8 := dkwJ0_init_2_0 ++ dktJ0_init_2_1
theorem dksJ0_init_2_0 : cJ0_init_2.data.toList.drop 0 = dktJ0_init_2_0 := by decide +kernel
theorem dksJ0_init_2_1 : cJ0_init_2.data.toList.drop 24 = dktJ0_init_2_1 := dk_seg dksJ0_init_2_0 24 rfl rfl
theorem dJ0_init_2_0 : decode cJ0_init_2 0 = .ok (.aload_n 0, 1) := dk_42 (dk_at dksJ0_init_2_0 0 rfl rfl)
theorem dJ0_init_2_1 : decode cJ0_init_2 1 = .ok (.invokespecial 1, 3) := dk_183 0 1 (dk_at dksJ0_init_2_0 1 rfl rfl)
theorem dJ0_init_2_4 : decode cJ0_init_2 4 = .ok (.aload_n 0, 1) := dk_42 (dk_at dksJ0_init_2_0 4 rfl rfl)
theorem dJ0_init_2_5 : decode cJ0_init_2 5 = .ok (.aload_n 0, 1) := dk_42 (dk_at dksJ0_init_2_0 5 rfl rfl)
theorem dJ0_init_2_6 : decode cJ0_init_2 6 = .ok (.putfield 7, 3) := dk_181 0 7 (dk_at dksJ0_init_2_0 6 rfl rfl)
theorem dJ0_init_2_9 : decode cJ0_init_2 9 = .ok (.aload_n 0, 1) := dk_42 (dk_at dksJ0_init_2_0 9 rfl rfl)
theorem dJ0_init_2_10 : decode cJ0_init_2 10 = .ok (.getstatic 13, 3) := dk_178 0 13 (dk_at dksJ0_init_2_0 10 rfl rfl)
theorem dJ0_init_2_13 : decode cJ0_init_2 13 = .ok (.putfield 17, 3) := dk_181 0 17 (dk_at dksJ0_init_2_0 13 rfl rfl)
theorem dJ0_init_2_16 : decode cJ0_init_2 16 = .ok (.aload_n 0, 1) := dk_42 (dk_at dksJ0_init_2_0 16 rfl rfl)
theorem dJ0_init_2_17 : decode cJ0_init_2 17 = .ok (.getstatic 20, 3) := dk_178 0 20 (dk_at dksJ0_init_2_0 17 rfl rfl)
theorem dJ0_init_2_20 : decode cJ0_init_2 20 = .ok (.putfield 24, 3) := dk_181 0 24 (dk_at dksJ0_init_2_0 20 rfl rfl)
theorem dJ0_init_2_23 : decode cJ0_init_2 23 = .ok (.aload_n 0, 1) := dk_42 (dk_at dksJ0_init_2_0 23 rfl rfl)
theorem dJ0_init_2_24 : decode cJ0_init_2 24 = .ok (.invokevirtual 27, 3) := dk_182 0 27 (dk_at dksJ0_init_2_1 0 rfl rfl)
theorem dJ0_init_2_27 : decode cJ0_init_2 27 = .ok (.pop, 1) := dk_87 (dk_at dksJ0_init_2_1 3 rfl rfl)
theorem dJ0_init_2_28 : decode cJ0_init_2 28 = .ok (.return_, 1) := dk_177 (dk_at dksJ0_init_2_1 4 rfl rfl)
abbrev cJ0_init_3 : ByteArray := prog_35_method_5_code
def yJ0_init_3 : MethodName := ⟨RJ0, "<init>", "(Ljava/lang/String;Ljava/lang/Throwable;ZZ)V"⟩
def dkwJ0_init_3_2 : List UInt8 := [44, 181, 0, 7, 29, 154, 0, 8, 42, 1, 181, 0, 24, 177]
abbrev dktJ0_init_3_2 : List UInt8 := dkwJ0_init_3_2 ++ []
def dkwJ0_init_3_1 : List UInt8 := [21, 4, 153, 0, 11, 42, 182, 0, 27, 87, 167, 0, 8, 42, 1, 181, 0, 17, 42, 43, 181, 0, 31, 42]
abbrev dktJ0_init_3_1 : List UInt8 := dkwJ0_init_3_1 ++ dktJ0_init_3_2
def dkwJ0_init_3_0 : List UInt8 := [42, 183, 0, 1, 42, 42, 181, 0, 7, 42, 178, 0, 13, 181, 0, 17, 42, 178, 0, 20, 181, 0, 24]
abbrev dktJ0_init_3_0 : List UInt8 := dkwJ0_init_3_0 ++ dktJ0_init_3_1
theorem dksJ0_init_3_0 : cJ0_init_3.data.toList.drop 0 = dktJ0_init_3_0 := by decide +kernel
theorem dksJ0_init_3_1 : cJ0_init_3.data.toList.drop 23 = dktJ0_init_3_1 := dk_seg dksJ0_init_3_0 23 rfl rfl
theorem dksJ0_init_3_2 : cJ0_init_3.data.toList.drop 47 = dktJ0_init_3_2 := dk_seg dksJ0_init_3_1 24 rfl rfl
theorem dJ0_init_3_0 : decode cJ0_init_3 0 = .ok (.aload_n 0, 1) := dk_42 (dk_at dksJ0_init_3_0 0 rfl rfl)
theorem dJ0_init_3_1 : decode cJ0_init_3 1 = .ok (.invokespecial 1, 3) := dk_183 0 1 (dk_at dksJ0_init_3_0 1 rfl rfl)
theorem dJ0_init_3_4 : decode cJ0_init_3 4 = .ok (.aload_n 0, 1) := dk_42 (dk_at dksJ0_init_3_0 4 rfl rfl)
theorem dJ0_init_3_5 : decode cJ0_init_3 5 = .ok (.aload_n 0, 1) := dk_42 (dk_at dksJ0_init_3_0 5 rfl rfl)
theorem dJ0_init_3_6 : decode cJ0_init_3 6 = .ok (.putfield 7, 3) := dk_181 0 7 (dk_at dksJ0_init_3_0 6 rfl rfl)
theorem dJ0_init_3_9 : decode cJ0_init_3 9 = .ok (.aload_n 0, 1) := dk_42 (dk_at dksJ0_init_3_0 9 rfl rfl)
theorem dJ0_init_3_10 : decode cJ0_init_3 10 = .ok (.getstatic 13, 3) := dk_178 0 13 (dk_at dksJ0_init_3_0 10 rfl rfl)
theorem dJ0_init_3_13 : decode cJ0_init_3 13 = .ok (.putfield 17, 3) := dk_181 0 17 (dk_at dksJ0_init_3_0 13 rfl rfl)
theorem dJ0_init_3_16 : decode cJ0_init_3 16 = .ok (.aload_n 0, 1) := dk_42 (dk_at dksJ0_init_3_0 16 rfl rfl)
theorem dJ0_init_3_17 : decode cJ0_init_3 17 = .ok (.getstatic 20, 3) := dk_178 0 20 (dk_at dksJ0_init_3_0 17 rfl rfl)
theorem dJ0_init_3_20 : decode cJ0_init_3 20 = .ok (.putfield 24, 3) := dk_181 0 24 (dk_at dksJ0_init_3_0 20 rfl rfl)
theorem dJ0_init_3_23 : decode cJ0_init_3 23 = .ok (.iload 4, 2) := dk_21 4 (dk_at dksJ0_init_3_1 0 rfl rfl)
theorem dJ0_init_3_25 : decode cJ0_init_3 25 = .ok (.ifCond .eq 11, 3) := dk_153 0 11 (dk_at dksJ0_init_3_1 2 rfl rfl)
theorem dJ0_init_3_28 : decode cJ0_init_3 28 = .ok (.aload_n 0, 1) := dk_42 (dk_at dksJ0_init_3_1 5 rfl rfl)
theorem dJ0_init_3_29 : decode cJ0_init_3 29 = .ok (.invokevirtual 27, 3) := dk_182 0 27 (dk_at dksJ0_init_3_1 6 rfl rfl)
theorem dJ0_init_3_32 : decode cJ0_init_3 32 = .ok (.pop, 1) := dk_87 (dk_at dksJ0_init_3_1 9 rfl rfl)
theorem dJ0_init_3_33 : decode cJ0_init_3 33 = .ok (.goto 8, 3) := dk_167 0 8 (dk_at dksJ0_init_3_1 10 rfl rfl)
theorem dJ0_init_3_36 : decode cJ0_init_3 36 = .ok (.aload_n 0, 1) := dk_42 (dk_at dksJ0_init_3_1 13 rfl rfl)
theorem dJ0_init_3_37 : decode cJ0_init_3 37 = .ok (.aconst_null, 1) := dk_1 (dk_at dksJ0_init_3_1 14 rfl rfl)
theorem dJ0_init_3_38 : decode cJ0_init_3 38 = .ok (.putfield 17, 3) := dk_181 0 17 (dk_at dksJ0_init_3_1 15 rfl rfl)
theorem dJ0_init_3_41 : decode cJ0_init_3 41 = .ok (.aload_n 0, 1) := dk_42 (dk_at dksJ0_init_3_1 18 rfl rfl)
theorem dJ0_init_3_42 : decode cJ0_init_3 42 = .ok (.aload_n 1, 1) := dk_43 (dk_at dksJ0_init_3_1 19 rfl rfl)
theorem dJ0_init_3_43 : decode cJ0_init_3 43 = .ok (.putfield 31, 3) := dk_181 0 31 (dk_at dksJ0_init_3_1 20 rfl rfl)
theorem dJ0_init_3_46 : decode cJ0_init_3 46 = .ok (.aload_n 0, 1) := dk_42 (dk_at dksJ0_init_3_1 23 rfl rfl)
theorem dJ0_init_3_47 : decode cJ0_init_3 47 = .ok (.aload_n 2, 1) := dk_44 (dk_at dksJ0_init_3_2 0 rfl rfl)
theorem dJ0_init_3_48 : decode cJ0_init_3 48 = .ok (.putfield 7, 3) := dk_181 0 7 (dk_at dksJ0_init_3_2 1 rfl rfl)
theorem dJ0_init_3_51 : decode cJ0_init_3 51 = .ok (.iload_n 3, 1) := dk_29 (dk_at dksJ0_init_3_2 4 rfl rfl)
theorem dJ0_init_3_52 : decode cJ0_init_3 52 = .ok (.ifCond .ne 8, 3) := dk_154 0 8 (dk_at dksJ0_init_3_2 5 rfl rfl)
theorem dJ0_init_3_55 : decode cJ0_init_3 55 = .ok (.aload_n 0, 1) := dk_42 (dk_at dksJ0_init_3_2 8 rfl rfl)
theorem dJ0_init_3_56 : decode cJ0_init_3 56 = .ok (.aconst_null, 1) := dk_1 (dk_at dksJ0_init_3_2 9 rfl rfl)
theorem dJ0_init_3_57 : decode cJ0_init_3 57 = .ok (.putfield 24, 3) := dk_181 0 24 (dk_at dksJ0_init_3_2 10 rfl rfl)
theorem dJ0_init_3_60 : decode cJ0_init_3 60 = .ok (.return_, 1) := dk_177 (dk_at dksJ0_init_3_2 13 rfl rfl)
theorem q96 : (Jvm.Cond.initialized "java/lang/Throwable") ∈ lw_all := lw_g (lw_at lw_m1 14 rfl) rfl
theorem q420 : (Jvm.Cond.instanceMethod ({ cls := "java/lang/Throwable", name := "<init>", desc := "(Ljava/lang/String;)V" } : Jvm.MethodName)) ∈ lw_all := lw_g (lw_at lw_m2 98 rfl) rfl
theorem q421 : (Jvm.Cond.code ({ cls := "java/lang/Throwable", name := "<init>", desc := "(Ljava/lang/String;)V" } : Jvm.MethodName) prog_35_method_2_code (2 : Nat) (Option.none : Option Jvm.ClassFile.FieldType)) ∈ lw_all := lw_g (lw_at lw_m2 99 rfl) rfl
theorem q422 : (Jvm.Cond.methodLink "java/lang/Throwable" (1 : Nat) ({ cls := "java/lang/Object", name := "<init>", desc := "()V" } : Jvm.MethodName)) ∈ lw_all := lw_g (lw_at lw_m2 100 rfl) rfl
theorem q423 : (Jvm.Cond.fieldLink "java/lang/Throwable" (13 : Nat) "java/lang/Throwable" "UNASSIGNED_STACK" "[Ljava/lang/StackTraceElement;") ∈ lw_all := lw_g (lw_at lw_m2 101 rfl) rfl
theorem q424 : (Jvm.Cond.laysStatic "java/lang/Throwable" "UNASSIGNED_STACK" "[Ljava/lang/StackTraceElement;") ∈ lw_tbl := lw_at lw_m2 102 rfl
theorem q425 : (Jvm.Cond.fieldLink "java/lang/Throwable" (20 : Nat) "java/lang/Throwable" "SUPPRESSED_SENTINEL" "Ljava/util/List;") ∈ lw_all := lw_g (lw_at lw_m2 103 rfl) rfl
theorem q426 : (Jvm.Cond.laysStatic "java/lang/Throwable" "SUPPRESSED_SENTINEL" "Ljava/util/List;") ∈ lw_tbl := lw_at lw_m2 104 rfl
theorem q427 : (Jvm.Cond.methodLink "java/lang/Throwable" (27 : Nat) ({ cls := "java/lang/Throwable", name := "fillInStackTrace", desc := "()Ljava/lang/Throwable;" } : Jvm.MethodName)) ∈ lw_all := lw_g (lw_at lw_m2 105 rfl) rfl
theorem q428 : (Jvm.Cond.instanceMethod ({ cls := "java/lang/Throwable", name := "fillInStackTrace", desc := "()Ljava/lang/Throwable;" } : Jvm.MethodName)) ∈ lw_all := lw_g (lw_at lw_m2 106 rfl) rfl
theorem q429 : (Jvm.Cond.sameMethod "java/lang/Throwable" "java/lang/Throwable" "fillInStackTrace" "()Ljava/lang/Throwable;") ∈ lw_all := lw_g (lw_at lw_m2 107 rfl) rfl
theorem q435 : (Jvm.Cond.codeSync ({ cls := "java/lang/Throwable", name := "fillInStackTrace", desc := "()Ljava/lang/Throwable;" } : Jvm.MethodName) prog_35_method_18_code (1 : Nat) (Option.some (Jvm.ClassFile.FieldType.object "java/lang/Throwable"))) ∈ lw_all := lw_g (lw_at lw_m2 113 rfl) rfl
theorem q436 : (Jvm.Cond.methodLink "java/lang/Throwable" (202 : Nat) ({ cls := "java/lang/Throwable", name := "fillInStackTrace", desc := "(I)Ljava/lang/Throwable;" } : Jvm.MethodName)) ∈ lw_all := lw_g (lw_at lw_m2 114 rfl) rfl
theorem q437 : (Jvm.Cond.privateMethod ({ cls := "java/lang/Throwable", name := "fillInStackTrace", desc := "(I)Ljava/lang/Throwable;" } : Jvm.MethodName)) ∈ lw_tbl := lw_at lw_m2 115 rfl
theorem q438 : (Jvm.Cond.instanceMethod ({ cls := "java/lang/Throwable", name := "fillInStackTrace", desc := "(I)Ljava/lang/Throwable;" } : Jvm.MethodName)) ∈ lw_all := lw_g (lw_at lw_m2 116 rfl) rfl
theorem q439 : (Jvm.Cond.instantiable "java/lang/Throwable" (6 : Nat)) ∈ lw_all := lw_g (lw_at lw_m2 117 rfl) rfl
theorem q440 : (Jvm.Cond.native ({ cls := "java/lang/Throwable", name := "fillInStackTrace", desc := "(I)Ljava/lang/Throwable;" } : Jvm.MethodName)) ∈ lw_all := lw_g (lw_at lw_m2 118 rfl) rfl
theorem q441 : (Jvm.Cond.fieldLink "java/lang/Throwable" (198 : Nat) "java/lang/Throwable" "backtrace" "Ljava/lang/Object;") ∈ lw_all := lw_g (lw_at lw_m2 119 rfl) rfl
theorem q442 : (Jvm.Cond.fieldLink "java/lang/Throwable" (31 : Nat) "java/lang/Throwable" "detailMessage" "Ljava/lang/String;") ∈ lw_all := lw_g (lw_at lw_m2 120 rfl) rfl
theorem q443 : (Jvm.Cond.fieldLink "java/lang/Throwable" (7 : Nat) "java/lang/Throwable" "cause" "Ljava/lang/Throwable;") ∈ lw_all := lw_g (lw_at lw_m2 121 rfl) rfl
theorem q444 : (Jvm.Cond.fieldLink "java/lang/Throwable" (17 : Nat) "java/lang/Throwable" "stackTrace" "[Ljava/lang/StackTraceElement;") ∈ lw_all := lw_g (lw_at lw_m2 122 rfl) rfl
theorem q445 : (Jvm.Cond.fieldLink "java/lang/Throwable" (24 : Nat) "java/lang/Throwable" "suppressedExceptions" "Ljava/util/List;") ∈ lw_all := lw_g (lw_at lw_m2 123 rfl) rfl
theorem q447 : (Jvm.Cond.soleField "java/lang/Throwable" "backtrace") ∈ lw_all := lw_g (lw_at lw_m2 125 rfl) rfl
theorem q449 : (Jvm.Cond.soleField "java/lang/Throwable" "detailMessage") ∈ lw_all := lw_g (lw_at lw_m2 127 rfl) rfl
theorem q451 : (Jvm.Cond.soleField "java/lang/Throwable" "cause") ∈ lw_all := lw_g (lw_at lw_m2 129 rfl) rfl
theorem q453 : (Jvm.Cond.soleField "java/lang/Throwable" "stackTrace") ∈ lw_all := lw_g (lw_at lw_m2 131 rfl) rfl
theorem q455 : (Jvm.Cond.soleField "java/lang/Throwable" "depth") ∈ lw_all := lw_g (lw_at lw_m2 133 rfl) rfl
theorem q457 : (Jvm.Cond.soleField "java/lang/Throwable" "suppressedExceptions") ∈ lw_all := lw_g (lw_at lw_m2 135 rfl) rfl
theorem q466 : (Jvm.Cond.declares ({ cls := "java/lang/Throwable", name := "<init>", desc := "()V" } : Jvm.MethodName)) ∈ lw_tbl := lw_at lw_m2 144 rfl
theorem q467 : (Jvm.Cond.declares ({ cls := "java/lang/Throwable", name := "<init>", desc := "(Ljava/lang/String;)V" } : Jvm.MethodName)) ∈ lw_tbl := lw_at lw_m2 145 rfl
theorem q469 : (Jvm.Cond.lays "java/lang/Throwable" "java/lang/Throwable" "cause" "Ljava/lang/Throwable;") ∈ lw_all := lw_g (lw_at lw_m2 147 rfl) rfl
theorem q470 : (Jvm.Cond.lays "java/lang/Throwable" "java/lang/Throwable" "stackTrace" "[Ljava/lang/StackTraceElement;") ∈ lw_all := lw_g (lw_at lw_m2 148 rfl) rfl
theorem q471 : (Jvm.Cond.lays "java/lang/Throwable" "java/lang/Throwable" "suppressedExceptions" "Ljava/util/List;") ∈ lw_all := lw_g (lw_at lw_m2 149 rfl) rfl
theorem q472 : (Jvm.Cond.lays "java/lang/Throwable" "java/lang/Throwable" "detailMessage" "Ljava/lang/String;") ∈ lw_all := lw_g (lw_at lw_m2 150 rfl) rfl
theorem q473 : (Jvm.Cond.lays "java/lang/Throwable" "java/lang/Throwable" "backtrace" "Ljava/lang/Object;") ∈ lw_all := lw_g (lw_at lw_m2 151 rfl) rfl
theorem q474 : (Jvm.Cond.fieldLink "java/lang/Throwable" (198 : Nat) "java/lang/Throwable" "backtrace" "Ljava/lang/Object;") ∈ lw_all := lw_g (lw_at lw_m2 152 rfl) rfl
theorem q475 : (Jvm.Cond.superclass "java/lang/Throwable" "java/lang/Object") ∈ lw_all := lw_g (lw_at lw_m2 153 rfl) rfl
theorem q476 : (Jvm.Cond.instanceMethod ({ cls := "java/lang/Throwable", name := "<init>", desc := "()V" } : Jvm.MethodName)) ∈ lw_all := lw_g (lw_at lw_m2 154 rfl) rfl
theorem q477 : (Jvm.Cond.code ({ cls := "java/lang/Throwable", name := "<init>", desc := "()V" } : Jvm.MethodName) prog_35_method_1_code (1 : Nat) (Option.none : Option Jvm.ClassFile.FieldType)) ∈ lw_all := lw_g (lw_at lw_m2 155 rfl) rfl
theorem q499 : (Jvm.Cond.instanceMethod ({ cls := "java/lang/Throwable", name := "<init>", desc := "(Ljava/lang/String;Ljava/lang/Throwable;ZZ)V" } : Jvm.MethodName)) ∈ lw_all := lw_g (lw_at lw_m2 177 rfl) rfl
theorem q500 : (Jvm.Cond.code ({ cls := "java/lang/Throwable", name := "<init>", desc := "(Ljava/lang/String;Ljava/lang/Throwable;ZZ)V" } : Jvm.MethodName) prog_35_method_5_code (5 : Nat) (Option.none : Option Jvm.ClassFile.FieldType)) ∈ lw_all := lw_g (lw_at lw_m2 178 rfl) rfl
theorem q1833 : (Jvm.Cond.sameMethod "java/lang/Throwable" "java/lang/Throwable" "fillInStackTrace" "(I)Ljava/lang/Throwable;") ∈ lw_all := lw_g (lw_at lw_m8 71 rfl) rfl
theorem in_J0 : ∀ w ∈ wsJ00, w ∈ lw_all := lw_in wsJ00 [469, 470, 471, 472, 473] (by decide +kernel) (by decide +kernel)
/-! java/lang/Exception -/
set_option maxRecDepth 100000
def RJ1 : String := "java/lang/Exception"
abbrev cJ1_init : ByteArray := prog_25_method_2_code
def yJ1_init : MethodName := ⟨RJ1, "<init>", "(Ljava/lang/String;)V"⟩
def dkwJ1_init_0 : List UInt8 := [42, 43, 183, 0, 7, 177]
abbrev dktJ1_init_0 : List UInt8 := dkwJ1_init_0 ++ []
theorem dksJ1_init_0 : cJ1_init.data.toList.drop 0 = dktJ1_init_0 := by decide +kernel
theorem dJ1_init_0 : decode cJ1_init 0 = .ok (.aload_n 0, 1) := dk_42 (dk_at dksJ1_init_0 0 rfl rfl)
theorem dJ1_init_1 : decode cJ1_init 1 = .ok (.aload_n 1, 1) := dk_43 (dk_at dksJ1_init_0 1 rfl rfl)
theorem dJ1_init_2 : decode cJ1_init 2 = .ok (.invokespecial 7, 3) := dk_183 0 7 (dk_at dksJ1_init_0 2 rfl rfl)
theorem dJ1_init_5 : decode cJ1_init 5 = .ok (.return_, 1) := dk_177 (dk_at dksJ1_init_0 5 rfl rfl)
abbrev cJ1_init_2 : ByteArray := prog_25_method_5_code
def yJ1_init_2 : MethodName := ⟨RJ1, "<init>", "(Ljava/lang/String;Ljava/lang/Throwable;ZZ)V"⟩
def dkwJ1_init_2_0 : List UInt8 := [42, 43, 44, 29, 21, 4, 183, 0, 16, 177]
abbrev dktJ1_init_2_0 : List UInt8 := dkwJ1_init_2_0 ++ []
theorem dksJ1_init_2_0 : cJ1_init_2.data.toList.drop 0 = dktJ1_init_2_0 := by decide +kernel
theorem dJ1_init_2_0 : decode cJ1_init_2 0 = .ok (.aload_n 0, 1) := dk_42 (dk_at dksJ1_init_2_0 0 rfl rfl)
theorem dJ1_init_2_1 : decode cJ1_init_2 1 = .ok (.aload_n 1, 1) := dk_43 (dk_at dksJ1_init_2_0 1 rfl rfl)
theorem dJ1_init_2_2 : decode cJ1_init_2 2 = .ok (.aload_n 2, 1) := dk_44 (dk_at dksJ1_init_2_0 2 rfl rfl)
theorem dJ1_init_2_3 : decode cJ1_init_2 3 = .ok (.iload_n 3, 1) := dk_29 (dk_at dksJ1_init_2_0 3 rfl rfl)
theorem dJ1_init_2_4 : decode cJ1_init_2 4 = .ok (.iload 4, 2) := dk_21 4 (dk_at dksJ1_init_2_0 4 rfl rfl)
theorem dJ1_init_2_6 : decode cJ1_init_2 6 = .ok (.invokespecial 16, 3) := dk_183 0 16 (dk_at dksJ1_init_2_0 6 rfl rfl)
theorem dJ1_init_2_9 : decode cJ1_init_2 9 = .ok (.return_, 1) := dk_177 (dk_at dksJ1_init_2_0 9 rfl rfl)
theorem q97 : (Jvm.Cond.initialized "java/lang/Exception") ∈ lw_all := lw_g (lw_at lw_m1 15 rfl) rfl
theorem q417 : (Jvm.Cond.instanceMethod ({ cls := "java/lang/Exception", name := "<init>", desc := "(Ljava/lang/String;)V" } : Jvm.MethodName)) ∈ lw_all := lw_g (lw_at lw_m2 95 rfl) rfl
theorem q418 : (Jvm.Cond.code ({ cls := "java/lang/Exception", name := "<init>", desc := "(Ljava/lang/String;)V" } : Jvm.MethodName) prog_25_method_2_code (2 : Nat) (Option.none : Option Jvm.ClassFile.FieldType)) ∈ lw_all := lw_g (lw_at lw_m2 96 rfl) rfl
theorem q419 : (Jvm.Cond.methodLink "java/lang/Exception" (7 : Nat) ({ cls := "java/lang/Throwable", name := "<init>", desc := "(Ljava/lang/String;)V" } : Jvm.MethodName)) ∈ lw_all := lw_g (lw_at lw_m2 97 rfl) rfl
theorem q464 : (Jvm.Cond.declares ({ cls := "java/lang/Exception", name := "<init>", desc := "()V" } : Jvm.MethodName)) ∈ lw_tbl := lw_at lw_m2 142 rfl
theorem q465 : (Jvm.Cond.declares ({ cls := "java/lang/Exception", name := "<init>", desc := "(Ljava/lang/String;)V" } : Jvm.MethodName)) ∈ lw_tbl := lw_at lw_m2 143 rfl
theorem q496 : (Jvm.Cond.instanceMethod ({ cls := "java/lang/Exception", name := "<init>", desc := "(Ljava/lang/String;Ljava/lang/Throwable;ZZ)V" } : Jvm.MethodName)) ∈ lw_all := lw_g (lw_at lw_m2 174 rfl) rfl
theorem q497 : (Jvm.Cond.code ({ cls := "java/lang/Exception", name := "<init>", desc := "(Ljava/lang/String;Ljava/lang/Throwable;ZZ)V" } : Jvm.MethodName) prog_25_method_5_code (5 : Nat) (Option.none : Option Jvm.ClassFile.FieldType)) ∈ lw_all := lw_g (lw_at lw_m2 175 rfl) rfl
theorem q498 : (Jvm.Cond.methodLink "java/lang/Exception" (16 : Nat) ({ cls := "java/lang/Throwable", name := "<init>", desc := "(Ljava/lang/String;Ljava/lang/Throwable;ZZ)V" } : Jvm.MethodName)) ∈ lw_all := lw_g (lw_at lw_m2 176 rfl) rfl
/-! java/lang/RuntimeException -/
set_option maxRecDepth 100000
def RJ2 : String := "java/lang/RuntimeException"
abbrev cJ2_init : ByteArray := prog_30_method_2_code
def yJ2_init : MethodName := ⟨RJ2, "<init>", "(Ljava/lang/String;)V"⟩
def dkwJ2_init_0 : List UInt8 := [42, 43, 183, 0, 7, 177]
abbrev dktJ2_init_0 : List UInt8 := dkwJ2_init_0 ++ []
theorem dksJ2_init_0 : cJ2_init.data.toList.drop 0 = dktJ2_init_0 := by decide +kernel
theorem dJ2_init_0 : decode cJ2_init 0 = .ok (.aload_n 0, 1) := dk_42 (dk_at dksJ2_init_0 0 rfl rfl)
theorem dJ2_init_1 : decode cJ2_init 1 = .ok (.aload_n 1, 1) := dk_43 (dk_at dksJ2_init_0 1 rfl rfl)
theorem dJ2_init_2 : decode cJ2_init 2 = .ok (.invokespecial 7, 3) := dk_183 0 7 (dk_at dksJ2_init_0 2 rfl rfl)
theorem dJ2_init_5 : decode cJ2_init 5 = .ok (.return_, 1) := dk_177 (dk_at dksJ2_init_0 5 rfl rfl)
theorem q98 : (Jvm.Cond.initialized "java/lang/RuntimeException") ∈ lw_all := lw_g (lw_at lw_m1 16 rfl) rfl
theorem q414 : (Jvm.Cond.instanceMethod ({ cls := "java/lang/RuntimeException", name := "<init>", desc := "(Ljava/lang/String;)V" } : Jvm.MethodName)) ∈ lw_all := lw_g (lw_at lw_m2 92 rfl) rfl
theorem q415 : (Jvm.Cond.code ({ cls := "java/lang/RuntimeException", name := "<init>", desc := "(Ljava/lang/String;)V" } : Jvm.MethodName) prog_30_method_2_code (2 : Nat) (Option.none : Option Jvm.ClassFile.FieldType)) ∈ lw_all := lw_g (lw_at lw_m2 93 rfl) rfl
theorem q416 : (Jvm.Cond.methodLink "java/lang/RuntimeException" (7 : Nat) ({ cls := "java/lang/Exception", name := "<init>", desc := "(Ljava/lang/String;)V" } : Jvm.MethodName)) ∈ lw_all := lw_g (lw_at lw_m2 94 rfl) rfl
theorem q462 : (Jvm.Cond.declares ({ cls := "java/lang/RuntimeException", name := "<init>", desc := "()V" } : Jvm.MethodName)) ∈ lw_tbl := lw_at lw_m2 140 rfl
theorem q463 : (Jvm.Cond.declares ({ cls := "java/lang/RuntimeException", name := "<init>", desc := "(Ljava/lang/String;)V" } : Jvm.MethodName)) ∈ lw_tbl := lw_at lw_m2 141 rfl
/-! java/lang/IndexOutOfBoundsException -/
set_option maxRecDepth 100000
def RJ3 : String := "java/lang/IndexOutOfBoundsException"
abbrev cJ3_init : ByteArray := prog_26_method_2_code
def yJ3_init : MethodName := ⟨RJ3, "<init>", "(Ljava/lang/String;)V"⟩
def dkwJ3_init_0 : List UInt8 := [42, 43, 183, 0, 7, 177]
abbrev dktJ3_init_0 : List UInt8 := dkwJ3_init_0 ++ []
theorem dksJ3_init_0 : cJ3_init.data.toList.drop 0 = dktJ3_init_0 := by decide +kernel
theorem dJ3_init_0 : decode cJ3_init 0 = .ok (.aload_n 0, 1) := dk_42 (dk_at dksJ3_init_0 0 rfl rfl)
theorem dJ3_init_1 : decode cJ3_init 1 = .ok (.aload_n 1, 1) := dk_43 (dk_at dksJ3_init_0 1 rfl rfl)
theorem dJ3_init_2 : decode cJ3_init 2 = .ok (.invokespecial 7, 3) := dk_183 0 7 (dk_at dksJ3_init_0 2 rfl rfl)
theorem dJ3_init_5 : decode cJ3_init 5 = .ok (.return_, 1) := dk_177 (dk_at dksJ3_init_0 5 rfl rfl)
theorem q99 : (Jvm.Cond.initialized "java/lang/IndexOutOfBoundsException") ∈ lw_all := lw_g (lw_at lw_m1 17 rfl) rfl
theorem q411 : (Jvm.Cond.instanceMethod ({ cls := "java/lang/IndexOutOfBoundsException", name := "<init>", desc := "(Ljava/lang/String;)V" } : Jvm.MethodName)) ∈ lw_all := lw_g (lw_at lw_m2 89 rfl) rfl
theorem q412 : (Jvm.Cond.code ({ cls := "java/lang/IndexOutOfBoundsException", name := "<init>", desc := "(Ljava/lang/String;)V" } : Jvm.MethodName) prog_26_method_2_code (2 : Nat) (Option.none : Option Jvm.ClassFile.FieldType)) ∈ lw_all := lw_g (lw_at lw_m2 90 rfl) rfl
theorem q413 : (Jvm.Cond.methodLink "java/lang/IndexOutOfBoundsException" (7 : Nat) ({ cls := "java/lang/RuntimeException", name := "<init>", desc := "(Ljava/lang/String;)V" } : Jvm.MethodName)) ∈ lw_all := lw_g (lw_at lw_m2 91 rfl) rfl
theorem q460 : (Jvm.Cond.declares ({ cls := "java/lang/IndexOutOfBoundsException", name := "<init>", desc := "()V" } : Jvm.MethodName)) ∈ lw_tbl := lw_at lw_m2 138 rfl
theorem q461 : (Jvm.Cond.declares ({ cls := "java/lang/IndexOutOfBoundsException", name := "<init>", desc := "(Ljava/lang/String;)V" } : Jvm.MethodName)) ∈ lw_tbl := lw_at lw_m2 139 rfl
/-! java/lang/ArrayIndexOutOfBoundsException -/
set_option maxRecDepth 100000
def RJ4 : String := "java/lang/ArrayIndexOutOfBoundsException"
def TJ4 : u_T := fun k => match k with
  | 0 => ("java/lang/Throwable", "backtrace", "Ljava/lang/Object;", false)
  | 1 => ("java/lang/Throwable", "detailMessage", "Ljava/lang/String;", false)
  | 2 => ("java/lang/Throwable", "cause", "Ljava/lang/Throwable;", false)
  | 3 => ("java/lang/Throwable", "stackTrace", "[Ljava/lang/StackTraceElement;", false)
  | 4 => ("java/lang/Throwable", "depth", "I", false)
  | _ => ("java/lang/Throwable", "suppressedExceptions", "Ljava/util/List;", false)
def tyJ4 : Nat → FieldType := fun k => match k with
  | 0 => .object "java/lang/Object"
  | 1 => .object "java/lang/String"
  | 2 => .object "java/lang/Throwable"
  | 3 => .array (.object "java/lang/StackTraceElement")
  | 4 => .int
  | _ => .object "java/util/List"
abbrev wsJ40 : List Cond := u_ws RJ4 TJ4 6
theorem nmJ4 : ∀ a, a < 6 → ∀ b, b < 6 → a ≠ b → (TJ4 a).2.1 ≠ (TJ4 b).2.1 := by decide +kernel
theorem tyJ4_ok : ∀ k, k < 6 → parseFieldDescriptor (TJ4 k).2.2.1 = some (tyJ4 k) := by decide +kernel
abbrev cJ4_init : ByteArray := prog_23_method_2_code
def yJ4_init : MethodName := ⟨RJ4, "<init>", "(Ljava/lang/String;)V"⟩
def dkwJ4_init_0 : List UInt8 := [42, 43, 183, 0, 7, 177]
abbrev dktJ4_init_0 : List UInt8 := dkwJ4_init_0 ++ []
theorem dksJ4_init_0 : cJ4_init.data.toList.drop 0 = dktJ4_init_0 := by decide +kernel
theorem dJ4_init_0 : decode cJ4_init 0 = .ok (.aload_n 0, 1) := dk_42 (dk_at dksJ4_init_0 0 rfl rfl)
theorem dJ4_init_1 : decode cJ4_init 1 = .ok (.aload_n 1, 1) := dk_43 (dk_at dksJ4_init_0 1 rfl rfl)
theorem dJ4_init_2 : decode cJ4_init 2 = .ok (.invokespecial 7, 3) := dk_183 0 7 (dk_at dksJ4_init_0 2 rfl rfl)
theorem dJ4_init_5 : decode cJ4_init 5 = .ok (.return_, 1) := dk_177 (dk_at dksJ4_init_0 5 rfl rfl)
theorem q100 : (Jvm.Cond.initialized "java/lang/ArrayIndexOutOfBoundsException") ∈ lw_all := lw_g (lw_at lw_m1 18 rfl) rfl
theorem q407 : (Jvm.Cond.instantiable "java/lang/ArrayIndexOutOfBoundsException" (6 : Nat)) ∈ lw_all := lw_g (lw_at lw_m2 85 rfl) rfl
theorem q408 : (Jvm.Cond.instanceMethod ({ cls := "java/lang/ArrayIndexOutOfBoundsException", name := "<init>", desc := "(Ljava/lang/String;)V" } : Jvm.MethodName)) ∈ lw_all := lw_g (lw_at lw_m2 86 rfl) rfl
theorem q409 : (Jvm.Cond.code ({ cls := "java/lang/ArrayIndexOutOfBoundsException", name := "<init>", desc := "(Ljava/lang/String;)V" } : Jvm.MethodName) prog_23_method_2_code (2 : Nat) (Option.none : Option Jvm.ClassFile.FieldType)) ∈ lw_all := lw_g (lw_at lw_m2 87 rfl) rfl
theorem q410 : (Jvm.Cond.methodLink "java/lang/ArrayIndexOutOfBoundsException" (7 : Nat) ({ cls := "java/lang/IndexOutOfBoundsException", name := "<init>", desc := "(Ljava/lang/String;)V" } : Jvm.MethodName)) ∈ lw_all := lw_g (lw_at lw_m2 88 rfl) rfl
theorem q432 : (Jvm.Cond.selects "java/lang/ArrayIndexOutOfBoundsException" ({ cls := "java/lang/Throwable", name := "fillInStackTrace", desc := "()Ljava/lang/Throwable;" } : Jvm.MethodName) ({ cls := "java/lang/Throwable", name := "fillInStackTrace", desc := "()Ljava/lang/Throwable;" } : Jvm.MethodName)) ∈ lw_all := lw_g (lw_at lw_m2 110 rfl) rfl
theorem q446 : (Jvm.Cond.lays "java/lang/ArrayIndexOutOfBoundsException" "java/lang/Throwable" "backtrace" "Ljava/lang/Object;") ∈ lw_all := lw_g (lw_at lw_m2 124 rfl) rfl
theorem q448 : (Jvm.Cond.lays "java/lang/ArrayIndexOutOfBoundsException" "java/lang/Throwable" "detailMessage" "Ljava/lang/String;") ∈ lw_all := lw_g (lw_at lw_m2 126 rfl) rfl
theorem q450 : (Jvm.Cond.lays "java/lang/ArrayIndexOutOfBoundsException" "java/lang/Throwable" "cause" "Ljava/lang/Throwable;") ∈ lw_all := lw_g (lw_at lw_m2 128 rfl) rfl
theorem q452 : (Jvm.Cond.lays "java/lang/ArrayIndexOutOfBoundsException" "java/lang/Throwable" "stackTrace" "[Ljava/lang/StackTraceElement;") ∈ lw_all := lw_g (lw_at lw_m2 130 rfl) rfl
theorem q454 : (Jvm.Cond.lays "java/lang/ArrayIndexOutOfBoundsException" "java/lang/Throwable" "depth" "I") ∈ lw_all := lw_g (lw_at lw_m2 132 rfl) rfl
theorem q456 : (Jvm.Cond.lays "java/lang/ArrayIndexOutOfBoundsException" "java/lang/Throwable" "suppressedExceptions" "Ljava/util/List;") ∈ lw_all := lw_g (lw_at lw_m2 134 rfl) rfl
theorem q458 : (Jvm.Cond.superclass "java/lang/ArrayIndexOutOfBoundsException" "java/lang/IndexOutOfBoundsException") ∈ lw_all := lw_g (lw_at lw_m2 136 rfl) rfl
theorem q459 : (Jvm.Cond.castable "java/lang/ArrayIndexOutOfBoundsException" "java/lang/ArrayIndexOutOfBoundsException") ∈ lw_tbl := lw_at lw_m2 137 rfl
theorem q468 : (Jvm.Cond.selects "java/lang/ArrayIndexOutOfBoundsException" ({ cls := "java/lang/Throwable", name := "fillInStackTrace", desc := "(I)Ljava/lang/Throwable;" } : Jvm.MethodName) ({ cls := "java/lang/Throwable", name := "fillInStackTrace", desc := "(I)Ljava/lang/Throwable;" } : Jvm.MethodName)) ∈ lw_all := lw_g (lw_at lw_m2 146 rfl) rfl
theorem q1835 : (Jvm.Cond.castable "java/lang/ArrayIndexOutOfBoundsException" "java/lang/IndexOutOfBoundsException") ∈ lw_tbl := lw_at lw_m8 73 rfl
theorem in_J4 : ∀ w ∈ wsJ40, w ∈ lw_all := lw_in wsJ40 [446, 448, 450, 452, 454, 456] (by decide +kernel) (by decide +kernel)
/-! java/lang/String -/
set_option maxRecDepth 100000
def RJ5 : String := "java/lang/String"
def TJ5 : u_T := fun k => match k with
  | 0 => ("java/lang/String", "value", "[B", true)
  | _ => ("java/lang/String", "coder", "B", true)
def tyJ5 : Nat → FieldType := fun k => match k with
  | 0 => .array .byte
  | _ => .byte
abbrev wsJ50 : List Cond := u_ws RJ5 TJ5 2
theorem nmJ5 : ∀ a, a < 2 → ∀ b, b < 2 → a ≠ b → (TJ5 a).2.1 ≠ (TJ5 b).2.1 := by decide +kernel
theorem tyJ5_ok : ∀ k, k < 2 → parseFieldDescriptor (TJ5 k).2.2.1 = some (tyJ5 k) := by decide +kernel
abbrev cJ5_length : ByteArray := prog_31_method_54_code
def yJ5_length : MethodName := ⟨RJ5, "length", "()I"⟩
def dkwJ5_length_0 : List UInt8 := [42, 180, 0, 9, 190, 42, 182, 1, 79, 122, 172]
abbrev dktJ5_length_0 : List UInt8 := dkwJ5_length_0 ++ []
theorem dksJ5_length_0 : cJ5_length.data.toList.drop 0 = dktJ5_length_0 := by decide +kernel
theorem dJ5_length_0 : decode cJ5_length 0 = .ok (.aload_n 0, 1) := dk_42 (dk_at dksJ5_length_0 0 rfl rfl)
theorem dJ5_length_1 : decode cJ5_length 1 = .ok (.getfield 9, 3) := dk_180 0 9 (dk_at dksJ5_length_0 1 rfl rfl)
theorem dJ5_length_4 : decode cJ5_length 4 = .ok (.arraylength, 1) := dk_190 (dk_at dksJ5_length_0 4 rfl rfl)
theorem dJ5_length_5 : decode cJ5_length 5 = .ok (.aload_n 0, 1) := dk_42 (dk_at dksJ5_length_0 5 rfl rfl)
theorem dJ5_length_6 : decode cJ5_length 6 = .ok (.invokevirtual 335, 3) := dk_182 1 79 (dk_at dksJ5_length_0 6 rfl rfl)
theorem dJ5_length_9 : decode cJ5_length 9 = .ok (.ishr, 1) := dk_122 (dk_at dksJ5_length_0 9 rfl rfl)
theorem dJ5_length_10 : decode cJ5_length 10 = .ok (.ireturn, 1) := dk_172 (dk_at dksJ5_length_0 10 rfl rfl)
abbrev cJ5_coder : ByteArray := prog_31_method_152_code
def yJ5_coder : MethodName := ⟨RJ5, "coder", "()B"⟩
def dkwJ5_coder_0 : List UInt8 := [178, 0, 38, 153, 0, 10, 42, 180, 0, 15, 167, 0, 4, 4, 172]
abbrev dktJ5_coder_0 : List UInt8 := dkwJ5_coder_0 ++ []
theorem dksJ5_coder_0 : cJ5_coder.data.toList.drop 0 = dktJ5_coder_0 := by decide +kernel
theorem dJ5_coder_0 : decode cJ5_coder 0 = .ok (.getstatic 38, 3) := dk_178 0 38 (dk_at dksJ5_coder_0 0 rfl rfl)
theorem dJ5_coder_3 : decode cJ5_coder 3 = .ok (.ifCond .eq 10, 3) := dk_153 0 10 (dk_at dksJ5_coder_0 3 rfl rfl)
theorem dJ5_coder_6 : decode cJ5_coder 6 = .ok (.aload_n 0, 1) := dk_42 (dk_at dksJ5_coder_0 6 rfl rfl)
theorem dJ5_coder_7 : decode cJ5_coder 7 = .ok (.getfield 15, 3) := dk_180 0 15 (dk_at dksJ5_coder_0 7 rfl rfl)
theorem dJ5_coder_10 : decode cJ5_coder 10 = .ok (.goto 4, 3) := dk_167 0 4 (dk_at dksJ5_coder_0 10 rfl rfl)
theorem dJ5_coder_13 : decode cJ5_coder 13 = .ok (.iconst 1, 1) := dk_4 (dk_at dksJ5_coder_0 13 rfl rfl)
theorem dJ5_coder_14 : decode cJ5_coder 14 = .ok (.ireturn, 1) := dk_172 (dk_at dksJ5_coder_0 14 rfl rfl)
abbrev cJ5_charAt : ByteArray := prog_31_method_56_code
def yJ5_charAt : MethodName := ⟨RJ5, "charAt", "(I)C"⟩
def dkwJ5_charAt_1 : List UInt8 := [172]
abbrev dktJ5_charAt_1 : List UInt8 := dkwJ5_charAt_1 ++ []
def dkwJ5_charAt_0 : List UInt8 := [42, 182, 1, 236, 153, 0, 12, 42, 180, 0, 9, 27, 184, 1, 239, 172, 42, 180, 0, 9, 27, 184, 1, 242]
abbrev dktJ5_charAt_0 : List UInt8 := dkwJ5_charAt_0 ++ dktJ5_charAt_1
theorem dksJ5_charAt_0 : cJ5_charAt.data.toList.drop 0 = dktJ5_charAt_0 := by decide +kernel
theorem dksJ5_charAt_1 : cJ5_charAt.data.toList.drop 24 = dktJ5_charAt_1 := dk_seg dksJ5_charAt_0 24 rfl rfl
theorem dJ5_charAt_0 : decode cJ5_charAt 0 = .ok (.aload_n 0, 1) := dk_42 (dk_at dksJ5_charAt_0 0 rfl rfl)
theorem dJ5_charAt_1 : decode cJ5_charAt 1 = .ok (.invokevirtual 492, 3) := dk_182 1 236 (dk_at dksJ5_charAt_0 1 rfl rfl)
theorem dJ5_charAt_4 : decode cJ5_charAt 4 = .ok (.ifCond .eq 12, 3) := dk_153 0 12 (dk_at dksJ5_charAt_0 4 rfl rfl)
theorem dJ5_charAt_7 : decode cJ5_charAt 7 = .ok (.aload_n 0, 1) := dk_42 (dk_at dksJ5_charAt_0 7 rfl rfl)
theorem dJ5_charAt_8 : decode cJ5_charAt 8 = .ok (.getfield 9, 3) := dk_180 0 9 (dk_at dksJ5_charAt_0 8 rfl rfl)
theorem dJ5_charAt_11 : decode cJ5_charAt 11 = .ok (.iload_n 1, 1) := dk_27 (dk_at dksJ5_charAt_0 11 rfl rfl)
theorem dJ5_charAt_12 : decode cJ5_charAt 12 = .ok (.invokestatic 495, 3) := dk_184 1 239 (dk_at dksJ5_charAt_0 12 rfl rfl)
theorem dJ5_charAt_15 : decode cJ5_charAt 15 = .ok (.ireturn, 1) := dk_172 (dk_at dksJ5_charAt_0 15 rfl rfl)
theorem dJ5_charAt_16 : decode cJ5_charAt 16 = .ok (.aload_n 0, 1) := dk_42 (dk_at dksJ5_charAt_0 16 rfl rfl)
theorem dJ5_charAt_17 : decode cJ5_charAt 17 = .ok (.getfield 9, 3) := dk_180 0 9 (dk_at dksJ5_charAt_0 17 rfl rfl)
theorem dJ5_charAt_20 : decode cJ5_charAt 20 = .ok (.iload_n 1, 1) := dk_27 (dk_at dksJ5_charAt_0 20 rfl rfl)
theorem dJ5_charAt_21 : decode cJ5_charAt 21 = .ok (.invokestatic 498, 3) := dk_184 1 242 (dk_at dksJ5_charAt_0 21 rfl rfl)
theorem dJ5_charAt_24 : decode cJ5_charAt 24 = .ok (.ireturn, 1) := dk_172 (dk_at dksJ5_charAt_1 0 rfl rfl)
abbrev cJ5_isLatin1 : ByteArray := prog_31_method_154_code
def yJ5_isLatin1 : MethodName := ⟨RJ5, "isLatin1", "()Z"⟩
def dkwJ5_isLatin1_0 : List UInt8 := [178, 0, 38, 153, 0, 14, 42, 180, 0, 15, 154, 0, 7, 4, 167, 0, 4, 3, 172]
abbrev dktJ5_isLatin1_0 : List UInt8 := dkwJ5_isLatin1_0 ++ []
theorem dksJ5_isLatin1_0 : cJ5_isLatin1.data.toList.drop 0 = dktJ5_isLatin1_0 := by decide +kernel
theorem dJ5_isLatin1_0 : decode cJ5_isLatin1 0 = .ok (.getstatic 38, 3) := dk_178 0 38 (dk_at dksJ5_isLatin1_0 0 rfl rfl)
theorem dJ5_isLatin1_3 : decode cJ5_isLatin1 3 = .ok (.ifCond .eq 14, 3) := dk_153 0 14 (dk_at dksJ5_isLatin1_0 3 rfl rfl)
theorem dJ5_isLatin1_6 : decode cJ5_isLatin1 6 = .ok (.aload_n 0, 1) := dk_42 (dk_at dksJ5_isLatin1_0 6 rfl rfl)
theorem dJ5_isLatin1_7 : decode cJ5_isLatin1 7 = .ok (.getfield 15, 3) := dk_180 0 15 (dk_at dksJ5_isLatin1_0 7 rfl rfl)
theorem dJ5_isLatin1_10 : decode cJ5_isLatin1 10 = .ok (.ifCond .ne 7, 3) := dk_154 0 7 (dk_at dksJ5_isLatin1_0 10 rfl rfl)
theorem dJ5_isLatin1_13 : decode cJ5_isLatin1 13 = .ok (.iconst 1, 1) := dk_4 (dk_at dksJ5_isLatin1_0 13 rfl rfl)
theorem dJ5_isLatin1_14 : decode cJ5_isLatin1 14 = .ok (.goto 4, 3) := dk_167 0 4 (dk_at dksJ5_isLatin1_0 14 rfl rfl)
theorem dJ5_isLatin1_17 : decode cJ5_isLatin1 17 = .ok (.iconst 0, 1) := dk_3 (dk_at dksJ5_isLatin1_0 17 rfl rfl)
theorem dJ5_isLatin1_18 : decode cJ5_isLatin1 18 = .ok (.ireturn, 1) := dk_172 (dk_at dksJ5_isLatin1_0 18 rfl rfl)
abbrev cJ5_checkIndex : ByteArray := prog_31_method_155_code
def yJ5_checkIndex : MethodName := ⟨RJ5, "checkIndex", "(II)V"⟩
def dkwJ5_checkIndex_0 : List UInt8 := [26, 27, 178, 4, 29, 184, 4, 35, 87, 177]
abbrev dktJ5_checkIndex_0 : List UInt8 := dkwJ5_checkIndex_0 ++ []
theorem dksJ5_checkIndex_0 : cJ5_checkIndex.data.toList.drop 0 = dktJ5_checkIndex_0 := by decide +kernel
theorem dJ5_checkIndex_0 : decode cJ5_checkIndex 0 = .ok (.iload_n 0, 1) := dk_26 (dk_at dksJ5_checkIndex_0 0 rfl rfl)
theorem dJ5_checkIndex_1 : decode cJ5_checkIndex 1 = .ok (.iload_n 1, 1) := dk_27 (dk_at dksJ5_checkIndex_0 1 rfl rfl)
theorem dJ5_checkIndex_2 : decode cJ5_checkIndex 2 = .ok (.getstatic 1053, 3) := dk_178 4 29 (dk_at dksJ5_checkIndex_0 2 rfl rfl)
theorem dJ5_checkIndex_5 : decode cJ5_checkIndex 5 = .ok (.invokestatic 1059, 3) := dk_184 4 35 (dk_at dksJ5_checkIndex_0 5 rfl rfl)
theorem dJ5_checkIndex_8 : decode cJ5_checkIndex 8 = .ok (.pop, 1) := dk_87 (dk_at dksJ5_checkIndex_0 8 rfl rfl)
theorem dJ5_checkIndex_9 : decode cJ5_checkIndex 9 = .ok (.return_, 1) := dk_177 (dk_at dksJ5_checkIndex_0 9 rfl rfl)
theorem q101 : (Jvm.Cond.initialized "java/lang/String") ∈ lw_all := lw_g (lw_at lw_m1 19 rfl) rfl
theorem q478 : (Jvm.Cond.instantiable "java/lang/String" (4 : Nat)) ∈ lw_all := lw_g (lw_at lw_m2 156 rfl) rfl
theorem q480 : (Jvm.Cond.laysFinal "java/lang/String" "java/lang/String" "value" "[B") ∈ lw_all := lw_g (lw_at lw_m2 158 rfl) rfl
theorem q481 : (Jvm.Cond.soleField "java/lang/String" "value") ∈ lw_all := lw_g (lw_at lw_m2 159 rfl) rfl
theorem q482 : (Jvm.Cond.laysFinal "java/lang/String" "java/lang/String" "coder" "B") ∈ lw_all := lw_g (lw_at lw_m2 160 rfl) rfl
theorem q483 : (Jvm.Cond.soleField "java/lang/String" "coder") ∈ lw_all := lw_g (lw_at lw_m2 161 rfl) rfl
theorem q878 : (Jvm.Cond.instanceMethod ({ cls := "java/lang/String", name := "length", desc := "()I" } : Jvm.MethodName)) ∈ lw_all := lw_g (lw_at lw_m4 76 rfl) rfl
theorem q879 : (Jvm.Cond.selects "java/lang/String" ({ cls := "java/lang/String", name := "length", desc := "()I" } : Jvm.MethodName) ({ cls := "java/lang/String", name := "length", desc := "()I" } : Jvm.MethodName)) ∈ lw_all := lw_g (lw_at lw_m4 77 rfl) rfl
theorem q880 : (Jvm.Cond.code ({ cls := "java/lang/String", name := "length", desc := "()I" } : Jvm.MethodName) prog_31_method_54_code (1 : Nat) (Option.some Jvm.ClassFile.FieldType.int)) ∈ lw_all := lw_g (lw_at lw_m4 78 rfl) rfl
theorem q881 : (Jvm.Cond.methodLink "java/lang/String" (335 : Nat) ({ cls := "java/lang/String", name := "coder", desc := "()B" } : Jvm.MethodName)) ∈ lw_all := lw_g (lw_at lw_m4 79 rfl) rfl
theorem q882 : (Jvm.Cond.instanceMethod ({ cls := "java/lang/String", name := "coder", desc := "()B" } : Jvm.MethodName)) ∈ lw_all := lw_g (lw_at lw_m4 80 rfl) rfl
theorem q883 : (Jvm.Cond.selects "java/lang/String" ({ cls := "java/lang/String", name := "coder", desc := "()B" } : Jvm.MethodName) ({ cls := "java/lang/String", name := "coder", desc := "()B" } : Jvm.MethodName)) ∈ lw_all := lw_g (lw_at lw_m4 81 rfl) rfl
theorem q884 : (Jvm.Cond.code ({ cls := "java/lang/String", name := "coder", desc := "()B" } : Jvm.MethodName) prog_31_method_152_code (1 : Nat) (Option.some Jvm.ClassFile.FieldType.byte)) ∈ lw_all := lw_g (lw_at lw_m4 82 rfl) rfl
theorem q885 : (Jvm.Cond.fieldLink "java/lang/String" (38 : Nat) "java/lang/String" "COMPACT_STRINGS" "Z") ∈ lw_all := lw_g (lw_at lw_m4 83 rfl) rfl
theorem q886 : (Jvm.Cond.laysStatic "java/lang/String" "COMPACT_STRINGS" "Z") ∈ lw_tbl := lw_at lw_m4 84 rfl
theorem q888 : (Jvm.Cond.instanceMethod ({ cls := "java/lang/String", name := "charAt", desc := "(I)C" } : Jvm.MethodName)) ∈ lw_all := lw_g (lw_at lw_m4 86 rfl) rfl
theorem q889 : (Jvm.Cond.selects "java/lang/String" ({ cls := "java/lang/String", name := "charAt", desc := "(I)C" } : Jvm.MethodName) ({ cls := "java/lang/String", name := "charAt", desc := "(I)C" } : Jvm.MethodName)) ∈ lw_all := lw_g (lw_at lw_m4 87 rfl) rfl
theorem q890 : (Jvm.Cond.code ({ cls := "java/lang/String", name := "charAt", desc := "(I)C" } : Jvm.MethodName) prog_31_method_56_code (2 : Nat) (Option.some Jvm.ClassFile.FieldType.char)) ∈ lw_all := lw_g (lw_at lw_m4 88 rfl) rfl
theorem q891 : (Jvm.Cond.methodLink "java/lang/String" (492 : Nat) ({ cls := "java/lang/String", name := "isLatin1", desc := "()Z" } : Jvm.MethodName)) ∈ lw_all := lw_g (lw_at lw_m4 89 rfl) rfl
theorem q892 : (Jvm.Cond.instanceMethod ({ cls := "java/lang/String", name := "isLatin1", desc := "()Z" } : Jvm.MethodName)) ∈ lw_all := lw_g (lw_at lw_m4 90 rfl) rfl
theorem q893 : (Jvm.Cond.selects "java/lang/String" ({ cls := "java/lang/String", name := "isLatin1", desc := "()Z" } : Jvm.MethodName) ({ cls := "java/lang/String", name := "isLatin1", desc := "()Z" } : Jvm.MethodName)) ∈ lw_all := lw_g (lw_at lw_m4 91 rfl) rfl
theorem q894 : (Jvm.Cond.code ({ cls := "java/lang/String", name := "isLatin1", desc := "()Z" } : Jvm.MethodName) prog_31_method_154_code (1 : Nat) (Option.some Jvm.ClassFile.FieldType.boolean)) ∈ lw_all := lw_g (lw_at lw_m4 92 rfl) rfl
theorem q895 : (Jvm.Cond.methodLink "java/lang/String" (495 : Nat) ({ cls := "java/lang/StringLatin1", name := "charAt", desc := "([BI)C" } : Jvm.MethodName)) ∈ lw_all := lw_g (lw_at lw_m4 93 rfl) rfl
theorem q899 : (Jvm.Cond.static ({ cls := "java/lang/String", name := "checkIndex", desc := "(II)V" } : Jvm.MethodName)) ∈ lw_all := lw_g (lw_at lw_m4 97 rfl) rfl
theorem q900 : (Jvm.Cond.code ({ cls := "java/lang/String", name := "checkIndex", desc := "(II)V" } : Jvm.MethodName) prog_31_method_155_code (2 : Nat) (Option.none : Option Jvm.ClassFile.FieldType)) ∈ lw_all := lw_g (lw_at lw_m4 98 rfl) rfl
theorem q901 : (Jvm.Cond.fieldLink "java/lang/String" (1053 : Nat) "jdk/internal/util/Preconditions" "SIOOBE_FORMATTER" "Ljava/util/function/BiFunction;") ∈ lw_all := lw_g (lw_at lw_m4 99 rfl) rfl
theorem q903 : (Jvm.Cond.methodLink "java/lang/String" (1059 : Nat) ({ cls := "jdk/internal/util/Preconditions", name := "checkIndex", desc := "(IILjava/util/function/BiFunction;)I" } : Jvm.MethodName)) ∈ lw_all := lw_g (lw_at lw_m4 101 rfl) rfl
theorem q906 : (Jvm.Cond.methodLink "java/lang/String" (498 : Nat) ({ cls := "java/lang/StringUTF16", name := "charAt", desc := "([BI)C" } : Jvm.MethodName)) ∈ lw_all := lw_g (lw_at lw_m4 104 rfl) rfl
theorem q1849 : (Jvm.Cond.fieldLink "java/lang/String" (9 : Nat) "java/lang/String" "value" "[B") ∈ lw_all := lw_g (lw_at lw_m8 87 rfl) rfl
theorem q1850 : (Jvm.Cond.fieldLink "java/lang/String" (15 : Nat) "java/lang/String" "coder" "B") ∈ lw_all := lw_g (lw_at lw_m8 88 rfl) rfl
theorem in_J5 : ∀ w ∈ wsJ50, w ∈ lw_all := lw_in wsJ50 [480, 482] (by decide +kernel) (by decide +kernel)
/-! java/lang/NegativeArraySizeException -/
set_option maxRecDepth 100000
def RJ6 : String := "java/lang/NegativeArraySizeException"
def TJ6 : u_T := fun k => match k with
  | 0 => ("java/lang/Throwable", "backtrace", "Ljava/lang/Object;", false)
  | 1 => ("java/lang/Throwable", "detailMessage", "Ljava/lang/String;", false)
  | 2 => ("java/lang/Throwable", "cause", "Ljava/lang/Throwable;", false)
  | 3 => ("java/lang/Throwable", "stackTrace", "[Ljava/lang/StackTraceElement;", false)
  | 4 => ("java/lang/Throwable", "depth", "I", false)
  | _ => ("java/lang/Throwable", "suppressedExceptions", "Ljava/util/List;", false)
def tyJ6 : Nat → FieldType := fun k => match k with
  | 0 => .object "java/lang/Object"
  | 1 => .object "java/lang/String"
  | 2 => .object "java/lang/Throwable"
  | 3 => .array (.object "java/lang/StackTraceElement")
  | 4 => .int
  | _ => .object "java/util/List"
abbrev wsJ60 : List Cond := u_ws RJ6 TJ6 6
theorem nmJ6 : ∀ a, a < 6 → ∀ b, b < 6 → a ≠ b → (TJ6 a).2.1 ≠ (TJ6 b).2.1 := by decide +kernel
theorem tyJ6_ok : ∀ k, k < 6 → parseFieldDescriptor (TJ6 k).2.2.1 = some (tyJ6 k) := by decide +kernel
abbrev cJ6_init : ByteArray := prog_29_method_2_code
def yJ6_init : MethodName := ⟨RJ6, "<init>", "(Ljava/lang/String;)V"⟩
def dkwJ6_init_0 : List UInt8 := [42, 43, 183, 0, 7, 177]
abbrev dktJ6_init_0 : List UInt8 := dkwJ6_init_0 ++ []
theorem dksJ6_init_0 : cJ6_init.data.toList.drop 0 = dktJ6_init_0 := by decide +kernel
theorem dJ6_init_0 : decode cJ6_init 0 = .ok (.aload_n 0, 1) := dk_42 (dk_at dksJ6_init_0 0 rfl rfl)
theorem dJ6_init_1 : decode cJ6_init 1 = .ok (.aload_n 1, 1) := dk_43 (dk_at dksJ6_init_0 1 rfl rfl)
theorem dJ6_init_2 : decode cJ6_init 2 = .ok (.invokespecial 7, 3) := dk_183 0 7 (dk_at dksJ6_init_0 2 rfl rfl)
theorem dJ6_init_5 : decode cJ6_init 5 = .ok (.return_, 1) := dk_177 (dk_at dksJ6_init_0 5 rfl rfl)
theorem q103 : (Jvm.Cond.initialized "java/lang/NegativeArraySizeException") ∈ lw_all := lw_g (lw_at lw_m1 21 rfl) rfl
theorem q434 : (Jvm.Cond.selects "java/lang/NegativeArraySizeException" ({ cls := "java/lang/Throwable", name := "fillInStackTrace", desc := "()Ljava/lang/Throwable;" } : Jvm.MethodName) ({ cls := "java/lang/Throwable", name := "fillInStackTrace", desc := "()Ljava/lang/Throwable;" } : Jvm.MethodName)) ∈ lw_all := lw_g (lw_at lw_m2 112 rfl) rfl
theorem q518 : (Jvm.Cond.instantiable "java/lang/NegativeArraySizeException" (6 : Nat)) ∈ lw_all := lw_g (lw_at lw_m2 196 rfl) rfl
theorem q519 : (Jvm.Cond.instanceMethod ({ cls := "java/lang/NegativeArraySizeException", name := "<init>", desc := "(Ljava/lang/String;)V" } : Jvm.MethodName)) ∈ lw_all := lw_g (lw_at lw_m2 197 rfl) rfl
theorem q520 : (Jvm.Cond.code ({ cls := "java/lang/NegativeArraySizeException", name := "<init>", desc := "(Ljava/lang/String;)V" } : Jvm.MethodName) prog_29_method_2_code (2 : Nat) (Option.none : Option Jvm.ClassFile.FieldType)) ∈ lw_all := lw_g (lw_at lw_m2 198 rfl) rfl
theorem q521 : (Jvm.Cond.methodLink "java/lang/NegativeArraySizeException" (7 : Nat) ({ cls := "java/lang/RuntimeException", name := "<init>", desc := "(Ljava/lang/String;)V" } : Jvm.MethodName)) ∈ lw_all := lw_g (lw_at lw_m2 199 rfl) rfl
theorem q522 : (Jvm.Cond.lays "java/lang/NegativeArraySizeException" "java/lang/Throwable" "backtrace" "Ljava/lang/Object;") ∈ lw_all := lw_g (lw_at lw_m2 200 rfl) rfl
theorem q523 : (Jvm.Cond.lays "java/lang/NegativeArraySizeException" "java/lang/Throwable" "detailMessage" "Ljava/lang/String;") ∈ lw_all := lw_g (lw_at lw_m2 201 rfl) rfl
theorem q524 : (Jvm.Cond.lays "java/lang/NegativeArraySizeException" "java/lang/Throwable" "cause" "Ljava/lang/Throwable;") ∈ lw_all := lw_g (lw_at lw_m2 202 rfl) rfl
theorem q525 : (Jvm.Cond.lays "java/lang/NegativeArraySizeException" "java/lang/Throwable" "stackTrace" "[Ljava/lang/StackTraceElement;") ∈ lw_all := lw_g (lw_at lw_m2 203 rfl) rfl
theorem q526 : (Jvm.Cond.lays "java/lang/NegativeArraySizeException" "java/lang/Throwable" "depth" "I") ∈ lw_all := lw_g (lw_at lw_m2 204 rfl) rfl
theorem q527 : (Jvm.Cond.lays "java/lang/NegativeArraySizeException" "java/lang/Throwable" "suppressedExceptions" "Ljava/util/List;") ∈ lw_all := lw_g (lw_at lw_m2 205 rfl) rfl
theorem q528 : (Jvm.Cond.superclass "java/lang/NegativeArraySizeException" "java/lang/RuntimeException") ∈ lw_all := lw_g (lw_at lw_m2 206 rfl) rfl
theorem q529 : (Jvm.Cond.castable "java/lang/NegativeArraySizeException" "java/lang/NegativeArraySizeException") ∈ lw_tbl := lw_at lw_m2 207 rfl
theorem q530 : (Jvm.Cond.selects "java/lang/NegativeArraySizeException" ({ cls := "java/lang/Throwable", name := "fillInStackTrace", desc := "(I)Ljava/lang/Throwable;" } : Jvm.MethodName) ({ cls := "java/lang/Throwable", name := "fillInStackTrace", desc := "(I)Ljava/lang/Throwable;" } : Jvm.MethodName)) ∈ lw_all := lw_g (lw_at lw_m2 208 rfl) rfl
theorem in_J6 : ∀ w ∈ wsJ60, w ∈ lw_all := lw_in wsJ60 [522, 523, 524, 525, 526, 527] (by decide +kernel) (by decide +kernel)
/-! java/lang/ClassCastException -/
set_option maxRecDepth 100000
def RJ7 : String := "java/lang/ClassCastException"
def TJ7 : u_T := fun k => match k with
  | 0 => ("java/lang/Throwable", "backtrace", "Ljava/lang/Object;", false)
  | 1 => ("java/lang/Throwable", "detailMessage", "Ljava/lang/String;", false)
  | 2 => ("java/lang/Throwable", "cause", "Ljava/lang/Throwable;", false)
  | 3 => ("java/lang/Throwable", "stackTrace", "[Ljava/lang/StackTraceElement;", false)
  | 4 => ("java/lang/Throwable", "depth", "I", false)
  | _ => ("java/lang/Throwable", "suppressedExceptions", "Ljava/util/List;", false)
def tyJ7 : Nat → FieldType := fun k => match k with
  | 0 => .object "java/lang/Object"
  | 1 => .object "java/lang/String"
  | 2 => .object "java/lang/Throwable"
  | 3 => .array (.object "java/lang/StackTraceElement")
  | 4 => .int
  | _ => .object "java/util/List"
abbrev wsJ70 : List Cond := u_ws RJ7 TJ7 6
theorem nmJ7 : ∀ a, a < 6 → ∀ b, b < 6 → a ≠ b → (TJ7 a).2.1 ≠ (TJ7 b).2.1 := by decide +kernel
theorem tyJ7_ok : ∀ k, k < 6 → parseFieldDescriptor (TJ7 k).2.2.1 = some (tyJ7 k) := by decide +kernel
abbrev cJ7_init : ByteArray := prog_24_method_2_code
def yJ7_init : MethodName := ⟨RJ7, "<init>", "(Ljava/lang/String;)V"⟩
def dkwJ7_init_0 : List UInt8 := [42, 43, 183, 0, 7, 177]
abbrev dktJ7_init_0 : List UInt8 := dkwJ7_init_0 ++ []
theorem dksJ7_init_0 : cJ7_init.data.toList.drop 0 = dktJ7_init_0 := by decide +kernel
theorem dJ7_init_0 : decode cJ7_init 0 = .ok (.aload_n 0, 1) := dk_42 (dk_at dksJ7_init_0 0 rfl rfl)
theorem dJ7_init_1 : decode cJ7_init 1 = .ok (.aload_n 1, 1) := dk_43 (dk_at dksJ7_init_0 1 rfl rfl)
theorem dJ7_init_2 : decode cJ7_init 2 = .ok (.invokespecial 7, 3) := dk_183 0 7 (dk_at dksJ7_init_0 2 rfl rfl)
theorem dJ7_init_5 : decode cJ7_init 5 = .ok (.return_, 1) := dk_177 (dk_at dksJ7_init_0 5 rfl rfl)
theorem q109 : (Jvm.Cond.initialized "java/lang/ClassCastException") ∈ lw_all := lw_g (lw_at lw_m1 27 rfl) rfl
theorem q433 : (Jvm.Cond.selects "java/lang/ClassCastException" ({ cls := "java/lang/Throwable", name := "fillInStackTrace", desc := "()Ljava/lang/Throwable;" } : Jvm.MethodName) ({ cls := "java/lang/Throwable", name := "fillInStackTrace", desc := "()Ljava/lang/Throwable;" } : Jvm.MethodName)) ∈ lw_all := lw_g (lw_at lw_m2 111 rfl) rfl
theorem q589 : (Jvm.Cond.instantiable "java/lang/ClassCastException" (6 : Nat)) ∈ lw_all := lw_g (lw_at lw_m3 27 rfl) rfl
theorem q590 : (Jvm.Cond.instanceMethod ({ cls := "java/lang/ClassCastException", name := "<init>", desc := "(Ljava/lang/String;)V" } : Jvm.MethodName)) ∈ lw_all := lw_g (lw_at lw_m3 28 rfl) rfl
theorem q591 : (Jvm.Cond.code ({ cls := "java/lang/ClassCastException", name := "<init>", desc := "(Ljava/lang/String;)V" } : Jvm.MethodName) prog_24_method_2_code (2 : Nat) (Option.none : Option Jvm.ClassFile.FieldType)) ∈ lw_all := lw_g (lw_at lw_m3 29 rfl) rfl
theorem q592 : (Jvm.Cond.methodLink "java/lang/ClassCastException" (7 : Nat) ({ cls := "java/lang/RuntimeException", name := "<init>", desc := "(Ljava/lang/String;)V" } : Jvm.MethodName)) ∈ lw_all := lw_g (lw_at lw_m3 30 rfl) rfl
theorem q593 : (Jvm.Cond.lays "java/lang/ClassCastException" "java/lang/Throwable" "backtrace" "Ljava/lang/Object;") ∈ lw_all := lw_g (lw_at lw_m3 31 rfl) rfl
theorem q594 : (Jvm.Cond.lays "java/lang/ClassCastException" "java/lang/Throwable" "detailMessage" "Ljava/lang/String;") ∈ lw_all := lw_g (lw_at lw_m3 32 rfl) rfl
theorem q595 : (Jvm.Cond.lays "java/lang/ClassCastException" "java/lang/Throwable" "cause" "Ljava/lang/Throwable;") ∈ lw_all := lw_g (lw_at lw_m3 33 rfl) rfl
theorem q596 : (Jvm.Cond.lays "java/lang/ClassCastException" "java/lang/Throwable" "stackTrace" "[Ljava/lang/StackTraceElement;") ∈ lw_all := lw_g (lw_at lw_m3 34 rfl) rfl
theorem q597 : (Jvm.Cond.lays "java/lang/ClassCastException" "java/lang/Throwable" "depth" "I") ∈ lw_all := lw_g (lw_at lw_m3 35 rfl) rfl
theorem q598 : (Jvm.Cond.lays "java/lang/ClassCastException" "java/lang/Throwable" "suppressedExceptions" "Ljava/util/List;") ∈ lw_all := lw_g (lw_at lw_m3 36 rfl) rfl
theorem q599 : (Jvm.Cond.superclass "java/lang/ClassCastException" "java/lang/RuntimeException") ∈ lw_all := lw_g (lw_at lw_m3 37 rfl) rfl
theorem q600 : (Jvm.Cond.castable "java/lang/ClassCastException" "java/lang/ClassCastException") ∈ lw_tbl := lw_at lw_m3 38 rfl
theorem q601 : (Jvm.Cond.selects "java/lang/ClassCastException" ({ cls := "java/lang/Throwable", name := "fillInStackTrace", desc := "(I)Ljava/lang/Throwable;" } : Jvm.MethodName) ({ cls := "java/lang/Throwable", name := "fillInStackTrace", desc := "(I)Ljava/lang/Throwable;" } : Jvm.MethodName)) ∈ lw_all := lw_g (lw_at lw_m3 39 rfl) rfl
theorem in_J7 : ∀ w ∈ wsJ70, w ∈ lw_all := lw_in wsJ70 [593, 594, 595, 596, 597, 598] (by decide +kernel) (by decide +kernel)
/-! java/lang/Integer -/
set_option maxRecDepth 100000
def RJ8 : String := "java/lang/Integer"
abbrev cJ8_bitCount : ByteArray := prog_27_method_49_code
def yJ8_bitCount : MethodName := ⟨RJ8, "bitCount", "(I)I"⟩
def dkwJ8_bitCount_2 : List UInt8 := [26, 16, 63, 126, 172]
abbrev dktJ8_bitCount_2 : List UInt8 := dkwJ8_bitCount_2 ++ []
def dkwJ8_bitCount_1 : List UInt8 := [26, 26, 7, 124, 96, 19, 1, 11, 126, 59, 26, 26, 16, 8, 124, 96, 59, 26, 26, 16, 16, 124, 96, 59]
abbrev dktJ8_bitCount_1 : List UInt8 := dkwJ8_bitCount_1 ++ dktJ8_bitCount_2
def dkwJ8_bitCount_0 : List UInt8 := [26, 26, 4, 124, 19, 1, 9, 126, 100, 59, 26, 19, 1, 10, 126, 26, 5, 124, 19, 1, 10, 126, 96, 59]
abbrev dktJ8_bitCount_0 : List UInt8 := dkwJ8_bitCount_0 ++ dktJ8_bitCount_1
theorem dksJ8_bitCount_0 : cJ8_bitCount.data.toList.drop 0 = dktJ8_bitCount_0 := by decide +kernel
theorem dksJ8_bitCount_1 : cJ8_bitCount.data.toList.drop 24 = dktJ8_bitCount_1 := dk_seg dksJ8_bitCount_0 24 rfl rfl
theorem dksJ8_bitCount_2 : cJ8_bitCount.data.toList.drop 48 = dktJ8_bitCount_2 := dk_seg dksJ8_bitCount_1 24 rfl rfl
theorem dJ8_bitCount_0 : decode cJ8_bitCount 0 = .ok (.iload_n 0, 1) := dk_26 (dk_at dksJ8_bitCount_0 0 rfl rfl)
theorem dJ8_bitCount_1 : decode cJ8_bitCount 1 = .ok (.iload_n 0, 1) := dk_26 (dk_at dksJ8_bitCount_0 1 rfl rfl)
theorem dJ8_bitCount_2 : decode cJ8_bitCount 2 = .ok (.iconst 1, 1) := dk_4 (dk_at dksJ8_bitCount_0 2 rfl rfl)
theorem dJ8_bitCount_3 : decode cJ8_bitCount 3 = .ok (.iushr, 1) := dk_124 (dk_at dksJ8_bitCount_0 3 rfl rfl)
theorem dJ8_bitCount_4 : decode cJ8_bitCount 4 = .ok (.ldc_w 265, 3) := dk_19 1 9 (dk_at dksJ8_bitCount_0 4 rfl rfl)
theorem dJ8_bitCount_7 : decode cJ8_bitCount 7 = .ok (.iand, 1) := dk_126 (dk_at dksJ8_bitCount_0 7 rfl rfl)
theorem dJ8_bitCount_8 : decode cJ8_bitCount 8 = .ok (.isub, 1) := dk_100 (dk_at dksJ8_bitCount_0 8 rfl rfl)
theorem dJ8_bitCount_9 : decode cJ8_bitCount 9 = .ok (.istore_n 0, 1) := dk_59 (dk_at dksJ8_bitCount_0 9 rfl rfl)
theorem dJ8_bitCount_10 : decode cJ8_bitCount 10 = .ok (.iload_n 0, 1) := dk_26 (dk_at dksJ8_bitCount_0 10 rfl rfl)
theorem dJ8_bitCount_11 : decode cJ8_bitCount 11 = .ok (.ldc_w 266, 3) := dk_19 1 10 (dk_at dksJ8_bitCount_0 11 rfl rfl)
theorem dJ8_bitCount_14 : decode cJ8_bitCount 14 = .ok (.iand, 1) := dk_126 (dk_at dksJ8_bitCount_0 14 rfl rfl)
theorem dJ8_bitCount_15 : decode cJ8_bitCount 15 = .ok (.iload_n 0, 1) := dk_26 (dk_at dksJ8_bitCount_0 15 rfl rfl)
theorem dJ8_bitCount_16 : decode cJ8_bitCount 16 = .ok (.iconst 2, 1) := dk_5 (dk_at dksJ8_bitCount_0 16 rfl rfl)
theorem dJ8_bitCount_17 : decode cJ8_bitCount 17 = .ok (.iushr, 1) := dk_124 (dk_at dksJ8_bitCount_0 17 rfl rfl)
theorem dJ8_bitCount_18 : decode cJ8_bitCount 18 = .ok (.ldc_w 266, 3) := dk_19 1 10 (dk_at dksJ8_bitCount_0 18 rfl rfl)
theorem dJ8_bitCount_21 : decode cJ8_bitCount 21 = .ok (.iand, 1) := dk_126 (dk_at dksJ8_bitCount_0 21 rfl rfl)
theorem dJ8_bitCount_22 : decode cJ8_bitCount 22 = .ok (.iadd, 1) := dk_96 (dk_at dksJ8_bitCount_0 22 rfl rfl)
theorem dJ8_bitCount_23 : decode cJ8_bitCount 23 = .ok (.istore_n 0, 1) := dk_59 (dk_at dksJ8_bitCount_0 23 rfl rfl)
theorem dJ8_bitCount_24 : decode cJ8_bitCount 24 = .ok (.iload_n 0, 1) := dk_26 (dk_at dksJ8_bitCount_1 0 rfl rfl)
theorem dJ8_bitCount_25 : decode cJ8_bitCount 25 = .ok (.iload_n 0, 1) := dk_26 (dk_at dksJ8_bitCount_1 1 rfl rfl)
theorem dJ8_bitCount_26 : decode cJ8_bitCount 26 = .ok (.iconst 4, 1) := dk_7 (dk_at dksJ8_bitCount_1 2 rfl rfl)
theorem dJ8_bitCount_27 : decode cJ8_bitCount 27 = .ok (.iushr, 1) := dk_124 (dk_at dksJ8_bitCount_1 3 rfl rfl)
theorem dJ8_bitCount_28 : decode cJ8_bitCount 28 = .ok (.iadd, 1) := dk_96 (dk_at dksJ8_bitCount_1 4 rfl rfl)
theorem dJ8_bitCount_29 : decode cJ8_bitCount 29 = .ok (.ldc_w 267, 3) := dk_19 1 11 (dk_at dksJ8_bitCount_1 5 rfl rfl)
theorem dJ8_bitCount_32 : decode cJ8_bitCount 32 = .ok (.iand, 1) := dk_126 (dk_at dksJ8_bitCount_1 8 rfl rfl)
theorem dJ8_bitCount_33 : decode cJ8_bitCount 33 = .ok (.istore_n 0, 1) := dk_59 (dk_at dksJ8_bitCount_1 9 rfl rfl)
theorem dJ8_bitCount_34 : decode cJ8_bitCount 34 = .ok (.iload_n 0, 1) := dk_26 (dk_at dksJ8_bitCount_1 10 rfl rfl)
theorem dJ8_bitCount_35 : decode cJ8_bitCount 35 = .ok (.iload_n 0, 1) := dk_26 (dk_at dksJ8_bitCount_1 11 rfl rfl)
theorem dJ8_bitCount_36 : decode cJ8_bitCount 36 = .ok (.bipush 8, 2) := dk_16 8 (dk_at dksJ8_bitCount_1 12 rfl rfl)
theorem dJ8_bitCount_38 : decode cJ8_bitCount 38 = .ok (.iushr, 1) := dk_124 (dk_at dksJ8_bitCount_1 14 rfl rfl)
theorem dJ8_bitCount_39 : decode cJ8_bitCount 39 = .ok (.iadd, 1) := dk_96 (dk_at dksJ8_bitCount_1 15 rfl rfl)
theorem dJ8_bitCount_40 : decode cJ8_bitCount 40 = .ok (.istore_n 0, 1) := dk_59 (dk_at dksJ8_bitCount_1 16 rfl rfl)
theorem dJ8_bitCount_41 : decode cJ8_bitCount 41 = .ok (.iload_n 0, 1) := dk_26 (dk_at dksJ8_bitCount_1 17 rfl rfl)
theorem dJ8_bitCount_42 : decode cJ8_bitCount 42 = .ok (.iload_n 0, 1) := dk_26 (dk_at dksJ8_bitCount_1 18 rfl rfl)
theorem dJ8_bitCount_43 : decode cJ8_bitCount 43 = .ok (.bipush 16, 2) := dk_16 16 (dk_at dksJ8_bitCount_1 19 rfl rfl)
theorem dJ8_bitCount_45 : decode cJ8_bitCount 45 = .ok (.iushr, 1) := dk_124 (dk_at dksJ8_bitCount_1 21 rfl rfl)
theorem dJ8_bitCount_46 : decode cJ8_bitCount 46 = .ok (.iadd, 1) := dk_96 (dk_at dksJ8_bitCount_1 22 rfl rfl)
theorem dJ8_bitCount_47 : decode cJ8_bitCount 47 = .ok (.istore_n 0, 1) := dk_59 (dk_at dksJ8_bitCount_1 23 rfl rfl)
theorem dJ8_bitCount_48 : decode cJ8_bitCount 48 = .ok (.iload_n 0, 1) := dk_26 (dk_at dksJ8_bitCount_2 0 rfl rfl)
theorem dJ8_bitCount_49 : decode cJ8_bitCount 49 = .ok (.bipush 63, 2) := dk_16 63 (dk_at dksJ8_bitCount_2 1 rfl rfl)
theorem dJ8_bitCount_51 : decode cJ8_bitCount 51 = .ok (.iand, 1) := dk_126 (dk_at dksJ8_bitCount_2 3 rfl rfl)
theorem dJ8_bitCount_52 : decode cJ8_bitCount 52 = .ok (.ireturn, 1) := dk_172 (dk_at dksJ8_bitCount_2 4 rfl rfl)
theorem q111 : (Jvm.Cond.initialized "java/lang/Integer") ∈ lw_all := lw_g (lw_at lw_m1 29 rfl) rfl
theorem q718 : (Jvm.Cond.static ({ cls := "java/lang/Integer", name := "bitCount", desc := "(I)I" } : Jvm.MethodName)) ∈ lw_all := lw_g (lw_at lw_m3 156 rfl) rfl
theorem q719 : (Jvm.Cond.code ({ cls := "java/lang/Integer", name := "bitCount", desc := "(I)I" } : Jvm.MethodName) prog_27_method_49_code (1 : Nat) (Option.some Jvm.ClassFile.FieldType.int)) ∈ lw_all := lw_g (lw_at lw_m3 157 rfl) rfl
theorem q720 : (Jvm.Cond.constant "java/lang/Integer" (265 : Nat) (1431655765 : Int32)) ∈ lw_all := lw_g (lw_at lw_m3 158 rfl) rfl
theorem q721 : (Jvm.Cond.constant "java/lang/Integer" (266 : Nat) (858993459 : Int32)) ∈ lw_all := lw_g (lw_at lw_m3 159 rfl) rfl
theorem q722 : (Jvm.Cond.constant "java/lang/Integer" (267 : Nat) (252645135 : Int32)) ∈ lw_all := lw_g (lw_at lw_m3 160 rfl) rfl
/-! java/lang/StringLatin1 -/
set_option maxRecDepth 100000
def RJ9 : String := "java/lang/StringLatin1"
abbrev cJ9_charAt : ByteArray := prog_32_method_2_code
def yJ9_charAt : MethodName := ⟨RJ9, "charAt", "([BI)C"⟩
def dkwJ9_charAt_0 : List UInt8 := [27, 42, 190, 184, 0, 9, 42, 27, 51, 17, 0, 255, 126, 146, 172]
abbrev dktJ9_charAt_0 : List UInt8 := dkwJ9_charAt_0 ++ []
theorem dksJ9_charAt_0 : cJ9_charAt.data.toList.drop 0 = dktJ9_charAt_0 := by decide +kernel
theorem dJ9_charAt_0 : decode cJ9_charAt 0 = .ok (.iload_n 1, 1) := dk_27 (dk_at dksJ9_charAt_0 0 rfl rfl)
theorem dJ9_charAt_1 : decode cJ9_charAt 1 = .ok (.aload_n 0, 1) := dk_42 (dk_at dksJ9_charAt_0 1 rfl rfl)
theorem dJ9_charAt_2 : decode cJ9_charAt 2 = .ok (.arraylength, 1) := dk_190 (dk_at dksJ9_charAt_0 2 rfl rfl)
theorem dJ9_charAt_3 : decode cJ9_charAt 3 = .ok (.invokestatic 9, 3) := dk_184 0 9 (dk_at dksJ9_charAt_0 3 rfl rfl)
theorem dJ9_charAt_6 : decode cJ9_charAt 6 = .ok (.aload_n 0, 1) := dk_42 (dk_at dksJ9_charAt_0 6 rfl rfl)
theorem dJ9_charAt_7 : decode cJ9_charAt 7 = .ok (.iload_n 1, 1) := dk_27 (dk_at dksJ9_charAt_0 7 rfl rfl)
theorem dJ9_charAt_8 : decode cJ9_charAt 8 = .ok (.baload, 1) := dk_51 (dk_at dksJ9_charAt_0 8 rfl rfl)
theorem dJ9_charAt_9 : decode cJ9_charAt 9 = .ok (.sipush 255, 3) := dk_17 0 255 (dk_at dksJ9_charAt_0 9 rfl rfl)
theorem dJ9_charAt_12 : decode cJ9_charAt 12 = .ok (.iand, 1) := dk_126 (dk_at dksJ9_charAt_0 12 rfl rfl)
theorem dJ9_charAt_13 : decode cJ9_charAt 13 = .ok (.i2c, 1) := dk_146 (dk_at dksJ9_charAt_0 13 rfl rfl)
theorem dJ9_charAt_14 : decode cJ9_charAt 14 = .ok (.ireturn, 1) := dk_172 (dk_at dksJ9_charAt_0 14 rfl rfl)
theorem q113 : (Jvm.Cond.initialized "java/lang/StringLatin1") ∈ lw_all := lw_g (lw_at lw_m1 31 rfl) rfl
theorem q896 : (Jvm.Cond.static ({ cls := "java/lang/StringLatin1", name := "charAt", desc := "([BI)C" } : Jvm.MethodName)) ∈ lw_all := lw_g (lw_at lw_m4 94 rfl) rfl
theorem q897 : (Jvm.Cond.code ({ cls := "java/lang/StringLatin1", name := "charAt", desc := "([BI)C" } : Jvm.MethodName) prog_32_method_2_code (2 : Nat) (Option.some Jvm.ClassFile.FieldType.char)) ∈ lw_all := lw_g (lw_at lw_m4 95 rfl) rfl
theorem q898 : (Jvm.Cond.methodLink "java/lang/StringLatin1" (9 : Nat) ({ cls := "java/lang/String", name := "checkIndex", desc := "(II)V" } : Jvm.MethodName)) ∈ lw_all := lw_g (lw_at lw_m4 96 rfl) rfl
/-! jdk/internal/util/Preconditions -/
set_option maxRecDepth 100000
def RJ10 : String := "jdk/internal/util/Preconditions"
abbrev cJ10_checkIndex : ByteArray := prog_36_method_11_code
def yJ10_checkIndex : MethodName := ⟨RJ10, "checkIndex", "(IILjava/util/function/BiFunction;)I"⟩
def dkwJ10_checkIndex_0 : List UInt8 := [26, 155, 0, 8, 26, 27, 161, 0, 10, 44, 26, 27, 184, 0, 95, 191, 26, 172]
abbrev dktJ10_checkIndex_0 : List UInt8 := dkwJ10_checkIndex_0 ++ []
theorem dksJ10_checkIndex_0 : cJ10_checkIndex.data.toList.drop 0 = dktJ10_checkIndex_0 := by decide +kernel
theorem dJ10_checkIndex_0 : decode cJ10_checkIndex 0 = .ok (.iload_n 0, 1) := dk_26 (dk_at dksJ10_checkIndex_0 0 rfl rfl)
theorem dJ10_checkIndex_1 : decode cJ10_checkIndex 1 = .ok (.ifCond .lt 8, 3) := dk_155 0 8 (dk_at dksJ10_checkIndex_0 1 rfl rfl)
theorem dJ10_checkIndex_4 : decode cJ10_checkIndex 4 = .ok (.iload_n 0, 1) := dk_26 (dk_at dksJ10_checkIndex_0 4 rfl rfl)
theorem dJ10_checkIndex_5 : decode cJ10_checkIndex 5 = .ok (.iload_n 1, 1) := dk_27 (dk_at dksJ10_checkIndex_0 5 rfl rfl)
theorem dJ10_checkIndex_6 : decode cJ10_checkIndex 6 = .ok (.if_icmp .lt 10, 3) := dk_161 0 10 (dk_at dksJ10_checkIndex_0 6 rfl rfl)
theorem dJ10_checkIndex_9 : decode cJ10_checkIndex 9 = .ok (.aload_n 2, 1) := dk_44 (dk_at dksJ10_checkIndex_0 9 rfl rfl)
theorem dJ10_checkIndex_10 : decode cJ10_checkIndex 10 = .ok (.iload_n 0, 1) := dk_26 (dk_at dksJ10_checkIndex_0 10 rfl rfl)
theorem dJ10_checkIndex_11 : decode cJ10_checkIndex 11 = .ok (.iload_n 1, 1) := dk_27 (dk_at dksJ10_checkIndex_0 11 rfl rfl)
theorem dJ10_checkIndex_12 : decode cJ10_checkIndex 12 = .ok (.invokestatic 95, 3) := dk_184 0 95 (dk_at dksJ10_checkIndex_0 12 rfl rfl)
theorem dJ10_checkIndex_15 : decode cJ10_checkIndex 15 = .ok (.athrow, 1) := dk_191 (dk_at dksJ10_checkIndex_0 15 rfl rfl)
theorem dJ10_checkIndex_16 : decode cJ10_checkIndex 16 = .ok (.iload_n 0, 1) := dk_26 (dk_at dksJ10_checkIndex_0 16 rfl rfl)
theorem dJ10_checkIndex_17 : decode cJ10_checkIndex 17 = .ok (.ireturn, 1) := dk_172 (dk_at dksJ10_checkIndex_0 17 rfl rfl)
theorem q114 : (Jvm.Cond.initialized "jdk/internal/util/Preconditions") ∈ lw_all := lw_g (lw_at lw_m1 32 rfl) rfl
theorem q902 : (Jvm.Cond.laysStatic "jdk/internal/util/Preconditions" "SIOOBE_FORMATTER" "Ljava/util/function/BiFunction;") ∈ lw_tbl := lw_at lw_m4 100 rfl
theorem q904 : (Jvm.Cond.static ({ cls := "jdk/internal/util/Preconditions", name := "checkIndex", desc := "(IILjava/util/function/BiFunction;)I" } : Jvm.MethodName)) ∈ lw_all := lw_g (lw_at lw_m4 102 rfl) rfl
theorem q905 : (Jvm.Cond.code ({ cls := "jdk/internal/util/Preconditions", name := "checkIndex", desc := "(IILjava/util/function/BiFunction;)I" } : Jvm.MethodName) prog_36_method_11_code (3 : Nat) (Option.some Jvm.ClassFile.FieldType.int)) ∈ lw_all := lw_g (lw_at lw_m4 103 rfl) rfl
/-! java/lang/StringUTF16 -/
set_option maxRecDepth 100000
def RJ11 : String := "java/lang/StringUTF16"
abbrev cJ11_charAt : ByteArray := prog_33_method_83_code
def yJ11_charAt : MethodName := ⟨RJ11, "charAt", "([BI)C"⟩
def dkwJ11_charAt_0 : List UInt8 := [27, 42, 184, 0, 67, 42, 27, 184, 0, 71, 172]
abbrev dktJ11_charAt_0 : List UInt8 := dkwJ11_charAt_0 ++ []
theorem dksJ11_charAt_0 : cJ11_charAt.data.toList.drop 0 = dktJ11_charAt_0 := by decide +kernel
theorem dJ11_charAt_0 : decode cJ11_charAt 0 = .ok (.iload_n 1, 1) := dk_27 (dk_at dksJ11_charAt_0 0 rfl rfl)
theorem dJ11_charAt_1 : decode cJ11_charAt 1 = .ok (.aload_n 0, 1) := dk_42 (dk_at dksJ11_charAt_0 1 rfl rfl)
theorem dJ11_charAt_2 : decode cJ11_charAt 2 = .ok (.invokestatic 67, 3) := dk_184 0 67 (dk_at dksJ11_charAt_0 2 rfl rfl)
theorem dJ11_charAt_5 : decode cJ11_charAt 5 = .ok (.aload_n 0, 1) := dk_42 (dk_at dksJ11_charAt_0 5 rfl rfl)
theorem dJ11_charAt_6 : decode cJ11_charAt 6 = .ok (.iload_n 1, 1) := dk_27 (dk_at dksJ11_charAt_0 6 rfl rfl)
theorem dJ11_charAt_7 : decode cJ11_charAt 7 = .ok (.invokestatic 71, 3) := dk_184 0 71 (dk_at dksJ11_charAt_0 7 rfl rfl)
theorem dJ11_charAt_10 : decode cJ11_charAt 10 = .ok (.ireturn, 1) := dk_172 (dk_at dksJ11_charAt_0 10 rfl rfl)
abbrev cJ11_checkIndex : ByteArray := prog_33_method_91_code
def yJ11_checkIndex : MethodName := ⟨RJ11, "checkIndex", "(I[B)V"⟩
def dkwJ11_checkIndex_0 : List UInt8 := [26, 43, 184, 0, 48, 184, 1, 158, 177]
abbrev dktJ11_checkIndex_0 : List UInt8 := dkwJ11_checkIndex_0 ++ []
theorem dksJ11_checkIndex_0 : cJ11_checkIndex.data.toList.drop 0 = dktJ11_checkIndex_0 := by decide +kernel
theorem dJ11_checkIndex_0 : decode cJ11_checkIndex 0 = .ok (.iload_n 0, 1) := dk_26 (dk_at dksJ11_checkIndex_0 0 rfl rfl)
theorem dJ11_checkIndex_1 : decode cJ11_checkIndex 1 = .ok (.aload_n 1, 1) := dk_43 (dk_at dksJ11_checkIndex_0 1 rfl rfl)
theorem dJ11_checkIndex_2 : decode cJ11_checkIndex 2 = .ok (.invokestatic 48, 3) := dk_184 0 48 (dk_at dksJ11_checkIndex_0 2 rfl rfl)
theorem dJ11_checkIndex_5 : decode cJ11_checkIndex 5 = .ok (.invokestatic 414, 3) := dk_184 1 158 (dk_at dksJ11_checkIndex_0 5 rfl rfl)
theorem dJ11_checkIndex_8 : decode cJ11_checkIndex 8 = .ok (.return_, 1) := dk_177 (dk_at dksJ11_checkIndex_0 8 rfl rfl)
abbrev cJ11_length : ByteArray := prog_33_method_6_code
def yJ11_length : MethodName := ⟨RJ11, "length", "([B)I"⟩
def dkwJ11_length_0 : List UInt8 := [42, 190, 4, 122, 172]
abbrev dktJ11_length_0 : List UInt8 := dkwJ11_length_0 ++ []
theorem dksJ11_length_0 : cJ11_length.data.toList.drop 0 = dktJ11_length_0 := by decide +kernel
theorem dJ11_length_0 : decode cJ11_length 0 = .ok (.aload_n 0, 1) := dk_42 (dk_at dksJ11_length_0 0 rfl rfl)
theorem dJ11_length_1 : decode cJ11_length 1 = .ok (.arraylength, 1) := dk_190 (dk_at dksJ11_length_0 1 rfl rfl)
theorem dJ11_length_2 : decode cJ11_length 2 = .ok (.iconst 1, 1) := dk_4 (dk_at dksJ11_length_0 2 rfl rfl)
theorem dJ11_length_3 : decode cJ11_length 3 = .ok (.ishr, 1) := dk_122 (dk_at dksJ11_length_0 3 rfl rfl)
theorem dJ11_length_4 : decode cJ11_length 4 = .ok (.ireturn, 1) := dk_172 (dk_at dksJ11_length_0 4 rfl rfl)
abbrev cJ11_getChar : ByteArray := prog_33_method_5_code
def yJ11_getChar : MethodName := ⟨RJ11, "getChar", "([BI)C"⟩
def dkwJ11_getChar_2 : List UInt8 := [51, 17, 0, 255, 126, 178, 0, 63, 120, 128, 146, 172]
abbrev dktJ11_getChar_2 : List UInt8 := dkwJ11_getChar_2 ++ []
def dkwJ11_getChar_1 : List UInt8 := [183, 0, 56, 191, 27, 4, 120, 60, 42, 27, 132, 1, 1, 51, 17, 0, 255, 126, 178, 0, 59, 120, 42, 27]
abbrev dktJ11_getChar_1 : List UInt8 := dkwJ11_getChar_1 ++ dktJ11_getChar_2
def dkwJ11_getChar_0 : List UInt8 := [178, 0, 44, 154, 0, 25, 27, 155, 0, 11, 27, 42, 184, 0, 48, 161, 0, 13, 187, 0, 52, 89, 18, 54]
abbrev dktJ11_getChar_0 : List UInt8 := dkwJ11_getChar_0 ++ dktJ11_getChar_1
theorem dksJ11_getChar_0 : cJ11_getChar.data.toList.drop 0 = dktJ11_getChar_0 := by decide +kernel
theorem dksJ11_getChar_1 : cJ11_getChar.data.toList.drop 24 = dktJ11_getChar_1 := dk_seg dksJ11_getChar_0 24 rfl rfl
theorem dksJ11_getChar_2 : cJ11_getChar.data.toList.drop 48 = dktJ11_getChar_2 := dk_seg dksJ11_getChar_1 24 rfl rfl
theorem dJ11_getChar_0 : decode cJ11_getChar 0 = .ok (.getstatic 44, 3) := dk_178 0 44 (dk_at dksJ11_getChar_0 0 rfl rfl)
theorem dJ11_getChar_3 : decode cJ11_getChar 3 = .ok (.ifCond .ne 25, 3) := dk_154 0 25 (dk_at dksJ11_getChar_0 3 rfl rfl)
theorem dJ11_getChar_6 : decode cJ11_getChar 6 = .ok (.iload_n 1, 1) := dk_27 (dk_at dksJ11_getChar_0 6 rfl rfl)
theorem dJ11_getChar_7 : decode cJ11_getChar 7 = .ok (.ifCond .lt 11, 3) := dk_155 0 11 (dk_at dksJ11_getChar_0 7 rfl rfl)
theorem dJ11_getChar_10 : decode cJ11_getChar 10 = .ok (.iload_n 1, 1) := dk_27 (dk_at dksJ11_getChar_0 10 rfl rfl)
theorem dJ11_getChar_11 : decode cJ11_getChar 11 = .ok (.aload_n 0, 1) := dk_42 (dk_at dksJ11_getChar_0 11 rfl rfl)
theorem dJ11_getChar_12 : decode cJ11_getChar 12 = .ok (.invokestatic 48, 3) := dk_184 0 48 (dk_at dksJ11_getChar_0 12 rfl rfl)
theorem dJ11_getChar_15 : decode cJ11_getChar 15 = .ok (.if_icmp .lt 13, 3) := dk_161 0 13 (dk_at dksJ11_getChar_0 15 rfl rfl)
theorem dJ11_getChar_18 : decode cJ11_getChar 18 = .ok (.new 52, 3) := dk_187 0 52 (dk_at dksJ11_getChar_0 18 rfl rfl)
theorem dJ11_getChar_21 : decode cJ11_getChar 21 = .ok (.dup, 1) := dk_89 (dk_at dksJ11_getChar_0 21 rfl rfl)
theorem dJ11_getChar_22 : decode cJ11_getChar 22 = .ok (.ldc 54, 2) := dk_18 54 (dk_at dksJ11_getChar_0 22 rfl rfl)
theorem dJ11_getChar_24 : decode cJ11_getChar 24 = .ok (.invokespecial 56, 3) := dk_183 0 56 (dk_at dksJ11_getChar_1 0 rfl rfl)
theorem dJ11_getChar_27 : decode cJ11_getChar 27 = .ok (.athrow, 1) := dk_191 (dk_at dksJ11_getChar_1 3 rfl rfl)
theorem dJ11_getChar_28 : decode cJ11_getChar 28 = .ok (.iload_n 1, 1) := dk_27 (dk_at dksJ11_getChar_1 4 rfl rfl)
theorem dJ11_getChar_29 : decode cJ11_getChar 29 = .ok (.iconst 1, 1) := dk_4 (dk_at dksJ11_getChar_1 5 rfl rfl)
theorem dJ11_getChar_30 : decode cJ11_getChar 30 = .ok (.ishl, 1) := dk_120 (dk_at dksJ11_getChar_1 6 rfl rfl)
theorem dJ11_getChar_31 : decode cJ11_getChar 31 = .ok (.istore_n 1, 1) := dk_60 (dk_at dksJ11_getChar_1 7 rfl rfl)
theorem dJ11_getChar_32 : decode cJ11_getChar 32 = .ok (.aload_n 0, 1) := dk_42 (dk_at dksJ11_getChar_1 8 rfl rfl)
theorem dJ11_getChar_33 : decode cJ11_getChar 33 = .ok (.iload_n 1, 1) := dk_27 (dk_at dksJ11_getChar_1 9 rfl rfl)
theorem dJ11_getChar_34 : decode cJ11_getChar 34 = .ok (.iinc 1 1, 3) := dk_132 1 1 (dk_at dksJ11_getChar_1 10 rfl rfl)
theorem dJ11_getChar_37 : decode cJ11_getChar 37 = .ok (.baload, 1) := dk_51 (dk_at dksJ11_getChar_1 13 rfl rfl)
theorem dJ11_getChar_38 : decode cJ11_getChar 38 = .ok (.sipush 255, 3) := dk_17 0 255 (dk_at dksJ11_getChar_1 14 rfl rfl)
theorem dJ11_getChar_41 : decode cJ11_getChar 41 = .ok (.iand, 1) := dk_126 (dk_at dksJ11_getChar_1 17 rfl rfl)
theorem dJ11_getChar_42 : decode cJ11_getChar 42 = .ok (.getstatic 59, 3) := dk_178 0 59 (dk_at dksJ11_getChar_1 18 rfl rfl)
theorem dJ11_getChar_45 : decode cJ11_getChar 45 = .ok (.ishl, 1) := dk_120 (dk_at dksJ11_getChar_1 21 rfl rfl)
theorem dJ11_getChar_46 : decode cJ11_getChar 46 = .ok (.aload_n 0, 1) := dk_42 (dk_at dksJ11_getChar_1 22 rfl rfl)
theorem dJ11_getChar_47 : decode cJ11_getChar 47 = .ok (.iload_n 1, 1) := dk_27 (dk_at dksJ11_getChar_1 23 rfl rfl)
theorem dJ11_getChar_48 : decode cJ11_getChar 48 = .ok (.baload, 1) := dk_51 (dk_at dksJ11_getChar_2 0 rfl rfl)
theorem dJ11_getChar_49 : decode cJ11_getChar 49 = .ok (.sipush 255, 3) := dk_17 0 255 (dk_at dksJ11_getChar_2 1 rfl rfl)
theorem dJ11_getChar_52 : decode cJ11_getChar 52 = .ok (.iand, 1) := dk_126 (dk_at dksJ11_getChar_2 4 rfl rfl)
theorem dJ11_getChar_53 : decode cJ11_getChar 53 = .ok (.getstatic 63, 3) := dk_178 0 63 (dk_at dksJ11_getChar_2 5 rfl rfl)
theorem dJ11_getChar_56 : decode cJ11_getChar 56 = .ok (.ishl, 1) := dk_120 (dk_at dksJ11_getChar_2 8 rfl rfl)
theorem dJ11_getChar_57 : decode cJ11_getChar 57 = .ok (.ior, 1) := dk_128 (dk_at dksJ11_getChar_2 9 rfl rfl)
theorem dJ11_getChar_58 : decode cJ11_getChar 58 = .ok (.i2c, 1) := dk_146 (dk_at dksJ11_getChar_2 10 rfl rfl)
theorem dJ11_getChar_59 : decode cJ11_getChar 59 = .ok (.ireturn, 1) := dk_172 (dk_at dksJ11_getChar_2 11 rfl rfl)
theorem q115 : (Jvm.Cond.initialized "java/lang/StringUTF16") ∈ lw_all := lw_g (lw_at lw_m1 33 rfl) rfl
theorem q907 : (Jvm.Cond.static ({ cls := "java/lang/StringUTF16", name := "charAt", desc := "([BI)C" } : Jvm.MethodName)) ∈ lw_all := lw_g (lw_at lw_m4 105 rfl) rfl
theorem q908 : (Jvm.Cond.code ({ cls := "java/lang/StringUTF16", name := "charAt", desc := "([BI)C" } : Jvm.MethodName) prog_33_method_83_code (2 : Nat) (Option.some Jvm.ClassFile.FieldType.char)) ∈ lw_all := lw_g (lw_at lw_m4 106 rfl) rfl
theorem q909 : (Jvm.Cond.methodLink "java/lang/StringUTF16" (67 : Nat) ({ cls := "java/lang/StringUTF16", name := "checkIndex", desc := "(I[B)V" } : Jvm.MethodName)) ∈ lw_all := lw_g (lw_at lw_m4 107 rfl) rfl
theorem q910 : (Jvm.Cond.static ({ cls := "java/lang/StringUTF16", name := "checkIndex", desc := "(I[B)V" } : Jvm.MethodName)) ∈ lw_all := lw_g (lw_at lw_m4 108 rfl) rfl
theorem q911 : (Jvm.Cond.code ({ cls := "java/lang/StringUTF16", name := "checkIndex", desc := "(I[B)V" } : Jvm.MethodName) prog_33_method_91_code (2 : Nat) (Option.none : Option Jvm.ClassFile.FieldType)) ∈ lw_all := lw_g (lw_at lw_m4 109 rfl) rfl
theorem q912 : (Jvm.Cond.methodLink "java/lang/StringUTF16" (48 : Nat) ({ cls := "java/lang/StringUTF16", name := "length", desc := "([B)I" } : Jvm.MethodName)) ∈ lw_all := lw_g (lw_at lw_m4 110 rfl) rfl
theorem q913 : (Jvm.Cond.static ({ cls := "java/lang/StringUTF16", name := "length", desc := "([B)I" } : Jvm.MethodName)) ∈ lw_all := lw_g (lw_at lw_m4 111 rfl) rfl
theorem q914 : (Jvm.Cond.code ({ cls := "java/lang/StringUTF16", name := "length", desc := "([B)I" } : Jvm.MethodName) prog_33_method_6_code (1 : Nat) (Option.some Jvm.ClassFile.FieldType.int)) ∈ lw_all := lw_g (lw_at lw_m4 112 rfl) rfl
theorem q915 : (Jvm.Cond.methodLink "java/lang/StringUTF16" (414 : Nat) ({ cls := "java/lang/String", name := "checkIndex", desc := "(II)V" } : Jvm.MethodName)) ∈ lw_all := lw_g (lw_at lw_m4 113 rfl) rfl
theorem q916 : (Jvm.Cond.methodLink "java/lang/StringUTF16" (71 : Nat) ({ cls := "java/lang/StringUTF16", name := "getChar", desc := "([BI)C" } : Jvm.MethodName)) ∈ lw_all := lw_g (lw_at lw_m4 114 rfl) rfl
theorem q917 : (Jvm.Cond.static ({ cls := "java/lang/StringUTF16", name := "getChar", desc := "([BI)C" } : Jvm.MethodName)) ∈ lw_all := lw_g (lw_at lw_m4 115 rfl) rfl
theorem q918 : (Jvm.Cond.code ({ cls := "java/lang/StringUTF16", name := "getChar", desc := "([BI)C" } : Jvm.MethodName) prog_33_method_5_code (2 : Nat) (Option.some Jvm.ClassFile.FieldType.char)) ∈ lw_all := lw_g (lw_at lw_m4 116 rfl) rfl
theorem q919 : (Jvm.Cond.fieldLink "java/lang/StringUTF16" (44 : Nat) "java/lang/StringUTF16" "$assertionsDisabled" "Z") ∈ lw_all := lw_g (lw_at lw_m4 117 rfl) rfl
theorem q920 : (Jvm.Cond.laysStatic "java/lang/StringUTF16" "$assertionsDisabled" "Z") ∈ lw_tbl := lw_at lw_m4 118 rfl
theorem q921 : (Jvm.Cond.fieldLink "java/lang/StringUTF16" (59 : Nat) "java/lang/StringUTF16" "HI_BYTE_SHIFT" "I") ∈ lw_all := lw_g (lw_at lw_m4 119 rfl) rfl
theorem q922 : (Jvm.Cond.laysStatic "java/lang/StringUTF16" "HI_BYTE_SHIFT" "I") ∈ lw_tbl := lw_at lw_m4 120 rfl
theorem q923 : (Jvm.Cond.fieldLink "java/lang/StringUTF16" (63 : Nat) "java/lang/StringUTF16" "LO_BYTE_SHIFT" "I") ∈ lw_all := lw_g (lw_at lw_m4 121 rfl) rfl
theorem q924 : (Jvm.Cond.laysStatic "java/lang/StringUTF16" "LO_BYTE_SHIFT" "I") ∈ lw_tbl := lw_at lw_m4 122 rfl
/-! java/lang/Math -/
set_option maxRecDepth 100000
def RJ12 : String := "java/lang/Math"
abbrev cJ12_abs : ByteArray := prog_28_method_59_code
def yJ12_abs : MethodName := ⟨RJ12, "abs", "(I)I"⟩
def dkwJ12_abs_0 : List UInt8 := [26, 156, 0, 8, 26, 116, 167, 0, 4, 26, 172]
abbrev dktJ12_abs_0 : List UInt8 := dkwJ12_abs_0 ++ []
theorem dksJ12_abs_0 : cJ12_abs.data.toList.drop 0 = dktJ12_abs_0 := by decide +kernel
theorem dJ12_abs_0 : decode cJ12_abs 0 = .ok (.iload_n 0, 1) := dk_26 (dk_at dksJ12_abs_0 0 rfl rfl)
theorem dJ12_abs_1 : decode cJ12_abs 1 = .ok (.ifCond .ge 8, 3) := dk_156 0 8 (dk_at dksJ12_abs_0 1 rfl rfl)
theorem dJ12_abs_4 : decode cJ12_abs 4 = .ok (.iload_n 0, 1) := dk_26 (dk_at dksJ12_abs_0 4 rfl rfl)
theorem dJ12_abs_5 : decode cJ12_abs 5 = .ok (.ineg, 1) := dk_116 (dk_at dksJ12_abs_0 5 rfl rfl)
theorem dJ12_abs_6 : decode cJ12_abs 6 = .ok (.goto 4, 3) := dk_167 0 4 (dk_at dksJ12_abs_0 6 rfl rfl)
theorem dJ12_abs_9 : decode cJ12_abs 9 = .ok (.iload_n 0, 1) := dk_26 (dk_at dksJ12_abs_0 9 rfl rfl)
theorem dJ12_abs_10 : decode cJ12_abs 10 = .ok (.ireturn, 1) := dk_172 (dk_at dksJ12_abs_0 10 rfl rfl)
abbrev cJ12_max : ByteArray := prog_28_method_65_code
def yJ12_max : MethodName := ⟨RJ12, "max", "(II)I"⟩
def dkwJ12_max_0 : List UInt8 := [26, 27, 161, 0, 7, 26, 167, 0, 4, 27, 172]
abbrev dktJ12_max_0 : List UInt8 := dkwJ12_max_0 ++ []
theorem dksJ12_max_0 : cJ12_max.data.toList.drop 0 = dktJ12_max_0 := by decide +kernel
theorem dJ12_max_0 : decode cJ12_max 0 = .ok (.iload_n 0, 1) := dk_26 (dk_at dksJ12_max_0 0 rfl rfl)
theorem dJ12_max_1 : decode cJ12_max 1 = .ok (.iload_n 1, 1) := dk_27 (dk_at dksJ12_max_0 1 rfl rfl)
theorem dJ12_max_2 : decode cJ12_max 2 = .ok (.if_icmp .lt 7, 3) := dk_161 0 7 (dk_at dksJ12_max_0 2 rfl rfl)
theorem dJ12_max_5 : decode cJ12_max 5 = .ok (.iload_n 0, 1) := dk_26 (dk_at dksJ12_max_0 5 rfl rfl)
theorem dJ12_max_6 : decode cJ12_max 6 = .ok (.goto 4, 3) := dk_167 0 4 (dk_at dksJ12_max_0 6 rfl rfl)
theorem dJ12_max_9 : decode cJ12_max 9 = .ok (.iload_n 1, 1) := dk_27 (dk_at dksJ12_max_0 9 rfl rfl)
theorem dJ12_max_10 : decode cJ12_max 10 = .ok (.ireturn, 1) := dk_172 (dk_at dksJ12_max_0 10 rfl rfl)
abbrev cJ12_min : ByteArray := prog_28_method_69_code
def yJ12_min : MethodName := ⟨RJ12, "min", "(II)I"⟩
def dkwJ12_min_0 : List UInt8 := [26, 27, 163, 0, 7, 26, 167, 0, 4, 27, 172]
abbrev dktJ12_min_0 : List UInt8 := dkwJ12_min_0 ++ []
theorem dksJ12_min_0 : cJ12_min.data.toList.drop 0 = dktJ12_min_0 := by decide +kernel
theorem dJ12_min_0 : decode cJ12_min 0 = .ok (.iload_n 0, 1) := dk_26 (dk_at dksJ12_min_0 0 rfl rfl)
theorem dJ12_min_1 : decode cJ12_min 1 = .ok (.iload_n 1, 1) := dk_27 (dk_at dksJ12_min_0 1 rfl rfl)
theorem dJ12_min_2 : decode cJ12_min 2 = .ok (.if_icmp .gt 7, 3) := dk_163 0 7 (dk_at dksJ12_min_0 2 rfl rfl)
theorem dJ12_min_5 : decode cJ12_min 5 = .ok (.iload_n 0, 1) := dk_26 (dk_at dksJ12_min_0 5 rfl rfl)
theorem dJ12_min_6 : decode cJ12_min 6 = .ok (.goto 4, 3) := dk_167 0 4 (dk_at dksJ12_min_0 6 rfl rfl)
theorem dJ12_min_9 : decode cJ12_min 9 = .ok (.iload_n 1, 1) := dk_27 (dk_at dksJ12_min_0 9 rfl rfl)
theorem dJ12_min_10 : decode cJ12_min 10 = .ok (.ireturn, 1) := dk_172 (dk_at dksJ12_min_0 10 rfl rfl)
theorem q117 : (Jvm.Cond.initialized "java/lang/Math") ∈ lw_all := lw_g (lw_at lw_m1 35 rfl) rfl
theorem q1005 : (Jvm.Cond.static ({ cls := "java/lang/Math", name := "abs", desc := "(I)I" } : Jvm.MethodName)) ∈ lw_all := lw_g (lw_at lw_m4 203 rfl) rfl
theorem q1006 : (Jvm.Cond.code ({ cls := "java/lang/Math", name := "abs", desc := "(I)I" } : Jvm.MethodName) prog_28_method_59_code (1 : Nat) (Option.some Jvm.ClassFile.FieldType.int)) ∈ lw_all := lw_g (lw_at lw_m4 204 rfl) rfl
theorem q1037 : (Jvm.Cond.static ({ cls := "java/lang/Math", name := "max", desc := "(II)I" } : Jvm.MethodName)) ∈ lw_all := lw_g (lw_at lw_m4 235 rfl) rfl
theorem q1038 : (Jvm.Cond.code ({ cls := "java/lang/Math", name := "max", desc := "(II)I" } : Jvm.MethodName) prog_28_method_65_code (2 : Nat) (Option.some Jvm.ClassFile.FieldType.int)) ∈ lw_all := lw_g (lw_at lw_m4 236 rfl) rfl
theorem q1338 : (Jvm.Cond.static ({ cls := "java/lang/Math", name := "min", desc := "(II)I" } : Jvm.MethodName)) ∈ lw_all := lw_g (lw_at lw_m6 56 rfl) rfl
theorem q1339 : (Jvm.Cond.code ({ cls := "java/lang/Math", name := "min", desc := "(II)I" } : Jvm.MethodName) prog_28_method_69_code (2 : Nat) (Option.some Jvm.ClassFile.FieldType.int)) ∈ lw_all := lw_g (lw_at lw_m6 57 rfl) rfl
/-! java/lang/Object -/
set_option maxRecDepth 100000
def RJ13 : String := "java/lang/Object"
abbrev cJ13_init : ByteArray := object_method_1_code
def yJ13_init : MethodName := ⟨RJ13, "<init>", "()V"⟩
theorem dJ13_init_0 : decode cJ13_init 0 = .ok (.return_, 1) := by decide +kernel
theorem q124 : (Jvm.Cond.instanceMethod ({ cls := "java/lang/Object", name := "<init>", desc := "()V" } : Jvm.MethodName)) ∈ lw_all := lw_g (lw_at lw_m1 42 rfl) rfl
theorem q125 : (Jvm.Cond.code ({ cls := "java/lang/Object", name := "<init>", desc := "()V" } : Jvm.MethodName) object_method_1_code (1 : Nat) (Option.none : Option Jvm.ClassFile.FieldType)) ∈ lw_all := lw_g (lw_at lw_m1 43 rfl) rfl
theorem q82 : (Jvm.Cond.initialized "WhichOneAllKnowLaw") ∈ lw_all := lw_g (lw_at lw_m1 0 rfl) rfl
set_option maxRecDepth 100000
theorem q118 : (Jvm.Cond.classLink "WhichOneAllKnowLaw" (7 : Nat) "WhichOneAllKnow") ∈ lw_all := lw_g (lw_at lw_m1 36 rfl) rfl
theorem q120 : (Jvm.Cond.methodLink "WhichOneAllKnowLaw" (9 : Nat) ({ cls := "WhichOneAllKnow", name := "<init>", desc := "()V" } : Jvm.MethodName)) ∈ lw_all := lw_g (lw_at lw_m1 38 rfl) rfl
theorem q397 : (Jvm.Cond.methodLink "WhichOneAllKnowLaw" (13 : Nat) ({ cls := "WhichOneAllKnow", name := "row", desc := "(III)I" } : Jvm.MethodName)) ∈ lw_all := lw_g (lw_at lw_m2 75 rfl) rfl
theorem q580 : (Jvm.Cond.methodLink "WhichOneAllKnowLaw" (20 : Nat) ({ cls := "WhichOneAllKnow", name := "set", desc := "(IIJ)I" } : Jvm.MethodName)) ∈ lw_all := lw_g (lw_at lw_m3 18 rfl) rfl
theorem q621 : (Jvm.Cond.methodLink "WhichOneAllKnowLaw" (25 : Nat) ({ cls := "WhichOneAllKnow", name := "copy", desc := "(IIIII)I" } : Jvm.MethodName)) ∈ lw_all := lw_g (lw_at lw_m3 59 rfl) rfl
theorem q664 : (Jvm.Cond.methodLink "WhichOneAllKnowLaw" (30 : Nat) ({ cls := "WhichOneAllKnow", name := "element", desc := "(II)J" } : Jvm.MethodName)) ∈ lw_all := lw_g (lw_at lw_m3 102 rfl) rfl
theorem q683 : (Jvm.Cond.methodLink "WhichOneAllKnowLaw" (35 : Nat) ({ cls := "WhichOneAllKnow", name := "show", desc := "(II)I" } : Jvm.MethodName)) ∈ lw_all := lw_g (lw_at lw_m3 121 rfl) rfl
theorem q695 : (Jvm.Cond.methodLink "WhichOneAllKnowLaw" (40 : Nat) ({ cls := "WhichOneAllKnow", name := "holds", desc := "(I)I" } : Jvm.MethodName)) ∈ lw_all := lw_g (lw_at lw_m3 133 rfl) rfl
theorem q700 : (Jvm.Cond.methodLink "WhichOneAllKnowLaw" (45 : Nat) ({ cls := "WhichOneAllKnow", name := "says", desc := "(II)I" } : Jvm.MethodName)) ∈ lw_all := lw_g (lw_at lw_m3 138 rfl) rfl
theorem q725 : (Jvm.Cond.methodLink "WhichOneAllKnowLaw" (49 : Nat) ({ cls := "WhichOneAllKnow", name := "tune", desc := "(I)I" } : Jvm.MethodName)) ∈ lw_all := lw_g (lw_at lw_m3 163 rfl) rfl
theorem q734 : (Jvm.Cond.methodLink "WhichOneAllKnowLaw" (53 : Nat) ({ cls := "WhichOneAllKnow", name := "voice", desc := "(IIIII)I" } : Jvm.MethodName)) ∈ lw_all := lw_g (lw_at lw_m3 172 rfl) rfl
theorem q748 : (Jvm.Cond.methodLink "WhichOneAllKnowLaw" (57 : Nat) ({ cls := "WhichOneAllKnow", name := "knows", desc := "(IIZ)I" } : Jvm.MethodName)) ∈ lw_all := lw_g (lw_at lw_m3 186 rfl) rfl
theorem q760 : (Jvm.Cond.methodLink "WhichOneAllKnowLaw" (62 : Nat) ({ cls := "WhichOneAllKnow", name := "move", desc := "(II)I" } : Jvm.MethodName)) ∈ lw_all := lw_g (lw_at lw_m3 198 rfl) rfl
theorem q764 : (Jvm.Cond.methodLink "WhichOneAllKnowLaw" (66 : Nat) ({ cls := "WhichOneAllKnow", name := "ask", desc := "(I)I" } : Jvm.MethodName)) ∈ lw_all := lw_g (lw_at lw_m3 202 rfl) rfl
theorem q768 : (Jvm.Cond.methodLink "WhichOneAllKnowLaw" (70 : Nat) ({ cls := "WhichOneAllKnow", name := "voiceOf", desc := "(II)I" } : Jvm.MethodName)) ∈ lw_all := lw_g (lw_at lw_m3 206 rfl) rfl
theorem q799 : (Jvm.Cond.methodLink "WhichOneAllKnowLaw" (74 : Nat) ({ cls := "WhichOneAllKnow", name := "highOf", desc := "(I)I" } : Jvm.MethodName)) ∈ lw_all := lw_g (lw_at lw_m3 237 rfl) rfl
theorem q803 : (Jvm.Cond.methodLink "WhichOneAllKnowLaw" (78 : Nat) ({ cls := "WhichOneAllKnow", name := "church", desc := "(I)I" } : Jvm.MethodName)) ∈ lw_all := lw_g (lw_at lw_m4 1 rfl) rfl
theorem q977 : (Jvm.Cond.methodLink "WhichOneAllKnowLaw" (82 : Nat) ({ cls := "WhichOneAllKnow", name := "fault", desc := "()I" } : Jvm.MethodName)) ∈ lw_all := lw_g (lw_at lw_m4 175 rfl) rfl
theorem q981 : (Jvm.Cond.methodLink "WhichOneAllKnowLaw" (87 : Nat) ({ cls := "WhichOneAllKnow", name := "sung", desc := "(IIII)I" } : Jvm.MethodName)) ∈ lw_all := lw_g (lw_at lw_m4 179 rfl) rfl
theorem q1080 : (Jvm.Cond.methodLink "WhichOneAllKnowLaw" (92 : Nat) ({ cls := "WhichOneAllKnow", name := "needs", desc := "(II)I" } : Jvm.MethodName)) ∈ lw_all := lw_g (lw_at lw_m5 38 rfl) rfl
theorem q1086 : (Jvm.Cond.methodLink "WhichOneAllKnowLaw" (96 : Nat) ({ cls := "WhichOneAllKnow", name := "verse", desc := "(III)I" } : Jvm.MethodName)) ∈ lw_all := lw_g (lw_at lw_m5 44 rfl) rfl
theorem q1106 : (Jvm.Cond.methodLink "WhichOneAllKnowLaw" (100 : Nat) ({ cls := "WhichOneAllKnow", name := "best", desc := "(II)I" } : Jvm.MethodName)) ∈ lw_all := lw_g (lw_at lw_m5 64 rfl) rfl
theorem q1112 : (Jvm.Cond.methodLink "WhichOneAllKnowLaw" (104 : Nat) ({ cls := "WhichOneAllKnow", name := "pitch", desc := "(II)I" } : Jvm.MethodName)) ∈ lw_all := lw_g (lw_at lw_m5 70 rfl) rfl
theorem q1116 : (Jvm.Cond.methodLink "WhichOneAllKnowLaw" (108 : Nat) ({ cls := "WhichOneAllKnow", name := "two", desc := "(I)I" } : Jvm.MethodName)) ∈ lw_all := lw_g (lw_at lw_m5 74 rfl) rfl
theorem q1121 : (Jvm.Cond.methodLink "WhichOneAllKnowLaw" (112 : Nat) ({ cls := "WhichOneAllKnow", name := "leaders", desc := "(IIIII)I" } : Jvm.MethodName)) ∈ lw_all := lw_g (lw_at lw_m5 79 rfl) rfl
theorem q1139 : (Jvm.Cond.methodLink "WhichOneAllKnowLaw" (116 : Nat) ({ cls := "WhichOneAllKnow", name := "taught", desc := "(II)I" } : Jvm.MethodName)) ∈ lw_all := lw_g (lw_at lw_m5 97 rfl) rfl
theorem q1151 : (Jvm.Cond.methodLink "WhichOneAllKnowLaw" (120 : Nat) ({ cls := "WhichOneAllKnow", name := "helps", desc := "(IIII)I" } : Jvm.MethodName)) ∈ lw_all := lw_g (lw_at lw_m5 109 rfl) rfl
theorem q1156 : (Jvm.Cond.methodLink "WhichOneAllKnowLaw" (124 : Nat) ({ cls := "WhichOneAllKnow", name := "late", desc := "(II)I" } : Jvm.MethodName)) ∈ lw_all := lw_g (lw_at lw_m5 114 rfl) rfl
theorem q1165 : (Jvm.Cond.methodLink "WhichOneAllKnowLaw" (128 : Nat) ({ cls := "WhichOneAllKnow", name := "ahead", desc := "(II)I" } : Jvm.MethodName)) ∈ lw_all := lw_g (lw_at lw_m5 123 rfl) rfl
theorem q1169 : (Jvm.Cond.methodLink "WhichOneAllKnowLaw" (132 : Nat) ({ cls := "WhichOneAllKnow", name := "fits", desc := "(III)I" } : Jvm.MethodName)) ∈ lw_all := lw_g (lw_at lw_m5 127 rfl) rfl
theorem q1187 : (Jvm.Cond.methodLink "WhichOneAllKnowLaw" (136 : Nat) ({ cls := "WhichOneAllKnow", name := "changed", desc := "(IIII)I" } : Jvm.MethodName)) ∈ lw_all := lw_g (lw_at lw_m5 145 rfl) rfl
theorem q1195 : (Jvm.Cond.methodLink "WhichOneAllKnowLaw" (140 : Nat) ({ cls := "WhichOneAllKnow", name := "known", desc := "(II)I" } : Jvm.MethodName)) ∈ lw_all := lw_g (lw_at lw_m5 153 rfl) rfl
theorem q1217 : (Jvm.Cond.methodLink "WhichOneAllKnowLaw" (144 : Nat) ({ cls := "WhichOneAllKnow", name := "judge", desc := "(II)I" } : Jvm.MethodName)) ∈ lw_all := lw_g (lw_at lw_m5 175 rfl) rfl
theorem q1229 : (Jvm.Cond.methodLink "WhichOneAllKnowLaw" (148 : Nat) ({ cls := "WhichOneAllKnow", name := "behind", desc := "(III)I" } : Jvm.MethodName)) ∈ lw_all := lw_g (lw_at lw_m5 187 rfl) rfl
theorem q1233 : (Jvm.Cond.methodLink "WhichOneAllKnowLaw" (152 : Nat) ({ cls := "WhichOneAllKnow", name := "done", desc := "(II)I" } : Jvm.MethodName)) ∈ lw_all := lw_g (lw_at lw_m5 191 rfl) rfl
theorem q1237 : (Jvm.Cond.methodLink "WhichOneAllKnowLaw" (156 : Nat) ({ cls := "WhichOneAllKnow", name := "hymn", desc := "(III)I" } : Jvm.MethodName)) ∈ lw_all := lw_g (lw_at lw_m5 195 rfl) rfl
theorem q1241 : (Jvm.Cond.methodLink "WhichOneAllKnowLaw" (160 : Nat) ({ cls := "WhichOneAllKnow", name := "years", desc := "(I)I" } : Jvm.MethodName)) ∈ lw_all := lw_g (lw_at lw_m5 199 rfl) rfl
theorem q1251 : (Jvm.Cond.methodLink "WhichOneAllKnowLaw" (164 : Nat) ({ cls := "WhichOneAllKnow", name := "seed", desc := "(I)I" } : Jvm.MethodName)) ∈ lw_all := lw_g (lw_at lw_m5 209 rfl) rfl
theorem q1255 : (Jvm.Cond.methodLink "WhichOneAllKnowLaw" (168 : Nat) ({ cls := "WhichOneAllKnow", name := "act", desc := "(III)I" } : Jvm.MethodName)) ∈ lw_all := lw_g (lw_at lw_m5 213 rfl) rfl
theorem q1333 : (Jvm.Cond.methodLink "WhichOneAllKnowLaw" (172 : Nat) ({ cls := "WhichOneAllKnow", name := "trace", desc := "(I)I" } : Jvm.MethodName)) ∈ lw_all := lw_g (lw_at lw_m6 51 rfl) rfl
theorem q1340 : (Jvm.Cond.methodLink "WhichOneAllKnowLaw" (176 : Nat) ({ cls := "WhichOneAllKnow", name := "image", desc := "()I" } : Jvm.MethodName)) ∈ lw_all := lw_g (lw_at lw_m6 58 rfl) rfl
theorem q1344 : (Jvm.Cond.methodLink "WhichOneAllKnowLaw" (180 : Nat) ({ cls := "WhichOneAllKnow", name := "restore", desc := "()I" } : Jvm.MethodName)) ∈ lw_all := lw_g (lw_at lw_m6 62 rfl) rfl
theorem q1352 : (Jvm.Cond.methodLink "WhichOneAllKnowLaw" (184 : Nat) ({ cls := "WhichOneAllKnow", name := "status", desc := "(I)I" } : Jvm.MethodName)) ∈ lw_all := lw_g (lw_at lw_m6 70 rfl) rfl
theorem q1357 : (Jvm.Cond.classLink "WhichOneAllKnowLaw" (10 : Nat) "WhichOneAllKnowModel") ∈ lw_all := lw_g (lw_at lw_m6 75 rfl) rfl
theorem q1359 : (Jvm.Cond.methodLink "WhichOneAllKnowLaw" (12 : Nat) ({ cls := "WhichOneAllKnowModel", name := "<init>", desc := "()V" } : Jvm.MethodName)) ∈ lw_all := lw_g (lw_at lw_m6 77 rfl) rfl
theorem q1451 : (Jvm.Cond.methodLink "WhichOneAllKnowLaw" (17 : Nat) ({ cls := "WhichOneAllKnowModel", name := "row", desc := "(III)I" } : Jvm.MethodName)) ∈ lw_all := lw_g (lw_at lw_m6 169 rfl) rfl
theorem q1462 : (Jvm.Cond.methodLink "WhichOneAllKnowLaw" (24 : Nat) ({ cls := "WhichOneAllKnowModel", name := "set", desc := "(IIJ)I" } : Jvm.MethodName)) ∈ lw_all := lw_g (lw_at lw_m6 180 rfl) rfl
theorem q1474 : (Jvm.Cond.methodLink "WhichOneAllKnowLaw" (29 : Nat) ({ cls := "WhichOneAllKnowModel", name := "copy", desc := "(IIIII)I" } : Jvm.MethodName)) ∈ lw_all := lw_g (lw_at lw_m6 192 rfl) rfl
theorem q1478 : (Jvm.Cond.methodLink "WhichOneAllKnowLaw" (34 : Nat) ({ cls := "WhichOneAllKnowModel", name := "element", desc := "(II)J" } : Jvm.MethodName)) ∈ lw_all := lw_g (lw_at lw_m6 196 rfl) rfl
theorem q1482 : (Jvm.Cond.methodLink "WhichOneAllKnowLaw" (39 : Nat) ({ cls := "WhichOneAllKnowModel", name := "show", desc := "(II)I" } : Jvm.MethodName)) ∈ lw_all := lw_g (lw_at lw_m6 200 rfl) rfl
theorem q1490 : (Jvm.Cond.methodLink "WhichOneAllKnowLaw" (44 : Nat) ({ cls := "WhichOneAllKnowModel", name := "holds", desc := "(I)I" } : Jvm.MethodName)) ∈ lw_all := lw_g (lw_at lw_m6 208 rfl) rfl
theorem q1494 : (Jvm.Cond.methodLink "WhichOneAllKnowLaw" (48 : Nat) ({ cls := "WhichOneAllKnowModel", name := "says", desc := "(II)I" } : Jvm.MethodName)) ∈ lw_all := lw_g (lw_at lw_m6 212 rfl) rfl
theorem q1505 : (Jvm.Cond.methodLink "WhichOneAllKnowLaw" (52 : Nat) ({ cls := "WhichOneAllKnowModel", name := "tune", desc := "(I)I" } : Jvm.MethodName)) ∈ lw_all := lw_g (lw_at lw_m6 223 rfl) rfl
theorem q1513 : (Jvm.Cond.methodLink "WhichOneAllKnowLaw" (56 : Nat) ({ cls := "WhichOneAllKnowModel", name := "voice", desc := "(IIIII)I" } : Jvm.MethodName)) ∈ lw_all := lw_g (lw_at lw_m6 231 rfl) rfl
theorem q1529 : (Jvm.Cond.methodLink "WhichOneAllKnowLaw" (61 : Nat) ({ cls := "WhichOneAllKnowModel", name := "knows", desc := "(IIZ)I" } : Jvm.MethodName)) ∈ lw_all := lw_g (lw_at lw_m7 7 rfl) rfl
theorem q1537 : (Jvm.Cond.methodLink "WhichOneAllKnowLaw" (65 : Nat) ({ cls := "WhichOneAllKnowModel", name := "move", desc := "(II)I" } : Jvm.MethodName)) ∈ lw_all := lw_g (lw_at lw_m7 15 rfl) rfl
theorem q1541 : (Jvm.Cond.methodLink "WhichOneAllKnowLaw" (69 : Nat) ({ cls := "WhichOneAllKnowModel", name := "ask", desc := "(I)I" } : Jvm.MethodName)) ∈ lw_all := lw_g (lw_at lw_m7 19 rfl) rfl
theorem q1545 : (Jvm.Cond.methodLink "WhichOneAllKnowLaw" (73 : Nat) ({ cls := "WhichOneAllKnowModel", name := "voiceOf", desc := "(II)I" } : Jvm.MethodName)) ∈ lw_all := lw_g (lw_at lw_m7 23 rfl) rfl
theorem q1549 : (Jvm.Cond.methodLink "WhichOneAllKnowLaw" (77 : Nat) ({ cls := "WhichOneAllKnowModel", name := "highOf", desc := "(I)I" } : Jvm.MethodName)) ∈ lw_all := lw_g (lw_at lw_m7 27 rfl) rfl
theorem q1553 : (Jvm.Cond.methodLink "WhichOneAllKnowLaw" (81 : Nat) ({ cls := "WhichOneAllKnowModel", name := "church", desc := "(I)I" } : Jvm.MethodName)) ∈ lw_all := lw_g (lw_at lw_m7 31 rfl) rfl
theorem q1600 : (Jvm.Cond.methodLink "WhichOneAllKnowLaw" (86 : Nat) ({ cls := "WhichOneAllKnowModel", name := "fault", desc := "()I" } : Jvm.MethodName)) ∈ lw_all := lw_g (lw_at lw_m7 78 rfl) rfl
theorem q1604 : (Jvm.Cond.methodLink "WhichOneAllKnowLaw" (91 : Nat) ({ cls := "WhichOneAllKnowModel", name := "sung", desc := "(IIII)I" } : Jvm.MethodName)) ∈ lw_all := lw_g (lw_at lw_m7 82 rfl) rfl
theorem q1643 : (Jvm.Cond.methodLink "WhichOneAllKnowLaw" (95 : Nat) ({ cls := "WhichOneAllKnowModel", name := "needs", desc := "(II)I" } : Jvm.MethodName)) ∈ lw_all := lw_g (lw_at lw_m7 121 rfl) rfl
theorem q1647 : (Jvm.Cond.methodLink "WhichOneAllKnowLaw" (99 : Nat) ({ cls := "WhichOneAllKnowModel", name := "verse", desc := "(III)I" } : Jvm.MethodName)) ∈ lw_all := lw_g (lw_at lw_m7 125 rfl) rfl
theorem q1667 : (Jvm.Cond.methodLink "WhichOneAllKnowLaw" (103 : Nat) ({ cls := "WhichOneAllKnowModel", name := "best", desc := "(II)I" } : Jvm.MethodName)) ∈ lw_all := lw_g (lw_at lw_m7 145 rfl) rfl
theorem q1679 : (Jvm.Cond.methodLink "WhichOneAllKnowLaw" (107 : Nat) ({ cls := "WhichOneAllKnowModel", name := "pitch", desc := "(II)I" } : Jvm.MethodName)) ∈ lw_all := lw_g (lw_at lw_m7 157 rfl) rfl
theorem q1683 : (Jvm.Cond.methodLink "WhichOneAllKnowLaw" (111 : Nat) ({ cls := "WhichOneAllKnowModel", name := "two", desc := "(I)I" } : Jvm.MethodName)) ∈ lw_all := lw_g (lw_at lw_m7 161 rfl) rfl
theorem q1687 : (Jvm.Cond.methodLink "WhichOneAllKnowLaw" (115 : Nat) ({ cls := "WhichOneAllKnowModel", name := "leaders", desc := "(IIIII)I" } : Jvm.MethodName)) ∈ lw_all := lw_g (lw_at lw_m7 165 rfl) rfl
theorem q1703 : (Jvm.Cond.methodLink "WhichOneAllKnowLaw" (119 : Nat) ({ cls := "WhichOneAllKnowModel", name := "taught", desc := "(II)I" } : Jvm.MethodName)) ∈ lw_all := lw_g (lw_at lw_m7 181 rfl) rfl
theorem q1707 : (Jvm.Cond.methodLink "WhichOneAllKnowLaw" (123 : Nat) ({ cls := "WhichOneAllKnowModel", name := "helps", desc := "(IIII)I" } : Jvm.MethodName)) ∈ lw_all := lw_g (lw_at lw_m7 185 rfl) rfl
theorem q1711 : (Jvm.Cond.methodLink "WhichOneAllKnowLaw" (127 : Nat) ({ cls := "WhichOneAllKnowModel", name := "late", desc := "(II)I" } : Jvm.MethodName)) ∈ lw_all := lw_g (lw_at lw_m7 189 rfl) rfl
theorem q1719 : (Jvm.Cond.methodLink "WhichOneAllKnowLaw" (131 : Nat) ({ cls := "WhichOneAllKnowModel", name := "ahead", desc := "(II)I" } : Jvm.MethodName)) ∈ lw_all := lw_g (lw_at lw_m7 197 rfl) rfl
theorem q1723 : (Jvm.Cond.methodLink "WhichOneAllKnowLaw" (135 : Nat) ({ cls := "WhichOneAllKnowModel", name := "fits", desc := "(III)I" } : Jvm.MethodName)) ∈ lw_all := lw_g (lw_at lw_m7 201 rfl) rfl
theorem q1739 : (Jvm.Cond.methodLink "WhichOneAllKnowLaw" (139 : Nat) ({ cls := "WhichOneAllKnowModel", name := "changed", desc := "(IIII)I" } : Jvm.MethodName)) ∈ lw_all := lw_g (lw_at lw_m7 217 rfl) rfl
theorem q1747 : (Jvm.Cond.methodLink "WhichOneAllKnowLaw" (143 : Nat) ({ cls := "WhichOneAllKnowModel", name := "known", desc := "(II)I" } : Jvm.MethodName)) ∈ lw_all := lw_g (lw_at lw_m7 225 rfl) rfl
theorem q1759 : (Jvm.Cond.methodLink "WhichOneAllKnowLaw" (147 : Nat) ({ cls := "WhichOneAllKnowModel", name := "judge", desc := "(II)I" } : Jvm.MethodName)) ∈ lw_all := lw_g (lw_at lw_m7 237 rfl) rfl
theorem q1767 : (Jvm.Cond.methodLink "WhichOneAllKnowLaw" (151 : Nat) ({ cls := "WhichOneAllKnowModel", name := "behind", desc := "(III)I" } : Jvm.MethodName)) ∈ lw_all := lw_g (lw_at lw_m8 5 rfl) rfl
theorem q1775 : (Jvm.Cond.methodLink "WhichOneAllKnowLaw" (155 : Nat) ({ cls := "WhichOneAllKnowModel", name := "done", desc := "(II)I" } : Jvm.MethodName)) ∈ lw_all := lw_g (lw_at lw_m8 13 rfl) rfl
theorem q1779 : (Jvm.Cond.methodLink "WhichOneAllKnowLaw" (159 : Nat) ({ cls := "WhichOneAllKnowModel", name := "hymn", desc := "(III)I" } : Jvm.MethodName)) ∈ lw_all := lw_g (lw_at lw_m8 17 rfl) rfl
theorem q1783 : (Jvm.Cond.methodLink "WhichOneAllKnowLaw" (163 : Nat) ({ cls := "WhichOneAllKnowModel", name := "years", desc := "(I)I" } : Jvm.MethodName)) ∈ lw_all := lw_g (lw_at lw_m8 21 rfl) rfl
theorem q1792 : (Jvm.Cond.methodLink "WhichOneAllKnowLaw" (167 : Nat) ({ cls := "WhichOneAllKnowModel", name := "seed", desc := "(I)I" } : Jvm.MethodName)) ∈ lw_all := lw_g (lw_at lw_m8 30 rfl) rfl
theorem q1796 : (Jvm.Cond.methodLink "WhichOneAllKnowLaw" (171 : Nat) ({ cls := "WhichOneAllKnowModel", name := "act", desc := "(III)I" } : Jvm.MethodName)) ∈ lw_all := lw_g (lw_at lw_m8 34 rfl) rfl
theorem q1816 : (Jvm.Cond.methodLink "WhichOneAllKnowLaw" (175 : Nat) ({ cls := "WhichOneAllKnowModel", name := "trace", desc := "(I)I" } : Jvm.MethodName)) ∈ lw_all := lw_g (lw_at lw_m8 54 rfl) rfl
theorem q1820 : (Jvm.Cond.methodLink "WhichOneAllKnowLaw" (179 : Nat) ({ cls := "WhichOneAllKnowModel", name := "image", desc := "()I" } : Jvm.MethodName)) ∈ lw_all := lw_g (lw_at lw_m8 58 rfl) rfl
theorem q1824 : (Jvm.Cond.methodLink "WhichOneAllKnowLaw" (183 : Nat) ({ cls := "WhichOneAllKnowModel", name := "restore", desc := "()I" } : Jvm.MethodName)) ∈ lw_all := lw_g (lw_at lw_m8 62 rfl) rfl
theorem q1828 : (Jvm.Cond.methodLink "WhichOneAllKnowLaw" (187 : Nat) ({ cls := "WhichOneAllKnowModel", name := "status", desc := "(I)I" } : Jvm.MethodName)) ∈ lw_all := lw_g (lw_at lw_m8 66 rfl) rfl
theorem q1832 : (Jvm.Cond.constantLong "WhichOneAllKnowLaw" (18 : Nat) (4294967295 : Int64)) ∈ lw_all := lw_g (lw_at lw_m8 70 rfl) rfl
theorem q110 : (Jvm.Cond.initialized "java/lang/System") ∈ lw_all := lw_g (lw_at lw_m1 28 rfl) rfl
set_option maxRecDepth 100000
theorem q662 : (Jvm.Cond.static ({ cls := "java/lang/System", name := "arraycopy", desc := "(Ljava/lang/Object;ILjava/lang/Object;II)V" } : Jvm.MethodName)) ∈ lw_all := lw_g (lw_at lw_m3 100 rfl) rfl
theorem q663 : (Jvm.Cond.native ({ cls := "java/lang/System", name := "arraycopy", desc := "(Ljava/lang/Object;ILjava/lang/Object;II)V" } : Jvm.MethodName)) ∈ lw_all := lw_g (lw_at lw_m3 101 rfl) rfl
theorem q127 : (Jvm.Cond.arrayOver (Jvm.ClassFile.FieldType.object "WhichOneAllKnow$Shelf")) ∈ lw_tbl := lw_at lw_m1 45 rfl
set_option maxRecDepth 100000
theorem q143 : (Jvm.Cond.arrayClass Jvm.ClassFile.FieldType.int) ∈ lw_all := lw_g (lw_at lw_m1 61 rfl) rfl
theorem q151 : (Jvm.Cond.arrayOver (Jvm.ClassFile.FieldType.object "WhichOneAllKnow$Voice")) ∈ lw_tbl := lw_at lw_m1 69 rfl
theorem q479 : (Jvm.Cond.arrayClass Jvm.ClassFile.FieldType.byte) ∈ lw_all := lw_g (lw_at lw_m2 157 rfl) rfl
theorem q554 : (Jvm.Cond.arrayClass Jvm.ClassFile.FieldType.short) ∈ lw_all := lw_g (lw_at lw_m2 232 rfl) rfl
theorem q575 : (Jvm.Cond.arrayClass Jvm.ClassFile.FieldType.long) ∈ lw_all := lw_g (lw_at lw_m3 13 rfl) rfl
