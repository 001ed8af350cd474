/-! DECODE ROWS BY BYTES: one lemma an opcode; a method's code is cut into short pieces once, and a row reads its own piece alone. -/
set_option maxRecDepth 100000
/-- the code has just these bytes from pc on -/
def DkAt (code : ByteArray) (pc : Nat) (bs : List UInt8) : Prop := ∀ (j : Nat) (b : UInt8), bs[j]? = some b → code.data.toList[pc + j]? = some b
/-- the piece W has the bytes bs from its place j on -/
def dkIn (W : List UInt8) (j : Nat) (bs : List UInt8) : Bool := decide ((W.drop j).take bs.length = bs)
theorem dk_seg {l W T : List UInt8} {o o2 : Nat} (h : l.drop o = W ++ T) (n : Nat) (hn : W.length = n) (ho : o + n = o2) : l.drop o2 = T := by
  subst ho
  rw [← List.drop_drop, h, List.drop_left' hn]
theorem dk_at {code : ByteArray} {W T bs : List UInt8} {o pc : Nat} (h : code.data.toList.drop o = W ++ T) (j : Nat) (hp : o + j = pc) (hw : dkIn W j bs = true) : DkAt code pc bs := by
  subst hp
  intro i b e
  have h1 := of_decide_eq_true hw
  have h2 : i < bs.length := (List.getElem?_eq_some_iff.mp e).1
  have h3 : W[j + i]? = some b := by
    rw [← h1, List.getElem?_take, if_pos h2, List.getElem?_drop] at e
    exact e
  have h4 : j + i < W.length := (List.getElem?_eq_some_iff.mp h3).1
  have h5 : (code.data.toList.drop o)[j + i]? = some b := by
    rw [h, List.getElem?_append_left h4]
    exact h3
  rw [List.getElem?_drop, ← Nat.add_assoc] at h5
  exact h5
theorem dk_u1 {A : ByteArray} {p : Nat} {b : UInt8} (h : A.data.toList[p]? = some b) : (Reader.u1 : Reader DecodeError Nat) A p = .ok (b.toNat, p + 1) := by
  obtain ⟨h1, h2⟩ := List.getElem?_eq_some_iff.mp h
  have h3 : p < A.size := by simpa using h1
  have h4 : A[p]'h3 = b := h2
  have e : (Reader.u1 : Reader DecodeError Nat) A p = (if h : p < A.size then .ok (A[p].toNat, p + 1) else .error (HasTruncated.truncated p)) := by
    show (do if h : p < A.size then do set (p + 1); Pure.pure A[p].toNat else MonadExcept.throw (HasTruncated.truncated p) : Reader DecodeError Nat) A p = _
    by_cases hi : p < A.size
    · rw [dif_pos hi, dif_pos hi]; rfl
    · rw [dif_neg hi, dif_neg hi]; rfl
  rw [e, dif_pos h3, h4]
theorem dk_bind {α β : Type} {r : Reader DecodeError α} {f : α → Reader DecodeError β} {A : ByteArray} {p s : Nat} {a : α} (h : r A p = .ok (a, s)) : (r >>= f) A p = f a A s := by
  show (do let (a, s) ← r A p; f a A s : Except DecodeError (β × Nat)) = _
  rw [h]
  rfl
theorem dk_map {α β : Type} {r : Reader DecodeError α} {g : α → β} {A : ByteArray} {p s : Nat} {a : α} (h : r A p = .ok (a, s)) : (g <$> r) A p = .ok (g a, s) := by
  show (do let (a, s) ← r A p; .ok (g a, s) : Except DecodeError (β × Nat)) = _
  rw [h]
  rfl
theorem dk_u2 {A : ByteArray} {p : Nat} {a b : UInt8} (h : A.data.toList[p]? = some a) (h2 : A.data.toList[p + 1]? = some b) : (Reader.u2 : Reader DecodeError Nat) A p = .ok (a.toNat * 256 + b.toNat, p + 2) := by
  show (Reader.u1 >>= fun hi => Reader.u1 >>= fun lo => Pure.pure (hi * 256 + lo) : Reader DecodeError Nat) A p = _
  rw [dk_bind (dk_u1 h), dk_bind (dk_u1 h2)]
  rfl
theorem dk_of {code : ByteArray} {pc n : Nat} {i : Instr} (h : Decoder.instr pc code pc = .ok (i, pc + n)) : decode code pc = .ok (i, n) := by
  have e : decode code pc = (match Decoder.instr pc code pc with | .error x => .error x | .ok (j, s) => .ok (j, s - pc)) := by
    show (do let (j, s) ← Decoder.instr pc code pc; Pure.pure (j, s - pc) : Except DecodeError (Instr × Nat)) = _
    cases Decoder.instr pc code pc <;> rfl
  rw [e, h]
  show Except.ok (i, pc + n - pc) = _
  rw [Nat.add_sub_cancel_left]
theorem dk_1 {code : ByteArray} {pc : Nat} (h : DkAt code pc [1]) : decode code pc = .ok (.aconst_null, 1) := dk_of ((dk_bind (dk_u1 (h 0 _ rfl))).trans rfl)
theorem dk_2 {code : ByteArray} {pc : Nat} (h : DkAt code pc [2]) : decode code pc = .ok (.iconst (-1), 1) := dk_of ((dk_bind (dk_u1 (h 0 _ rfl))).trans rfl)
theorem dk_3 {code : ByteArray} {pc : Nat} (h : DkAt code pc [3]) : decode code pc = .ok (.iconst 0, 1) := dk_of ((dk_bind (dk_u1 (h 0 _ rfl))).trans rfl)
theorem dk_4 {code : ByteArray} {pc : Nat} (h : DkAt code pc [4]) : decode code pc = .ok (.iconst 1, 1) := dk_of ((dk_bind (dk_u1 (h 0 _ rfl))).trans rfl)
theorem dk_5 {code : ByteArray} {pc : Nat} (h : DkAt code pc [5]) : decode code pc = .ok (.iconst 2, 1) := dk_of ((dk_bind (dk_u1 (h 0 _ rfl))).trans rfl)
theorem dk_6 {code : ByteArray} {pc : Nat} (h : DkAt code pc [6]) : decode code pc = .ok (.iconst 3, 1) := dk_of ((dk_bind (dk_u1 (h 0 _ rfl))).trans rfl)
theorem dk_7 {code : ByteArray} {pc : Nat} (h : DkAt code pc [7]) : decode code pc = .ok (.iconst 4, 1) := dk_of ((dk_bind (dk_u1 (h 0 _ rfl))).trans rfl)
theorem dk_9 {code : ByteArray} {pc : Nat} (h : DkAt code pc [9]) : decode code pc = .ok (.lconst 0, 1) := dk_of ((dk_bind (dk_u1 (h 0 _ rfl))).trans rfl)
theorem dk_10 {code : ByteArray} {pc : Nat} (h : DkAt code pc [10]) : decode code pc = .ok (.lconst 1, 1) := dk_of ((dk_bind (dk_u1 (h 0 _ rfl))).trans rfl)
theorem dk_16 {code : ByteArray} {pc : Nat} (a : UInt8) (h : DkAt code pc [16, a]) : decode code pc = .ok (.bipush (Reader.signed 8 a.toNat), 2) := dk_of ((dk_bind (dk_u1 (h 0 _ rfl))).trans ((dk_bind (dk_map (dk_u1 (h 1 _ rfl)))).trans rfl))
theorem dk_17 {code : ByteArray} {pc : Nat} (a b : UInt8) (h : DkAt code pc [17, a, b]) : decode code pc = .ok (.sipush (Reader.signed 16 (a.toNat * 256 + b.toNat)), 3) := dk_of ((dk_bind (dk_u1 (h 0 _ rfl))).trans ((dk_bind (dk_map (dk_u2 (h 1 _ rfl) (h 2 _ rfl)))).trans rfl))
theorem dk_18 {code : ByteArray} {pc : Nat} (a : UInt8) (h : DkAt code pc [18, a]) : decode code pc = .ok (.ldc a.toNat, 2) := dk_of ((dk_bind (dk_u1 (h 0 _ rfl))).trans ((dk_bind (dk_u1 (h 1 _ rfl))).trans rfl))
theorem dk_19 {code : ByteArray} {pc : Nat} (a b : UInt8) (h : DkAt code pc [19, a, b]) : decode code pc = .ok (.ldc_w (a.toNat * 256 + b.toNat), 3) := dk_of ((dk_bind (dk_u1 (h 0 _ rfl))).trans ((dk_bind (dk_u2 (h 1 _ rfl) (h 2 _ rfl))).trans rfl))
theorem dk_20 {code : ByteArray} {pc : Nat} (a b : UInt8) (h : DkAt code pc [20, a, b]) : decode code pc = .ok (.ldc2_w (a.toNat * 256 + b.toNat), 3) := dk_of ((dk_bind (dk_u1 (h 0 _ rfl))).trans ((dk_bind (dk_u2 (h 1 _ rfl) (h 2 _ rfl))).trans rfl))
theorem dk_21 {code : ByteArray} {pc : Nat} (a : UInt8) (h : DkAt code pc [21, a]) : decode code pc = .ok (.iload a.toNat, 2) := dk_of ((dk_bind (dk_u1 (h 0 _ rfl))).trans ((dk_bind (dk_u1 (h 1 _ rfl))).trans rfl))
theorem dk_22 {code : ByteArray} {pc : Nat} (a : UInt8) (h : DkAt code pc [22, a]) : decode code pc = .ok (.lload a.toNat, 2) := dk_of ((dk_bind (dk_u1 (h 0 _ rfl))).trans ((dk_bind (dk_u1 (h 1 _ rfl))).trans rfl))
theorem dk_25 {code : ByteArray} {pc : Nat} (a : UInt8) (h : DkAt code pc [25, a]) : decode code pc = .ok (.aload a.toNat, 2) := dk_of ((dk_bind (dk_u1 (h 0 _ rfl))).trans ((dk_bind (dk_u1 (h 1 _ rfl))).trans rfl))
theorem dk_26 {code : ByteArray} {pc : Nat} (h : DkAt code pc [26]) : decode code pc = .ok (.iload_n 0, 1) := dk_of ((dk_bind (dk_u1 (h 0 _ rfl))).trans rfl)
theorem dk_27 {code : ByteArray} {pc : Nat} (h : DkAt code pc [27]) : decode code pc = .ok (.iload_n 1, 1) := dk_of ((dk_bind (dk_u1 (h 0 _ rfl))).trans rfl)
theorem dk_28 {code : ByteArray} {pc : Nat} (h : DkAt code pc [28]) : decode code pc = .ok (.iload_n 2, 1) := dk_of ((dk_bind (dk_u1 (h 0 _ rfl))).trans rfl)
theorem dk_29 {code : ByteArray} {pc : Nat} (h : DkAt code pc [29]) : decode code pc = .ok (.iload_n 3, 1) := dk_of ((dk_bind (dk_u1 (h 0 _ rfl))).trans rfl)
theorem dk_30 {code : ByteArray} {pc : Nat} (h : DkAt code pc [30]) : decode code pc = .ok (.lload_n 0, 1) := dk_of ((dk_bind (dk_u1 (h 0 _ rfl))).trans rfl)
theorem dk_31 {code : ByteArray} {pc : Nat} (h : DkAt code pc [31]) : decode code pc = .ok (.lload_n 1, 1) := dk_of ((dk_bind (dk_u1 (h 0 _ rfl))).trans rfl)
theorem dk_32 {code : ByteArray} {pc : Nat} (h : DkAt code pc [32]) : decode code pc = .ok (.lload_n 2, 1) := dk_of ((dk_bind (dk_u1 (h 0 _ rfl))).trans rfl)
theorem dk_42 {code : ByteArray} {pc : Nat} (h : DkAt code pc [42]) : decode code pc = .ok (.aload_n 0, 1) := dk_of ((dk_bind (dk_u1 (h 0 _ rfl))).trans rfl)
theorem dk_43 {code : ByteArray} {pc : Nat} (h : DkAt code pc [43]) : decode code pc = .ok (.aload_n 1, 1) := dk_of ((dk_bind (dk_u1 (h 0 _ rfl))).trans rfl)
theorem dk_44 {code : ByteArray} {pc : Nat} (h : DkAt code pc [44]) : decode code pc = .ok (.aload_n 2, 1) := dk_of ((dk_bind (dk_u1 (h 0 _ rfl))).trans rfl)
theorem dk_45 {code : ByteArray} {pc : Nat} (h : DkAt code pc [45]) : decode code pc = .ok (.aload_n 3, 1) := dk_of ((dk_bind (dk_u1 (h 0 _ rfl))).trans rfl)
theorem dk_46 {code : ByteArray} {pc : Nat} (h : DkAt code pc [46]) : decode code pc = .ok (.iaload, 1) := dk_of ((dk_bind (dk_u1 (h 0 _ rfl))).trans rfl)
theorem dk_47 {code : ByteArray} {pc : Nat} (h : DkAt code pc [47]) : decode code pc = .ok (.laload, 1) := dk_of ((dk_bind (dk_u1 (h 0 _ rfl))).trans rfl)
theorem dk_50 {code : ByteArray} {pc : Nat} (h : DkAt code pc [50]) : decode code pc = .ok (.aaload, 1) := dk_of ((dk_bind (dk_u1 (h 0 _ rfl))).trans rfl)
theorem dk_51 {code : ByteArray} {pc : Nat} (h : DkAt code pc [51]) : decode code pc = .ok (.baload, 1) := dk_of ((dk_bind (dk_u1 (h 0 _ rfl))).trans rfl)
theorem dk_54 {code : ByteArray} {pc : Nat} (a : UInt8) (h : DkAt code pc [54, a]) : decode code pc = .ok (.istore a.toNat, 2) := dk_of ((dk_bind (dk_u1 (h 0 _ rfl))).trans ((dk_bind (dk_u1 (h 1 _ rfl))).trans rfl))
theorem dk_55 {code : ByteArray} {pc : Nat} (a : UInt8) (h : DkAt code pc [55, a]) : decode code pc = .ok (.lstore a.toNat, 2) := dk_of ((dk_bind (dk_u1 (h 0 _ rfl))).trans ((dk_bind (dk_u1 (h 1 _ rfl))).trans rfl))
theorem dk_58 {code : ByteArray} {pc : Nat} (a : UInt8) (h : DkAt code pc [58, a]) : decode code pc = .ok (.astore a.toNat, 2) := dk_of ((dk_bind (dk_u1 (h 0 _ rfl))).trans ((dk_bind (dk_u1 (h 1 _ rfl))).trans rfl))
theorem dk_59 {code : ByteArray} {pc : Nat} (h : DkAt code pc [59]) : decode code pc = .ok (.istore_n 0, 1) := dk_of ((dk_bind (dk_u1 (h 0 _ rfl))).trans rfl)
theorem dk_60 {code : ByteArray} {pc : Nat} (h : DkAt code pc [60]) : decode code pc = .ok (.istore_n 1, 1) := dk_of ((dk_bind (dk_u1 (h 0 _ rfl))).trans rfl)
theorem dk_61 {code : ByteArray} {pc : Nat} (h : DkAt code pc [61]) : decode code pc = .ok (.istore_n 2, 1) := dk_of ((dk_bind (dk_u1 (h 0 _ rfl))).trans rfl)
theorem dk_62 {code : ByteArray} {pc : Nat} (h : DkAt code pc [62]) : decode code pc = .ok (.istore_n 3, 1) := dk_of ((dk_bind (dk_u1 (h 0 _ rfl))).trans rfl)
theorem dk_76 {code : ByteArray} {pc : Nat} (h : DkAt code pc [76]) : decode code pc = .ok (.astore_n 1, 1) := dk_of ((dk_bind (dk_u1 (h 0 _ rfl))).trans rfl)
theorem dk_77 {code : ByteArray} {pc : Nat} (h : DkAt code pc [77]) : decode code pc = .ok (.astore_n 2, 1) := dk_of ((dk_bind (dk_u1 (h 0 _ rfl))).trans rfl)
theorem dk_78 {code : ByteArray} {pc : Nat} (h : DkAt code pc [78]) : decode code pc = .ok (.astore_n 3, 1) := dk_of ((dk_bind (dk_u1 (h 0 _ rfl))).trans rfl)
theorem dk_79 {code : ByteArray} {pc : Nat} (h : DkAt code pc [79]) : decode code pc = .ok (.iastore, 1) := dk_of ((dk_bind (dk_u1 (h 0 _ rfl))).trans rfl)
theorem dk_80 {code : ByteArray} {pc : Nat} (h : DkAt code pc [80]) : decode code pc = .ok (.lastore, 1) := dk_of ((dk_bind (dk_u1 (h 0 _ rfl))).trans rfl)
theorem dk_83 {code : ByteArray} {pc : Nat} (h : DkAt code pc [83]) : decode code pc = .ok (.aastore, 1) := dk_of ((dk_bind (dk_u1 (h 0 _ rfl))).trans rfl)
theorem dk_84 {code : ByteArray} {pc : Nat} (h : DkAt code pc [84]) : decode code pc = .ok (.bastore, 1) := dk_of ((dk_bind (dk_u1 (h 0 _ rfl))).trans rfl)
theorem dk_87 {code : ByteArray} {pc : Nat} (h : DkAt code pc [87]) : decode code pc = .ok (.pop, 1) := dk_of ((dk_bind (dk_u1 (h 0 _ rfl))).trans rfl)
theorem dk_89 {code : ByteArray} {pc : Nat} (h : DkAt code pc [89]) : decode code pc = .ok (.dup, 1) := dk_of ((dk_bind (dk_u1 (h 0 _ rfl))).trans rfl)
theorem dk_90 {code : ByteArray} {pc : Nat} (h : DkAt code pc [90]) : decode code pc = .ok (.dup_x1, 1) := dk_of ((dk_bind (dk_u1 (h 0 _ rfl))).trans rfl)
theorem dk_92 {code : ByteArray} {pc : Nat} (h : DkAt code pc [92]) : decode code pc = .ok (.dup2, 1) := dk_of ((dk_bind (dk_u1 (h 0 _ rfl))).trans rfl)
theorem dk_96 {code : ByteArray} {pc : Nat} (h : DkAt code pc [96]) : decode code pc = .ok (.iadd, 1) := dk_of ((dk_bind (dk_u1 (h 0 _ rfl))).trans rfl)
theorem dk_97 {code : ByteArray} {pc : Nat} (h : DkAt code pc [97]) : decode code pc = .ok (.ladd, 1) := dk_of ((dk_bind (dk_u1 (h 0 _ rfl))).trans rfl)
theorem dk_100 {code : ByteArray} {pc : Nat} (h : DkAt code pc [100]) : decode code pc = .ok (.isub, 1) := dk_of ((dk_bind (dk_u1 (h 0 _ rfl))).trans rfl)
theorem dk_104 {code : ByteArray} {pc : Nat} (h : DkAt code pc [104]) : decode code pc = .ok (.imul, 1) := dk_of ((dk_bind (dk_u1 (h 0 _ rfl))).trans rfl)
theorem dk_108 {code : ByteArray} {pc : Nat} (h : DkAt code pc [108]) : decode code pc = .ok (.idiv, 1) := dk_of ((dk_bind (dk_u1 (h 0 _ rfl))).trans rfl)
theorem dk_112 {code : ByteArray} {pc : Nat} (h : DkAt code pc [112]) : decode code pc = .ok (.irem, 1) := dk_of ((dk_bind (dk_u1 (h 0 _ rfl))).trans rfl)
theorem dk_116 {code : ByteArray} {pc : Nat} (h : DkAt code pc [116]) : decode code pc = .ok (.ineg, 1) := dk_of ((dk_bind (dk_u1 (h 0 _ rfl))).trans rfl)
theorem dk_120 {code : ByteArray} {pc : Nat} (h : DkAt code pc [120]) : decode code pc = .ok (.ishl, 1) := dk_of ((dk_bind (dk_u1 (h 0 _ rfl))).trans rfl)
theorem dk_121 {code : ByteArray} {pc : Nat} (h : DkAt code pc [121]) : decode code pc = .ok (.lshl, 1) := dk_of ((dk_bind (dk_u1 (h 0 _ rfl))).trans rfl)
theorem dk_122 {code : ByteArray} {pc : Nat} (h : DkAt code pc [122]) : decode code pc = .ok (.ishr, 1) := dk_of ((dk_bind (dk_u1 (h 0 _ rfl))).trans rfl)
theorem dk_123 {code : ByteArray} {pc : Nat} (h : DkAt code pc [123]) : decode code pc = .ok (.lshr, 1) := dk_of ((dk_bind (dk_u1 (h 0 _ rfl))).trans rfl)
theorem dk_124 {code : ByteArray} {pc : Nat} (h : DkAt code pc [124]) : decode code pc = .ok (.iushr, 1) := dk_of ((dk_bind (dk_u1 (h 0 _ rfl))).trans rfl)
theorem dk_125 {code : ByteArray} {pc : Nat} (h : DkAt code pc [125]) : decode code pc = .ok (.lushr, 1) := dk_of ((dk_bind (dk_u1 (h 0 _ rfl))).trans rfl)
theorem dk_126 {code : ByteArray} {pc : Nat} (h : DkAt code pc [126]) : decode code pc = .ok (.iand, 1) := dk_of ((dk_bind (dk_u1 (h 0 _ rfl))).trans rfl)
theorem dk_127 {code : ByteArray} {pc : Nat} (h : DkAt code pc [127]) : decode code pc = .ok (.land, 1) := dk_of ((dk_bind (dk_u1 (h 0 _ rfl))).trans rfl)
theorem dk_128 {code : ByteArray} {pc : Nat} (h : DkAt code pc [128]) : decode code pc = .ok (.ior, 1) := dk_of ((dk_bind (dk_u1 (h 0 _ rfl))).trans rfl)
theorem dk_129 {code : ByteArray} {pc : Nat} (h : DkAt code pc [129]) : decode code pc = .ok (.lor, 1) := dk_of ((dk_bind (dk_u1 (h 0 _ rfl))).trans rfl)
theorem dk_130 {code : ByteArray} {pc : Nat} (h : DkAt code pc [130]) : decode code pc = .ok (.ixor, 1) := dk_of ((dk_bind (dk_u1 (h 0 _ rfl))).trans rfl)
theorem dk_131 {code : ByteArray} {pc : Nat} (h : DkAt code pc [131]) : decode code pc = .ok (.lxor, 1) := dk_of ((dk_bind (dk_u1 (h 0 _ rfl))).trans rfl)
theorem dk_132 {code : ByteArray} {pc : Nat} (a b : UInt8) (h : DkAt code pc [132, a, b]) : decode code pc = .ok (.iinc a.toNat (Reader.signed 8 b.toNat), 3) := dk_of ((dk_bind (dk_u1 (h 0 _ rfl))).trans ((dk_bind (dk_u1 (h 1 _ rfl))).trans ((dk_bind (dk_map (dk_u1 (h 2 _ rfl)))).trans rfl)))
theorem dk_133 {code : ByteArray} {pc : Nat} (h : DkAt code pc [133]) : decode code pc = .ok (.i2l, 1) := dk_of ((dk_bind (dk_u1 (h 0 _ rfl))).trans rfl)
theorem dk_136 {code : ByteArray} {pc : Nat} (h : DkAt code pc [136]) : decode code pc = .ok (.l2i, 1) := dk_of ((dk_bind (dk_u1 (h 0 _ rfl))).trans rfl)
theorem dk_145 {code : ByteArray} {pc : Nat} (h : DkAt code pc [145]) : decode code pc = .ok (.i2b, 1) := dk_of ((dk_bind (dk_u1 (h 0 _ rfl))).trans rfl)
theorem dk_146 {code : ByteArray} {pc : Nat} (h : DkAt code pc [146]) : decode code pc = .ok (.i2c, 1) := dk_of ((dk_bind (dk_u1 (h 0 _ rfl))).trans rfl)
theorem dk_148 {code : ByteArray} {pc : Nat} (h : DkAt code pc [148]) : decode code pc = .ok (.lcmp, 1) := dk_of ((dk_bind (dk_u1 (h 0 _ rfl))).trans rfl)
theorem dk_153 {code : ByteArray} {pc : Nat} (a b : UInt8) (h : DkAt code pc [153, a, b]) : decode code pc = .ok (.ifCond .eq (Reader.signed 16 (a.toNat * 256 + b.toNat)), 3) := dk_of ((dk_bind (dk_u1 (h 0 _ rfl))).trans ((dk_bind (dk_map (dk_u2 (h 1 _ rfl) (h 2 _ rfl)))).trans rfl))
theorem dk_154 {code : ByteArray} {pc : Nat} (a b : UInt8) (h : DkAt code pc [154, a, b]) : decode code pc = .ok (.ifCond .ne (Reader.signed 16 (a.toNat * 256 + b.toNat)), 3) := dk_of ((dk_bind (dk_u1 (h 0 _ rfl))).trans ((dk_bind (dk_map (dk_u2 (h 1 _ rfl) (h 2 _ rfl)))).trans rfl))
theorem dk_155 {code : ByteArray} {pc : Nat} (a b : UInt8) (h : DkAt code pc [155, a, b]) : decode code pc = .ok (.ifCond .lt (Reader.signed 16 (a.toNat * 256 + b.toNat)), 3) := dk_of ((dk_bind (dk_u1 (h 0 _ rfl))).trans ((dk_bind (dk_map (dk_u2 (h 1 _ rfl) (h 2 _ rfl)))).trans rfl))
theorem dk_156 {code : ByteArray} {pc : Nat} (a b : UInt8) (h : DkAt code pc [156, a, b]) : decode code pc = .ok (.ifCond .ge (Reader.signed 16 (a.toNat * 256 + b.toNat)), 3) := dk_of ((dk_bind (dk_u1 (h 0 _ rfl))).trans ((dk_bind (dk_map (dk_u2 (h 1 _ rfl) (h 2 _ rfl)))).trans rfl))
theorem dk_157 {code : ByteArray} {pc : Nat} (a b : UInt8) (h : DkAt code pc [157, a, b]) : decode code pc = .ok (.ifCond .gt (Reader.signed 16 (a.toNat * 256 + b.toNat)), 3) := dk_of ((dk_bind (dk_u1 (h 0 _ rfl))).trans ((dk_bind (dk_map (dk_u2 (h 1 _ rfl) (h 2 _ rfl)))).trans rfl))
theorem dk_158 {code : ByteArray} {pc : Nat} (a b : UInt8) (h : DkAt code pc [158, a, b]) : decode code pc = .ok (.ifCond .le (Reader.signed 16 (a.toNat * 256 + b.toNat)), 3) := dk_of ((dk_bind (dk_u1 (h 0 _ rfl))).trans ((dk_bind (dk_map (dk_u2 (h 1 _ rfl) (h 2 _ rfl)))).trans rfl))
theorem dk_159 {code : ByteArray} {pc : Nat} (a b : UInt8) (h : DkAt code pc [159, a, b]) : decode code pc = .ok (.if_icmp .eq (Reader.signed 16 (a.toNat * 256 + b.toNat)), 3) := dk_of ((dk_bind (dk_u1 (h 0 _ rfl))).trans ((dk_bind (dk_map (dk_u2 (h 1 _ rfl) (h 2 _ rfl)))).trans rfl))
theorem dk_160 {code : ByteArray} {pc : Nat} (a b : UInt8) (h : DkAt code pc [160, a, b]) : decode code pc = .ok (.if_icmp .ne (Reader.signed 16 (a.toNat * 256 + b.toNat)), 3) := dk_of ((dk_bind (dk_u1 (h 0 _ rfl))).trans ((dk_bind (dk_map (dk_u2 (h 1 _ rfl) (h 2 _ rfl)))).trans rfl))
theorem dk_161 {code : ByteArray} {pc : Nat} (a b : UInt8) (h : DkAt code pc [161, a, b]) : decode code pc = .ok (.if_icmp .lt (Reader.signed 16 (a.toNat * 256 + b.toNat)), 3) := dk_of ((dk_bind (dk_u1 (h 0 _ rfl))).trans ((dk_bind (dk_map (dk_u2 (h 1 _ rfl) (h 2 _ rfl)))).trans rfl))
theorem dk_162 {code : ByteArray} {pc : Nat} (a b : UInt8) (h : DkAt code pc [162, a, b]) : decode code pc = .ok (.if_icmp .ge (Reader.signed 16 (a.toNat * 256 + b.toNat)), 3) := dk_of ((dk_bind (dk_u1 (h 0 _ rfl))).trans ((dk_bind (dk_map (dk_u2 (h 1 _ rfl) (h 2 _ rfl)))).trans rfl))
theorem dk_163 {code : ByteArray} {pc : Nat} (a b : UInt8) (h : DkAt code pc [163, a, b]) : decode code pc = .ok (.if_icmp .gt (Reader.signed 16 (a.toNat * 256 + b.toNat)), 3) := dk_of ((dk_bind (dk_u1 (h 0 _ rfl))).trans ((dk_bind (dk_map (dk_u2 (h 1 _ rfl) (h 2 _ rfl)))).trans rfl))
theorem dk_164 {code : ByteArray} {pc : Nat} (a b : UInt8) (h : DkAt code pc [164, a, b]) : decode code pc = .ok (.if_icmp .le (Reader.signed 16 (a.toNat * 256 + b.toNat)), 3) := dk_of ((dk_bind (dk_u1 (h 0 _ rfl))).trans ((dk_bind (dk_map (dk_u2 (h 1 _ rfl) (h 2 _ rfl)))).trans rfl))
theorem dk_165 {code : ByteArray} {pc : Nat} (a b : UInt8) (h : DkAt code pc [165, a, b]) : decode code pc = .ok (.if_acmp .eq (Reader.signed 16 (a.toNat * 256 + b.toNat)), 3) := dk_of ((dk_bind (dk_u1 (h 0 _ rfl))).trans ((dk_bind (dk_map (dk_u2 (h 1 _ rfl) (h 2 _ rfl)))).trans rfl))
theorem dk_166 {code : ByteArray} {pc : Nat} (a b : UInt8) (h : DkAt code pc [166, a, b]) : decode code pc = .ok (.if_acmp .ne (Reader.signed 16 (a.toNat * 256 + b.toNat)), 3) := dk_of ((dk_bind (dk_u1 (h 0 _ rfl))).trans ((dk_bind (dk_map (dk_u2 (h 1 _ rfl) (h 2 _ rfl)))).trans rfl))
theorem dk_167 {code : ByteArray} {pc : Nat} (a b : UInt8) (h : DkAt code pc [167, a, b]) : decode code pc = .ok (.goto (Reader.signed 16 (a.toNat * 256 + b.toNat)), 3) := dk_of ((dk_bind (dk_u1 (h 0 _ rfl))).trans ((dk_bind (dk_map (dk_u2 (h 1 _ rfl) (h 2 _ rfl)))).trans rfl))
theorem dk_172 {code : ByteArray} {pc : Nat} (h : DkAt code pc [172]) : decode code pc = .ok (.ireturn, 1) := dk_of ((dk_bind (dk_u1 (h 0 _ rfl))).trans rfl)
theorem dk_173 {code : ByteArray} {pc : Nat} (h : DkAt code pc [173]) : decode code pc = .ok (.lreturn, 1) := dk_of ((dk_bind (dk_u1 (h 0 _ rfl))).trans rfl)
theorem dk_176 {code : ByteArray} {pc : Nat} (h : DkAt code pc [176]) : decode code pc = .ok (.areturn, 1) := dk_of ((dk_bind (dk_u1 (h 0 _ rfl))).trans rfl)
theorem dk_177 {code : ByteArray} {pc : Nat} (h : DkAt code pc [177]) : decode code pc = .ok (.return_, 1) := dk_of ((dk_bind (dk_u1 (h 0 _ rfl))).trans rfl)
theorem dk_178 {code : ByteArray} {pc : Nat} (a b : UInt8) (h : DkAt code pc [178, a, b]) : decode code pc = .ok (.getstatic (a.toNat * 256 + b.toNat), 3) := dk_of ((dk_bind (dk_u1 (h 0 _ rfl))).trans ((dk_bind (dk_u2 (h 1 _ rfl) (h 2 _ rfl))).trans rfl))
theorem dk_180 {code : ByteArray} {pc : Nat} (a b : UInt8) (h : DkAt code pc [180, a, b]) : decode code pc = .ok (.getfield (a.toNat * 256 + b.toNat), 3) := dk_of ((dk_bind (dk_u1 (h 0 _ rfl))).trans ((dk_bind (dk_u2 (h 1 _ rfl) (h 2 _ rfl))).trans rfl))
theorem dk_181 {code : ByteArray} {pc : Nat} (a b : UInt8) (h : DkAt code pc [181, a, b]) : decode code pc = .ok (.putfield (a.toNat * 256 + b.toNat), 3) := dk_of ((dk_bind (dk_u1 (h 0 _ rfl))).trans ((dk_bind (dk_u2 (h 1 _ rfl) (h 2 _ rfl))).trans rfl))
theorem dk_182 {code : ByteArray} {pc : Nat} (a b : UInt8) (h : DkAt code pc [182, a, b]) : decode code pc = .ok (.invokevirtual (a.toNat * 256 + b.toNat), 3) := dk_of ((dk_bind (dk_u1 (h 0 _ rfl))).trans ((dk_bind (dk_u2 (h 1 _ rfl) (h 2 _ rfl))).trans rfl))
theorem dk_183 {code : ByteArray} {pc : Nat} (a b : UInt8) (h : DkAt code pc [183, a, b]) : decode code pc = .ok (.invokespecial (a.toNat * 256 + b.toNat), 3) := dk_of ((dk_bind (dk_u1 (h 0 _ rfl))).trans ((dk_bind (dk_u2 (h 1 _ rfl) (h 2 _ rfl))).trans rfl))
theorem dk_184 {code : ByteArray} {pc : Nat} (a b : UInt8) (h : DkAt code pc [184, a, b]) : decode code pc = .ok (.invokestatic (a.toNat * 256 + b.toNat), 3) := dk_of ((dk_bind (dk_u1 (h 0 _ rfl))).trans ((dk_bind (dk_u2 (h 1 _ rfl) (h 2 _ rfl))).trans rfl))
theorem dk_187 {code : ByteArray} {pc : Nat} (a b : UInt8) (h : DkAt code pc [187, a, b]) : decode code pc = .ok (.new (a.toNat * 256 + b.toNat), 3) := dk_of ((dk_bind (dk_u1 (h 0 _ rfl))).trans ((dk_bind (dk_u2 (h 1 _ rfl) (h 2 _ rfl))).trans rfl))
theorem dk_188_4 {code : ByteArray} {pc : Nat} (h : DkAt code pc [188, 4]) : decode code pc = .ok (.newarray .boolean, 2) := dk_of ((dk_bind (dk_u1 (h 0 _ rfl))).trans ((dk_bind (dk_u1 (h 1 _ rfl))).trans rfl))
theorem dk_188_8 {code : ByteArray} {pc : Nat} (h : DkAt code pc [188, 8]) : decode code pc = .ok (.newarray .byte, 2) := dk_of ((dk_bind (dk_u1 (h 0 _ rfl))).trans ((dk_bind (dk_u1 (h 1 _ rfl))).trans rfl))
theorem dk_188_10 {code : ByteArray} {pc : Nat} (h : DkAt code pc [188, 10]) : decode code pc = .ok (.newarray .int, 2) := dk_of ((dk_bind (dk_u1 (h 0 _ rfl))).trans ((dk_bind (dk_u1 (h 1 _ rfl))).trans rfl))
theorem dk_188_11 {code : ByteArray} {pc : Nat} (h : DkAt code pc [188, 11]) : decode code pc = .ok (.newarray .long, 2) := dk_of ((dk_bind (dk_u1 (h 0 _ rfl))).trans ((dk_bind (dk_u1 (h 1 _ rfl))).trans rfl))
theorem dk_189 {code : ByteArray} {pc : Nat} (a b : UInt8) (h : DkAt code pc [189, a, b]) : decode code pc = .ok (.anewarray (a.toNat * 256 + b.toNat), 3) := dk_of ((dk_bind (dk_u1 (h 0 _ rfl))).trans ((dk_bind (dk_u2 (h 1 _ rfl) (h 2 _ rfl))).trans rfl))
theorem dk_190 {code : ByteArray} {pc : Nat} (h : DkAt code pc [190]) : decode code pc = .ok (.arraylength, 1) := dk_of ((dk_bind (dk_u1 (h 0 _ rfl))).trans rfl)
theorem dk_191 {code : ByteArray} {pc : Nat} (h : DkAt code pc [191]) : decode code pc = .ok (.athrow, 1) := dk_of ((dk_bind (dk_u1 (h 0 _ rfl))).trans rfl)
theorem dk_192 {code : ByteArray} {pc : Nat} (a b : UInt8) (h : DkAt code pc [192, a, b]) : decode code pc = .ok (.checkcast (a.toNat * 256 + b.toNat), 3) := dk_of ((dk_bind (dk_u1 (h 0 _ rfl))).trans ((dk_bind (dk_u2 (h 1 _ rfl) (h 2 _ rfl))).trans rfl))
theorem dk_193 {code : ByteArray} {pc : Nat} (a b : UInt8) (h : DkAt code pc [193, a, b]) : decode code pc = .ok (.instanceof (a.toNat * 256 + b.toNat), 3) := dk_of ((dk_bind (dk_u1 (h 0 _ rfl))).trans ((dk_bind (dk_u2 (h 1 _ rfl) (h 2 _ rfl))).trans rfl))
theorem dk_198 {code : ByteArray} {pc : Nat} (a b : UInt8) (h : DkAt code pc [198, a, b]) : decode code pc = .ok (.ifnull (Reader.signed 16 (a.toNat * 256 + b.toNat)), 3) := dk_of ((dk_bind (dk_u1 (h 0 _ rfl))).trans ((dk_bind (dk_map (dk_u2 (h 1 _ rfl) (h 2 _ rfl)))).trans rfl))
theorem dk_199 {code : ByteArray} {pc : Nat} (a b : UInt8) (h : DkAt code pc [199, a, b]) : decode code pc = .ok (.ifnonnull (Reader.signed 16 (a.toNat * 256 + b.toNat)), 3) := dk_of ((dk_bind (dk_u1 (h 0 _ rfl))).trans ((dk_bind (dk_map (dk_u2 (h 1 _ rfl) (h 2 _ rfl)))).trans rfl))
/-! DependencyPairAnalyzer -/
set_option maxRecDepth 100000
def RX0 : String := "DependencyPairAnalyzer"
def TX0 : u_T := fun k => match k with
  | 0 => ("DependencyPairAnalyzer", "arities", "[I", true)
  | 1 => ("DependencyPairAnalyzer", "rules", "[LDependencyPairAnalyzer$Rule;", true)
  | 2 => ("DependencyPairAnalyzer", "numberOfRules", "I", false)
  | 3 => ("DependencyPairAnalyzer", "registers", "[LDependencyPairAnalyzer$Term;", true)
  | 4 => ("DependencyPairAnalyzer", "buffer", "[B", true)
  | 5 => ("DependencyPairAnalyzer", "built", "I", false)
  | 6 => ("DependencyPairAnalyzer", "text", "[B", true)
  | 7 => ("DependencyPairAnalyzer", "length", "I", false)
  | 8 => ("DependencyPairAnalyzer", "reader", "LDependencyPairAnalyzer$Reader;", true)
  | 9 => ("DependencyPairAnalyzer", "isStale", "Z", false)
  | 10 => ("DependencyPairAnalyzer", "pairs", "[LDependencyPairAnalyzer$Pair;", true)
  | 11 => ("DependencyPairAnalyzer", "numberOfPairs", "I", false)
  | 12 => ("DependencyPairAnalyzer", "edges", "[[Z", true)
  | 13 => ("DependencyPairAnalyzer", "componentByPair", "[I", true)
  | 14 => ("DependencyPairAnalyzer", "numberOfComponents", "I", false)
  | 15 => ("DependencyPairAnalyzer", "remains", "[Z", true)
  | 16 => ("DependencyPairAnalyzer", "reaches", "[[Z", true)
  | 17 => ("DependencyPairAnalyzer", "numbers", "Ljava/util/TreeMap;", true)
  | 18 => ("DependencyPairAnalyzer", "closure", "Ljava/util/TreeSet;", true)
  | 19 => ("DependencyPairAnalyzer", "graphs", "[LDependencyPairAnalyzer$SizeChangeGraph;", true)
  | 20 => ("DependencyPairAnalyzer", "composed", "LDependencyPairAnalyzer$SizeChangeGraph;", true)
  | 21 => ("DependencyPairAnalyzer", "isClosureKnown", "Z", false)
  | 22 => ("DependencyPairAnalyzer", "isClosureSmall", "Z", false)
  | 23 => ("DependencyPairAnalyzer", "chosen", "[I", true)
  | 24 => ("DependencyPairAnalyzer", "remainingComponents", "[I", true)
  | 25 => ("DependencyPairAnalyzer", "substitution", "[I", true)
  | 26 => ("DependencyPairAnalyzer", "sequence", "[LDependencyPairAnalyzer$Term;", true)
  | 27 => ("DependencyPairAnalyzer", "expanded", "[LDependencyPairAnalyzer$Term;", true)
  | 28 => ("DependencyPairAnalyzer", "hasSnapshot", "Z", false)
  | 29 => ("DependencyPairAnalyzer", "savedArities", "[I", true)
  | 30 => ("DependencyPairAnalyzer", "savedRules", "[LDependencyPairAnalyzer$Rule;", true)
  | 31 => ("DependencyPairAnalyzer", "savedNumberOfRules", "I", false)
  | _ => ("DependencyPairAnalyzer", "savedRegisters", "[LDependencyPairAnalyzer$Term;", true)
def tyX0 : Nat → FieldType := fun k => match k with
  | 0 => .array .int
  | 1 => .array (.object "DependencyPairAnalyzer$Rule")
  | 2 => .int
  | 3 => .array (.object "DependencyPairAnalyzer$Term")
  | 4 => .array .byte
  | 5 => .int
  | 6 => .array .byte
  | 7 => .int
  | 8 => .object "DependencyPairAnalyzer$Reader"
  | 9 => .boolean
  | 10 => .array (.object "DependencyPairAnalyzer$Pair")
  | 11 => .int
  | 12 => .array (.array .boolean)
  | 13 => .array .int
  | 14 => .int
  | 15 => .array .boolean
  | 16 => .array (.array .boolean)
  | 17 => .object "java/util/TreeMap"
  | 18 => .object "java/util/TreeSet"
  | 19 => .array (.object "DependencyPairAnalyzer$SizeChangeGraph")
  | 20 => .object "DependencyPairAnalyzer$SizeChangeGraph"
  | 21 => .boolean
  | 22 => .boolean
  | 23 => .array .int
  | 24 => .array .int
  | 25 => .array .int
  | 26 => .array (.object "DependencyPairAnalyzer$Term")
  | 27 => .array (.object "DependencyPairAnalyzer$Term")
  | 28 => .boolean
  | 29 => .array .int
  | 30 => .array (.object "DependencyPairAnalyzer$Rule")
  | 31 => .int
  | _ => .array (.object "DependencyPairAnalyzer$Term")
abbrev wsX00 : List Cond := u_ws RX0 TX0 33
set_option maxRecDepth 100000 in
theorem nmX0 : ∀ a, a < 33 → ∀ b, b < 33 → a ≠ b → (TX0 a).2.1 ≠ (TX0 b).2.1 := by decide +kernel
set_option maxRecDepth 100000 in
theorem tyX0_ok : ∀ k, k < 33 → parseFieldDescriptor (TX0 k).2.2.1 = some (tyX0 k) := by decide +kernel
abbrev cX0_init : ByteArray := prog_1_method_3_code
def yX0_init : MethodName := ⟨RX0, "<init>", "()V"⟩
def dkwX0_init_11 : List UInt8 := [182, 0, 117, 83, 132, 1, 1, 167, 255, 238, 177]
abbrev dktX0_init_11 : List UInt8 := dkwX0_init_11 ++ []
def dkwX0_init_10 : List UInt8 := [181, 0, 111, 42, 7, 189, 0, 19, 181, 0, 114, 3, 60, 27, 7, 162, 0, 19, 42, 180, 0, 21, 27, 42]
abbrev dktX0_init_10 : List UInt8 := dkwX0_init_10 ++ dktX0_init_11
def dkwX0_init_9 : List UInt8 := [42, 16, 30, 189, 0, 19, 181, 0, 105, 42, 6, 188, 10, 181, 0, 108, 42, 16, 6, 189, 0, 13]
abbrev dktX0_init_9 : List UInt8 := dkwX0_init_9 ++ dktX0_init_10
def dkwX0_init_8 : List UInt8 := [17, 0, 160, 188, 10, 181, 0, 96, 42, 6, 188, 10, 181, 0, 99, 42, 16, 100, 189, 0, 19, 181, 0, 102]
abbrev dktX0_init_8 : List UInt8 := dkwX0_init_8 ++ dktX0_init_9
def dkwX0_init_7 : List UInt8 := [187, 0, 80, 89, 3, 3, 16, 9, 188, 10, 183, 0, 86, 181, 0, 89, 42, 6, 188, 10, 181, 0, 93, 42]
abbrev dktX0_init_7 : List UInt8 := dkwX0_init_7 ++ dktX0_init_8
def dkwX0_init_6 : List UInt8 := [42, 187, 0, 73, 89, 183, 0, 75, 181, 0, 76, 42, 17, 1, 145, 189, 0, 80, 181, 0, 82, 42]
abbrev dktX0_init_6 : List UInt8 := dkwX0_init_6 ++ dktX0_init_7
def dkwX0_init_5 : List UInt8 := [17, 0, 160, 17, 0, 160, 197, 0, 51, 2, 181, 0, 63, 42, 187, 0, 66, 89, 183, 0, 68, 181, 0, 69]
abbrev dktX0_init_5 : List UInt8 := dkwX0_init_5 ++ dktX0_init_6
def dkwX0_init_4 : List UInt8 := [181, 0, 53, 42, 17, 0, 160, 188, 10, 181, 0, 56, 42, 17, 0, 160, 188, 4, 181, 0, 59, 42]
abbrev dktX0_init_4 : List UInt8 := dkwX0_init_4 ++ dktX0_init_5
def dkwX0_init_3 : List UInt8 := [181, 0, 41, 42, 17, 0, 160, 189, 0, 45, 181, 0, 47, 42, 17, 0, 160, 17, 0, 160, 197, 0, 51, 2]
abbrev dktX0_init_3 : List UInt8 := dkwX0_init_3 ++ dktX0_init_4
def dkwX0_init_2 : List UInt8 := [42, 16, 80, 188, 8, 181, 0, 29, 42, 187, 0, 32, 89, 42, 183, 0, 34, 181, 0, 37, 42, 4]
abbrev dktX0_init_2 : List UInt8 := dkwX0_init_2 ++ dktX0_init_3
def dkwX0_init_1 : List UInt8 := [16, 6, 189, 0, 13, 181, 0, 15, 42, 7, 189, 0, 19, 181, 0, 21, 42, 16, 80, 188, 8, 181, 0, 25]
abbrev dktX0_init_1 : List UInt8 := dkwX0_init_1 ++ dktX0_init_2
def dkwX0_init_0 : List UInt8 := [42, 183, 0, 1, 42, 6, 188, 10, 89, 3, 5, 79, 89, 4, 5, 79, 89, 5, 4, 79, 181, 0, 7, 42]
abbrev dktX0_init_0 : List UInt8 := dkwX0_init_0 ++ dktX0_init_1
theorem dksX0_init_0 : cX0_init.data.toList.drop 0 = dktX0_init_0 := by decide +kernel
theorem dksX0_init_1 : cX0_init.data.toList.drop 24 = dktX0_init_1 := dk_seg dksX0_init_0 24 rfl rfl
theorem dksX0_init_2 : cX0_init.data.toList.drop 48 = dktX0_init_2 := dk_seg dksX0_init_1 24 rfl rfl
theorem dksX0_init_3 : cX0_init.data.toList.drop 70 = dktX0_init_3 := dk_seg dksX0_init_2 22 rfl rfl
theorem dksX0_init_4 : cX0_init.data.toList.drop 94 = dktX0_init_4 := dk_seg dksX0_init_3 24 rfl rfl
theorem dksX0_init_5 : cX0_init.data.toList.drop 116 = dktX0_init_5 := dk_seg dksX0_init_4 22 rfl rfl
theorem dksX0_init_6 : cX0_init.data.toList.drop 140 = dktX0_init_6 := dk_seg dksX0_init_5 24 rfl rfl
theorem dksX0_init_7 : cX0_init.data.toList.drop 162 = dktX0_init_7 := dk_seg dksX0_init_6 22 rfl rfl
theorem dksX0_init_8 : cX0_init.data.toList.drop 186 = dktX0_init_8 := dk_seg dksX0_init_7 24 rfl rfl
theorem dksX0_init_9 : cX0_init.data.toList.drop 210 = dktX0_init_9 := dk_seg dksX0_init_8 24 rfl rfl
theorem dksX0_init_10 : cX0_init.data.toList.drop 232 = dktX0_init_10 := dk_seg dksX0_init_9 22 rfl rfl
theorem dksX0_init_11 : cX0_init.data.toList.drop 256 = dktX0_init_11 := dk_seg dksX0_init_10 24 rfl rfl
theorem dX0_init_0 : decode cX0_init 0 = .ok (.aload_n 0, 1) := dk_42 (dk_at dksX0_init_0 0 rfl rfl)
theorem dX0_init_1 : decode cX0_init 1 = .ok (.invokespecial 1, 3) := dk_183 0 1 (dk_at dksX0_init_0 1 rfl rfl)
theorem dX0_init_4 : decode cX0_init 4 = .ok (.aload_n 0, 1) := dk_42 (dk_at dksX0_init_0 4 rfl rfl)
theorem dX0_init_5 : decode cX0_init 5 = .ok (.iconst 3, 1) := dk_6 (dk_at dksX0_init_0 5 rfl rfl)
theorem dX0_init_6 : decode cX0_init 6 = .ok (.newarray .int, 2) := dk_188_10 (dk_at dksX0_init_0 6 rfl rfl)
theorem dX0_init_8 : decode cX0_init 8 = .ok (.dup, 1) := dk_89 (dk_at dksX0_init_0 8 rfl rfl)
theorem dX0_init_9 : decode cX0_init 9 = .ok (.iconst 0, 1) := dk_3 (dk_at dksX0_init_0 9 rfl rfl)
theorem dX0_init_10 : decode cX0_init 10 = .ok (.iconst 2, 1) := dk_5 (dk_at dksX0_init_0 10 rfl rfl)
theorem dX0_init_11 : decode cX0_init 11 = .ok (.iastore, 1) := dk_79 (dk_at dksX0_init_0 11 rfl rfl)
theorem dX0_init_12 : decode cX0_init 12 = .ok (.dup, 1) := dk_89 (dk_at dksX0_init_0 12 rfl rfl)
theorem dX0_init_13 : decode cX0_init 13 = .ok (.iconst 1, 1) := dk_4 (dk_at dksX0_init_0 13 rfl rfl)
theorem dX0_init_14 : decode cX0_init 14 = .ok (.iconst 2, 1) := dk_5 (dk_at dksX0_init_0 14 rfl rfl)
theorem dX0_init_15 : decode cX0_init 15 = .ok (.iastore, 1) := dk_79 (dk_at dksX0_init_0 15 rfl rfl)
theorem dX0_init_16 : decode cX0_init 16 = .ok (.dup, 1) := dk_89 (dk_at dksX0_init_0 16 rfl rfl)
theorem dX0_init_17 : decode cX0_init 17 = .ok (.iconst 2, 1) := dk_5 (dk_at dksX0_init_0 17 rfl rfl)
theorem dX0_init_18 : decode cX0_init 18 = .ok (.iconst 1, 1) := dk_4 (dk_at dksX0_init_0 18 rfl rfl)
theorem dX0_init_19 : decode cX0_init 19 = .ok (.iastore, 1) := dk_79 (dk_at dksX0_init_0 19 rfl rfl)
theorem dX0_init_20 : decode cX0_init 20 = .ok (.putfield 7, 3) := dk_181 0 7 (dk_at dksX0_init_0 20 rfl rfl)
theorem dX0_init_23 : decode cX0_init 23 = .ok (.aload_n 0, 1) := dk_42 (dk_at dksX0_init_0 23 rfl rfl)
theorem dX0_init_24 : decode cX0_init 24 = .ok (.bipush 6, 2) := dk_16 6 (dk_at dksX0_init_1 0 rfl rfl)
theorem dX0_init_26 : decode cX0_init 26 = .ok (.anewarray 13, 3) := dk_189 0 13 (dk_at dksX0_init_1 2 rfl rfl)
theorem dX0_init_29 : decode cX0_init 29 = .ok (.putfield 15, 3) := dk_181 0 15 (dk_at dksX0_init_1 5 rfl rfl)
theorem dX0_init_32 : decode cX0_init 32 = .ok (.aload_n 0, 1) := dk_42 (dk_at dksX0_init_1 8 rfl rfl)
theorem dX0_init_33 : decode cX0_init 33 = .ok (.iconst 4, 1) := dk_7 (dk_at dksX0_init_1 9 rfl rfl)
theorem dX0_init_34 : decode cX0_init 34 = .ok (.anewarray 19, 3) := dk_189 0 19 (dk_at dksX0_init_1 10 rfl rfl)
theorem dX0_init_37 : decode cX0_init 37 = .ok (.putfield 21, 3) := dk_181 0 21 (dk_at dksX0_init_1 13 rfl rfl)
theorem dX0_init_40 : decode cX0_init 40 = .ok (.aload_n 0, 1) := dk_42 (dk_at dksX0_init_1 16 rfl rfl)
theorem dX0_init_41 : decode cX0_init 41 = .ok (.bipush 80, 2) := dk_16 80 (dk_at dksX0_init_1 17 rfl rfl)
theorem dX0_init_43 : decode cX0_init 43 = .ok (.newarray .byte, 2) := dk_188_8 (dk_at dksX0_init_1 19 rfl rfl)
theorem dX0_init_45 : decode cX0_init 45 = .ok (.putfield 25, 3) := dk_181 0 25 (dk_at dksX0_init_1 21 rfl rfl)
theorem dX0_init_48 : decode cX0_init 48 = .ok (.aload_n 0, 1) := dk_42 (dk_at dksX0_init_2 0 rfl rfl)
theorem dX0_init_49 : decode cX0_init 49 = .ok (.bipush 80, 2) := dk_16 80 (dk_at dksX0_init_2 1 rfl rfl)
theorem dX0_init_51 : decode cX0_init 51 = .ok (.newarray .byte, 2) := dk_188_8 (dk_at dksX0_init_2 3 rfl rfl)
theorem dX0_init_53 : decode cX0_init 53 = .ok (.putfield 29, 3) := dk_181 0 29 (dk_at dksX0_init_2 5 rfl rfl)
theorem dX0_init_56 : decode cX0_init 56 = .ok (.aload_n 0, 1) := dk_42 (dk_at dksX0_init_2 8 rfl rfl)
theorem dX0_init_57 : decode cX0_init 57 = .ok (.new 32, 3) := dk_187 0 32 (dk_at dksX0_init_2 9 rfl rfl)
theorem dX0_init_60 : decode cX0_init 60 = .ok (.dup, 1) := dk_89 (dk_at dksX0_init_2 12 rfl rfl)
theorem dX0_init_61 : decode cX0_init 61 = .ok (.aload_n 0, 1) := dk_42 (dk_at dksX0_init_2 13 rfl rfl)
theorem dX0_init_62 : decode cX0_init 62 = .ok (.invokespecial 34, 3) := dk_183 0 34 (dk_at dksX0_init_2 14 rfl rfl)
theorem dX0_init_65 : decode cX0_init 65 = .ok (.putfield 37, 3) := dk_181 0 37 (dk_at dksX0_init_2 17 rfl rfl)
theorem dX0_init_68 : decode cX0_init 68 = .ok (.aload_n 0, 1) := dk_42 (dk_at dksX0_init_2 20 rfl rfl)
theorem dX0_init_69 : decode cX0_init 69 = .ok (.iconst 1, 1) := dk_4 (dk_at dksX0_init_2 21 rfl rfl)
theorem dX0_init_70 : decode cX0_init 70 = .ok (.putfield 41, 3) := dk_181 0 41 (dk_at dksX0_init_3 0 rfl rfl)
theorem dX0_init_73 : decode cX0_init 73 = .ok (.aload_n 0, 1) := dk_42 (dk_at dksX0_init_3 3 rfl rfl)
theorem dX0_init_74 : decode cX0_init 74 = .ok (.sipush 160, 3) := dk_17 0 160 (dk_at dksX0_init_3 4 rfl rfl)
theorem dX0_init_77 : decode cX0_init 77 = .ok (.anewarray 45, 3) := dk_189 0 45 (dk_at dksX0_init_3 7 rfl rfl)
theorem dX0_init_80 : decode cX0_init 80 = .ok (.putfield 47, 3) := dk_181 0 47 (dk_at dksX0_init_3 10 rfl rfl)
theorem dX0_init_83 : decode cX0_init 83 = .ok (.aload_n 0, 1) := dk_42 (dk_at dksX0_init_3 13 rfl rfl)
theorem dX0_init_84 : decode cX0_init 84 = .ok (.sipush 160, 3) := dk_17 0 160 (dk_at dksX0_init_3 14 rfl rfl)
theorem dX0_init_87 : decode cX0_init 87 = .ok (.sipush 160, 3) := dk_17 0 160 (dk_at dksX0_init_3 17 rfl rfl)
theorem dX0_init_90 : decode cX0_init 90 = .ok (.multianewarray 51 2, 4) := by decide +kernel
theorem dX0_init_94 : decode cX0_init 94 = .ok (.putfield 53, 3) := dk_181 0 53 (dk_at dksX0_init_4 0 rfl rfl)
theorem dX0_init_97 : decode cX0_init 97 = .ok (.aload_n 0, 1) := dk_42 (dk_at dksX0_init_4 3 rfl rfl)
theorem dX0_init_98 : decode cX0_init 98 = .ok (.sipush 160, 3) := dk_17 0 160 (dk_at dksX0_init_4 4 rfl rfl)
theorem dX0_init_101 : decode cX0_init 101 = .ok (.newarray .int, 2) := dk_188_10 (dk_at dksX0_init_4 7 rfl rfl)
theorem dX0_init_103 : decode cX0_init 103 = .ok (.putfield 56, 3) := dk_181 0 56 (dk_at dksX0_init_4 9 rfl rfl)
theorem dX0_init_106 : decode cX0_init 106 = .ok (.aload_n 0, 1) := dk_42 (dk_at dksX0_init_4 12 rfl rfl)
theorem dX0_init_107 : decode cX0_init 107 = .ok (.sipush 160, 3) := dk_17 0 160 (dk_at dksX0_init_4 13 rfl rfl)
theorem dX0_init_110 : decode cX0_init 110 = .ok (.newarray .boolean, 2) := dk_188_4 (dk_at dksX0_init_4 16 rfl rfl)
theorem dX0_init_112 : decode cX0_init 112 = .ok (.putfield 59, 3) := dk_181 0 59 (dk_at dksX0_init_4 18 rfl rfl)
theorem dX0_init_115 : decode cX0_init 115 = .ok (.aload_n 0, 1) := dk_42 (dk_at dksX0_init_4 21 rfl rfl)
theorem dX0_init_116 : decode cX0_init 116 = .ok (.sipush 160, 3) := dk_17 0 160 (dk_at dksX0_init_5 0 rfl rfl)
theorem dX0_init_119 : decode cX0_init 119 = .ok (.sipush 160, 3) := dk_17 0 160 (dk_at dksX0_init_5 3 rfl rfl)
theorem dX0_init_122 : decode cX0_init 122 = .ok (.multianewarray 51 2, 4) := by decide +kernel
theorem dX0_init_126 : decode cX0_init 126 = .ok (.putfield 63, 3) := dk_181 0 63 (dk_at dksX0_init_5 10 rfl rfl)
theorem dX0_init_129 : decode cX0_init 129 = .ok (.aload_n 0, 1) := dk_42 (dk_at dksX0_init_5 13 rfl rfl)
theorem dX0_init_130 : decode cX0_init 130 = .ok (.new 66, 3) := dk_187 0 66 (dk_at dksX0_init_5 14 rfl rfl)
theorem dX0_init_133 : decode cX0_init 133 = .ok (.dup, 1) := dk_89 (dk_at dksX0_init_5 17 rfl rfl)
theorem dX0_init_134 : decode cX0_init 134 = .ok (.invokespecial 68, 3) := dk_183 0 68 (dk_at dksX0_init_5 18 rfl rfl)
theorem dX0_init_137 : decode cX0_init 137 = .ok (.putfield 69, 3) := dk_181 0 69 (dk_at dksX0_init_5 21 rfl rfl)
theorem dX0_init_140 : decode cX0_init 140 = .ok (.aload_n 0, 1) := dk_42 (dk_at dksX0_init_6 0 rfl rfl)
theorem dX0_init_141 : decode cX0_init 141 = .ok (.new 73, 3) := dk_187 0 73 (dk_at dksX0_init_6 1 rfl rfl)
theorem dX0_init_144 : decode cX0_init 144 = .ok (.dup, 1) := dk_89 (dk_at dksX0_init_6 4 rfl rfl)
theorem dX0_init_145 : decode cX0_init 145 = .ok (.invokespecial 75, 3) := dk_183 0 75 (dk_at dksX0_init_6 5 rfl rfl)
theorem dX0_init_148 : decode cX0_init 148 = .ok (.putfield 76, 3) := dk_181 0 76 (dk_at dksX0_init_6 8 rfl rfl)
theorem dX0_init_151 : decode cX0_init 151 = .ok (.aload_n 0, 1) := dk_42 (dk_at dksX0_init_6 11 rfl rfl)
theorem dX0_init_152 : decode cX0_init 152 = .ok (.sipush 401, 3) := dk_17 1 145 (dk_at dksX0_init_6 12 rfl rfl)
theorem dX0_init_155 : decode cX0_init 155 = .ok (.anewarray 80, 3) := dk_189 0 80 (dk_at dksX0_init_6 15 rfl rfl)
theorem dX0_init_158 : decode cX0_init 158 = .ok (.putfield 82, 3) := dk_181 0 82 (dk_at dksX0_init_6 18 rfl rfl)
theorem dX0_init_161 : decode cX0_init 161 = .ok (.aload_n 0, 1) := dk_42 (dk_at dksX0_init_6 21 rfl rfl)
theorem dX0_init_162 : decode cX0_init 162 = .ok (.new 80, 3) := dk_187 0 80 (dk_at dksX0_init_7 0 rfl rfl)
theorem dX0_init_165 : decode cX0_init 165 = .ok (.dup, 1) := dk_89 (dk_at dksX0_init_7 3 rfl rfl)
theorem dX0_init_166 : decode cX0_init 166 = .ok (.iconst 0, 1) := dk_3 (dk_at dksX0_init_7 4 rfl rfl)
theorem dX0_init_167 : decode cX0_init 167 = .ok (.iconst 0, 1) := dk_3 (dk_at dksX0_init_7 5 rfl rfl)
theorem dX0_init_168 : decode cX0_init 168 = .ok (.bipush 9, 2) := dk_16 9 (dk_at dksX0_init_7 6 rfl rfl)
theorem dX0_init_170 : decode cX0_init 170 = .ok (.newarray .int, 2) := dk_188_10 (dk_at dksX0_init_7 8 rfl rfl)
theorem dX0_init_172 : decode cX0_init 172 = .ok (.invokespecial 86, 3) := dk_183 0 86 (dk_at dksX0_init_7 10 rfl rfl)
theorem dX0_init_175 : decode cX0_init 175 = .ok (.putfield 89, 3) := dk_181 0 89 (dk_at dksX0_init_7 13 rfl rfl)
theorem dX0_init_178 : decode cX0_init 178 = .ok (.aload_n 0, 1) := dk_42 (dk_at dksX0_init_7 16 rfl rfl)
theorem dX0_init_179 : decode cX0_init 179 = .ok (.iconst 3, 1) := dk_6 (dk_at dksX0_init_7 17 rfl rfl)
theorem dX0_init_180 : decode cX0_init 180 = .ok (.newarray .int, 2) := dk_188_10 (dk_at dksX0_init_7 18 rfl rfl)
theorem dX0_init_182 : decode cX0_init 182 = .ok (.putfield 93, 3) := dk_181 0 93 (dk_at dksX0_init_7 20 rfl rfl)
theorem dX0_init_185 : decode cX0_init 185 = .ok (.aload_n 0, 1) := dk_42 (dk_at dksX0_init_7 23 rfl rfl)
theorem dX0_init_186 : decode cX0_init 186 = .ok (.sipush 160, 3) := dk_17 0 160 (dk_at dksX0_init_8 0 rfl rfl)
theorem dX0_init_189 : decode cX0_init 189 = .ok (.newarray .int, 2) := dk_188_10 (dk_at dksX0_init_8 3 rfl rfl)
theorem dX0_init_191 : decode cX0_init 191 = .ok (.putfield 96, 3) := dk_181 0 96 (dk_at dksX0_init_8 5 rfl rfl)
theorem dX0_init_194 : decode cX0_init 194 = .ok (.aload_n 0, 1) := dk_42 (dk_at dksX0_init_8 8 rfl rfl)
theorem dX0_init_195 : decode cX0_init 195 = .ok (.iconst 3, 1) := dk_6 (dk_at dksX0_init_8 9 rfl rfl)
theorem dX0_init_196 : decode cX0_init 196 = .ok (.newarray .int, 2) := dk_188_10 (dk_at dksX0_init_8 10 rfl rfl)
theorem dX0_init_198 : decode cX0_init 198 = .ok (.putfield 99, 3) := dk_181 0 99 (dk_at dksX0_init_8 12 rfl rfl)
theorem dX0_init_201 : decode cX0_init 201 = .ok (.aload_n 0, 1) := dk_42 (dk_at dksX0_init_8 15 rfl rfl)
theorem dX0_init_202 : decode cX0_init 202 = .ok (.bipush 100, 2) := dk_16 100 (dk_at dksX0_init_8 16 rfl rfl)
theorem dX0_init_204 : decode cX0_init 204 = .ok (.anewarray 19, 3) := dk_189 0 19 (dk_at dksX0_init_8 18 rfl rfl)
theorem dX0_init_207 : decode cX0_init 207 = .ok (.putfield 102, 3) := dk_181 0 102 (dk_at dksX0_init_8 21 rfl rfl)
theorem dX0_init_210 : decode cX0_init 210 = .ok (.aload_n 0, 1) := dk_42 (dk_at dksX0_init_9 0 rfl rfl)
theorem dX0_init_211 : decode cX0_init 211 = .ok (.bipush 30, 2) := dk_16 30 (dk_at dksX0_init_9 1 rfl rfl)
theorem dX0_init_213 : decode cX0_init 213 = .ok (.anewarray 19, 3) := dk_189 0 19 (dk_at dksX0_init_9 3 rfl rfl)
theorem dX0_init_216 : decode cX0_init 216 = .ok (.putfield 105, 3) := dk_181 0 105 (dk_at dksX0_init_9 6 rfl rfl)
theorem dX0_init_219 : decode cX0_init 219 = .ok (.aload_n 0, 1) := dk_42 (dk_at dksX0_init_9 9 rfl rfl)
theorem dX0_init_220 : decode cX0_init 220 = .ok (.iconst 3, 1) := dk_6 (dk_at dksX0_init_9 10 rfl rfl)
theorem dX0_init_221 : decode cX0_init 221 = .ok (.newarray .int, 2) := dk_188_10 (dk_at dksX0_init_9 11 rfl rfl)
theorem dX0_init_223 : decode cX0_init 223 = .ok (.putfield 108, 3) := dk_181 0 108 (dk_at dksX0_init_9 13 rfl rfl)
theorem dX0_init_226 : decode cX0_init 226 = .ok (.aload_n 0, 1) := dk_42 (dk_at dksX0_init_9 16 rfl rfl)
theorem dX0_init_227 : decode cX0_init 227 = .ok (.bipush 6, 2) := dk_16 6 (dk_at dksX0_init_9 17 rfl rfl)
theorem dX0_init_229 : decode cX0_init 229 = .ok (.anewarray 13, 3) := dk_189 0 13 (dk_at dksX0_init_9 19 rfl rfl)
theorem dX0_init_232 : decode cX0_init 232 = .ok (.putfield 111, 3) := dk_181 0 111 (dk_at dksX0_init_10 0 rfl rfl)
theorem dX0_init_235 : decode cX0_init 235 = .ok (.aload_n 0, 1) := dk_42 (dk_at dksX0_init_10 3 rfl rfl)
theorem dX0_init_236 : decode cX0_init 236 = .ok (.iconst 4, 1) := dk_7 (dk_at dksX0_init_10 4 rfl rfl)
theorem dX0_init_237 : decode cX0_init 237 = .ok (.anewarray 19, 3) := dk_189 0 19 (dk_at dksX0_init_10 5 rfl rfl)
theorem dX0_init_240 : decode cX0_init 240 = .ok (.putfield 114, 3) := dk_181 0 114 (dk_at dksX0_init_10 8 rfl rfl)
theorem dX0_init_243 : decode cX0_init 243 = .ok (.iconst 0, 1) := dk_3 (dk_at dksX0_init_10 11 rfl rfl)
theorem dX0_init_244 : decode cX0_init 244 = .ok (.istore_n 1, 1) := dk_60 (dk_at dksX0_init_10 12 rfl rfl)
theorem dX0_init_245 : decode cX0_init 245 = .ok (.iload_n 1, 1) := dk_27 (dk_at dksX0_init_10 13 rfl rfl)
theorem dX0_init_246 : decode cX0_init 246 = .ok (.iconst 4, 1) := dk_7 (dk_at dksX0_init_10 14 rfl rfl)
theorem dX0_init_247 : decode cX0_init 247 = .ok (.if_icmp .ge 19, 3) := dk_162 0 19 (dk_at dksX0_init_10 15 rfl rfl)
theorem dX0_init_250 : decode cX0_init 250 = .ok (.aload_n 0, 1) := dk_42 (dk_at dksX0_init_10 18 rfl rfl)
theorem dX0_init_251 : decode cX0_init 251 = .ok (.getfield 21, 3) := dk_180 0 21 (dk_at dksX0_init_10 19 rfl rfl)
theorem dX0_init_254 : decode cX0_init 254 = .ok (.iload_n 1, 1) := dk_27 (dk_at dksX0_init_10 22 rfl rfl)
theorem dX0_init_255 : decode cX0_init 255 = .ok (.aload_n 0, 1) := dk_42 (dk_at dksX0_init_10 23 rfl rfl)
theorem dX0_init_256 : decode cX0_init 256 = .ok (.invokevirtual 117, 3) := dk_182 0 117 (dk_at dksX0_init_11 0 rfl rfl)
theorem dX0_init_259 : decode cX0_init 259 = .ok (.aastore, 1) := dk_83 (dk_at dksX0_init_11 3 rfl rfl)
theorem dX0_init_260 : decode cX0_init 260 = .ok (.iinc 1 1, 3) := dk_132 1 1 (dk_at dksX0_init_11 4 rfl rfl)
theorem dX0_init_263 : decode cX0_init 263 = .ok (.goto (-18), 3) := dk_167 255 238 (dk_at dksX0_init_11 7 rfl rfl)
theorem dX0_init_266 : decode cX0_init 266 = .ok (.return_, 1) := dk_177 (dk_at dksX0_init_11 10 rfl rfl)
abbrev cX0_zero : ByteArray := prog_1_method_5_code
def yX0_zero : MethodName := ⟨RX0, "zero", "()LDependencyPairAnalyzer$Term;"⟩
def dkwX0_zero_1 : List UInt8 := [180, 0, 7, 183, 0, 129, 176]
abbrev dktX0_zero_1 : List UInt8 := dkwX0_zero_1 ++ []
def dkwX0_zero_0 : List UInt8 := [42, 3, 181, 0, 121, 42, 16, 122, 182, 0, 125, 187, 0, 19, 89, 42, 180, 0, 25, 42, 180, 0, 121, 42]
abbrev dktX0_zero_0 : List UInt8 := dkwX0_zero_0 ++ dktX0_zero_1
theorem dksX0_zero_0 : cX0_zero.data.toList.drop 0 = dktX0_zero_0 := by decide +kernel
theorem dksX0_zero_1 : cX0_zero.data.toList.drop 24 = dktX0_zero_1 := dk_seg dksX0_zero_0 24 rfl rfl
theorem dX0_zero_0 : decode cX0_zero 0 = .ok (.aload_n 0, 1) := dk_42 (dk_at dksX0_zero_0 0 rfl rfl)
theorem dX0_zero_1 : decode cX0_zero 1 = .ok (.iconst 0, 1) := dk_3 (dk_at dksX0_zero_0 1 rfl rfl)
theorem dX0_zero_2 : decode cX0_zero 2 = .ok (.putfield 121, 3) := dk_181 0 121 (dk_at dksX0_zero_0 2 rfl rfl)
theorem dX0_zero_5 : decode cX0_zero 5 = .ok (.aload_n 0, 1) := dk_42 (dk_at dksX0_zero_0 5 rfl rfl)
theorem dX0_zero_6 : decode cX0_zero 6 = .ok (.bipush 122, 2) := dk_16 122 (dk_at dksX0_zero_0 6 rfl rfl)
theorem dX0_zero_8 : decode cX0_zero 8 = .ok (.invokevirtual 125, 3) := dk_182 0 125 (dk_at dksX0_zero_0 8 rfl rfl)
theorem dX0_zero_11 : decode cX0_zero 11 = .ok (.new 19, 3) := dk_187 0 19 (dk_at dksX0_zero_0 11 rfl rfl)
theorem dX0_zero_14 : decode cX0_zero 14 = .ok (.dup, 1) := dk_89 (dk_at dksX0_zero_0 14 rfl rfl)
theorem dX0_zero_15 : decode cX0_zero 15 = .ok (.aload_n 0, 1) := dk_42 (dk_at dksX0_zero_0 15 rfl rfl)
theorem dX0_zero_16 : decode cX0_zero 16 = .ok (.getfield 25, 3) := dk_180 0 25 (dk_at dksX0_zero_0 16 rfl rfl)
theorem dX0_zero_19 : decode cX0_zero 19 = .ok (.aload_n 0, 1) := dk_42 (dk_at dksX0_zero_0 19 rfl rfl)
theorem dX0_zero_20 : decode cX0_zero 20 = .ok (.getfield 121, 3) := dk_180 0 121 (dk_at dksX0_zero_0 20 rfl rfl)
theorem dX0_zero_23 : decode cX0_zero 23 = .ok (.aload_n 0, 1) := dk_42 (dk_at dksX0_zero_0 23 rfl rfl)
theorem dX0_zero_24 : decode cX0_zero 24 = .ok (.getfield 7, 3) := dk_180 0 7 (dk_at dksX0_zero_1 0 rfl rfl)
theorem dX0_zero_27 : decode cX0_zero 27 = .ok (.invokespecial 129, 3) := dk_183 0 129 (dk_at dksX0_zero_1 3 rfl rfl)
theorem dX0_zero_30 : decode cX0_zero 30 = .ok (.areturn, 1) := dk_176 (dk_at dksX0_zero_1 6 rfl rfl)
abbrev cX0_build : ByteArray := prog_1_method_4_code
def yX0_build : MethodName := ⟨RX0, "build", "(I)V"⟩
def dkwX0_build_0 : List UInt8 := [42, 180, 0, 25, 42, 180, 0, 121, 27, 145, 84, 42, 89, 180, 0, 121, 4, 96, 181, 0, 121, 177]
abbrev dktX0_build_0 : List UInt8 := dkwX0_build_0 ++ []
theorem dksX0_build_0 : cX0_build.data.toList.drop 0 = dktX0_build_0 := by decide +kernel
theorem dX0_build_0 : decode cX0_build 0 = .ok (.aload_n 0, 1) := dk_42 (dk_at dksX0_build_0 0 rfl rfl)
theorem dX0_build_1 : decode cX0_build 1 = .ok (.getfield 25, 3) := dk_180 0 25 (dk_at dksX0_build_0 1 rfl rfl)
theorem dX0_build_4 : decode cX0_build 4 = .ok (.aload_n 0, 1) := dk_42 (dk_at dksX0_build_0 4 rfl rfl)
theorem dX0_build_5 : decode cX0_build 5 = .ok (.getfield 121, 3) := dk_180 0 121 (dk_at dksX0_build_0 5 rfl rfl)
theorem dX0_build_8 : decode cX0_build 8 = .ok (.iload_n 1, 1) := dk_27 (dk_at dksX0_build_0 8 rfl rfl)
theorem dX0_build_9 : decode cX0_build 9 = .ok (.i2b, 1) := dk_145 (dk_at dksX0_build_0 9 rfl rfl)
theorem dX0_build_10 : decode cX0_build 10 = .ok (.bastore, 1) := dk_84 (dk_at dksX0_build_0 10 rfl rfl)
theorem dX0_build_11 : decode cX0_build 11 = .ok (.aload_n 0, 1) := dk_42 (dk_at dksX0_build_0 11 rfl rfl)
theorem dX0_build_12 : decode cX0_build 12 = .ok (.dup, 1) := dk_89 (dk_at dksX0_build_0 12 rfl rfl)
theorem dX0_build_13 : decode cX0_build 13 = .ok (.getfield 121, 3) := dk_180 0 121 (dk_at dksX0_build_0 13 rfl rfl)
theorem dX0_build_16 : decode cX0_build 16 = .ok (.iconst 1, 1) := dk_4 (dk_at dksX0_build_0 16 rfl rfl)
theorem dX0_build_17 : decode cX0_build 17 = .ok (.iadd, 1) := dk_96 (dk_at dksX0_build_0 17 rfl rfl)
theorem dX0_build_18 : decode cX0_build 18 = .ok (.putfield 121, 3) := dk_181 0 121 (dk_at dksX0_build_0 18 rfl rfl)
theorem dX0_build_21 : decode cX0_build 21 = .ok (.return_, 1) := dk_177 (dk_at dksX0_build_0 21 rfl rfl)
abbrev cX0_isBetween : ByteArray := prog_1_method_1_code
def yX0_isBetween : MethodName := ⟨RX0, "isBetween", "(JJJ)Z"⟩
def dkwX0_isBetween_0 : List UInt8 := [30, 32, 148, 155, 0, 14, 30, 22, 4, 148, 157, 0, 7, 4, 167, 0, 4, 3, 172]
abbrev dktX0_isBetween_0 : List UInt8 := dkwX0_isBetween_0 ++ []
theorem dksX0_isBetween_0 : cX0_isBetween.data.toList.drop 0 = dktX0_isBetween_0 := by decide +kernel
theorem dX0_isBetween_0 : decode cX0_isBetween 0 = .ok (.lload_n 0, 1) := dk_30 (dk_at dksX0_isBetween_0 0 rfl rfl)
theorem dX0_isBetween_1 : decode cX0_isBetween 1 = .ok (.lload_n 2, 1) := dk_32 (dk_at dksX0_isBetween_0 1 rfl rfl)
theorem dX0_isBetween_2 : decode cX0_isBetween 2 = .ok (.lcmp, 1) := dk_148 (dk_at dksX0_isBetween_0 2 rfl rfl)
theorem dX0_isBetween_3 : decode cX0_isBetween 3 = .ok (.ifCond .lt 14, 3) := dk_155 0 14 (dk_at dksX0_isBetween_0 3 rfl rfl)
theorem dX0_isBetween_6 : decode cX0_isBetween 6 = .ok (.lload_n 0, 1) := dk_30 (dk_at dksX0_isBetween_0 6 rfl rfl)
theorem dX0_isBetween_7 : decode cX0_isBetween 7 = .ok (.lload 4, 2) := dk_22 4 (dk_at dksX0_isBetween_0 7 rfl rfl)
theorem dX0_isBetween_9 : decode cX0_isBetween 9 = .ok (.lcmp, 1) := dk_148 (dk_at dksX0_isBetween_0 9 rfl rfl)
theorem dX0_isBetween_10 : decode cX0_isBetween 10 = .ok (.ifCond .gt 7, 3) := dk_157 0 7 (dk_at dksX0_isBetween_0 10 rfl rfl)
theorem dX0_isBetween_13 : decode cX0_isBetween 13 = .ok (.iconst 1, 1) := dk_4 (dk_at dksX0_isBetween_0 13 rfl rfl)
theorem dX0_isBetween_14 : decode cX0_isBetween 14 = .ok (.goto 4, 3) := dk_167 0 4 (dk_at dksX0_isBetween_0 14 rfl rfl)
theorem dX0_isBetween_17 : decode cX0_isBetween 17 = .ok (.iconst 0, 1) := dk_3 (dk_at dksX0_isBetween_0 17 rfl rfl)
theorem dX0_isBetween_18 : decode cX0_isBetween 18 = .ok (.ireturn, 1) := dk_172 (dk_at dksX0_isBetween_0 18 rfl rfl)
abbrev cX0_setArity : ByteArray := prog_1_method_9_code
def yX0_setArity : MethodName := ⟨RX0, "setArity", "(II)I"⟩
def dkwX0_setArity_4 : List UInt8 := [167, 255, 212, 29, 172]
abbrev dktX0_setArity_4 : List UInt8 := dkwX0_setArity_4 ++ []
def dkwX0_setArity_3 : List UInt8 := [182, 0, 147, 153, 0, 10, 42, 182, 0, 117, 167, 0, 10, 42, 180, 0, 21, 21, 4, 50, 83, 132, 4, 1]
abbrev dktX0_setArity_3 : List UInt8 := dkwX0_setArity_3 ++ dktX0_setArity_4
def dkwX0_setArity_2 : List UInt8 := [3, 54, 4, 21, 4, 7, 162, 0, 44, 42, 180, 0, 21, 21, 4, 42, 180, 0, 21, 21, 4, 50, 27]
abbrev dktX0_setArity_2 : List UInt8 := dkwX0_setArity_2 ++ dktX0_setArity_3
def dkwX0_setArity_1 : List UInt8 := [42, 180, 0, 138, 158, 0, 6, 16, 253, 172, 42, 180, 0, 7, 27, 46, 62, 42, 180, 0, 7, 27, 28, 79]
abbrev dktX0_setArity_1 : List UInt8 := dkwX0_setArity_1 ++ dktX0_setArity_2
def dkwX0_setArity_0 : List UInt8 := [27, 184, 0, 143, 154, 0, 5, 2, 172, 28, 133, 10, 20, 0, 141, 184, 0, 134, 154, 0, 6, 16, 254, 172]
abbrev dktX0_setArity_0 : List UInt8 := dkwX0_setArity_0 ++ dktX0_setArity_1
theorem dksX0_setArity_0 : cX0_setArity.data.toList.drop 0 = dktX0_setArity_0 := by decide +kernel
theorem dksX0_setArity_1 : cX0_setArity.data.toList.drop 24 = dktX0_setArity_1 := dk_seg dksX0_setArity_0 24 rfl rfl
theorem dksX0_setArity_2 : cX0_setArity.data.toList.drop 48 = dktX0_setArity_2 := dk_seg dksX0_setArity_1 24 rfl rfl
theorem dksX0_setArity_3 : cX0_setArity.data.toList.drop 71 = dktX0_setArity_3 := dk_seg dksX0_setArity_2 23 rfl rfl
theorem dksX0_setArity_4 : cX0_setArity.data.toList.drop 95 = dktX0_setArity_4 := dk_seg dksX0_setArity_3 24 rfl rfl
theorem dX0_setArity_0 : decode cX0_setArity 0 = .ok (.iload_n 1, 1) := dk_27 (dk_at dksX0_setArity_0 0 rfl rfl)
theorem dX0_setArity_1 : decode cX0_setArity 1 = .ok (.invokestatic 143, 3) := dk_184 0 143 (dk_at dksX0_setArity_0 1 rfl rfl)
theorem dX0_setArity_4 : decode cX0_setArity 4 = .ok (.ifCond .ne 5, 3) := dk_154 0 5 (dk_at dksX0_setArity_0 4 rfl rfl)
theorem dX0_setArity_7 : decode cX0_setArity 7 = .ok (.iconst (-1), 1) := dk_2 (dk_at dksX0_setArity_0 7 rfl rfl)
theorem dX0_setArity_8 : decode cX0_setArity 8 = .ok (.ireturn, 1) := dk_172 (dk_at dksX0_setArity_0 8 rfl rfl)
theorem dX0_setArity_9 : decode cX0_setArity 9 = .ok (.iload_n 2, 1) := dk_28 (dk_at dksX0_setArity_0 9 rfl rfl)
theorem dX0_setArity_10 : decode cX0_setArity 10 = .ok (.i2l, 1) := dk_133 (dk_at dksX0_setArity_0 10 rfl rfl)
theorem dX0_setArity_11 : decode cX0_setArity 11 = .ok (.lconst 1, 1) := dk_10 (dk_at dksX0_setArity_0 11 rfl rfl)
theorem dX0_setArity_12 : decode cX0_setArity 12 = .ok (.ldc2_w 141, 3) := dk_20 0 141 (dk_at dksX0_setArity_0 12 rfl rfl)
theorem dX0_setArity_15 : decode cX0_setArity 15 = .ok (.invokestatic 134, 3) := dk_184 0 134 (dk_at dksX0_setArity_0 15 rfl rfl)
theorem dX0_setArity_18 : decode cX0_setArity 18 = .ok (.ifCond .ne 6, 3) := dk_154 0 6 (dk_at dksX0_setArity_0 18 rfl rfl)
theorem dX0_setArity_21 : decode cX0_setArity 21 = .ok (.bipush (-2), 2) := dk_16 254 (dk_at dksX0_setArity_0 21 rfl rfl)
theorem dX0_setArity_23 : decode cX0_setArity 23 = .ok (.ireturn, 1) := dk_172 (dk_at dksX0_setArity_0 23 rfl rfl)
theorem dX0_setArity_24 : decode cX0_setArity 24 = .ok (.aload_n 0, 1) := dk_42 (dk_at dksX0_setArity_1 0 rfl rfl)
theorem dX0_setArity_25 : decode cX0_setArity 25 = .ok (.getfield 138, 3) := dk_180 0 138 (dk_at dksX0_setArity_1 1 rfl rfl)
theorem dX0_setArity_28 : decode cX0_setArity 28 = .ok (.ifCond .le 6, 3) := dk_158 0 6 (dk_at dksX0_setArity_1 4 rfl rfl)
theorem dX0_setArity_31 : decode cX0_setArity 31 = .ok (.bipush (-3), 2) := dk_16 253 (dk_at dksX0_setArity_1 7 rfl rfl)
theorem dX0_setArity_33 : decode cX0_setArity 33 = .ok (.ireturn, 1) := dk_172 (dk_at dksX0_setArity_1 9 rfl rfl)
theorem dX0_setArity_34 : decode cX0_setArity 34 = .ok (.aload_n 0, 1) := dk_42 (dk_at dksX0_setArity_1 10 rfl rfl)
theorem dX0_setArity_35 : decode cX0_setArity 35 = .ok (.getfield 7, 3) := dk_180 0 7 (dk_at dksX0_setArity_1 11 rfl rfl)
theorem dX0_setArity_38 : decode cX0_setArity 38 = .ok (.iload_n 1, 1) := dk_27 (dk_at dksX0_setArity_1 14 rfl rfl)
theorem dX0_setArity_39 : decode cX0_setArity 39 = .ok (.iaload, 1) := dk_46 (dk_at dksX0_setArity_1 15 rfl rfl)
theorem dX0_setArity_40 : decode cX0_setArity 40 = .ok (.istore_n 3, 1) := dk_62 (dk_at dksX0_setArity_1 16 rfl rfl)
theorem dX0_setArity_41 : decode cX0_setArity 41 = .ok (.aload_n 0, 1) := dk_42 (dk_at dksX0_setArity_1 17 rfl rfl)
theorem dX0_setArity_42 : decode cX0_setArity 42 = .ok (.getfield 7, 3) := dk_180 0 7 (dk_at dksX0_setArity_1 18 rfl rfl)
theorem dX0_setArity_45 : decode cX0_setArity 45 = .ok (.iload_n 1, 1) := dk_27 (dk_at dksX0_setArity_1 21 rfl rfl)
theorem dX0_setArity_46 : decode cX0_setArity 46 = .ok (.iload_n 2, 1) := dk_28 (dk_at dksX0_setArity_1 22 rfl rfl)
theorem dX0_setArity_47 : decode cX0_setArity 47 = .ok (.iastore, 1) := dk_79 (dk_at dksX0_setArity_1 23 rfl rfl)
theorem dX0_setArity_48 : decode cX0_setArity 48 = .ok (.iconst 0, 1) := dk_3 (dk_at dksX0_setArity_2 0 rfl rfl)
theorem dX0_setArity_49 : decode cX0_setArity 49 = .ok (.istore 4, 2) := dk_54 4 (dk_at dksX0_setArity_2 1 rfl rfl)
theorem dX0_setArity_51 : decode cX0_setArity 51 = .ok (.iload 4, 2) := dk_21 4 (dk_at dksX0_setArity_2 3 rfl rfl)
theorem dX0_setArity_53 : decode cX0_setArity 53 = .ok (.iconst 4, 1) := dk_7 (dk_at dksX0_setArity_2 5 rfl rfl)
theorem dX0_setArity_54 : decode cX0_setArity 54 = .ok (.if_icmp .ge 44, 3) := dk_162 0 44 (dk_at dksX0_setArity_2 6 rfl rfl)
theorem dX0_setArity_57 : decode cX0_setArity 57 = .ok (.aload_n 0, 1) := dk_42 (dk_at dksX0_setArity_2 9 rfl rfl)
theorem dX0_setArity_58 : decode cX0_setArity 58 = .ok (.getfield 21, 3) := dk_180 0 21 (dk_at dksX0_setArity_2 10 rfl rfl)
theorem dX0_setArity_61 : decode cX0_setArity 61 = .ok (.iload 4, 2) := dk_21 4 (dk_at dksX0_setArity_2 13 rfl rfl)
theorem dX0_setArity_63 : decode cX0_setArity 63 = .ok (.aload_n 0, 1) := dk_42 (dk_at dksX0_setArity_2 15 rfl rfl)
theorem dX0_setArity_64 : decode cX0_setArity 64 = .ok (.getfield 21, 3) := dk_180 0 21 (dk_at dksX0_setArity_2 16 rfl rfl)
theorem dX0_setArity_67 : decode cX0_setArity 67 = .ok (.iload 4, 2) := dk_21 4 (dk_at dksX0_setArity_2 19 rfl rfl)
theorem dX0_setArity_69 : decode cX0_setArity 69 = .ok (.aaload, 1) := dk_50 (dk_at dksX0_setArity_2 21 rfl rfl)
theorem dX0_setArity_70 : decode cX0_setArity 70 = .ok (.iload_n 1, 1) := dk_27 (dk_at dksX0_setArity_2 22 rfl rfl)
theorem dX0_setArity_71 : decode cX0_setArity 71 = .ok (.invokevirtual 147, 3) := dk_182 0 147 (dk_at dksX0_setArity_3 0 rfl rfl)
theorem dX0_setArity_74 : decode cX0_setArity 74 = .ok (.ifCond .eq 10, 3) := dk_153 0 10 (dk_at dksX0_setArity_3 3 rfl rfl)
theorem dX0_setArity_77 : decode cX0_setArity 77 = .ok (.aload_n 0, 1) := dk_42 (dk_at dksX0_setArity_3 6 rfl rfl)
theorem dX0_setArity_78 : decode cX0_setArity 78 = .ok (.invokevirtual 117, 3) := dk_182 0 117 (dk_at dksX0_setArity_3 7 rfl rfl)
theorem dX0_setArity_81 : decode cX0_setArity 81 = .ok (.goto 10, 3) := dk_167 0 10 (dk_at dksX0_setArity_3 10 rfl rfl)
theorem dX0_setArity_84 : decode cX0_setArity 84 = .ok (.aload_n 0, 1) := dk_42 (dk_at dksX0_setArity_3 13 rfl rfl)
theorem dX0_setArity_85 : decode cX0_setArity 85 = .ok (.getfield 21, 3) := dk_180 0 21 (dk_at dksX0_setArity_3 14 rfl rfl)
theorem dX0_setArity_88 : decode cX0_setArity 88 = .ok (.iload 4, 2) := dk_21 4 (dk_at dksX0_setArity_3 17 rfl rfl)
theorem dX0_setArity_90 : decode cX0_setArity 90 = .ok (.aaload, 1) := dk_50 (dk_at dksX0_setArity_3 19 rfl rfl)
theorem dX0_setArity_91 : decode cX0_setArity 91 = .ok (.aastore, 1) := dk_83 (dk_at dksX0_setArity_3 20 rfl rfl)
theorem dX0_setArity_92 : decode cX0_setArity 92 = .ok (.iinc 4 1, 3) := dk_132 4 1 (dk_at dksX0_setArity_3 21 rfl rfl)
theorem dX0_setArity_95 : decode cX0_setArity 95 = .ok (.goto (-44), 3) := dk_167 255 212 (dk_at dksX0_setArity_4 0 rfl rfl)
theorem dX0_setArity_98 : decode cX0_setArity 98 = .ok (.iload_n 3, 1) := dk_29 (dk_at dksX0_setArity_4 3 rfl rfl)
theorem dX0_setArity_99 : decode cX0_setArity 99 = .ok (.ireturn, 1) := dk_172 (dk_at dksX0_setArity_4 4 rfl rfl)
abbrev cX0_isFunction : ByteArray := prog_1_method_6_code
def yX0_isFunction : MethodName := ⟨RX0, "isFunction", "(I)Z"⟩
def dkwX0_isFunction_0 : List UInt8 := [26, 133, 9, 20, 0, 132, 184, 0, 134, 172]
abbrev dktX0_isFunction_0 : List UInt8 := dkwX0_isFunction_0 ++ []
theorem dksX0_isFunction_0 : cX0_isFunction.data.toList.drop 0 = dktX0_isFunction_0 := by decide +kernel
theorem dX0_isFunction_0 : decode cX0_isFunction 0 = .ok (.iload_n 0, 1) := dk_26 (dk_at dksX0_isFunction_0 0 rfl rfl)
theorem dX0_isFunction_1 : decode cX0_isFunction 1 = .ok (.i2l, 1) := dk_133 (dk_at dksX0_isFunction_0 1 rfl rfl)
theorem dX0_isFunction_2 : decode cX0_isFunction 2 = .ok (.lconst 0, 1) := dk_9 (dk_at dksX0_isFunction_0 2 rfl rfl)
theorem dX0_isFunction_3 : decode cX0_isFunction 3 = .ok (.ldc2_w 132, 3) := dk_20 0 132 (dk_at dksX0_isFunction_0 3 rfl rfl)
theorem dX0_isFunction_6 : decode cX0_isFunction 6 = .ok (.invokestatic 134, 3) := dk_184 0 134 (dk_at dksX0_isFunction_0 6 rfl rfl)
theorem dX0_isFunction_9 : decode cX0_isFunction 9 = .ok (.ireturn, 1) := dk_172 (dk_at dksX0_isFunction_0 9 rfl rfl)
abbrev cX0_arity : ByteArray := prog_1_method_10_code
def yX0_arity : MethodName := ⟨RX0, "arity", "(I)I"⟩
def dkwX0_arity_0 : List UInt8 := [27, 184, 0, 143, 153, 0, 12, 42, 180, 0, 7, 27, 46, 167, 0, 4, 2, 172]
abbrev dktX0_arity_0 : List UInt8 := dkwX0_arity_0 ++ []
theorem dksX0_arity_0 : cX0_arity.data.toList.drop 0 = dktX0_arity_0 := by decide +kernel
theorem dX0_arity_0 : decode cX0_arity 0 = .ok (.iload_n 1, 1) := dk_27 (dk_at dksX0_arity_0 0 rfl rfl)
theorem dX0_arity_1 : decode cX0_arity 1 = .ok (.invokestatic 143, 3) := dk_184 0 143 (dk_at dksX0_arity_0 1 rfl rfl)
theorem dX0_arity_4 : decode cX0_arity 4 = .ok (.ifCond .eq 12, 3) := dk_153 0 12 (dk_at dksX0_arity_0 4 rfl rfl)
theorem dX0_arity_7 : decode cX0_arity 7 = .ok (.aload_n 0, 1) := dk_42 (dk_at dksX0_arity_0 7 rfl rfl)
theorem dX0_arity_8 : decode cX0_arity 8 = .ok (.getfield 7, 3) := dk_180 0 7 (dk_at dksX0_arity_0 8 rfl rfl)
theorem dX0_arity_11 : decode cX0_arity 11 = .ok (.iload_n 1, 1) := dk_27 (dk_at dksX0_arity_0 11 rfl rfl)
theorem dX0_arity_12 : decode cX0_arity 12 = .ok (.iaload, 1) := dk_46 (dk_at dksX0_arity_0 12 rfl rfl)
theorem dX0_arity_13 : decode cX0_arity 13 = .ok (.goto 4, 3) := dk_167 0 4 (dk_at dksX0_arity_0 13 rfl rfl)
theorem dX0_arity_16 : decode cX0_arity 16 = .ok (.iconst (-1), 1) := dk_2 (dk_at dksX0_arity_0 16 rfl rfl)
theorem dX0_arity_17 : decode cX0_arity 17 = .ok (.ireturn, 1) := dk_172 (dk_at dksX0_arity_0 17 rfl rfl)
abbrev cX0_appendCharacter : ByteArray := prog_1_method_11_code
def yX0_appendCharacter : MethodName := ⟨RX0, "appendCharacter", "(I)I"⟩
def dkwX0_appendCharacter_2 : List UInt8 := [181, 0, 154, 42, 180, 0, 154, 172]
abbrev dktX0_appendCharacter_2 : List UInt8 := dkwX0_appendCharacter_2 ++ []
def dkwX0_appendCharacter_1 : List UInt8 := [160, 0, 6, 16, 252, 172, 42, 180, 0, 29, 42, 180, 0, 154, 27, 145, 84, 42, 89, 180, 0, 154, 4, 96]
abbrev dktX0_appendCharacter_1 : List UInt8 := dkwX0_appendCharacter_1 ++ dktX0_appendCharacter_2
def dkwX0_appendCharacter_0 : List UInt8 := [27, 133, 20, 0, 150, 20, 0, 152, 184, 0, 134, 154, 0, 6, 16, 254, 172, 42, 180, 0, 154, 16, 80]
abbrev dktX0_appendCharacter_0 : List UInt8 := dkwX0_appendCharacter_0 ++ dktX0_appendCharacter_1
theorem dksX0_appendCharacter_0 : cX0_appendCharacter.data.toList.drop 0 = dktX0_appendCharacter_0 := by decide +kernel
theorem dksX0_appendCharacter_1 : cX0_appendCharacter.data.toList.drop 23 = dktX0_appendCharacter_1 := dk_seg dksX0_appendCharacter_0 23 rfl rfl
theorem dksX0_appendCharacter_2 : cX0_appendCharacter.data.toList.drop 47 = dktX0_appendCharacter_2 := dk_seg dksX0_appendCharacter_1 24 rfl rfl
theorem dX0_appendCharacter_0 : decode cX0_appendCharacter 0 = .ok (.iload_n 1, 1) := dk_27 (dk_at dksX0_appendCharacter_0 0 rfl rfl)
theorem dX0_appendCharacter_1 : decode cX0_appendCharacter 1 = .ok (.i2l, 1) := dk_133 (dk_at dksX0_appendCharacter_0 1 rfl rfl)
theorem dX0_appendCharacter_2 : decode cX0_appendCharacter 2 = .ok (.ldc2_w 150, 3) := dk_20 0 150 (dk_at dksX0_appendCharacter_0 2 rfl rfl)
theorem dX0_appendCharacter_5 : decode cX0_appendCharacter 5 = .ok (.ldc2_w 152, 3) := dk_20 0 152 (dk_at dksX0_appendCharacter_0 5 rfl rfl)
theorem dX0_appendCharacter_8 : decode cX0_appendCharacter 8 = .ok (.invokestatic 134, 3) := dk_184 0 134 (dk_at dksX0_appendCharacter_0 8 rfl rfl)
theorem dX0_appendCharacter_11 : decode cX0_appendCharacter 11 = .ok (.ifCond .ne 6, 3) := dk_154 0 6 (dk_at dksX0_appendCharacter_0 11 rfl rfl)
theorem dX0_appendCharacter_14 : decode cX0_appendCharacter 14 = .ok (.bipush (-2), 2) := dk_16 254 (dk_at dksX0_appendCharacter_0 14 rfl rfl)
theorem dX0_appendCharacter_16 : decode cX0_appendCharacter 16 = .ok (.ireturn, 1) := dk_172 (dk_at dksX0_appendCharacter_0 16 rfl rfl)
theorem dX0_appendCharacter_17 : decode cX0_appendCharacter 17 = .ok (.aload_n 0, 1) := dk_42 (dk_at dksX0_appendCharacter_0 17 rfl rfl)
theorem dX0_appendCharacter_18 : decode cX0_appendCharacter 18 = .ok (.getfield 154, 3) := dk_180 0 154 (dk_at dksX0_appendCharacter_0 18 rfl rfl)
theorem dX0_appendCharacter_21 : decode cX0_appendCharacter 21 = .ok (.bipush 80, 2) := dk_16 80 (dk_at dksX0_appendCharacter_0 21 rfl rfl)
theorem dX0_appendCharacter_23 : decode cX0_appendCharacter 23 = .ok (.if_icmp .ne 6, 3) := dk_160 0 6 (dk_at dksX0_appendCharacter_1 0 rfl rfl)
theorem dX0_appendCharacter_26 : decode cX0_appendCharacter 26 = .ok (.bipush (-4), 2) := dk_16 252 (dk_at dksX0_appendCharacter_1 3 rfl rfl)
theorem dX0_appendCharacter_28 : decode cX0_appendCharacter 28 = .ok (.ireturn, 1) := dk_172 (dk_at dksX0_appendCharacter_1 5 rfl rfl)
theorem dX0_appendCharacter_29 : decode cX0_appendCharacter 29 = .ok (.aload_n 0, 1) := dk_42 (dk_at dksX0_appendCharacter_1 6 rfl rfl)
theorem dX0_appendCharacter_30 : decode cX0_appendCharacter 30 = .ok (.getfield 29, 3) := dk_180 0 29 (dk_at dksX0_appendCharacter_1 7 rfl rfl)
theorem dX0_appendCharacter_33 : decode cX0_appendCharacter 33 = .ok (.aload_n 0, 1) := dk_42 (dk_at dksX0_appendCharacter_1 10 rfl rfl)
theorem dX0_appendCharacter_34 : decode cX0_appendCharacter 34 = .ok (.getfield 154, 3) := dk_180 0 154 (dk_at dksX0_appendCharacter_1 11 rfl rfl)
theorem dX0_appendCharacter_37 : decode cX0_appendCharacter 37 = .ok (.iload_n 1, 1) := dk_27 (dk_at dksX0_appendCharacter_1 14 rfl rfl)
theorem dX0_appendCharacter_38 : decode cX0_appendCharacter 38 = .ok (.i2b, 1) := dk_145 (dk_at dksX0_appendCharacter_1 15 rfl rfl)
theorem dX0_appendCharacter_39 : decode cX0_appendCharacter 39 = .ok (.bastore, 1) := dk_84 (dk_at dksX0_appendCharacter_1 16 rfl rfl)
theorem dX0_appendCharacter_40 : decode cX0_appendCharacter 40 = .ok (.aload_n 0, 1) := dk_42 (dk_at dksX0_appendCharacter_1 17 rfl rfl)
theorem dX0_appendCharacter_41 : decode cX0_appendCharacter 41 = .ok (.dup, 1) := dk_89 (dk_at dksX0_appendCharacter_1 18 rfl rfl)
theorem dX0_appendCharacter_42 : decode cX0_appendCharacter 42 = .ok (.getfield 154, 3) := dk_180 0 154 (dk_at dksX0_appendCharacter_1 19 rfl rfl)
theorem dX0_appendCharacter_45 : decode cX0_appendCharacter 45 = .ok (.iconst 1, 1) := dk_4 (dk_at dksX0_appendCharacter_1 22 rfl rfl)
theorem dX0_appendCharacter_46 : decode cX0_appendCharacter 46 = .ok (.iadd, 1) := dk_96 (dk_at dksX0_appendCharacter_1 23 rfl rfl)
theorem dX0_appendCharacter_47 : decode cX0_appendCharacter 47 = .ok (.putfield 154, 3) := dk_181 0 154 (dk_at dksX0_appendCharacter_2 0 rfl rfl)
theorem dX0_appendCharacter_50 : decode cX0_appendCharacter 50 = .ok (.aload_n 0, 1) := dk_42 (dk_at dksX0_appendCharacter_2 3 rfl rfl)
theorem dX0_appendCharacter_51 : decode cX0_appendCharacter 51 = .ok (.getfield 154, 3) := dk_180 0 154 (dk_at dksX0_appendCharacter_2 4 rfl rfl)
theorem dX0_appendCharacter_54 : decode cX0_appendCharacter 54 = .ok (.ireturn, 1) := dk_172 (dk_at dksX0_appendCharacter_2 7 rfl rfl)
abbrev cX0_clearText : ByteArray := prog_1_method_12_code
def yX0_clearText : MethodName := ⟨RX0, "clearText", "()I"⟩
def dkwX0_clearText_0 : List UInt8 := [42, 180, 0, 154, 60, 42, 3, 181, 0, 154, 27, 172]
abbrev dktX0_clearText_0 : List UInt8 := dkwX0_clearText_0 ++ []
theorem dksX0_clearText_0 : cX0_clearText.data.toList.drop 0 = dktX0_clearText_0 := by decide +kernel
theorem dX0_clearText_0 : decode cX0_clearText 0 = .ok (.aload_n 0, 1) := dk_42 (dk_at dksX0_clearText_0 0 rfl rfl)
theorem dX0_clearText_1 : decode cX0_clearText 1 = .ok (.getfield 154, 3) := dk_180 0 154 (dk_at dksX0_clearText_0 1 rfl rfl)
theorem dX0_clearText_4 : decode cX0_clearText 4 = .ok (.istore_n 1, 1) := dk_60 (dk_at dksX0_clearText_0 4 rfl rfl)
theorem dX0_clearText_5 : decode cX0_clearText 5 = .ok (.aload_n 0, 1) := dk_42 (dk_at dksX0_clearText_0 5 rfl rfl)
theorem dX0_clearText_6 : decode cX0_clearText 6 = .ok (.iconst 0, 1) := dk_3 (dk_at dksX0_clearText_0 6 rfl rfl)
theorem dX0_clearText_7 : decode cX0_clearText 7 = .ok (.putfield 154, 3) := dk_181 0 154 (dk_at dksX0_clearText_0 7 rfl rfl)
theorem dX0_clearText_10 : decode cX0_clearText 10 = .ok (.iload_n 1, 1) := dk_27 (dk_at dksX0_clearText_0 10 rfl rfl)
theorem dX0_clearText_11 : decode cX0_clearText 11 = .ok (.ireturn, 1) := dk_172 (dk_at dksX0_clearText_0 11 rfl rfl)
abbrev cX0_textLength : ByteArray := prog_1_method_13_code
def yX0_textLength : MethodName := ⟨RX0, "textLength", "()I"⟩
theorem dX0_textLength_0 : decode cX0_textLength 0 = .ok (.aload_n 0, 1) := by decide +kernel
theorem dX0_textLength_1 : decode cX0_textLength 1 = .ok (.getfield 154, 3) := by decide +kernel
theorem dX0_textLength_4 : decode cX0_textLength 4 = .ok (.ireturn, 1) := by decide +kernel
abbrev cX0_addRule : ByteArray := prog_1_method_15_code
def yX0_addRule : MethodName := ⟨RX0, "addRule", "()I"⟩
def dkwX0_addRule_4 : List UInt8 := [181, 0, 154, 45, 191]
abbrev dktX0_addRule_4 : List UInt8 := dkwX0_addRule_4 ++ []
def dkwX0_addRule_3 : List UInt8 := [181, 0, 154, 28, 172, 76, 16, 156, 43, 180, 0, 189, 100, 61, 42, 3, 181, 0, 154, 28, 172, 78, 42, 3]
abbrev dktX0_addRule_3 : List UInt8 := dkwX0_addRule_3 ++ dktX0_addRule_4
def dkwX0_addRule_2 : List UInt8 := [89, 180, 0, 138, 4, 96, 181, 0, 138, 42, 182, 0, 184, 42, 180, 0, 138, 4, 100, 61, 42, 3]
abbrev dktX0_addRule_2 : List UInt8 := dkwX0_addRule_2 ++ dktX0_addRule_3
def dkwX0_addRule_1 : List UInt8 := [154, 0, 13, 16, 250, 61, 42, 3, 181, 0, 154, 28, 172, 42, 180, 0, 15, 42, 180, 0, 138, 43, 83, 42]
abbrev dktX0_addRule_1 : List UInt8 := dkwX0_addRule_1 ++ dktX0_addRule_2
def dkwX0_addRule_0 : List UInt8 := [42, 180, 0, 138, 16, 6, 160, 0, 6, 16, 252, 172, 42, 180, 0, 37, 182, 0, 176, 76, 43, 184, 0, 180]
abbrev dktX0_addRule_0 : List UInt8 := dkwX0_addRule_0 ++ dktX0_addRule_1
theorem dksX0_addRule_0 : cX0_addRule.data.toList.drop 0 = dktX0_addRule_0 := by decide +kernel
theorem dksX0_addRule_1 : cX0_addRule.data.toList.drop 24 = dktX0_addRule_1 := dk_seg dksX0_addRule_0 24 rfl rfl
theorem dksX0_addRule_2 : cX0_addRule.data.toList.drop 48 = dktX0_addRule_2 := dk_seg dksX0_addRule_1 24 rfl rfl
theorem dksX0_addRule_3 : cX0_addRule.data.toList.drop 70 = dktX0_addRule_3 := dk_seg dksX0_addRule_2 22 rfl rfl
theorem dksX0_addRule_4 : cX0_addRule.data.toList.drop 94 = dktX0_addRule_4 := dk_seg dksX0_addRule_3 24 rfl rfl
theorem dX0_addRule_0 : decode cX0_addRule 0 = .ok (.aload_n 0, 1) := dk_42 (dk_at dksX0_addRule_0 0 rfl rfl)
theorem dX0_addRule_1 : decode cX0_addRule 1 = .ok (.getfield 138, 3) := dk_180 0 138 (dk_at dksX0_addRule_0 1 rfl rfl)
theorem dX0_addRule_4 : decode cX0_addRule 4 = .ok (.bipush 6, 2) := dk_16 6 (dk_at dksX0_addRule_0 4 rfl rfl)
theorem dX0_addRule_6 : decode cX0_addRule 6 = .ok (.if_icmp .ne 6, 3) := dk_160 0 6 (dk_at dksX0_addRule_0 6 rfl rfl)
theorem dX0_addRule_9 : decode cX0_addRule 9 = .ok (.bipush (-4), 2) := dk_16 252 (dk_at dksX0_addRule_0 9 rfl rfl)
theorem dX0_addRule_11 : decode cX0_addRule 11 = .ok (.ireturn, 1) := dk_172 (dk_at dksX0_addRule_0 11 rfl rfl)
theorem dX0_addRule_12 : decode cX0_addRule 12 = .ok (.aload_n 0, 1) := dk_42 (dk_at dksX0_addRule_0 12 rfl rfl)
theorem dX0_addRule_13 : decode cX0_addRule 13 = .ok (.getfield 37, 3) := dk_180 0 37 (dk_at dksX0_addRule_0 13 rfl rfl)
theorem dX0_addRule_16 : decode cX0_addRule 16 = .ok (.invokevirtual 176, 3) := dk_182 0 176 (dk_at dksX0_addRule_0 16 rfl rfl)
theorem dX0_addRule_19 : decode cX0_addRule 19 = .ok (.astore_n 1, 1) := dk_76 (dk_at dksX0_addRule_0 19 rfl rfl)
theorem dX0_addRule_20 : decode cX0_addRule 20 = .ok (.aload_n 1, 1) := dk_43 (dk_at dksX0_addRule_0 20 rfl rfl)
theorem dX0_addRule_21 : decode cX0_addRule 21 = .ok (.invokestatic 180, 3) := dk_184 0 180 (dk_at dksX0_addRule_0 21 rfl rfl)
theorem dX0_addRule_24 : decode cX0_addRule 24 = .ok (.ifCond .ne 13, 3) := dk_154 0 13 (dk_at dksX0_addRule_1 0 rfl rfl)
theorem dX0_addRule_27 : decode cX0_addRule 27 = .ok (.bipush (-6), 2) := dk_16 250 (dk_at dksX0_addRule_1 3 rfl rfl)
theorem dX0_addRule_29 : decode cX0_addRule 29 = .ok (.istore_n 2, 1) := dk_61 (dk_at dksX0_addRule_1 5 rfl rfl)
theorem dX0_addRule_30 : decode cX0_addRule 30 = .ok (.aload_n 0, 1) := dk_42 (dk_at dksX0_addRule_1 6 rfl rfl)
theorem dX0_addRule_31 : decode cX0_addRule 31 = .ok (.iconst 0, 1) := dk_3 (dk_at dksX0_addRule_1 7 rfl rfl)
theorem dX0_addRule_32 : decode cX0_addRule 32 = .ok (.putfield 154, 3) := dk_181 0 154 (dk_at dksX0_addRule_1 8 rfl rfl)
theorem dX0_addRule_35 : decode cX0_addRule 35 = .ok (.iload_n 2, 1) := dk_28 (dk_at dksX0_addRule_1 11 rfl rfl)
theorem dX0_addRule_36 : decode cX0_addRule 36 = .ok (.ireturn, 1) := dk_172 (dk_at dksX0_addRule_1 12 rfl rfl)
theorem dX0_addRule_37 : decode cX0_addRule 37 = .ok (.aload_n 0, 1) := dk_42 (dk_at dksX0_addRule_1 13 rfl rfl)
theorem dX0_addRule_38 : decode cX0_addRule 38 = .ok (.getfield 15, 3) := dk_180 0 15 (dk_at dksX0_addRule_1 14 rfl rfl)
theorem dX0_addRule_41 : decode cX0_addRule 41 = .ok (.aload_n 0, 1) := dk_42 (dk_at dksX0_addRule_1 17 rfl rfl)
theorem dX0_addRule_42 : decode cX0_addRule 42 = .ok (.getfield 138, 3) := dk_180 0 138 (dk_at dksX0_addRule_1 18 rfl rfl)
theorem dX0_addRule_45 : decode cX0_addRule 45 = .ok (.aload_n 1, 1) := dk_43 (dk_at dksX0_addRule_1 21 rfl rfl)
theorem dX0_addRule_46 : decode cX0_addRule 46 = .ok (.aastore, 1) := dk_83 (dk_at dksX0_addRule_1 22 rfl rfl)
theorem dX0_addRule_47 : decode cX0_addRule 47 = .ok (.aload_n 0, 1) := dk_42 (dk_at dksX0_addRule_1 23 rfl rfl)
theorem dX0_addRule_48 : decode cX0_addRule 48 = .ok (.dup, 1) := dk_89 (dk_at dksX0_addRule_2 0 rfl rfl)
theorem dX0_addRule_49 : decode cX0_addRule 49 = .ok (.getfield 138, 3) := dk_180 0 138 (dk_at dksX0_addRule_2 1 rfl rfl)
theorem dX0_addRule_52 : decode cX0_addRule 52 = .ok (.iconst 1, 1) := dk_4 (dk_at dksX0_addRule_2 4 rfl rfl)
theorem dX0_addRule_53 : decode cX0_addRule 53 = .ok (.iadd, 1) := dk_96 (dk_at dksX0_addRule_2 5 rfl rfl)
theorem dX0_addRule_54 : decode cX0_addRule 54 = .ok (.putfield 138, 3) := dk_181 0 138 (dk_at dksX0_addRule_2 6 rfl rfl)
theorem dX0_addRule_57 : decode cX0_addRule 57 = .ok (.aload_n 0, 1) := dk_42 (dk_at dksX0_addRule_2 9 rfl rfl)
theorem dX0_addRule_58 : decode cX0_addRule 58 = .ok (.invokevirtual 184, 3) := dk_182 0 184 (dk_at dksX0_addRule_2 10 rfl rfl)
theorem dX0_addRule_61 : decode cX0_addRule 61 = .ok (.aload_n 0, 1) := dk_42 (dk_at dksX0_addRule_2 13 rfl rfl)
theorem dX0_addRule_62 : decode cX0_addRule 62 = .ok (.getfield 138, 3) := dk_180 0 138 (dk_at dksX0_addRule_2 14 rfl rfl)
theorem dX0_addRule_65 : decode cX0_addRule 65 = .ok (.iconst 1, 1) := dk_4 (dk_at dksX0_addRule_2 17 rfl rfl)
theorem dX0_addRule_66 : decode cX0_addRule 66 = .ok (.isub, 1) := dk_100 (dk_at dksX0_addRule_2 18 rfl rfl)
theorem dX0_addRule_67 : decode cX0_addRule 67 = .ok (.istore_n 2, 1) := dk_61 (dk_at dksX0_addRule_2 19 rfl rfl)
theorem dX0_addRule_68 : decode cX0_addRule 68 = .ok (.aload_n 0, 1) := dk_42 (dk_at dksX0_addRule_2 20 rfl rfl)
theorem dX0_addRule_69 : decode cX0_addRule 69 = .ok (.iconst 0, 1) := dk_3 (dk_at dksX0_addRule_2 21 rfl rfl)
theorem dX0_addRule_70 : decode cX0_addRule 70 = .ok (.putfield 154, 3) := dk_181 0 154 (dk_at dksX0_addRule_3 0 rfl rfl)
theorem dX0_addRule_73 : decode cX0_addRule 73 = .ok (.iload_n 2, 1) := dk_28 (dk_at dksX0_addRule_3 3 rfl rfl)
theorem dX0_addRule_74 : decode cX0_addRule 74 = .ok (.ireturn, 1) := dk_172 (dk_at dksX0_addRule_3 4 rfl rfl)
theorem dX0_addRule_75 : decode cX0_addRule 75 = .ok (.astore_n 1, 1) := dk_76 (dk_at dksX0_addRule_3 5 rfl rfl)
theorem dX0_addRule_76 : decode cX0_addRule 76 = .ok (.bipush (-100), 2) := dk_16 156 (dk_at dksX0_addRule_3 6 rfl rfl)
theorem dX0_addRule_78 : decode cX0_addRule 78 = .ok (.aload_n 1, 1) := dk_43 (dk_at dksX0_addRule_3 8 rfl rfl)
theorem dX0_addRule_79 : decode cX0_addRule 79 = .ok (.getfield 189, 3) := dk_180 0 189 (dk_at dksX0_addRule_3 9 rfl rfl)
theorem dX0_addRule_82 : decode cX0_addRule 82 = .ok (.isub, 1) := dk_100 (dk_at dksX0_addRule_3 12 rfl rfl)
theorem dX0_addRule_83 : decode cX0_addRule 83 = .ok (.istore_n 2, 1) := dk_61 (dk_at dksX0_addRule_3 13 rfl rfl)
theorem dX0_addRule_84 : decode cX0_addRule 84 = .ok (.aload_n 0, 1) := dk_42 (dk_at dksX0_addRule_3 14 rfl rfl)
theorem dX0_addRule_85 : decode cX0_addRule 85 = .ok (.iconst 0, 1) := dk_3 (dk_at dksX0_addRule_3 15 rfl rfl)
theorem dX0_addRule_86 : decode cX0_addRule 86 = .ok (.putfield 154, 3) := dk_181 0 154 (dk_at dksX0_addRule_3 16 rfl rfl)
theorem dX0_addRule_89 : decode cX0_addRule 89 = .ok (.iload_n 2, 1) := dk_28 (dk_at dksX0_addRule_3 19 rfl rfl)
theorem dX0_addRule_90 : decode cX0_addRule 90 = .ok (.ireturn, 1) := dk_172 (dk_at dksX0_addRule_3 20 rfl rfl)
theorem dX0_addRule_91 : decode cX0_addRule 91 = .ok (.astore_n 3, 1) := dk_78 (dk_at dksX0_addRule_3 21 rfl rfl)
theorem dX0_addRule_92 : decode cX0_addRule 92 = .ok (.aload_n 0, 1) := dk_42 (dk_at dksX0_addRule_3 22 rfl rfl)
theorem dX0_addRule_93 : decode cX0_addRule 93 = .ok (.iconst 0, 1) := dk_3 (dk_at dksX0_addRule_3 23 rfl rfl)
theorem dX0_addRule_94 : decode cX0_addRule 94 = .ok (.putfield 154, 3) := dk_181 0 154 (dk_at dksX0_addRule_4 0 rfl rfl)
theorem dX0_addRule_97 : decode cX0_addRule 97 = .ok (.aload_n 3, 1) := dk_45 (dk_at dksX0_addRule_4 3 rfl rfl)
theorem dX0_addRule_98 : decode cX0_addRule 98 = .ok (.athrow, 1) := dk_191 (dk_at dksX0_addRule_4 4 rfl rfl)
abbrev cX0_isValid : ByteArray := prog_1_method_14_code
def yX0_isValid : MethodName := ⟨RX0, "isValid", "(LDependencyPairAnalyzer$Rule;)Z"⟩
def dkwX0_isValid_5 : List UInt8 := [62, 132, 4, 1, 167, 255, 214, 29, 172]
abbrev dktX0_isValid_5 : List UInt8 := dkwX0_isValid_5 ++ []
def dkwX0_isValid_4 : List UInt8 := [21, 4, 182, 0, 169, 153, 0, 14, 43, 3, 44, 21, 4, 182, 0, 172, 153, 0, 7, 4, 167, 0, 4, 3]
abbrev dktX0_isValid_4 : List UInt8 := dkwX0_isValid_4 ++ dktX0_isValid_5
def dkwX0_isValid_3 : List UInt8 := [62, 132, 4, 1, 167, 255, 225, 3, 54, 4, 21, 4, 44, 182, 0, 165, 162, 0, 39, 29, 153, 0, 35, 44]
abbrev dktX0_isValid_3 : List UInt8 := dkwX0_isValid_3 ++ dktX0_isValid_4
def dkwX0_isValid_2 : List UInt8 := [182, 0, 165, 162, 0, 28, 29, 153, 0, 24, 43, 21, 4, 182, 0, 164, 154, 0, 7, 4, 167, 0, 4, 3]
abbrev dktX0_isValid_2 : List UInt8 := dkwX0_isValid_2 ++ dktX0_isValid_3
def dkwX0_isValid_1 : List UInt8 := [163, 0, 16, 44, 182, 0, 165, 16, 40, 163, 0, 7, 4, 167, 0, 4, 3, 62, 4, 54, 4, 21, 4, 43]
abbrev dktX0_isValid_1 : List UInt8 := dkwX0_isValid_1 ++ dktX0_isValid_2
def dkwX0_isValid_0 : List UInt8 := [42, 180, 0, 157, 76, 42, 180, 0, 161, 77, 43, 3, 182, 0, 164, 153, 0, 25, 43, 182, 0, 165, 16, 40]
abbrev dktX0_isValid_0 : List UInt8 := dkwX0_isValid_0 ++ dktX0_isValid_1
theorem dksX0_isValid_0 : cX0_isValid.data.toList.drop 0 = dktX0_isValid_0 := by decide +kernel
theorem dksX0_isValid_1 : cX0_isValid.data.toList.drop 24 = dktX0_isValid_1 := dk_seg dksX0_isValid_0 24 rfl rfl
theorem dksX0_isValid_2 : cX0_isValid.data.toList.drop 48 = dktX0_isValid_2 := dk_seg dksX0_isValid_1 24 rfl rfl
theorem dksX0_isValid_3 : cX0_isValid.data.toList.drop 72 = dktX0_isValid_3 := dk_seg dksX0_isValid_2 24 rfl rfl
theorem dksX0_isValid_4 : cX0_isValid.data.toList.drop 96 = dktX0_isValid_4 := dk_seg dksX0_isValid_3 24 rfl rfl
theorem dksX0_isValid_5 : cX0_isValid.data.toList.drop 120 = dktX0_isValid_5 := dk_seg dksX0_isValid_4 24 rfl rfl
theorem dX0_isValid_0 : decode cX0_isValid 0 = .ok (.aload_n 0, 1) := dk_42 (dk_at dksX0_isValid_0 0 rfl rfl)
theorem dX0_isValid_1 : decode cX0_isValid 1 = .ok (.getfield 157, 3) := dk_180 0 157 (dk_at dksX0_isValid_0 1 rfl rfl)
theorem dX0_isValid_4 : decode cX0_isValid 4 = .ok (.astore_n 1, 1) := dk_76 (dk_at dksX0_isValid_0 4 rfl rfl)
theorem dX0_isValid_5 : decode cX0_isValid 5 = .ok (.aload_n 0, 1) := dk_42 (dk_at dksX0_isValid_0 5 rfl rfl)
theorem dX0_isValid_6 : decode cX0_isValid 6 = .ok (.getfield 161, 3) := dk_180 0 161 (dk_at dksX0_isValid_0 6 rfl rfl)
theorem dX0_isValid_9 : decode cX0_isValid 9 = .ok (.astore_n 2, 1) := dk_77 (dk_at dksX0_isValid_0 9 rfl rfl)
theorem dX0_isValid_10 : decode cX0_isValid 10 = .ok (.aload_n 1, 1) := dk_43 (dk_at dksX0_isValid_0 10 rfl rfl)
theorem dX0_isValid_11 : decode cX0_isValid 11 = .ok (.iconst 0, 1) := dk_3 (dk_at dksX0_isValid_0 11 rfl rfl)
theorem dX0_isValid_12 : decode cX0_isValid 12 = .ok (.invokevirtual 164, 3) := dk_182 0 164 (dk_at dksX0_isValid_0 12 rfl rfl)
theorem dX0_isValid_15 : decode cX0_isValid 15 = .ok (.ifCond .eq 25, 3) := dk_153 0 25 (dk_at dksX0_isValid_0 15 rfl rfl)
theorem dX0_isValid_18 : decode cX0_isValid 18 = .ok (.aload_n 1, 1) := dk_43 (dk_at dksX0_isValid_0 18 rfl rfl)
theorem dX0_isValid_19 : decode cX0_isValid 19 = .ok (.invokevirtual 165, 3) := dk_182 0 165 (dk_at dksX0_isValid_0 19 rfl rfl)
theorem dX0_isValid_22 : decode cX0_isValid 22 = .ok (.bipush 40, 2) := dk_16 40 (dk_at dksX0_isValid_0 22 rfl rfl)
theorem dX0_isValid_24 : decode cX0_isValid 24 = .ok (.if_icmp .gt 16, 3) := dk_163 0 16 (dk_at dksX0_isValid_1 0 rfl rfl)
theorem dX0_isValid_27 : decode cX0_isValid 27 = .ok (.aload_n 2, 1) := dk_44 (dk_at dksX0_isValid_1 3 rfl rfl)
theorem dX0_isValid_28 : decode cX0_isValid 28 = .ok (.invokevirtual 165, 3) := dk_182 0 165 (dk_at dksX0_isValid_1 4 rfl rfl)
theorem dX0_isValid_31 : decode cX0_isValid 31 = .ok (.bipush 40, 2) := dk_16 40 (dk_at dksX0_isValid_1 7 rfl rfl)
theorem dX0_isValid_33 : decode cX0_isValid 33 = .ok (.if_icmp .gt 7, 3) := dk_163 0 7 (dk_at dksX0_isValid_1 9 rfl rfl)
theorem dX0_isValid_36 : decode cX0_isValid 36 = .ok (.iconst 1, 1) := dk_4 (dk_at dksX0_isValid_1 12 rfl rfl)
theorem dX0_isValid_37 : decode cX0_isValid 37 = .ok (.goto 4, 3) := dk_167 0 4 (dk_at dksX0_isValid_1 13 rfl rfl)
theorem dX0_isValid_40 : decode cX0_isValid 40 = .ok (.iconst 0, 1) := dk_3 (dk_at dksX0_isValid_1 16 rfl rfl)
theorem dX0_isValid_41 : decode cX0_isValid 41 = .ok (.istore_n 3, 1) := dk_62 (dk_at dksX0_isValid_1 17 rfl rfl)
theorem dX0_isValid_42 : decode cX0_isValid 42 = .ok (.iconst 1, 1) := dk_4 (dk_at dksX0_isValid_1 18 rfl rfl)
theorem dX0_isValid_43 : decode cX0_isValid 43 = .ok (.istore 4, 2) := dk_54 4 (dk_at dksX0_isValid_1 19 rfl rfl)
theorem dX0_isValid_45 : decode cX0_isValid 45 = .ok (.iload 4, 2) := dk_21 4 (dk_at dksX0_isValid_1 21 rfl rfl)
theorem dX0_isValid_47 : decode cX0_isValid 47 = .ok (.aload_n 1, 1) := dk_43 (dk_at dksX0_isValid_1 23 rfl rfl)
theorem dX0_isValid_48 : decode cX0_isValid 48 = .ok (.invokevirtual 165, 3) := dk_182 0 165 (dk_at dksX0_isValid_2 0 rfl rfl)
theorem dX0_isValid_51 : decode cX0_isValid 51 = .ok (.if_icmp .ge 28, 3) := dk_162 0 28 (dk_at dksX0_isValid_2 3 rfl rfl)
theorem dX0_isValid_54 : decode cX0_isValid 54 = .ok (.iload_n 3, 1) := dk_29 (dk_at dksX0_isValid_2 6 rfl rfl)
theorem dX0_isValid_55 : decode cX0_isValid 55 = .ok (.ifCond .eq 24, 3) := dk_153 0 24 (dk_at dksX0_isValid_2 7 rfl rfl)
theorem dX0_isValid_58 : decode cX0_isValid 58 = .ok (.aload_n 1, 1) := dk_43 (dk_at dksX0_isValid_2 10 rfl rfl)
theorem dX0_isValid_59 : decode cX0_isValid 59 = .ok (.iload 4, 2) := dk_21 4 (dk_at dksX0_isValid_2 11 rfl rfl)
theorem dX0_isValid_61 : decode cX0_isValid 61 = .ok (.invokevirtual 164, 3) := dk_182 0 164 (dk_at dksX0_isValid_2 13 rfl rfl)
theorem dX0_isValid_64 : decode cX0_isValid 64 = .ok (.ifCond .ne 7, 3) := dk_154 0 7 (dk_at dksX0_isValid_2 16 rfl rfl)
theorem dX0_isValid_67 : decode cX0_isValid 67 = .ok (.iconst 1, 1) := dk_4 (dk_at dksX0_isValid_2 19 rfl rfl)
theorem dX0_isValid_68 : decode cX0_isValid 68 = .ok (.goto 4, 3) := dk_167 0 4 (dk_at dksX0_isValid_2 20 rfl rfl)
theorem dX0_isValid_71 : decode cX0_isValid 71 = .ok (.iconst 0, 1) := dk_3 (dk_at dksX0_isValid_2 23 rfl rfl)
theorem dX0_isValid_72 : decode cX0_isValid 72 = .ok (.istore_n 3, 1) := dk_62 (dk_at dksX0_isValid_3 0 rfl rfl)
theorem dX0_isValid_73 : decode cX0_isValid 73 = .ok (.iinc 4 1, 3) := dk_132 4 1 (dk_at dksX0_isValid_3 1 rfl rfl)
theorem dX0_isValid_76 : decode cX0_isValid 76 = .ok (.goto (-31), 3) := dk_167 255 225 (dk_at dksX0_isValid_3 4 rfl rfl)
theorem dX0_isValid_79 : decode cX0_isValid 79 = .ok (.iconst 0, 1) := dk_3 (dk_at dksX0_isValid_3 7 rfl rfl)
theorem dX0_isValid_80 : decode cX0_isValid 80 = .ok (.istore 4, 2) := dk_54 4 (dk_at dksX0_isValid_3 8 rfl rfl)
theorem dX0_isValid_82 : decode cX0_isValid 82 = .ok (.iload 4, 2) := dk_21 4 (dk_at dksX0_isValid_3 10 rfl rfl)
theorem dX0_isValid_84 : decode cX0_isValid 84 = .ok (.aload_n 2, 1) := dk_44 (dk_at dksX0_isValid_3 12 rfl rfl)
theorem dX0_isValid_85 : decode cX0_isValid 85 = .ok (.invokevirtual 165, 3) := dk_182 0 165 (dk_at dksX0_isValid_3 13 rfl rfl)
theorem dX0_isValid_88 : decode cX0_isValid 88 = .ok (.if_icmp .ge 39, 3) := dk_162 0 39 (dk_at dksX0_isValid_3 16 rfl rfl)
theorem dX0_isValid_91 : decode cX0_isValid 91 = .ok (.iload_n 3, 1) := dk_29 (dk_at dksX0_isValid_3 19 rfl rfl)
theorem dX0_isValid_92 : decode cX0_isValid 92 = .ok (.ifCond .eq 35, 3) := dk_153 0 35 (dk_at dksX0_isValid_3 20 rfl rfl)
theorem dX0_isValid_95 : decode cX0_isValid 95 = .ok (.aload_n 2, 1) := dk_44 (dk_at dksX0_isValid_3 23 rfl rfl)
theorem dX0_isValid_96 : decode cX0_isValid 96 = .ok (.iload 4, 2) := dk_21 4 (dk_at dksX0_isValid_4 0 rfl rfl)
theorem dX0_isValid_98 : decode cX0_isValid 98 = .ok (.invokevirtual 169, 3) := dk_182 0 169 (dk_at dksX0_isValid_4 2 rfl rfl)
theorem dX0_isValid_101 : decode cX0_isValid 101 = .ok (.ifCond .eq 14, 3) := dk_153 0 14 (dk_at dksX0_isValid_4 5 rfl rfl)
theorem dX0_isValid_104 : decode cX0_isValid 104 = .ok (.aload_n 1, 1) := dk_43 (dk_at dksX0_isValid_4 8 rfl rfl)
theorem dX0_isValid_105 : decode cX0_isValid 105 = .ok (.iconst 0, 1) := dk_3 (dk_at dksX0_isValid_4 9 rfl rfl)
theorem dX0_isValid_106 : decode cX0_isValid 106 = .ok (.aload_n 2, 1) := dk_44 (dk_at dksX0_isValid_4 10 rfl rfl)
theorem dX0_isValid_107 : decode cX0_isValid 107 = .ok (.iload 4, 2) := dk_21 4 (dk_at dksX0_isValid_4 11 rfl rfl)
theorem dX0_isValid_109 : decode cX0_isValid 109 = .ok (.invokevirtual 172, 3) := dk_182 0 172 (dk_at dksX0_isValid_4 13 rfl rfl)
theorem dX0_isValid_112 : decode cX0_isValid 112 = .ok (.ifCond .eq 7, 3) := dk_153 0 7 (dk_at dksX0_isValid_4 16 rfl rfl)
theorem dX0_isValid_115 : decode cX0_isValid 115 = .ok (.iconst 1, 1) := dk_4 (dk_at dksX0_isValid_4 19 rfl rfl)
theorem dX0_isValid_116 : decode cX0_isValid 116 = .ok (.goto 4, 3) := dk_167 0 4 (dk_at dksX0_isValid_4 20 rfl rfl)
theorem dX0_isValid_119 : decode cX0_isValid 119 = .ok (.iconst 0, 1) := dk_3 (dk_at dksX0_isValid_4 23 rfl rfl)
theorem dX0_isValid_120 : decode cX0_isValid 120 = .ok (.istore_n 3, 1) := dk_62 (dk_at dksX0_isValid_5 0 rfl rfl)
theorem dX0_isValid_121 : decode cX0_isValid 121 = .ok (.iinc 4 1, 3) := dk_132 4 1 (dk_at dksX0_isValid_5 1 rfl rfl)
theorem dX0_isValid_124 : decode cX0_isValid 124 = .ok (.goto (-42), 3) := dk_167 255 214 (dk_at dksX0_isValid_5 4 rfl rfl)
theorem dX0_isValid_127 : decode cX0_isValid 127 = .ok (.iload_n 3, 1) := dk_29 (dk_at dksX0_isValid_5 7 rfl rfl)
theorem dX0_isValid_128 : decode cX0_isValid 128 = .ok (.ireturn, 1) := dk_172 (dk_at dksX0_isValid_5 8 rfl rfl)
abbrev cX0_invalidate : ByteArray := prog_1_method_20_code
def yX0_invalidate : MethodName := ⟨RX0, "invalidate", "()V"⟩
def dkwX0_invalidate_0 : List UInt8 := [42, 4, 181, 0, 41, 177]
abbrev dktX0_invalidate_0 : List UInt8 := dkwX0_invalidate_0 ++ []
theorem dksX0_invalidate_0 : cX0_invalidate.data.toList.drop 0 = dktX0_invalidate_0 := by decide +kernel
theorem dX0_invalidate_0 : decode cX0_invalidate 0 = .ok (.aload_n 0, 1) := dk_42 (dk_at dksX0_invalidate_0 0 rfl rfl)
theorem dX0_invalidate_1 : decode cX0_invalidate 1 = .ok (.iconst 1, 1) := dk_4 (dk_at dksX0_invalidate_0 1 rfl rfl)
theorem dX0_invalidate_2 : decode cX0_invalidate 2 = .ok (.putfield 41, 3) := dk_181 0 41 (dk_at dksX0_invalidate_0 2 rfl rfl)
theorem dX0_invalidate_5 : decode cX0_invalidate 5 = .ok (.return_, 1) := dk_177 (dk_at dksX0_invalidate_0 5 rfl rfl)
abbrev cX0_removeRule : ByteArray := prog_1_method_16_code
def yX0_removeRule : MethodName := ⟨RX0, "removeRule", "(I)I"⟩
def dkwX0_removeRule_2 : List UInt8 := [180, 0, 138, 172]
abbrev dktX0_removeRule_2 : List UInt8 := dkwX0_removeRule_2 ++ []
def dkwX0_removeRule_1 : List UInt8 := [27, 4, 96, 42, 180, 0, 15, 27, 42, 180, 0, 138, 27, 100, 184, 0, 195, 42, 182, 0, 184, 42]
abbrev dktX0_removeRule_1 : List UInt8 := dkwX0_removeRule_1 ++ dktX0_removeRule_2
def dkwX0_removeRule_0 : List UInt8 := [42, 27, 182, 0, 192, 154, 0, 5, 2, 172, 42, 89, 180, 0, 138, 4, 100, 181, 0, 138, 42, 180, 0, 15]
abbrev dktX0_removeRule_0 : List UInt8 := dkwX0_removeRule_0 ++ dktX0_removeRule_1
theorem dksX0_removeRule_0 : cX0_removeRule.data.toList.drop 0 = dktX0_removeRule_0 := by decide +kernel
theorem dksX0_removeRule_1 : cX0_removeRule.data.toList.drop 24 = dktX0_removeRule_1 := dk_seg dksX0_removeRule_0 24 rfl rfl
theorem dksX0_removeRule_2 : cX0_removeRule.data.toList.drop 46 = dktX0_removeRule_2 := dk_seg dksX0_removeRule_1 22 rfl rfl
theorem dX0_removeRule_0 : decode cX0_removeRule 0 = .ok (.aload_n 0, 1) := dk_42 (dk_at dksX0_removeRule_0 0 rfl rfl)
theorem dX0_removeRule_1 : decode cX0_removeRule 1 = .ok (.iload_n 1, 1) := dk_27 (dk_at dksX0_removeRule_0 1 rfl rfl)
theorem dX0_removeRule_2 : decode cX0_removeRule 2 = .ok (.invokevirtual 192, 3) := dk_182 0 192 (dk_at dksX0_removeRule_0 2 rfl rfl)
theorem dX0_removeRule_5 : decode cX0_removeRule 5 = .ok (.ifCond .ne 5, 3) := dk_154 0 5 (dk_at dksX0_removeRule_0 5 rfl rfl)
theorem dX0_removeRule_8 : decode cX0_removeRule 8 = .ok (.iconst (-1), 1) := dk_2 (dk_at dksX0_removeRule_0 8 rfl rfl)
theorem dX0_removeRule_9 : decode cX0_removeRule 9 = .ok (.ireturn, 1) := dk_172 (dk_at dksX0_removeRule_0 9 rfl rfl)
theorem dX0_removeRule_10 : decode cX0_removeRule 10 = .ok (.aload_n 0, 1) := dk_42 (dk_at dksX0_removeRule_0 10 rfl rfl)
theorem dX0_removeRule_11 : decode cX0_removeRule 11 = .ok (.dup, 1) := dk_89 (dk_at dksX0_removeRule_0 11 rfl rfl)
theorem dX0_removeRule_12 : decode cX0_removeRule 12 = .ok (.getfield 138, 3) := dk_180 0 138 (dk_at dksX0_removeRule_0 12 rfl rfl)
theorem dX0_removeRule_15 : decode cX0_removeRule 15 = .ok (.iconst 1, 1) := dk_4 (dk_at dksX0_removeRule_0 15 rfl rfl)
theorem dX0_removeRule_16 : decode cX0_removeRule 16 = .ok (.isub, 1) := dk_100 (dk_at dksX0_removeRule_0 16 rfl rfl)
theorem dX0_removeRule_17 : decode cX0_removeRule 17 = .ok (.putfield 138, 3) := dk_181 0 138 (dk_at dksX0_removeRule_0 17 rfl rfl)
theorem dX0_removeRule_20 : decode cX0_removeRule 20 = .ok (.aload_n 0, 1) := dk_42 (dk_at dksX0_removeRule_0 20 rfl rfl)
theorem dX0_removeRule_21 : decode cX0_removeRule 21 = .ok (.getfield 15, 3) := dk_180 0 15 (dk_at dksX0_removeRule_0 21 rfl rfl)
theorem dX0_removeRule_24 : decode cX0_removeRule 24 = .ok (.iload_n 1, 1) := dk_27 (dk_at dksX0_removeRule_1 0 rfl rfl)
theorem dX0_removeRule_25 : decode cX0_removeRule 25 = .ok (.iconst 1, 1) := dk_4 (dk_at dksX0_removeRule_1 1 rfl rfl)
theorem dX0_removeRule_26 : decode cX0_removeRule 26 = .ok (.iadd, 1) := dk_96 (dk_at dksX0_removeRule_1 2 rfl rfl)
theorem dX0_removeRule_27 : decode cX0_removeRule 27 = .ok (.aload_n 0, 1) := dk_42 (dk_at dksX0_removeRule_1 3 rfl rfl)
theorem dX0_removeRule_28 : decode cX0_removeRule 28 = .ok (.getfield 15, 3) := dk_180 0 15 (dk_at dksX0_removeRule_1 4 rfl rfl)
theorem dX0_removeRule_31 : decode cX0_removeRule 31 = .ok (.iload_n 1, 1) := dk_27 (dk_at dksX0_removeRule_1 7 rfl rfl)
theorem dX0_removeRule_32 : decode cX0_removeRule 32 = .ok (.aload_n 0, 1) := dk_42 (dk_at dksX0_removeRule_1 8 rfl rfl)
theorem dX0_removeRule_33 : decode cX0_removeRule 33 = .ok (.getfield 138, 3) := dk_180 0 138 (dk_at dksX0_removeRule_1 9 rfl rfl)
theorem dX0_removeRule_36 : decode cX0_removeRule 36 = .ok (.iload_n 1, 1) := dk_27 (dk_at dksX0_removeRule_1 12 rfl rfl)
theorem dX0_removeRule_37 : decode cX0_removeRule 37 = .ok (.isub, 1) := dk_100 (dk_at dksX0_removeRule_1 13 rfl rfl)
theorem dX0_removeRule_38 : decode cX0_removeRule 38 = .ok (.invokestatic 195, 3) := dk_184 0 195 (dk_at dksX0_removeRule_1 14 rfl rfl)
theorem dX0_removeRule_41 : decode cX0_removeRule 41 = .ok (.aload_n 0, 1) := dk_42 (dk_at dksX0_removeRule_1 17 rfl rfl)
theorem dX0_removeRule_42 : decode cX0_removeRule 42 = .ok (.invokevirtual 184, 3) := dk_182 0 184 (dk_at dksX0_removeRule_1 18 rfl rfl)
theorem dX0_removeRule_45 : decode cX0_removeRule 45 = .ok (.aload_n 0, 1) := dk_42 (dk_at dksX0_removeRule_1 21 rfl rfl)
theorem dX0_removeRule_46 : decode cX0_removeRule 46 = .ok (.getfield 138, 3) := dk_180 0 138 (dk_at dksX0_removeRule_2 0 rfl rfl)
theorem dX0_removeRule_49 : decode cX0_removeRule 49 = .ok (.ireturn, 1) := dk_172 (dk_at dksX0_removeRule_2 3 rfl rfl)
abbrev cX0_isRule : ByteArray := prog_1_method_7_code
def yX0_isRule : MethodName := ⟨RX0, "isRule", "(I)Z"⟩
def dkwX0_isRule_0 : List UInt8 := [27, 133, 9, 42, 180, 0, 138, 4, 100, 133, 184, 0, 134, 172]
abbrev dktX0_isRule_0 : List UInt8 := dkwX0_isRule_0 ++ []
theorem dksX0_isRule_0 : cX0_isRule.data.toList.drop 0 = dktX0_isRule_0 := by decide +kernel
theorem dX0_isRule_0 : decode cX0_isRule 0 = .ok (.iload_n 1, 1) := dk_27 (dk_at dksX0_isRule_0 0 rfl rfl)
theorem dX0_isRule_1 : decode cX0_isRule 1 = .ok (.i2l, 1) := dk_133 (dk_at dksX0_isRule_0 1 rfl rfl)
theorem dX0_isRule_2 : decode cX0_isRule 2 = .ok (.lconst 0, 1) := dk_9 (dk_at dksX0_isRule_0 2 rfl rfl)
theorem dX0_isRule_3 : decode cX0_isRule 3 = .ok (.aload_n 0, 1) := dk_42 (dk_at dksX0_isRule_0 3 rfl rfl)
theorem dX0_isRule_4 : decode cX0_isRule 4 = .ok (.getfield 138, 3) := dk_180 0 138 (dk_at dksX0_isRule_0 4 rfl rfl)
theorem dX0_isRule_7 : decode cX0_isRule 7 = .ok (.iconst 1, 1) := dk_4 (dk_at dksX0_isRule_0 7 rfl rfl)
theorem dX0_isRule_8 : decode cX0_isRule 8 = .ok (.isub, 1) := dk_100 (dk_at dksX0_isRule_0 8 rfl rfl)
theorem dX0_isRule_9 : decode cX0_isRule 9 = .ok (.i2l, 1) := dk_133 (dk_at dksX0_isRule_0 9 rfl rfl)
theorem dX0_isRule_10 : decode cX0_isRule 10 = .ok (.invokestatic 134, 3) := dk_184 0 134 (dk_at dksX0_isRule_0 10 rfl rfl)
theorem dX0_isRule_13 : decode cX0_isRule 13 = .ok (.ireturn, 1) := dk_172 (dk_at dksX0_isRule_0 13 rfl rfl)
abbrev cX0_ruleCount : ByteArray := prog_1_method_17_code
def yX0_ruleCount : MethodName := ⟨RX0, "ruleCount", "()I"⟩
theorem dX0_ruleCount_0 : decode cX0_ruleCount 0 = .ok (.aload_n 0, 1) := by decide +kernel
theorem dX0_ruleCount_1 : decode cX0_ruleCount 1 = .ok (.getfield 138, 3) := by decide +kernel
theorem dX0_ruleCount_4 : decode cX0_ruleCount 4 = .ok (.ireturn, 1) := by decide +kernel
abbrev cX0_leftSize : ByteArray := prog_1_method_18_code
def yX0_leftSize : MethodName := ⟨RX0, "leftSize", "(I)I"⟩
def dkwX0_leftSize_1 : List UInt8 := [172]
abbrev dktX0_leftSize_1 : List UInt8 := dkwX0_leftSize_1 ++ []
def dkwX0_leftSize_0 : List UInt8 := [42, 27, 182, 0, 192, 153, 0, 18, 42, 180, 0, 15, 27, 50, 180, 0, 157, 182, 0, 165, 167, 0, 4, 2]
abbrev dktX0_leftSize_0 : List UInt8 := dkwX0_leftSize_0 ++ dktX0_leftSize_1
theorem dksX0_leftSize_0 : cX0_leftSize.data.toList.drop 0 = dktX0_leftSize_0 := by decide +kernel
theorem dksX0_leftSize_1 : cX0_leftSize.data.toList.drop 24 = dktX0_leftSize_1 := dk_seg dksX0_leftSize_0 24 rfl rfl
theorem dX0_leftSize_0 : decode cX0_leftSize 0 = .ok (.aload_n 0, 1) := dk_42 (dk_at dksX0_leftSize_0 0 rfl rfl)
theorem dX0_leftSize_1 : decode cX0_leftSize 1 = .ok (.iload_n 1, 1) := dk_27 (dk_at dksX0_leftSize_0 1 rfl rfl)
theorem dX0_leftSize_2 : decode cX0_leftSize 2 = .ok (.invokevirtual 192, 3) := dk_182 0 192 (dk_at dksX0_leftSize_0 2 rfl rfl)
theorem dX0_leftSize_5 : decode cX0_leftSize 5 = .ok (.ifCond .eq 18, 3) := dk_153 0 18 (dk_at dksX0_leftSize_0 5 rfl rfl)
theorem dX0_leftSize_8 : decode cX0_leftSize 8 = .ok (.aload_n 0, 1) := dk_42 (dk_at dksX0_leftSize_0 8 rfl rfl)
theorem dX0_leftSize_9 : decode cX0_leftSize 9 = .ok (.getfield 15, 3) := dk_180 0 15 (dk_at dksX0_leftSize_0 9 rfl rfl)
theorem dX0_leftSize_12 : decode cX0_leftSize 12 = .ok (.iload_n 1, 1) := dk_27 (dk_at dksX0_leftSize_0 12 rfl rfl)
theorem dX0_leftSize_13 : decode cX0_leftSize 13 = .ok (.aaload, 1) := dk_50 (dk_at dksX0_leftSize_0 13 rfl rfl)
theorem dX0_leftSize_14 : decode cX0_leftSize 14 = .ok (.getfield 157, 3) := dk_180 0 157 (dk_at dksX0_leftSize_0 14 rfl rfl)
theorem dX0_leftSize_17 : decode cX0_leftSize 17 = .ok (.invokevirtual 165, 3) := dk_182 0 165 (dk_at dksX0_leftSize_0 17 rfl rfl)
theorem dX0_leftSize_20 : decode cX0_leftSize 20 = .ok (.goto 4, 3) := dk_167 0 4 (dk_at dksX0_leftSize_0 20 rfl rfl)
theorem dX0_leftSize_23 : decode cX0_leftSize 23 = .ok (.iconst (-1), 1) := dk_2 (dk_at dksX0_leftSize_0 23 rfl rfl)
theorem dX0_leftSize_24 : decode cX0_leftSize 24 = .ok (.ireturn, 1) := dk_172 (dk_at dksX0_leftSize_1 0 rfl rfl)
abbrev cX0_rightSize : ByteArray := prog_1_method_19_code
def yX0_rightSize : MethodName := ⟨RX0, "rightSize", "(I)I"⟩
def dkwX0_rightSize_1 : List UInt8 := [172]
abbrev dktX0_rightSize_1 : List UInt8 := dkwX0_rightSize_1 ++ []
def dkwX0_rightSize_0 : List UInt8 := [42, 27, 182, 0, 192, 153, 0, 18, 42, 180, 0, 15, 27, 50, 180, 0, 161, 182, 0, 165, 167, 0, 4, 2]
abbrev dktX0_rightSize_0 : List UInt8 := dkwX0_rightSize_0 ++ dktX0_rightSize_1
theorem dksX0_rightSize_0 : cX0_rightSize.data.toList.drop 0 = dktX0_rightSize_0 := by decide +kernel
theorem dksX0_rightSize_1 : cX0_rightSize.data.toList.drop 24 = dktX0_rightSize_1 := dk_seg dksX0_rightSize_0 24 rfl rfl
theorem dX0_rightSize_0 : decode cX0_rightSize 0 = .ok (.aload_n 0, 1) := dk_42 (dk_at dksX0_rightSize_0 0 rfl rfl)
theorem dX0_rightSize_1 : decode cX0_rightSize 1 = .ok (.iload_n 1, 1) := dk_27 (dk_at dksX0_rightSize_0 1 rfl rfl)
theorem dX0_rightSize_2 : decode cX0_rightSize 2 = .ok (.invokevirtual 192, 3) := dk_182 0 192 (dk_at dksX0_rightSize_0 2 rfl rfl)
theorem dX0_rightSize_5 : decode cX0_rightSize 5 = .ok (.ifCond .eq 18, 3) := dk_153 0 18 (dk_at dksX0_rightSize_0 5 rfl rfl)
theorem dX0_rightSize_8 : decode cX0_rightSize 8 = .ok (.aload_n 0, 1) := dk_42 (dk_at dksX0_rightSize_0 8 rfl rfl)
theorem dX0_rightSize_9 : decode cX0_rightSize 9 = .ok (.getfield 15, 3) := dk_180 0 15 (dk_at dksX0_rightSize_0 9 rfl rfl)
theorem dX0_rightSize_12 : decode cX0_rightSize 12 = .ok (.iload_n 1, 1) := dk_27 (dk_at dksX0_rightSize_0 12 rfl rfl)
theorem dX0_rightSize_13 : decode cX0_rightSize 13 = .ok (.aaload, 1) := dk_50 (dk_at dksX0_rightSize_0 13 rfl rfl)
theorem dX0_rightSize_14 : decode cX0_rightSize 14 = .ok (.getfield 161, 3) := dk_180 0 161 (dk_at dksX0_rightSize_0 14 rfl rfl)
theorem dX0_rightSize_17 : decode cX0_rightSize 17 = .ok (.invokevirtual 165, 3) := dk_182 0 165 (dk_at dksX0_rightSize_0 17 rfl rfl)
theorem dX0_rightSize_20 : decode cX0_rightSize 20 = .ok (.goto 4, 3) := dk_167 0 4 (dk_at dksX0_rightSize_0 20 rfl rfl)
theorem dX0_rightSize_23 : decode cX0_rightSize 23 = .ok (.iconst (-1), 1) := dk_2 (dk_at dksX0_rightSize_0 23 rfl rfl)
theorem dX0_rightSize_24 : decode cX0_rightSize 24 = .ok (.ireturn, 1) := dk_172 (dk_at dksX0_rightSize_1 0 rfl rfl)
abbrev cX0_pairCount : ByteArray := prog_1_method_25_code
def yX0_pairCount : MethodName := ⟨RX0, "pairCount", "()I"⟩
def dkwX0_pairCount_0 : List UInt8 := [42, 182, 0, 240, 42, 180, 0, 219, 172]
abbrev dktX0_pairCount_0 : List UInt8 := dkwX0_pairCount_0 ++ []
theorem dksX0_pairCount_0 : cX0_pairCount.data.toList.drop 0 = dktX0_pairCount_0 := by decide +kernel
theorem dX0_pairCount_0 : decode cX0_pairCount 0 = .ok (.aload_n 0, 1) := dk_42 (dk_at dksX0_pairCount_0 0 rfl rfl)
theorem dX0_pairCount_1 : decode cX0_pairCount 1 = .ok (.invokevirtual 240, 3) := dk_182 0 240 (dk_at dksX0_pairCount_0 1 rfl rfl)
theorem dX0_pairCount_4 : decode cX0_pairCount 4 = .ok (.aload_n 0, 1) := dk_42 (dk_at dksX0_pairCount_0 4 rfl rfl)
theorem dX0_pairCount_5 : decode cX0_pairCount 5 = .ok (.getfield 219, 3) := dk_180 0 219 (dk_at dksX0_pairCount_0 5 rfl rfl)
theorem dX0_pairCount_8 : decode cX0_pairCount 8 = .ok (.ireturn, 1) := dk_172 (dk_at dksX0_pairCount_0 8 rfl rfl)
abbrev cX0_update : ByteArray := prog_1_method_23_code
def yX0_update : MethodName := ⟨RX0, "update", "()V"⟩
def dkwX0_update_8 : List UInt8 := [42, 42, 42, 180, 0, 56, 182, 0, 233, 181, 0, 237, 177]
abbrev dktX0_update_8 : List UInt8 := dkwX0_update_8 ++ []
def dkwX0_update_7 : List UInt8 := [184, 0, 225, 84, 132, 2, 1, 167, 255, 222, 132, 1, 1, 167, 255, 206, 42, 42, 180, 0, 56, 182, 0, 229]
abbrev dktX0_update_7 : List UInt8 := dkwX0_update_7 ++ dktX0_update_8
def dkwX0_update_6 : List UInt8 := [162, 0, 32, 42, 180, 0, 53, 27, 50, 28, 42, 180, 0, 47, 27, 50, 42, 180, 0, 47, 28, 50]
abbrev dktX0_update_6 : List UInt8 := dkwX0_update_6 ++ dktX0_update_7
def dkwX0_update_5 : List UInt8 := [132, 1, 1, 167, 255, 163, 3, 60, 27, 42, 180, 0, 219, 162, 0, 48, 3, 61, 28, 42, 180, 0, 219]
abbrev dktX0_update_5 : List UInt8 := dkwX0_update_5 ++ dktX0_update_6
def dkwX0_update_4 : List UInt8 := [42, 180, 0, 219, 4, 84, 42, 89, 180, 0, 219, 4, 96, 181, 0, 219, 132, 3, 1, 167, 255, 189]
abbrev dktX0_update_4 : List UInt8 := dkwX0_update_4 ++ dktX0_update_5
def dkwX0_update_3 : List UInt8 := [187, 0, 45, 89, 27, 29, 42, 180, 0, 15, 27, 50, 180, 0, 157, 44, 183, 0, 222, 83, 42, 180, 0, 59]
abbrev dktX0_update_3 : List UInt8 := dkwX0_update_3 ++ dktX0_update_4
def dkwX0_update_2 : List UInt8 := [182, 0, 165, 162, 0, 65, 44, 29, 182, 0, 164, 153, 0, 51, 42, 180, 0, 47, 42, 180, 0, 219]
abbrev dktX0_update_2 : List UInt8 := dkwX0_update_2 ++ dktX0_update_3
def dkwX0_update_1 : List UInt8 := [60, 27, 42, 180, 0, 138, 162, 0, 91, 42, 180, 0, 15, 27, 50, 180, 0, 161, 77, 3, 62, 29, 44]
abbrev dktX0_update_1 : List UInt8 := dkwX0_update_1 ++ dktX0_update_2
def dkwX0_update_0 : List UInt8 := [42, 180, 0, 41, 154, 0, 4, 177, 42, 3, 181, 0, 41, 42, 3, 181, 0, 216, 42, 3, 181, 0, 219, 3]
abbrev dktX0_update_0 : List UInt8 := dkwX0_update_0 ++ dktX0_update_1
theorem dksX0_update_0 : cX0_update.data.toList.drop 0 = dktX0_update_0 := by decide +kernel
theorem dksX0_update_1 : cX0_update.data.toList.drop 24 = dktX0_update_1 := dk_seg dksX0_update_0 24 rfl rfl
theorem dksX0_update_2 : cX0_update.data.toList.drop 47 = dktX0_update_2 := dk_seg dksX0_update_1 23 rfl rfl
theorem dksX0_update_3 : cX0_update.data.toList.drop 69 = dktX0_update_3 := dk_seg dksX0_update_2 22 rfl rfl
theorem dksX0_update_4 : cX0_update.data.toList.drop 93 = dktX0_update_4 := dk_seg dksX0_update_3 24 rfl rfl
theorem dksX0_update_5 : cX0_update.data.toList.drop 115 = dktX0_update_5 := dk_seg dksX0_update_4 22 rfl rfl
theorem dksX0_update_6 : cX0_update.data.toList.drop 138 = dktX0_update_6 := dk_seg dksX0_update_5 23 rfl rfl
theorem dksX0_update_7 : cX0_update.data.toList.drop 160 = dktX0_update_7 := dk_seg dksX0_update_6 22 rfl rfl
theorem dksX0_update_8 : cX0_update.data.toList.drop 184 = dktX0_update_8 := dk_seg dksX0_update_7 24 rfl rfl
theorem dX0_update_0 : decode cX0_update 0 = .ok (.aload_n 0, 1) := dk_42 (dk_at dksX0_update_0 0 rfl rfl)
theorem dX0_update_1 : decode cX0_update 1 = .ok (.getfield 41, 3) := dk_180 0 41 (dk_at dksX0_update_0 1 rfl rfl)
theorem dX0_update_4 : decode cX0_update 4 = .ok (.ifCond .ne 4, 3) := dk_154 0 4 (dk_at dksX0_update_0 4 rfl rfl)
theorem dX0_update_7 : decode cX0_update 7 = .ok (.return_, 1) := dk_177 (dk_at dksX0_update_0 7 rfl rfl)
theorem dX0_update_8 : decode cX0_update 8 = .ok (.aload_n 0, 1) := dk_42 (dk_at dksX0_update_0 8 rfl rfl)
theorem dX0_update_9 : decode cX0_update 9 = .ok (.iconst 0, 1) := dk_3 (dk_at dksX0_update_0 9 rfl rfl)
theorem dX0_update_10 : decode cX0_update 10 = .ok (.putfield 41, 3) := dk_181 0 41 (dk_at dksX0_update_0 10 rfl rfl)
theorem dX0_update_13 : decode cX0_update 13 = .ok (.aload_n 0, 1) := dk_42 (dk_at dksX0_update_0 13 rfl rfl)
theorem dX0_update_14 : decode cX0_update 14 = .ok (.iconst 0, 1) := dk_3 (dk_at dksX0_update_0 14 rfl rfl)
theorem dX0_update_15 : decode cX0_update 15 = .ok (.putfield 216, 3) := dk_181 0 216 (dk_at dksX0_update_0 15 rfl rfl)
theorem dX0_update_18 : decode cX0_update 18 = .ok (.aload_n 0, 1) := dk_42 (dk_at dksX0_update_0 18 rfl rfl)
theorem dX0_update_19 : decode cX0_update 19 = .ok (.iconst 0, 1) := dk_3 (dk_at dksX0_update_0 19 rfl rfl)
theorem dX0_update_20 : decode cX0_update 20 = .ok (.putfield 219, 3) := dk_181 0 219 (dk_at dksX0_update_0 20 rfl rfl)
theorem dX0_update_23 : decode cX0_update 23 = .ok (.iconst 0, 1) := dk_3 (dk_at dksX0_update_0 23 rfl rfl)
theorem dX0_update_24 : decode cX0_update 24 = .ok (.istore_n 1, 1) := dk_60 (dk_at dksX0_update_1 0 rfl rfl)
theorem dX0_update_25 : decode cX0_update 25 = .ok (.iload_n 1, 1) := dk_27 (dk_at dksX0_update_1 1 rfl rfl)
theorem dX0_update_26 : decode cX0_update 26 = .ok (.aload_n 0, 1) := dk_42 (dk_at dksX0_update_1 2 rfl rfl)
theorem dX0_update_27 : decode cX0_update 27 = .ok (.getfield 138, 3) := dk_180 0 138 (dk_at dksX0_update_1 3 rfl rfl)
theorem dX0_update_30 : decode cX0_update 30 = .ok (.if_icmp .ge 91, 3) := dk_162 0 91 (dk_at dksX0_update_1 6 rfl rfl)
theorem dX0_update_33 : decode cX0_update 33 = .ok (.aload_n 0, 1) := dk_42 (dk_at dksX0_update_1 9 rfl rfl)
theorem dX0_update_34 : decode cX0_update 34 = .ok (.getfield 15, 3) := dk_180 0 15 (dk_at dksX0_update_1 10 rfl rfl)
theorem dX0_update_37 : decode cX0_update 37 = .ok (.iload_n 1, 1) := dk_27 (dk_at dksX0_update_1 13 rfl rfl)
theorem dX0_update_38 : decode cX0_update 38 = .ok (.aaload, 1) := dk_50 (dk_at dksX0_update_1 14 rfl rfl)
theorem dX0_update_39 : decode cX0_update 39 = .ok (.getfield 161, 3) := dk_180 0 161 (dk_at dksX0_update_1 15 rfl rfl)
theorem dX0_update_42 : decode cX0_update 42 = .ok (.astore_n 2, 1) := dk_77 (dk_at dksX0_update_1 18 rfl rfl)
theorem dX0_update_43 : decode cX0_update 43 = .ok (.iconst 0, 1) := dk_3 (dk_at dksX0_update_1 19 rfl rfl)
theorem dX0_update_44 : decode cX0_update 44 = .ok (.istore_n 3, 1) := dk_62 (dk_at dksX0_update_1 20 rfl rfl)
theorem dX0_update_45 : decode cX0_update 45 = .ok (.iload_n 3, 1) := dk_29 (dk_at dksX0_update_1 21 rfl rfl)
theorem dX0_update_46 : decode cX0_update 46 = .ok (.aload_n 2, 1) := dk_44 (dk_at dksX0_update_1 22 rfl rfl)
theorem dX0_update_47 : decode cX0_update 47 = .ok (.invokevirtual 165, 3) := dk_182 0 165 (dk_at dksX0_update_2 0 rfl rfl)
theorem dX0_update_50 : decode cX0_update 50 = .ok (.if_icmp .ge 65, 3) := dk_162 0 65 (dk_at dksX0_update_2 3 rfl rfl)
theorem dX0_update_53 : decode cX0_update 53 = .ok (.aload_n 2, 1) := dk_44 (dk_at dksX0_update_2 6 rfl rfl)
theorem dX0_update_54 : decode cX0_update 54 = .ok (.iload_n 3, 1) := dk_29 (dk_at dksX0_update_2 7 rfl rfl)
theorem dX0_update_55 : decode cX0_update 55 = .ok (.invokevirtual 164, 3) := dk_182 0 164 (dk_at dksX0_update_2 8 rfl rfl)
theorem dX0_update_58 : decode cX0_update 58 = .ok (.ifCond .eq 51, 3) := dk_153 0 51 (dk_at dksX0_update_2 11 rfl rfl)
theorem dX0_update_61 : decode cX0_update 61 = .ok (.aload_n 0, 1) := dk_42 (dk_at dksX0_update_2 14 rfl rfl)
theorem dX0_update_62 : decode cX0_update 62 = .ok (.getfield 47, 3) := dk_180 0 47 (dk_at dksX0_update_2 15 rfl rfl)
theorem dX0_update_65 : decode cX0_update 65 = .ok (.aload_n 0, 1) := dk_42 (dk_at dksX0_update_2 18 rfl rfl)
theorem dX0_update_66 : decode cX0_update 66 = .ok (.getfield 219, 3) := dk_180 0 219 (dk_at dksX0_update_2 19 rfl rfl)
theorem dX0_update_69 : decode cX0_update 69 = .ok (.new 45, 3) := dk_187 0 45 (dk_at dksX0_update_3 0 rfl rfl)
theorem dX0_update_72 : decode cX0_update 72 = .ok (.dup, 1) := dk_89 (dk_at dksX0_update_3 3 rfl rfl)
theorem dX0_update_73 : decode cX0_update 73 = .ok (.iload_n 1, 1) := dk_27 (dk_at dksX0_update_3 4 rfl rfl)
theorem dX0_update_74 : decode cX0_update 74 = .ok (.iload_n 3, 1) := dk_29 (dk_at dksX0_update_3 5 rfl rfl)
theorem dX0_update_75 : decode cX0_update 75 = .ok (.aload_n 0, 1) := dk_42 (dk_at dksX0_update_3 6 rfl rfl)
theorem dX0_update_76 : decode cX0_update 76 = .ok (.getfield 15, 3) := dk_180 0 15 (dk_at dksX0_update_3 7 rfl rfl)
theorem dX0_update_79 : decode cX0_update 79 = .ok (.iload_n 1, 1) := dk_27 (dk_at dksX0_update_3 10 rfl rfl)
theorem dX0_update_80 : decode cX0_update 80 = .ok (.aaload, 1) := dk_50 (dk_at dksX0_update_3 11 rfl rfl)
theorem dX0_update_81 : decode cX0_update 81 = .ok (.getfield 157, 3) := dk_180 0 157 (dk_at dksX0_update_3 12 rfl rfl)
theorem dX0_update_84 : decode cX0_update 84 = .ok (.aload_n 2, 1) := dk_44 (dk_at dksX0_update_3 15 rfl rfl)
theorem dX0_update_85 : decode cX0_update 85 = .ok (.invokespecial 222, 3) := dk_183 0 222 (dk_at dksX0_update_3 16 rfl rfl)
theorem dX0_update_88 : decode cX0_update 88 = .ok (.aastore, 1) := dk_83 (dk_at dksX0_update_3 19 rfl rfl)
theorem dX0_update_89 : decode cX0_update 89 = .ok (.aload_n 0, 1) := dk_42 (dk_at dksX0_update_3 20 rfl rfl)
theorem dX0_update_90 : decode cX0_update 90 = .ok (.getfield 59, 3) := dk_180 0 59 (dk_at dksX0_update_3 21 rfl rfl)
theorem dX0_update_93 : decode cX0_update 93 = .ok (.aload_n 0, 1) := dk_42 (dk_at dksX0_update_4 0 rfl rfl)
theorem dX0_update_94 : decode cX0_update 94 = .ok (.getfield 219, 3) := dk_180 0 219 (dk_at dksX0_update_4 1 rfl rfl)
theorem dX0_update_97 : decode cX0_update 97 = .ok (.iconst 1, 1) := dk_4 (dk_at dksX0_update_4 4 rfl rfl)
theorem dX0_update_98 : decode cX0_update 98 = .ok (.bastore, 1) := dk_84 (dk_at dksX0_update_4 5 rfl rfl)
theorem dX0_update_99 : decode cX0_update 99 = .ok (.aload_n 0, 1) := dk_42 (dk_at dksX0_update_4 6 rfl rfl)
theorem dX0_update_100 : decode cX0_update 100 = .ok (.dup, 1) := dk_89 (dk_at dksX0_update_4 7 rfl rfl)
theorem dX0_update_101 : decode cX0_update 101 = .ok (.getfield 219, 3) := dk_180 0 219 (dk_at dksX0_update_4 8 rfl rfl)
theorem dX0_update_104 : decode cX0_update 104 = .ok (.iconst 1, 1) := dk_4 (dk_at dksX0_update_4 11 rfl rfl)
theorem dX0_update_105 : decode cX0_update 105 = .ok (.iadd, 1) := dk_96 (dk_at dksX0_update_4 12 rfl rfl)
theorem dX0_update_106 : decode cX0_update 106 = .ok (.putfield 219, 3) := dk_181 0 219 (dk_at dksX0_update_4 13 rfl rfl)
theorem dX0_update_109 : decode cX0_update 109 = .ok (.iinc 3 1, 3) := dk_132 3 1 (dk_at dksX0_update_4 16 rfl rfl)
theorem dX0_update_112 : decode cX0_update 112 = .ok (.goto (-67), 3) := dk_167 255 189 (dk_at dksX0_update_4 19 rfl rfl)
theorem dX0_update_115 : decode cX0_update 115 = .ok (.iinc 1 1, 3) := dk_132 1 1 (dk_at dksX0_update_5 0 rfl rfl)
theorem dX0_update_118 : decode cX0_update 118 = .ok (.goto (-93), 3) := dk_167 255 163 (dk_at dksX0_update_5 3 rfl rfl)
theorem dX0_update_121 : decode cX0_update 121 = .ok (.iconst 0, 1) := dk_3 (dk_at dksX0_update_5 6 rfl rfl)
theorem dX0_update_122 : decode cX0_update 122 = .ok (.istore_n 1, 1) := dk_60 (dk_at dksX0_update_5 7 rfl rfl)
theorem dX0_update_123 : decode cX0_update 123 = .ok (.iload_n 1, 1) := dk_27 (dk_at dksX0_update_5 8 rfl rfl)
theorem dX0_update_124 : decode cX0_update 124 = .ok (.aload_n 0, 1) := dk_42 (dk_at dksX0_update_5 9 rfl rfl)
theorem dX0_update_125 : decode cX0_update 125 = .ok (.getfield 219, 3) := dk_180 0 219 (dk_at dksX0_update_5 10 rfl rfl)
theorem dX0_update_128 : decode cX0_update 128 = .ok (.if_icmp .ge 48, 3) := dk_162 0 48 (dk_at dksX0_update_5 13 rfl rfl)
theorem dX0_update_131 : decode cX0_update 131 = .ok (.iconst 0, 1) := dk_3 (dk_at dksX0_update_5 16 rfl rfl)
theorem dX0_update_132 : decode cX0_update 132 = .ok (.istore_n 2, 1) := dk_61 (dk_at dksX0_update_5 17 rfl rfl)
theorem dX0_update_133 : decode cX0_update 133 = .ok (.iload_n 2, 1) := dk_28 (dk_at dksX0_update_5 18 rfl rfl)
theorem dX0_update_134 : decode cX0_update 134 = .ok (.aload_n 0, 1) := dk_42 (dk_at dksX0_update_5 19 rfl rfl)
theorem dX0_update_135 : decode cX0_update 135 = .ok (.getfield 219, 3) := dk_180 0 219 (dk_at dksX0_update_5 20 rfl rfl)
theorem dX0_update_138 : decode cX0_update 138 = .ok (.if_icmp .ge 32, 3) := dk_162 0 32 (dk_at dksX0_update_6 0 rfl rfl)
theorem dX0_update_141 : decode cX0_update 141 = .ok (.aload_n 0, 1) := dk_42 (dk_at dksX0_update_6 3 rfl rfl)
theorem dX0_update_142 : decode cX0_update 142 = .ok (.getfield 53, 3) := dk_180 0 53 (dk_at dksX0_update_6 4 rfl rfl)
theorem dX0_update_145 : decode cX0_update 145 = .ok (.iload_n 1, 1) := dk_27 (dk_at dksX0_update_6 7 rfl rfl)
theorem dX0_update_146 : decode cX0_update 146 = .ok (.aaload, 1) := dk_50 (dk_at dksX0_update_6 8 rfl rfl)
theorem dX0_update_147 : decode cX0_update 147 = .ok (.iload_n 2, 1) := dk_28 (dk_at dksX0_update_6 9 rfl rfl)
theorem dX0_update_148 : decode cX0_update 148 = .ok (.aload_n 0, 1) := dk_42 (dk_at dksX0_update_6 10 rfl rfl)
theorem dX0_update_149 : decode cX0_update 149 = .ok (.getfield 47, 3) := dk_180 0 47 (dk_at dksX0_update_6 11 rfl rfl)
theorem dX0_update_152 : decode cX0_update 152 = .ok (.iload_n 1, 1) := dk_27 (dk_at dksX0_update_6 14 rfl rfl)
theorem dX0_update_153 : decode cX0_update 153 = .ok (.aaload, 1) := dk_50 (dk_at dksX0_update_6 15 rfl rfl)
theorem dX0_update_154 : decode cX0_update 154 = .ok (.aload_n 0, 1) := dk_42 (dk_at dksX0_update_6 16 rfl rfl)
theorem dX0_update_155 : decode cX0_update 155 = .ok (.getfield 47, 3) := dk_180 0 47 (dk_at dksX0_update_6 17 rfl rfl)
theorem dX0_update_158 : decode cX0_update 158 = .ok (.iload_n 2, 1) := dk_28 (dk_at dksX0_update_6 20 rfl rfl)
theorem dX0_update_159 : decode cX0_update 159 = .ok (.aaload, 1) := dk_50 (dk_at dksX0_update_6 21 rfl rfl)
theorem dX0_update_160 : decode cX0_update 160 = .ok (.invokestatic 225, 3) := dk_184 0 225 (dk_at dksX0_update_7 0 rfl rfl)
theorem dX0_update_163 : decode cX0_update 163 = .ok (.bastore, 1) := dk_84 (dk_at dksX0_update_7 3 rfl rfl)
theorem dX0_update_164 : decode cX0_update 164 = .ok (.iinc 2 1, 3) := dk_132 2 1 (dk_at dksX0_update_7 4 rfl rfl)
theorem dX0_update_167 : decode cX0_update 167 = .ok (.goto (-34), 3) := dk_167 255 222 (dk_at dksX0_update_7 7 rfl rfl)
theorem dX0_update_170 : decode cX0_update 170 = .ok (.iinc 1 1, 3) := dk_132 1 1 (dk_at dksX0_update_7 10 rfl rfl)
theorem dX0_update_173 : decode cX0_update 173 = .ok (.goto (-50), 3) := dk_167 255 206 (dk_at dksX0_update_7 13 rfl rfl)
theorem dX0_update_176 : decode cX0_update 176 = .ok (.aload_n 0, 1) := dk_42 (dk_at dksX0_update_7 16 rfl rfl)
theorem dX0_update_177 : decode cX0_update 177 = .ok (.aload_n 0, 1) := dk_42 (dk_at dksX0_update_7 17 rfl rfl)
theorem dX0_update_178 : decode cX0_update 178 = .ok (.getfield 56, 3) := dk_180 0 56 (dk_at dksX0_update_7 18 rfl rfl)
theorem dX0_update_181 : decode cX0_update 181 = .ok (.invokevirtual 229, 3) := dk_182 0 229 (dk_at dksX0_update_7 21 rfl rfl)
theorem dX0_update_184 : decode cX0_update 184 = .ok (.aload_n 0, 1) := dk_42 (dk_at dksX0_update_8 0 rfl rfl)
theorem dX0_update_185 : decode cX0_update 185 = .ok (.aload_n 0, 1) := dk_42 (dk_at dksX0_update_8 1 rfl rfl)
theorem dX0_update_186 : decode cX0_update 186 = .ok (.aload_n 0, 1) := dk_42 (dk_at dksX0_update_8 2 rfl rfl)
theorem dX0_update_187 : decode cX0_update 187 = .ok (.getfield 56, 3) := dk_180 0 56 (dk_at dksX0_update_8 3 rfl rfl)
theorem dX0_update_190 : decode cX0_update 190 = .ok (.invokevirtual 233, 3) := dk_182 0 233 (dk_at dksX0_update_8 6 rfl rfl)
theorem dX0_update_193 : decode cX0_update 193 = .ok (.putfield 237, 3) := dk_181 0 237 (dk_at dksX0_update_8 9 rfl rfl)
theorem dX0_update_196 : decode cX0_update 196 = .ok (.return_, 1) := dk_177 (dk_at dksX0_update_8 12 rfl rfl)
abbrev cX0_isEdge : ByteArray := prog_1_method_22_code
def yX0_isEdge : MethodName := ⟨RX0, "isEdge", "(LDependencyPairAnalyzer$Pair;LDependencyPairAnalyzer$Pair;)Z"⟩
def dkwX0_isEdge_4 : List UInt8 := [54, 5, 167, 255, 204, 29, 172]
abbrev dktX0_isEdge_4 : List UInt8 := dkwX0_isEdge_4 ++ []
def dkwX0_isEdge_3 : List UInt8 := [184, 0, 212, 62, 43, 180, 0, 209, 180, 0, 201, 21, 4, 46, 54, 4, 44, 180, 0, 201, 21, 5, 46]
abbrev dktX0_isEdge_3 : List UInt8 := dkwX0_isEdge_3 ++ dktX0_isEdge_4
def dkwX0_isEdge_2 : List UInt8 := [180, 0, 201, 42, 180, 0, 208, 46, 162, 0, 44, 29, 153, 0, 40, 44, 21, 5, 43, 180, 0, 209, 21, 4]
abbrev dktX0_isEdge_2 : List UInt8 := dkwX0_isEdge_2 ++ dktX0_isEdge_3
def dkwX0_isEdge_1 : List UInt8 := [160, 0, 7, 4, 167, 0, 4, 3, 62, 4, 54, 4, 42, 180, 0, 208, 4, 96, 54, 5, 21, 5, 44]
abbrev dktX0_isEdge_1 : List UInt8 := dkwX0_isEdge_1 ++ dktX0_isEdge_2
def dkwX0_isEdge_0 : List UInt8 := [42, 180, 0, 207, 77, 44, 180, 0, 204, 42, 180, 0, 208, 51, 43, 180, 0, 209, 180, 0, 204, 3, 51]
abbrev dktX0_isEdge_0 : List UInt8 := dkwX0_isEdge_0 ++ dktX0_isEdge_1
theorem dksX0_isEdge_0 : cX0_isEdge.data.toList.drop 0 = dktX0_isEdge_0 := by decide +kernel
theorem dksX0_isEdge_1 : cX0_isEdge.data.toList.drop 23 = dktX0_isEdge_1 := dk_seg dksX0_isEdge_0 23 rfl rfl
theorem dksX0_isEdge_2 : cX0_isEdge.data.toList.drop 46 = dktX0_isEdge_2 := dk_seg dksX0_isEdge_1 23 rfl rfl
theorem dksX0_isEdge_3 : cX0_isEdge.data.toList.drop 70 = dktX0_isEdge_3 := dk_seg dksX0_isEdge_2 24 rfl rfl
theorem dksX0_isEdge_4 : cX0_isEdge.data.toList.drop 93 = dktX0_isEdge_4 := dk_seg dksX0_isEdge_3 23 rfl rfl
theorem dX0_isEdge_0 : decode cX0_isEdge 0 = .ok (.aload_n 0, 1) := dk_42 (dk_at dksX0_isEdge_0 0 rfl rfl)
theorem dX0_isEdge_1 : decode cX0_isEdge 1 = .ok (.getfield 207, 3) := dk_180 0 207 (dk_at dksX0_isEdge_0 1 rfl rfl)
theorem dX0_isEdge_4 : decode cX0_isEdge 4 = .ok (.astore_n 2, 1) := dk_77 (dk_at dksX0_isEdge_0 4 rfl rfl)
theorem dX0_isEdge_5 : decode cX0_isEdge 5 = .ok (.aload_n 2, 1) := dk_44 (dk_at dksX0_isEdge_0 5 rfl rfl)
theorem dX0_isEdge_6 : decode cX0_isEdge 6 = .ok (.getfield 204, 3) := dk_180 0 204 (dk_at dksX0_isEdge_0 6 rfl rfl)
theorem dX0_isEdge_9 : decode cX0_isEdge 9 = .ok (.aload_n 0, 1) := dk_42 (dk_at dksX0_isEdge_0 9 rfl rfl)
theorem dX0_isEdge_10 : decode cX0_isEdge 10 = .ok (.getfield 208, 3) := dk_180 0 208 (dk_at dksX0_isEdge_0 10 rfl rfl)
theorem dX0_isEdge_13 : decode cX0_isEdge 13 = .ok (.baload, 1) := dk_51 (dk_at dksX0_isEdge_0 13 rfl rfl)
theorem dX0_isEdge_14 : decode cX0_isEdge 14 = .ok (.aload_n 1, 1) := dk_43 (dk_at dksX0_isEdge_0 14 rfl rfl)
theorem dX0_isEdge_15 : decode cX0_isEdge 15 = .ok (.getfield 209, 3) := dk_180 0 209 (dk_at dksX0_isEdge_0 15 rfl rfl)
theorem dX0_isEdge_18 : decode cX0_isEdge 18 = .ok (.getfield 204, 3) := dk_180 0 204 (dk_at dksX0_isEdge_0 18 rfl rfl)
theorem dX0_isEdge_21 : decode cX0_isEdge 21 = .ok (.iconst 0, 1) := dk_3 (dk_at dksX0_isEdge_0 21 rfl rfl)
theorem dX0_isEdge_22 : decode cX0_isEdge 22 = .ok (.baload, 1) := dk_51 (dk_at dksX0_isEdge_0 22 rfl rfl)
theorem dX0_isEdge_23 : decode cX0_isEdge 23 = .ok (.if_icmp .ne 7, 3) := dk_160 0 7 (dk_at dksX0_isEdge_1 0 rfl rfl)
theorem dX0_isEdge_26 : decode cX0_isEdge 26 = .ok (.iconst 1, 1) := dk_4 (dk_at dksX0_isEdge_1 3 rfl rfl)
theorem dX0_isEdge_27 : decode cX0_isEdge 27 = .ok (.goto 4, 3) := dk_167 0 4 (dk_at dksX0_isEdge_1 4 rfl rfl)
theorem dX0_isEdge_30 : decode cX0_isEdge 30 = .ok (.iconst 0, 1) := dk_3 (dk_at dksX0_isEdge_1 7 rfl rfl)
theorem dX0_isEdge_31 : decode cX0_isEdge 31 = .ok (.istore_n 3, 1) := dk_62 (dk_at dksX0_isEdge_1 8 rfl rfl)
theorem dX0_isEdge_32 : decode cX0_isEdge 32 = .ok (.iconst 1, 1) := dk_4 (dk_at dksX0_isEdge_1 9 rfl rfl)
theorem dX0_isEdge_33 : decode cX0_isEdge 33 = .ok (.istore 4, 2) := dk_54 4 (dk_at dksX0_isEdge_1 10 rfl rfl)
theorem dX0_isEdge_35 : decode cX0_isEdge 35 = .ok (.aload_n 0, 1) := dk_42 (dk_at dksX0_isEdge_1 12 rfl rfl)
theorem dX0_isEdge_36 : decode cX0_isEdge 36 = .ok (.getfield 208, 3) := dk_180 0 208 (dk_at dksX0_isEdge_1 13 rfl rfl)
theorem dX0_isEdge_39 : decode cX0_isEdge 39 = .ok (.iconst 1, 1) := dk_4 (dk_at dksX0_isEdge_1 16 rfl rfl)
theorem dX0_isEdge_40 : decode cX0_isEdge 40 = .ok (.iadd, 1) := dk_96 (dk_at dksX0_isEdge_1 17 rfl rfl)
theorem dX0_isEdge_41 : decode cX0_isEdge 41 = .ok (.istore 5, 2) := dk_54 5 (dk_at dksX0_isEdge_1 18 rfl rfl)
theorem dX0_isEdge_43 : decode cX0_isEdge 43 = .ok (.iload 5, 2) := dk_21 5 (dk_at dksX0_isEdge_1 20 rfl rfl)
theorem dX0_isEdge_45 : decode cX0_isEdge 45 = .ok (.aload_n 2, 1) := dk_44 (dk_at dksX0_isEdge_1 22 rfl rfl)
theorem dX0_isEdge_46 : decode cX0_isEdge 46 = .ok (.getfield 201, 3) := dk_180 0 201 (dk_at dksX0_isEdge_2 0 rfl rfl)
theorem dX0_isEdge_49 : decode cX0_isEdge 49 = .ok (.aload_n 0, 1) := dk_42 (dk_at dksX0_isEdge_2 3 rfl rfl)
theorem dX0_isEdge_50 : decode cX0_isEdge 50 = .ok (.getfield 208, 3) := dk_180 0 208 (dk_at dksX0_isEdge_2 4 rfl rfl)
theorem dX0_isEdge_53 : decode cX0_isEdge 53 = .ok (.iaload, 1) := dk_46 (dk_at dksX0_isEdge_2 7 rfl rfl)
theorem dX0_isEdge_54 : decode cX0_isEdge 54 = .ok (.if_icmp .ge 44, 3) := dk_162 0 44 (dk_at dksX0_isEdge_2 8 rfl rfl)
theorem dX0_isEdge_57 : decode cX0_isEdge 57 = .ok (.iload_n 3, 1) := dk_29 (dk_at dksX0_isEdge_2 11 rfl rfl)
theorem dX0_isEdge_58 : decode cX0_isEdge 58 = .ok (.ifCond .eq 40, 3) := dk_153 0 40 (dk_at dksX0_isEdge_2 12 rfl rfl)
theorem dX0_isEdge_61 : decode cX0_isEdge 61 = .ok (.aload_n 2, 1) := dk_44 (dk_at dksX0_isEdge_2 15 rfl rfl)
theorem dX0_isEdge_62 : decode cX0_isEdge 62 = .ok (.iload 5, 2) := dk_21 5 (dk_at dksX0_isEdge_2 16 rfl rfl)
theorem dX0_isEdge_64 : decode cX0_isEdge 64 = .ok (.aload_n 1, 1) := dk_43 (dk_at dksX0_isEdge_2 18 rfl rfl)
theorem dX0_isEdge_65 : decode cX0_isEdge 65 = .ok (.getfield 209, 3) := dk_180 0 209 (dk_at dksX0_isEdge_2 19 rfl rfl)
theorem dX0_isEdge_68 : decode cX0_isEdge 68 = .ok (.iload 4, 2) := dk_21 4 (dk_at dksX0_isEdge_2 22 rfl rfl)
theorem dX0_isEdge_70 : decode cX0_isEdge 70 = .ok (.invokestatic 212, 3) := dk_184 0 212 (dk_at dksX0_isEdge_3 0 rfl rfl)
theorem dX0_isEdge_73 : decode cX0_isEdge 73 = .ok (.istore_n 3, 1) := dk_62 (dk_at dksX0_isEdge_3 3 rfl rfl)
theorem dX0_isEdge_74 : decode cX0_isEdge 74 = .ok (.aload_n 1, 1) := dk_43 (dk_at dksX0_isEdge_3 4 rfl rfl)
theorem dX0_isEdge_75 : decode cX0_isEdge 75 = .ok (.getfield 209, 3) := dk_180 0 209 (dk_at dksX0_isEdge_3 5 rfl rfl)
theorem dX0_isEdge_78 : decode cX0_isEdge 78 = .ok (.getfield 201, 3) := dk_180 0 201 (dk_at dksX0_isEdge_3 8 rfl rfl)
theorem dX0_isEdge_81 : decode cX0_isEdge 81 = .ok (.iload 4, 2) := dk_21 4 (dk_at dksX0_isEdge_3 11 rfl rfl)
theorem dX0_isEdge_83 : decode cX0_isEdge 83 = .ok (.iaload, 1) := dk_46 (dk_at dksX0_isEdge_3 13 rfl rfl)
theorem dX0_isEdge_84 : decode cX0_isEdge 84 = .ok (.istore 4, 2) := dk_54 4 (dk_at dksX0_isEdge_3 14 rfl rfl)
theorem dX0_isEdge_86 : decode cX0_isEdge 86 = .ok (.aload_n 2, 1) := dk_44 (dk_at dksX0_isEdge_3 16 rfl rfl)
theorem dX0_isEdge_87 : decode cX0_isEdge 87 = .ok (.getfield 201, 3) := dk_180 0 201 (dk_at dksX0_isEdge_3 17 rfl rfl)
theorem dX0_isEdge_90 : decode cX0_isEdge 90 = .ok (.iload 5, 2) := dk_21 5 (dk_at dksX0_isEdge_3 20 rfl rfl)
theorem dX0_isEdge_92 : decode cX0_isEdge 92 = .ok (.iaload, 1) := dk_46 (dk_at dksX0_isEdge_3 22 rfl rfl)
theorem dX0_isEdge_93 : decode cX0_isEdge 93 = .ok (.istore 5, 2) := dk_54 5 (dk_at dksX0_isEdge_4 0 rfl rfl)
theorem dX0_isEdge_95 : decode cX0_isEdge 95 = .ok (.goto (-52), 3) := dk_167 255 204 (dk_at dksX0_isEdge_4 2 rfl rfl)
theorem dX0_isEdge_98 : decode cX0_isEdge 98 = .ok (.iload_n 3, 1) := dk_29 (dk_at dksX0_isEdge_4 5 rfl rfl)
theorem dX0_isEdge_99 : decode cX0_isEdge 99 = .ok (.ireturn, 1) := dk_172 (dk_at dksX0_isEdge_4 6 rfl rfl)
abbrev cX0_isCompatible : ByteArray := prog_1_method_21_code
def yX0_isCompatible : MethodName := ⟨RX0, "isCompatible", "(LDependencyPairAnalyzer$Term;ILDependencyPairAnalyzer$Term;I)Z"⟩
def dkwX0_isCompatible_4 : List UInt8 := [3, 54, 6, 132, 4, 1, 132, 5, 1, 167, 255, 162, 21, 6, 172]
abbrev dktX0_isCompatible_4 : List UInt8 := dkwX0_isCompatible_4 ++ []
def dkwX0_isCompatible_3 : List UInt8 := [167, 255, 195, 42, 180, 0, 204, 21, 4, 51, 44, 180, 0, 204, 21, 5, 51, 160, 0, 7, 4, 167, 0, 4]
abbrev dktX0_isCompatible_3 : List UInt8 := dkwX0_isCompatible_3 ++ dktX0_isCompatible_4
def dkwX0_isCompatible_2 : List UInt8 := [182, 0, 164, 153, 0, 24, 42, 180, 0, 201, 21, 4, 46, 54, 4, 44, 180, 0, 201, 21, 5, 46, 54, 5]
abbrev dktX0_isCompatible_2 : List UInt8 := dkwX0_isCompatible_2 ++ dktX0_isCompatible_3
def dkwX0_isCompatible_1 : List UInt8 := [162, 0, 84, 42, 21, 4, 182, 0, 169, 154, 0, 21, 44, 21, 5, 182, 0, 169, 154, 0, 12, 42, 21, 4]
abbrev dktX0_isCompatible_1 : List UInt8 := dkwX0_isCompatible_1 ++ dktX0_isCompatible_2
def dkwX0_isCompatible_0 : List UInt8 := [27, 54, 4, 29, 54, 5, 4, 54, 6, 21, 6, 153, 0, 95, 21, 4, 42, 180, 0, 201, 27, 46]
abbrev dktX0_isCompatible_0 : List UInt8 := dkwX0_isCompatible_0 ++ dktX0_isCompatible_1
theorem dksX0_isCompatible_0 : cX0_isCompatible.data.toList.drop 0 = dktX0_isCompatible_0 := by decide +kernel
theorem dksX0_isCompatible_1 : cX0_isCompatible.data.toList.drop 22 = dktX0_isCompatible_1 := dk_seg dksX0_isCompatible_0 22 rfl rfl
theorem dksX0_isCompatible_2 : cX0_isCompatible.data.toList.drop 46 = dktX0_isCompatible_2 := dk_seg dksX0_isCompatible_1 24 rfl rfl
theorem dksX0_isCompatible_3 : cX0_isCompatible.data.toList.drop 70 = dktX0_isCompatible_3 := dk_seg dksX0_isCompatible_2 24 rfl rfl
theorem dksX0_isCompatible_4 : cX0_isCompatible.data.toList.drop 94 = dktX0_isCompatible_4 := dk_seg dksX0_isCompatible_3 24 rfl rfl
theorem dX0_isCompatible_0 : decode cX0_isCompatible 0 = .ok (.iload_n 1, 1) := dk_27 (dk_at dksX0_isCompatible_0 0 rfl rfl)
theorem dX0_isCompatible_1 : decode cX0_isCompatible 1 = .ok (.istore 4, 2) := dk_54 4 (dk_at dksX0_isCompatible_0 1 rfl rfl)
theorem dX0_isCompatible_3 : decode cX0_isCompatible 3 = .ok (.iload_n 3, 1) := dk_29 (dk_at dksX0_isCompatible_0 3 rfl rfl)
theorem dX0_isCompatible_4 : decode cX0_isCompatible 4 = .ok (.istore 5, 2) := dk_54 5 (dk_at dksX0_isCompatible_0 4 rfl rfl)
theorem dX0_isCompatible_6 : decode cX0_isCompatible 6 = .ok (.iconst 1, 1) := dk_4 (dk_at dksX0_isCompatible_0 6 rfl rfl)
theorem dX0_isCompatible_7 : decode cX0_isCompatible 7 = .ok (.istore 6, 2) := dk_54 6 (dk_at dksX0_isCompatible_0 7 rfl rfl)
theorem dX0_isCompatible_9 : decode cX0_isCompatible 9 = .ok (.iload 6, 2) := dk_21 6 (dk_at dksX0_isCompatible_0 9 rfl rfl)
theorem dX0_isCompatible_11 : decode cX0_isCompatible 11 = .ok (.ifCond .eq 95, 3) := dk_153 0 95 (dk_at dksX0_isCompatible_0 11 rfl rfl)
theorem dX0_isCompatible_14 : decode cX0_isCompatible 14 = .ok (.iload 4, 2) := dk_21 4 (dk_at dksX0_isCompatible_0 14 rfl rfl)
theorem dX0_isCompatible_16 : decode cX0_isCompatible 16 = .ok (.aload_n 0, 1) := dk_42 (dk_at dksX0_isCompatible_0 16 rfl rfl)
theorem dX0_isCompatible_17 : decode cX0_isCompatible 17 = .ok (.getfield 201, 3) := dk_180 0 201 (dk_at dksX0_isCompatible_0 17 rfl rfl)
theorem dX0_isCompatible_20 : decode cX0_isCompatible 20 = .ok (.iload_n 1, 1) := dk_27 (dk_at dksX0_isCompatible_0 20 rfl rfl)
theorem dX0_isCompatible_21 : decode cX0_isCompatible 21 = .ok (.iaload, 1) := dk_46 (dk_at dksX0_isCompatible_0 21 rfl rfl)
theorem dX0_isCompatible_22 : decode cX0_isCompatible 22 = .ok (.if_icmp .ge 84, 3) := dk_162 0 84 (dk_at dksX0_isCompatible_1 0 rfl rfl)
theorem dX0_isCompatible_25 : decode cX0_isCompatible 25 = .ok (.aload_n 0, 1) := dk_42 (dk_at dksX0_isCompatible_1 3 rfl rfl)
theorem dX0_isCompatible_26 : decode cX0_isCompatible 26 = .ok (.iload 4, 2) := dk_21 4 (dk_at dksX0_isCompatible_1 4 rfl rfl)
theorem dX0_isCompatible_28 : decode cX0_isCompatible 28 = .ok (.invokevirtual 169, 3) := dk_182 0 169 (dk_at dksX0_isCompatible_1 6 rfl rfl)
theorem dX0_isCompatible_31 : decode cX0_isCompatible 31 = .ok (.ifCond .ne 21, 3) := dk_154 0 21 (dk_at dksX0_isCompatible_1 9 rfl rfl)
theorem dX0_isCompatible_34 : decode cX0_isCompatible 34 = .ok (.aload_n 2, 1) := dk_44 (dk_at dksX0_isCompatible_1 12 rfl rfl)
theorem dX0_isCompatible_35 : decode cX0_isCompatible 35 = .ok (.iload 5, 2) := dk_21 5 (dk_at dksX0_isCompatible_1 13 rfl rfl)
theorem dX0_isCompatible_37 : decode cX0_isCompatible 37 = .ok (.invokevirtual 169, 3) := dk_182 0 169 (dk_at dksX0_isCompatible_1 15 rfl rfl)
theorem dX0_isCompatible_40 : decode cX0_isCompatible 40 = .ok (.ifCond .ne 12, 3) := dk_154 0 12 (dk_at dksX0_isCompatible_1 18 rfl rfl)
theorem dX0_isCompatible_43 : decode cX0_isCompatible 43 = .ok (.aload_n 0, 1) := dk_42 (dk_at dksX0_isCompatible_1 21 rfl rfl)
theorem dX0_isCompatible_44 : decode cX0_isCompatible 44 = .ok (.iload 4, 2) := dk_21 4 (dk_at dksX0_isCompatible_1 22 rfl rfl)
theorem dX0_isCompatible_46 : decode cX0_isCompatible 46 = .ok (.invokevirtual 164, 3) := dk_182 0 164 (dk_at dksX0_isCompatible_2 0 rfl rfl)
theorem dX0_isCompatible_49 : decode cX0_isCompatible 49 = .ok (.ifCond .eq 24, 3) := dk_153 0 24 (dk_at dksX0_isCompatible_2 3 rfl rfl)
theorem dX0_isCompatible_52 : decode cX0_isCompatible 52 = .ok (.aload_n 0, 1) := dk_42 (dk_at dksX0_isCompatible_2 6 rfl rfl)
theorem dX0_isCompatible_53 : decode cX0_isCompatible 53 = .ok (.getfield 201, 3) := dk_180 0 201 (dk_at dksX0_isCompatible_2 7 rfl rfl)
theorem dX0_isCompatible_56 : decode cX0_isCompatible 56 = .ok (.iload 4, 2) := dk_21 4 (dk_at dksX0_isCompatible_2 10 rfl rfl)
theorem dX0_isCompatible_58 : decode cX0_isCompatible 58 = .ok (.iaload, 1) := dk_46 (dk_at dksX0_isCompatible_2 12 rfl rfl)
theorem dX0_isCompatible_59 : decode cX0_isCompatible 59 = .ok (.istore 4, 2) := dk_54 4 (dk_at dksX0_isCompatible_2 13 rfl rfl)
theorem dX0_isCompatible_61 : decode cX0_isCompatible 61 = .ok (.aload_n 2, 1) := dk_44 (dk_at dksX0_isCompatible_2 15 rfl rfl)
theorem dX0_isCompatible_62 : decode cX0_isCompatible 62 = .ok (.getfield 201, 3) := dk_180 0 201 (dk_at dksX0_isCompatible_2 16 rfl rfl)
theorem dX0_isCompatible_65 : decode cX0_isCompatible 65 = .ok (.iload 5, 2) := dk_21 5 (dk_at dksX0_isCompatible_2 19 rfl rfl)
theorem dX0_isCompatible_67 : decode cX0_isCompatible 67 = .ok (.iaload, 1) := dk_46 (dk_at dksX0_isCompatible_2 21 rfl rfl)
theorem dX0_isCompatible_68 : decode cX0_isCompatible 68 = .ok (.istore 5, 2) := dk_54 5 (dk_at dksX0_isCompatible_2 22 rfl rfl)
theorem dX0_isCompatible_70 : decode cX0_isCompatible 70 = .ok (.goto (-61), 3) := dk_167 255 195 (dk_at dksX0_isCompatible_3 0 rfl rfl)
theorem dX0_isCompatible_73 : decode cX0_isCompatible 73 = .ok (.aload_n 0, 1) := dk_42 (dk_at dksX0_isCompatible_3 3 rfl rfl)
theorem dX0_isCompatible_74 : decode cX0_isCompatible 74 = .ok (.getfield 204, 3) := dk_180 0 204 (dk_at dksX0_isCompatible_3 4 rfl rfl)
theorem dX0_isCompatible_77 : decode cX0_isCompatible 77 = .ok (.iload 4, 2) := dk_21 4 (dk_at dksX0_isCompatible_3 7 rfl rfl)
theorem dX0_isCompatible_79 : decode cX0_isCompatible 79 = .ok (.baload, 1) := dk_51 (dk_at dksX0_isCompatible_3 9 rfl rfl)
theorem dX0_isCompatible_80 : decode cX0_isCompatible 80 = .ok (.aload_n 2, 1) := dk_44 (dk_at dksX0_isCompatible_3 10 rfl rfl)
theorem dX0_isCompatible_81 : decode cX0_isCompatible 81 = .ok (.getfield 204, 3) := dk_180 0 204 (dk_at dksX0_isCompatible_3 11 rfl rfl)
theorem dX0_isCompatible_84 : decode cX0_isCompatible 84 = .ok (.iload 5, 2) := dk_21 5 (dk_at dksX0_isCompatible_3 14 rfl rfl)
theorem dX0_isCompatible_86 : decode cX0_isCompatible 86 = .ok (.baload, 1) := dk_51 (dk_at dksX0_isCompatible_3 16 rfl rfl)
theorem dX0_isCompatible_87 : decode cX0_isCompatible 87 = .ok (.if_icmp .ne 7, 3) := dk_160 0 7 (dk_at dksX0_isCompatible_3 17 rfl rfl)
theorem dX0_isCompatible_90 : decode cX0_isCompatible 90 = .ok (.iconst 1, 1) := dk_4 (dk_at dksX0_isCompatible_3 20 rfl rfl)
theorem dX0_isCompatible_91 : decode cX0_isCompatible 91 = .ok (.goto 4, 3) := dk_167 0 4 (dk_at dksX0_isCompatible_3 21 rfl rfl)
theorem dX0_isCompatible_94 : decode cX0_isCompatible 94 = .ok (.iconst 0, 1) := dk_3 (dk_at dksX0_isCompatible_4 0 rfl rfl)
theorem dX0_isCompatible_95 : decode cX0_isCompatible 95 = .ok (.istore 6, 2) := dk_54 6 (dk_at dksX0_isCompatible_4 1 rfl rfl)
theorem dX0_isCompatible_97 : decode cX0_isCompatible 97 = .ok (.iinc 4 1, 3) := dk_132 4 1 (dk_at dksX0_isCompatible_4 3 rfl rfl)
theorem dX0_isCompatible_100 : decode cX0_isCompatible 100 = .ok (.iinc 5 1, 3) := dk_132 5 1 (dk_at dksX0_isCompatible_4 6 rfl rfl)
theorem dX0_isCompatible_103 : decode cX0_isCompatible 103 = .ok (.goto (-94), 3) := dk_167 255 162 (dk_at dksX0_isCompatible_4 9 rfl rfl)
theorem dX0_isCompatible_106 : decode cX0_isCompatible 106 = .ok (.iload 6, 2) := dk_21 6 (dk_at dksX0_isCompatible_4 12 rfl rfl)
theorem dX0_isCompatible_108 : decode cX0_isCompatible 108 = .ok (.ireturn, 1) := dk_172 (dk_at dksX0_isCompatible_4 14 rfl rfl)
abbrev cX0_findComponents : ByteArray := prog_1_method_32_code
def yX0_findComponents : MethodName := ⟨RX0, "findComponents", "([I)V"⟩
def dkwX0_findComponents_14 : List UInt8 := [167, 255, 210, 177]
abbrev dktX0_findComponents_14 : List UInt8 := dkwX0_findComponents_14 ++ []
def dkwX0_findComponents_13 : List UInt8 := [180, 0, 69, 43, 28, 46, 184, 1, 3, 182, 1, 14, 192, 1, 4, 182, 1, 18, 79, 132, 2, 1]
abbrev dktX0_findComponents_13 : List UInt8 := dkwX0_findComponents_13 ++ dktX0_findComponents_14
def dkwX0_findComponents_12 : List UInt8 := [180, 0, 219, 162, 0, 44, 43, 28, 43, 28, 46, 16, 251, 160, 0, 8, 16, 251, 167, 0, 22, 42]
abbrev dktX0_findComponents_12 : List UInt8 := dkwX0_findComponents_12 ++ dktX0_findComponents_13
def dkwX0_findComponents_11 : List UInt8 := [42, 180, 0, 69, 182, 1, 9, 184, 1, 3, 182, 1, 10, 87, 132, 2, 1, 167, 255, 149, 3, 61, 28, 42]
abbrev dktX0_findComponents_11 : List UInt8 := dkwX0_findComponents_11 ++ dktX0_findComponents_12
def dkwX0_findComponents_10 : List UInt8 := [62, 132, 4, 255, 167, 255, 217, 43, 28, 29, 79, 29, 28, 160, 0, 25, 42, 180, 0, 69, 28, 184, 1, 3]
abbrev dktX0_findComponents_10 : List UInt8 := dkwX0_findComponents_10 ++ dktX0_findComponents_11
def dkwX0_findComponents_9 : List UInt8 := [21, 4, 51, 153, 0, 20, 42, 180, 0, 63, 21, 4, 50, 28, 51, 153, 0, 8, 21, 4, 167, 0, 4, 29]
abbrev dktX0_findComponents_9 : List UInt8 := dkwX0_findComponents_9 ++ dktX0_findComponents_10
def dkwX0_findComponents_8 : List UInt8 := [28, 167, 0, 5, 16, 251, 62, 28, 4, 100, 54, 4, 21, 4, 155, 0, 40, 42, 180, 0, 63, 28, 50]
abbrev dktX0_findComponents_8 : List UInt8 := dkwX0_findComponents_8 ++ dktX0_findComponents_9
def dkwX0_findComponents_7 : List UInt8 := [182, 1, 0, 3, 61, 28, 42, 180, 0, 219, 162, 0, 105, 42, 180, 0, 63, 28, 50, 28, 51, 153, 0, 7]
abbrev dktX0_findComponents_7 : List UInt8 := dkwX0_findComponents_7 ++ dktX0_findComponents_8
def dkwX0_findComponents_6 : List UInt8 := [132, 4, 1, 167, 255, 212, 132, 3, 1, 167, 255, 195, 132, 2, 1, 167, 255, 179, 42, 180, 0, 69]
abbrev dktX0_findComponents_6 : List UInt8 := dkwX0_findComponents_6 ++ dktX0_findComponents_7
def dkwX0_findComponents_5 : List UInt8 := [153, 0, 30, 42, 180, 0, 63, 29, 50, 21, 4, 92, 51, 42, 180, 0, 63, 28, 50, 21, 4, 51, 128, 84]
abbrev dktX0_findComponents_5 : List UInt8 := dkwX0_findComponents_5 ++ dktX0_findComponents_6
def dkwX0_findComponents_4 : List UInt8 := [162, 0, 59, 3, 54, 4, 21, 4, 42, 180, 0, 219, 162, 0, 41, 42, 180, 0, 63, 29, 50, 28, 51]
abbrev dktX0_findComponents_4 : List UInt8 := dkwX0_findComponents_4 ++ dktX0_findComponents_5
def dkwX0_findComponents_3 : List UInt8 := [132, 2, 1, 167, 255, 187, 3, 61, 28, 42, 180, 0, 219, 162, 0, 75, 3, 62, 29, 42, 180, 0, 219]
abbrev dktX0_findComponents_3 : List UInt8 := dkwX0_findComponents_3 ++ dktX0_findComponents_4
def dkwX0_findComponents_2 : List UInt8 := [180, 0, 53, 28, 50, 29, 51, 153, 0, 7, 4, 167, 0, 4, 3, 84, 132, 3, 1, 167, 255, 203]
abbrev dktX0_findComponents_2 : List UInt8 := dkwX0_findComponents_2 ++ dktX0_findComponents_3
def dkwX0_findComponents_1 : List UInt8 := [28, 50, 29, 42, 180, 0, 59, 28, 51, 153, 0, 27, 42, 180, 0, 59, 29, 51, 153, 0, 18, 42]
abbrev dktX0_findComponents_1 : List UInt8 := dkwX0_findComponents_1 ++ dktX0_findComponents_2
def dkwX0_findComponents_0 : List UInt8 := [3, 61, 28, 42, 180, 0, 219, 162, 0, 67, 3, 62, 29, 42, 180, 0, 219, 162, 0, 51, 42, 180, 0, 63]
abbrev dktX0_findComponents_0 : List UInt8 := dkwX0_findComponents_0 ++ dktX0_findComponents_1
theorem dksX0_findComponents_0 : cX0_findComponents.data.toList.drop 0 = dktX0_findComponents_0 := by decide +kernel
theorem dksX0_findComponents_1 : cX0_findComponents.data.toList.drop 24 = dktX0_findComponents_1 := dk_seg dksX0_findComponents_0 24 rfl rfl
theorem dksX0_findComponents_2 : cX0_findComponents.data.toList.drop 46 = dktX0_findComponents_2 := dk_seg dksX0_findComponents_1 22 rfl rfl
theorem dksX0_findComponents_3 : cX0_findComponents.data.toList.drop 68 = dktX0_findComponents_3 := dk_seg dksX0_findComponents_2 22 rfl rfl
theorem dksX0_findComponents_4 : cX0_findComponents.data.toList.drop 91 = dktX0_findComponents_4 := dk_seg dksX0_findComponents_3 23 rfl rfl
theorem dksX0_findComponents_5 : cX0_findComponents.data.toList.drop 114 = dktX0_findComponents_5 := dk_seg dksX0_findComponents_4 23 rfl rfl
theorem dksX0_findComponents_6 : cX0_findComponents.data.toList.drop 138 = dktX0_findComponents_6 := dk_seg dksX0_findComponents_5 24 rfl rfl
theorem dksX0_findComponents_7 : cX0_findComponents.data.toList.drop 160 = dktX0_findComponents_7 := dk_seg dksX0_findComponents_6 22 rfl rfl
theorem dksX0_findComponents_8 : cX0_findComponents.data.toList.drop 184 = dktX0_findComponents_8 := dk_seg dksX0_findComponents_7 24 rfl rfl
theorem dksX0_findComponents_9 : cX0_findComponents.data.toList.drop 207 = dktX0_findComponents_9 := dk_seg dksX0_findComponents_8 23 rfl rfl
theorem dksX0_findComponents_10 : cX0_findComponents.data.toList.drop 231 = dktX0_findComponents_10 := dk_seg dksX0_findComponents_9 24 rfl rfl
theorem dksX0_findComponents_11 : cX0_findComponents.data.toList.drop 255 = dktX0_findComponents_11 := dk_seg dksX0_findComponents_10 24 rfl rfl
theorem dksX0_findComponents_12 : cX0_findComponents.data.toList.drop 279 = dktX0_findComponents_12 := dk_seg dksX0_findComponents_11 24 rfl rfl
theorem dksX0_findComponents_13 : cX0_findComponents.data.toList.drop 301 = dktX0_findComponents_13 := dk_seg dksX0_findComponents_12 22 rfl rfl
theorem dksX0_findComponents_14 : cX0_findComponents.data.toList.drop 323 = dktX0_findComponents_14 := dk_seg dksX0_findComponents_13 22 rfl rfl
theorem dX0_findComponents_0 : decode cX0_findComponents 0 = .ok (.iconst 0, 1) := dk_3 (dk_at dksX0_findComponents_0 0 rfl rfl)
theorem dX0_findComponents_1 : decode cX0_findComponents 1 = .ok (.istore_n 2, 1) := dk_61 (dk_at dksX0_findComponents_0 1 rfl rfl)
theorem dX0_findComponents_2 : decode cX0_findComponents 2 = .ok (.iload_n 2, 1) := dk_28 (dk_at dksX0_findComponents_0 2 rfl rfl)
theorem dX0_findComponents_3 : decode cX0_findComponents 3 = .ok (.aload_n 0, 1) := dk_42 (dk_at dksX0_findComponents_0 3 rfl rfl)
theorem dX0_findComponents_4 : decode cX0_findComponents 4 = .ok (.getfield 219, 3) := dk_180 0 219 (dk_at dksX0_findComponents_0 4 rfl rfl)
theorem dX0_findComponents_7 : decode cX0_findComponents 7 = .ok (.if_icmp .ge 67, 3) := dk_162 0 67 (dk_at dksX0_findComponents_0 7 rfl rfl)
theorem dX0_findComponents_10 : decode cX0_findComponents 10 = .ok (.iconst 0, 1) := dk_3 (dk_at dksX0_findComponents_0 10 rfl rfl)
theorem dX0_findComponents_11 : decode cX0_findComponents 11 = .ok (.istore_n 3, 1) := dk_62 (dk_at dksX0_findComponents_0 11 rfl rfl)
theorem dX0_findComponents_12 : decode cX0_findComponents 12 = .ok (.iload_n 3, 1) := dk_29 (dk_at dksX0_findComponents_0 12 rfl rfl)
theorem dX0_findComponents_13 : decode cX0_findComponents 13 = .ok (.aload_n 0, 1) := dk_42 (dk_at dksX0_findComponents_0 13 rfl rfl)
theorem dX0_findComponents_14 : decode cX0_findComponents 14 = .ok (.getfield 219, 3) := dk_180 0 219 (dk_at dksX0_findComponents_0 14 rfl rfl)
theorem dX0_findComponents_17 : decode cX0_findComponents 17 = .ok (.if_icmp .ge 51, 3) := dk_162 0 51 (dk_at dksX0_findComponents_0 17 rfl rfl)
theorem dX0_findComponents_20 : decode cX0_findComponents 20 = .ok (.aload_n 0, 1) := dk_42 (dk_at dksX0_findComponents_0 20 rfl rfl)
theorem dX0_findComponents_21 : decode cX0_findComponents 21 = .ok (.getfield 63, 3) := dk_180 0 63 (dk_at dksX0_findComponents_0 21 rfl rfl)
theorem dX0_findComponents_24 : decode cX0_findComponents 24 = .ok (.iload_n 2, 1) := dk_28 (dk_at dksX0_findComponents_1 0 rfl rfl)
theorem dX0_findComponents_25 : decode cX0_findComponents 25 = .ok (.aaload, 1) := dk_50 (dk_at dksX0_findComponents_1 1 rfl rfl)
theorem dX0_findComponents_26 : decode cX0_findComponents 26 = .ok (.iload_n 3, 1) := dk_29 (dk_at dksX0_findComponents_1 2 rfl rfl)
theorem dX0_findComponents_27 : decode cX0_findComponents 27 = .ok (.aload_n 0, 1) := dk_42 (dk_at dksX0_findComponents_1 3 rfl rfl)
theorem dX0_findComponents_28 : decode cX0_findComponents 28 = .ok (.getfield 59, 3) := dk_180 0 59 (dk_at dksX0_findComponents_1 4 rfl rfl)
theorem dX0_findComponents_31 : decode cX0_findComponents 31 = .ok (.iload_n 2, 1) := dk_28 (dk_at dksX0_findComponents_1 7 rfl rfl)
theorem dX0_findComponents_32 : decode cX0_findComponents 32 = .ok (.baload, 1) := dk_51 (dk_at dksX0_findComponents_1 8 rfl rfl)
theorem dX0_findComponents_33 : decode cX0_findComponents 33 = .ok (.ifCond .eq 27, 3) := dk_153 0 27 (dk_at dksX0_findComponents_1 9 rfl rfl)
theorem dX0_findComponents_36 : decode cX0_findComponents 36 = .ok (.aload_n 0, 1) := dk_42 (dk_at dksX0_findComponents_1 12 rfl rfl)
theorem dX0_findComponents_37 : decode cX0_findComponents 37 = .ok (.getfield 59, 3) := dk_180 0 59 (dk_at dksX0_findComponents_1 13 rfl rfl)
theorem dX0_findComponents_40 : decode cX0_findComponents 40 = .ok (.iload_n 3, 1) := dk_29 (dk_at dksX0_findComponents_1 16 rfl rfl)
theorem dX0_findComponents_41 : decode cX0_findComponents 41 = .ok (.baload, 1) := dk_51 (dk_at dksX0_findComponents_1 17 rfl rfl)
theorem dX0_findComponents_42 : decode cX0_findComponents 42 = .ok (.ifCond .eq 18, 3) := dk_153 0 18 (dk_at dksX0_findComponents_1 18 rfl rfl)
theorem dX0_findComponents_45 : decode cX0_findComponents 45 = .ok (.aload_n 0, 1) := dk_42 (dk_at dksX0_findComponents_1 21 rfl rfl)
theorem dX0_findComponents_46 : decode cX0_findComponents 46 = .ok (.getfield 53, 3) := dk_180 0 53 (dk_at dksX0_findComponents_2 0 rfl rfl)
theorem dX0_findComponents_49 : decode cX0_findComponents 49 = .ok (.iload_n 2, 1) := dk_28 (dk_at dksX0_findComponents_2 3 rfl rfl)
theorem dX0_findComponents_50 : decode cX0_findComponents 50 = .ok (.aaload, 1) := dk_50 (dk_at dksX0_findComponents_2 4 rfl rfl)
theorem dX0_findComponents_51 : decode cX0_findComponents 51 = .ok (.iload_n 3, 1) := dk_29 (dk_at dksX0_findComponents_2 5 rfl rfl)
theorem dX0_findComponents_52 : decode cX0_findComponents 52 = .ok (.baload, 1) := dk_51 (dk_at dksX0_findComponents_2 6 rfl rfl)
theorem dX0_findComponents_53 : decode cX0_findComponents 53 = .ok (.ifCond .eq 7, 3) := dk_153 0 7 (dk_at dksX0_findComponents_2 7 rfl rfl)
theorem dX0_findComponents_56 : decode cX0_findComponents 56 = .ok (.iconst 1, 1) := dk_4 (dk_at dksX0_findComponents_2 10 rfl rfl)
theorem dX0_findComponents_57 : decode cX0_findComponents 57 = .ok (.goto 4, 3) := dk_167 0 4 (dk_at dksX0_findComponents_2 11 rfl rfl)
theorem dX0_findComponents_60 : decode cX0_findComponents 60 = .ok (.iconst 0, 1) := dk_3 (dk_at dksX0_findComponents_2 14 rfl rfl)
theorem dX0_findComponents_61 : decode cX0_findComponents 61 = .ok (.bastore, 1) := dk_84 (dk_at dksX0_findComponents_2 15 rfl rfl)
theorem dX0_findComponents_62 : decode cX0_findComponents 62 = .ok (.iinc 3 1, 3) := dk_132 3 1 (dk_at dksX0_findComponents_2 16 rfl rfl)
theorem dX0_findComponents_65 : decode cX0_findComponents 65 = .ok (.goto (-53), 3) := dk_167 255 203 (dk_at dksX0_findComponents_2 19 rfl rfl)
theorem dX0_findComponents_68 : decode cX0_findComponents 68 = .ok (.iinc 2 1, 3) := dk_132 2 1 (dk_at dksX0_findComponents_3 0 rfl rfl)
theorem dX0_findComponents_71 : decode cX0_findComponents 71 = .ok (.goto (-69), 3) := dk_167 255 187 (dk_at dksX0_findComponents_3 3 rfl rfl)
theorem dX0_findComponents_74 : decode cX0_findComponents 74 = .ok (.iconst 0, 1) := dk_3 (dk_at dksX0_findComponents_3 6 rfl rfl)
theorem dX0_findComponents_75 : decode cX0_findComponents 75 = .ok (.istore_n 2, 1) := dk_61 (dk_at dksX0_findComponents_3 7 rfl rfl)
theorem dX0_findComponents_76 : decode cX0_findComponents 76 = .ok (.iload_n 2, 1) := dk_28 (dk_at dksX0_findComponents_3 8 rfl rfl)
theorem dX0_findComponents_77 : decode cX0_findComponents 77 = .ok (.aload_n 0, 1) := dk_42 (dk_at dksX0_findComponents_3 9 rfl rfl)
theorem dX0_findComponents_78 : decode cX0_findComponents 78 = .ok (.getfield 219, 3) := dk_180 0 219 (dk_at dksX0_findComponents_3 10 rfl rfl)
theorem dX0_findComponents_81 : decode cX0_findComponents 81 = .ok (.if_icmp .ge 75, 3) := dk_162 0 75 (dk_at dksX0_findComponents_3 13 rfl rfl)
theorem dX0_findComponents_84 : decode cX0_findComponents 84 = .ok (.iconst 0, 1) := dk_3 (dk_at dksX0_findComponents_3 16 rfl rfl)
theorem dX0_findComponents_85 : decode cX0_findComponents 85 = .ok (.istore_n 3, 1) := dk_62 (dk_at dksX0_findComponents_3 17 rfl rfl)
theorem dX0_findComponents_86 : decode cX0_findComponents 86 = .ok (.iload_n 3, 1) := dk_29 (dk_at dksX0_findComponents_3 18 rfl rfl)
theorem dX0_findComponents_87 : decode cX0_findComponents 87 = .ok (.aload_n 0, 1) := dk_42 (dk_at dksX0_findComponents_3 19 rfl rfl)
theorem dX0_findComponents_88 : decode cX0_findComponents 88 = .ok (.getfield 219, 3) := dk_180 0 219 (dk_at dksX0_findComponents_3 20 rfl rfl)
theorem dX0_findComponents_91 : decode cX0_findComponents 91 = .ok (.if_icmp .ge 59, 3) := dk_162 0 59 (dk_at dksX0_findComponents_4 0 rfl rfl)
theorem dX0_findComponents_94 : decode cX0_findComponents 94 = .ok (.iconst 0, 1) := dk_3 (dk_at dksX0_findComponents_4 3 rfl rfl)
theorem dX0_findComponents_95 : decode cX0_findComponents 95 = .ok (.istore 4, 2) := dk_54 4 (dk_at dksX0_findComponents_4 4 rfl rfl)
theorem dX0_findComponents_97 : decode cX0_findComponents 97 = .ok (.iload 4, 2) := dk_21 4 (dk_at dksX0_findComponents_4 6 rfl rfl)
theorem dX0_findComponents_99 : decode cX0_findComponents 99 = .ok (.aload_n 0, 1) := dk_42 (dk_at dksX0_findComponents_4 8 rfl rfl)
theorem dX0_findComponents_100 : decode cX0_findComponents 100 = .ok (.getfield 219, 3) := dk_180 0 219 (dk_at dksX0_findComponents_4 9 rfl rfl)
theorem dX0_findComponents_103 : decode cX0_findComponents 103 = .ok (.if_icmp .ge 41, 3) := dk_162 0 41 (dk_at dksX0_findComponents_4 12 rfl rfl)
theorem dX0_findComponents_106 : decode cX0_findComponents 106 = .ok (.aload_n 0, 1) := dk_42 (dk_at dksX0_findComponents_4 15 rfl rfl)
theorem dX0_findComponents_107 : decode cX0_findComponents 107 = .ok (.getfield 63, 3) := dk_180 0 63 (dk_at dksX0_findComponents_4 16 rfl rfl)
theorem dX0_findComponents_110 : decode cX0_findComponents 110 = .ok (.iload_n 3, 1) := dk_29 (dk_at dksX0_findComponents_4 19 rfl rfl)
theorem dX0_findComponents_111 : decode cX0_findComponents 111 = .ok (.aaload, 1) := dk_50 (dk_at dksX0_findComponents_4 20 rfl rfl)
theorem dX0_findComponents_112 : decode cX0_findComponents 112 = .ok (.iload_n 2, 1) := dk_28 (dk_at dksX0_findComponents_4 21 rfl rfl)
theorem dX0_findComponents_113 : decode cX0_findComponents 113 = .ok (.baload, 1) := dk_51 (dk_at dksX0_findComponents_4 22 rfl rfl)
theorem dX0_findComponents_114 : decode cX0_findComponents 114 = .ok (.ifCond .eq 30, 3) := dk_153 0 30 (dk_at dksX0_findComponents_5 0 rfl rfl)
theorem dX0_findComponents_117 : decode cX0_findComponents 117 = .ok (.aload_n 0, 1) := dk_42 (dk_at dksX0_findComponents_5 3 rfl rfl)
theorem dX0_findComponents_118 : decode cX0_findComponents 118 = .ok (.getfield 63, 3) := dk_180 0 63 (dk_at dksX0_findComponents_5 4 rfl rfl)
theorem dX0_findComponents_121 : decode cX0_findComponents 121 = .ok (.iload_n 3, 1) := dk_29 (dk_at dksX0_findComponents_5 7 rfl rfl)
theorem dX0_findComponents_122 : decode cX0_findComponents 122 = .ok (.aaload, 1) := dk_50 (dk_at dksX0_findComponents_5 8 rfl rfl)
theorem dX0_findComponents_123 : decode cX0_findComponents 123 = .ok (.iload 4, 2) := dk_21 4 (dk_at dksX0_findComponents_5 9 rfl rfl)
theorem dX0_findComponents_125 : decode cX0_findComponents 125 = .ok (.dup2, 1) := dk_92 (dk_at dksX0_findComponents_5 11 rfl rfl)
theorem dX0_findComponents_126 : decode cX0_findComponents 126 = .ok (.baload, 1) := dk_51 (dk_at dksX0_findComponents_5 12 rfl rfl)
theorem dX0_findComponents_127 : decode cX0_findComponents 127 = .ok (.aload_n 0, 1) := dk_42 (dk_at dksX0_findComponents_5 13 rfl rfl)
theorem dX0_findComponents_128 : decode cX0_findComponents 128 = .ok (.getfield 63, 3) := dk_180 0 63 (dk_at dksX0_findComponents_5 14 rfl rfl)
theorem dX0_findComponents_131 : decode cX0_findComponents 131 = .ok (.iload_n 2, 1) := dk_28 (dk_at dksX0_findComponents_5 17 rfl rfl)
theorem dX0_findComponents_132 : decode cX0_findComponents 132 = .ok (.aaload, 1) := dk_50 (dk_at dksX0_findComponents_5 18 rfl rfl)
theorem dX0_findComponents_133 : decode cX0_findComponents 133 = .ok (.iload 4, 2) := dk_21 4 (dk_at dksX0_findComponents_5 19 rfl rfl)
theorem dX0_findComponents_135 : decode cX0_findComponents 135 = .ok (.baload, 1) := dk_51 (dk_at dksX0_findComponents_5 21 rfl rfl)
theorem dX0_findComponents_136 : decode cX0_findComponents 136 = .ok (.ior, 1) := dk_128 (dk_at dksX0_findComponents_5 22 rfl rfl)
theorem dX0_findComponents_137 : decode cX0_findComponents 137 = .ok (.bastore, 1) := dk_84 (dk_at dksX0_findComponents_5 23 rfl rfl)
theorem dX0_findComponents_138 : decode cX0_findComponents 138 = .ok (.iinc 4 1, 3) := dk_132 4 1 (dk_at dksX0_findComponents_6 0 rfl rfl)
theorem dX0_findComponents_141 : decode cX0_findComponents 141 = .ok (.goto (-44), 3) := dk_167 255 212 (dk_at dksX0_findComponents_6 3 rfl rfl)
theorem dX0_findComponents_144 : decode cX0_findComponents 144 = .ok (.iinc 3 1, 3) := dk_132 3 1 (dk_at dksX0_findComponents_6 6 rfl rfl)
theorem dX0_findComponents_147 : decode cX0_findComponents 147 = .ok (.goto (-61), 3) := dk_167 255 195 (dk_at dksX0_findComponents_6 9 rfl rfl)
theorem dX0_findComponents_150 : decode cX0_findComponents 150 = .ok (.iinc 2 1, 3) := dk_132 2 1 (dk_at dksX0_findComponents_6 12 rfl rfl)
theorem dX0_findComponents_153 : decode cX0_findComponents 153 = .ok (.goto (-77), 3) := dk_167 255 179 (dk_at dksX0_findComponents_6 15 rfl rfl)
theorem dX0_findComponents_156 : decode cX0_findComponents 156 = .ok (.aload_n 0, 1) := dk_42 (dk_at dksX0_findComponents_6 18 rfl rfl)
theorem dX0_findComponents_157 : decode cX0_findComponents 157 = .ok (.getfield 69, 3) := dk_180 0 69 (dk_at dksX0_findComponents_6 19 rfl rfl)
theorem dX0_findComponents_160 : decode cX0_findComponents 160 = .ok (.invokevirtual 256, 3) := dk_182 1 0 (dk_at dksX0_findComponents_7 0 rfl rfl)
theorem dX0_findComponents_163 : decode cX0_findComponents 163 = .ok (.iconst 0, 1) := dk_3 (dk_at dksX0_findComponents_7 3 rfl rfl)
theorem dX0_findComponents_164 : decode cX0_findComponents 164 = .ok (.istore_n 2, 1) := dk_61 (dk_at dksX0_findComponents_7 4 rfl rfl)
theorem dX0_findComponents_165 : decode cX0_findComponents 165 = .ok (.iload_n 2, 1) := dk_28 (dk_at dksX0_findComponents_7 5 rfl rfl)
theorem dX0_findComponents_166 : decode cX0_findComponents 166 = .ok (.aload_n 0, 1) := dk_42 (dk_at dksX0_findComponents_7 6 rfl rfl)
theorem dX0_findComponents_167 : decode cX0_findComponents 167 = .ok (.getfield 219, 3) := dk_180 0 219 (dk_at dksX0_findComponents_7 7 rfl rfl)
theorem dX0_findComponents_170 : decode cX0_findComponents 170 = .ok (.if_icmp .ge 105, 3) := dk_162 0 105 (dk_at dksX0_findComponents_7 10 rfl rfl)
theorem dX0_findComponents_173 : decode cX0_findComponents 173 = .ok (.aload_n 0, 1) := dk_42 (dk_at dksX0_findComponents_7 13 rfl rfl)
theorem dX0_findComponents_174 : decode cX0_findComponents 174 = .ok (.getfield 63, 3) := dk_180 0 63 (dk_at dksX0_findComponents_7 14 rfl rfl)
theorem dX0_findComponents_177 : decode cX0_findComponents 177 = .ok (.iload_n 2, 1) := dk_28 (dk_at dksX0_findComponents_7 17 rfl rfl)
theorem dX0_findComponents_178 : decode cX0_findComponents 178 = .ok (.aaload, 1) := dk_50 (dk_at dksX0_findComponents_7 18 rfl rfl)
theorem dX0_findComponents_179 : decode cX0_findComponents 179 = .ok (.iload_n 2, 1) := dk_28 (dk_at dksX0_findComponents_7 19 rfl rfl)
theorem dX0_findComponents_180 : decode cX0_findComponents 180 = .ok (.baload, 1) := dk_51 (dk_at dksX0_findComponents_7 20 rfl rfl)
theorem dX0_findComponents_181 : decode cX0_findComponents 181 = .ok (.ifCond .eq 7, 3) := dk_153 0 7 (dk_at dksX0_findComponents_7 21 rfl rfl)
theorem dX0_findComponents_184 : decode cX0_findComponents 184 = .ok (.iload_n 2, 1) := dk_28 (dk_at dksX0_findComponents_8 0 rfl rfl)
theorem dX0_findComponents_185 : decode cX0_findComponents 185 = .ok (.goto 5, 3) := dk_167 0 5 (dk_at dksX0_findComponents_8 1 rfl rfl)
theorem dX0_findComponents_188 : decode cX0_findComponents 188 = .ok (.bipush (-5), 2) := dk_16 251 (dk_at dksX0_findComponents_8 4 rfl rfl)
theorem dX0_findComponents_190 : decode cX0_findComponents 190 = .ok (.istore_n 3, 1) := dk_62 (dk_at dksX0_findComponents_8 6 rfl rfl)
theorem dX0_findComponents_191 : decode cX0_findComponents 191 = .ok (.iload_n 2, 1) := dk_28 (dk_at dksX0_findComponents_8 7 rfl rfl)
theorem dX0_findComponents_192 : decode cX0_findComponents 192 = .ok (.iconst 1, 1) := dk_4 (dk_at dksX0_findComponents_8 8 rfl rfl)
theorem dX0_findComponents_193 : decode cX0_findComponents 193 = .ok (.isub, 1) := dk_100 (dk_at dksX0_findComponents_8 9 rfl rfl)
theorem dX0_findComponents_194 : decode cX0_findComponents 194 = .ok (.istore 4, 2) := dk_54 4 (dk_at dksX0_findComponents_8 10 rfl rfl)
theorem dX0_findComponents_196 : decode cX0_findComponents 196 = .ok (.iload 4, 2) := dk_21 4 (dk_at dksX0_findComponents_8 12 rfl rfl)
theorem dX0_findComponents_198 : decode cX0_findComponents 198 = .ok (.ifCond .lt 40, 3) := dk_155 0 40 (dk_at dksX0_findComponents_8 14 rfl rfl)
theorem dX0_findComponents_201 : decode cX0_findComponents 201 = .ok (.aload_n 0, 1) := dk_42 (dk_at dksX0_findComponents_8 17 rfl rfl)
theorem dX0_findComponents_202 : decode cX0_findComponents 202 = .ok (.getfield 63, 3) := dk_180 0 63 (dk_at dksX0_findComponents_8 18 rfl rfl)
theorem dX0_findComponents_205 : decode cX0_findComponents 205 = .ok (.iload_n 2, 1) := dk_28 (dk_at dksX0_findComponents_8 21 rfl rfl)
theorem dX0_findComponents_206 : decode cX0_findComponents 206 = .ok (.aaload, 1) := dk_50 (dk_at dksX0_findComponents_8 22 rfl rfl)
theorem dX0_findComponents_207 : decode cX0_findComponents 207 = .ok (.iload 4, 2) := dk_21 4 (dk_at dksX0_findComponents_9 0 rfl rfl)
theorem dX0_findComponents_209 : decode cX0_findComponents 209 = .ok (.baload, 1) := dk_51 (dk_at dksX0_findComponents_9 2 rfl rfl)
theorem dX0_findComponents_210 : decode cX0_findComponents 210 = .ok (.ifCond .eq 20, 3) := dk_153 0 20 (dk_at dksX0_findComponents_9 3 rfl rfl)
theorem dX0_findComponents_213 : decode cX0_findComponents 213 = .ok (.aload_n 0, 1) := dk_42 (dk_at dksX0_findComponents_9 6 rfl rfl)
theorem dX0_findComponents_214 : decode cX0_findComponents 214 = .ok (.getfield 63, 3) := dk_180 0 63 (dk_at dksX0_findComponents_9 7 rfl rfl)
theorem dX0_findComponents_217 : decode cX0_findComponents 217 = .ok (.iload 4, 2) := dk_21 4 (dk_at dksX0_findComponents_9 10 rfl rfl)
theorem dX0_findComponents_219 : decode cX0_findComponents 219 = .ok (.aaload, 1) := dk_50 (dk_at dksX0_findComponents_9 12 rfl rfl)
theorem dX0_findComponents_220 : decode cX0_findComponents 220 = .ok (.iload_n 2, 1) := dk_28 (dk_at dksX0_findComponents_9 13 rfl rfl)
theorem dX0_findComponents_221 : decode cX0_findComponents 221 = .ok (.baload, 1) := dk_51 (dk_at dksX0_findComponents_9 14 rfl rfl)
theorem dX0_findComponents_222 : decode cX0_findComponents 222 = .ok (.ifCond .eq 8, 3) := dk_153 0 8 (dk_at dksX0_findComponents_9 15 rfl rfl)
theorem dX0_findComponents_225 : decode cX0_findComponents 225 = .ok (.iload 4, 2) := dk_21 4 (dk_at dksX0_findComponents_9 18 rfl rfl)
theorem dX0_findComponents_227 : decode cX0_findComponents 227 = .ok (.goto 4, 3) := dk_167 0 4 (dk_at dksX0_findComponents_9 20 rfl rfl)
theorem dX0_findComponents_230 : decode cX0_findComponents 230 = .ok (.iload_n 3, 1) := dk_29 (dk_at dksX0_findComponents_9 23 rfl rfl)
theorem dX0_findComponents_231 : decode cX0_findComponents 231 = .ok (.istore_n 3, 1) := dk_62 (dk_at dksX0_findComponents_10 0 rfl rfl)
theorem dX0_findComponents_232 : decode cX0_findComponents 232 = .ok (.iinc 4 (-1), 3) := dk_132 4 255 (dk_at dksX0_findComponents_10 1 rfl rfl)
theorem dX0_findComponents_235 : decode cX0_findComponents 235 = .ok (.goto (-39), 3) := dk_167 255 217 (dk_at dksX0_findComponents_10 4 rfl rfl)
theorem dX0_findComponents_238 : decode cX0_findComponents 238 = .ok (.aload_n 1, 1) := dk_43 (dk_at dksX0_findComponents_10 7 rfl rfl)
theorem dX0_findComponents_239 : decode cX0_findComponents 239 = .ok (.iload_n 2, 1) := dk_28 (dk_at dksX0_findComponents_10 8 rfl rfl)
theorem dX0_findComponents_240 : decode cX0_findComponents 240 = .ok (.iload_n 3, 1) := dk_29 (dk_at dksX0_findComponents_10 9 rfl rfl)
theorem dX0_findComponents_241 : decode cX0_findComponents 241 = .ok (.iastore, 1) := dk_79 (dk_at dksX0_findComponents_10 10 rfl rfl)
theorem dX0_findComponents_242 : decode cX0_findComponents 242 = .ok (.iload_n 3, 1) := dk_29 (dk_at dksX0_findComponents_10 11 rfl rfl)
theorem dX0_findComponents_243 : decode cX0_findComponents 243 = .ok (.iload_n 2, 1) := dk_28 (dk_at dksX0_findComponents_10 12 rfl rfl)
theorem dX0_findComponents_244 : decode cX0_findComponents 244 = .ok (.if_icmp .ne 25, 3) := dk_160 0 25 (dk_at dksX0_findComponents_10 13 rfl rfl)
theorem dX0_findComponents_247 : decode cX0_findComponents 247 = .ok (.aload_n 0, 1) := dk_42 (dk_at dksX0_findComponents_10 16 rfl rfl)
theorem dX0_findComponents_248 : decode cX0_findComponents 248 = .ok (.getfield 69, 3) := dk_180 0 69 (dk_at dksX0_findComponents_10 17 rfl rfl)
theorem dX0_findComponents_251 : decode cX0_findComponents 251 = .ok (.iload_n 2, 1) := dk_28 (dk_at dksX0_findComponents_10 20 rfl rfl)
theorem dX0_findComponents_252 : decode cX0_findComponents 252 = .ok (.invokestatic 259, 3) := dk_184 1 3 (dk_at dksX0_findComponents_10 21 rfl rfl)
theorem dX0_findComponents_255 : decode cX0_findComponents 255 = .ok (.aload_n 0, 1) := dk_42 (dk_at dksX0_findComponents_11 0 rfl rfl)
theorem dX0_findComponents_256 : decode cX0_findComponents 256 = .ok (.getfield 69, 3) := dk_180 0 69 (dk_at dksX0_findComponents_11 1 rfl rfl)
theorem dX0_findComponents_259 : decode cX0_findComponents 259 = .ok (.invokevirtual 265, 3) := dk_182 1 9 (dk_at dksX0_findComponents_11 4 rfl rfl)
theorem dX0_findComponents_262 : decode cX0_findComponents 262 = .ok (.invokestatic 259, 3) := dk_184 1 3 (dk_at dksX0_findComponents_11 7 rfl rfl)
theorem dX0_findComponents_265 : decode cX0_findComponents 265 = .ok (.invokevirtual 266, 3) := dk_182 1 10 (dk_at dksX0_findComponents_11 10 rfl rfl)
theorem dX0_findComponents_268 : decode cX0_findComponents 268 = .ok (.pop, 1) := dk_87 (dk_at dksX0_findComponents_11 13 rfl rfl)
theorem dX0_findComponents_269 : decode cX0_findComponents 269 = .ok (.iinc 2 1, 3) := dk_132 2 1 (dk_at dksX0_findComponents_11 14 rfl rfl)
theorem dX0_findComponents_272 : decode cX0_findComponents 272 = .ok (.goto (-107), 3) := dk_167 255 149 (dk_at dksX0_findComponents_11 17 rfl rfl)
theorem dX0_findComponents_275 : decode cX0_findComponents 275 = .ok (.iconst 0, 1) := dk_3 (dk_at dksX0_findComponents_11 20 rfl rfl)
theorem dX0_findComponents_276 : decode cX0_findComponents 276 = .ok (.istore_n 2, 1) := dk_61 (dk_at dksX0_findComponents_11 21 rfl rfl)
theorem dX0_findComponents_277 : decode cX0_findComponents 277 = .ok (.iload_n 2, 1) := dk_28 (dk_at dksX0_findComponents_11 22 rfl rfl)
theorem dX0_findComponents_278 : decode cX0_findComponents 278 = .ok (.aload_n 0, 1) := dk_42 (dk_at dksX0_findComponents_11 23 rfl rfl)
theorem dX0_findComponents_279 : decode cX0_findComponents 279 = .ok (.getfield 219, 3) := dk_180 0 219 (dk_at dksX0_findComponents_12 0 rfl rfl)
theorem dX0_findComponents_282 : decode cX0_findComponents 282 = .ok (.if_icmp .ge 44, 3) := dk_162 0 44 (dk_at dksX0_findComponents_12 3 rfl rfl)
theorem dX0_findComponents_285 : decode cX0_findComponents 285 = .ok (.aload_n 1, 1) := dk_43 (dk_at dksX0_findComponents_12 6 rfl rfl)
theorem dX0_findComponents_286 : decode cX0_findComponents 286 = .ok (.iload_n 2, 1) := dk_28 (dk_at dksX0_findComponents_12 7 rfl rfl)
theorem dX0_findComponents_287 : decode cX0_findComponents 287 = .ok (.aload_n 1, 1) := dk_43 (dk_at dksX0_findComponents_12 8 rfl rfl)
theorem dX0_findComponents_288 : decode cX0_findComponents 288 = .ok (.iload_n 2, 1) := dk_28 (dk_at dksX0_findComponents_12 9 rfl rfl)
theorem dX0_findComponents_289 : decode cX0_findComponents 289 = .ok (.iaload, 1) := dk_46 (dk_at dksX0_findComponents_12 10 rfl rfl)
theorem dX0_findComponents_290 : decode cX0_findComponents 290 = .ok (.bipush (-5), 2) := dk_16 251 (dk_at dksX0_findComponents_12 11 rfl rfl)
theorem dX0_findComponents_292 : decode cX0_findComponents 292 = .ok (.if_icmp .ne 8, 3) := dk_160 0 8 (dk_at dksX0_findComponents_12 13 rfl rfl)
theorem dX0_findComponents_295 : decode cX0_findComponents 295 = .ok (.bipush (-5), 2) := dk_16 251 (dk_at dksX0_findComponents_12 16 rfl rfl)
theorem dX0_findComponents_297 : decode cX0_findComponents 297 = .ok (.goto 22, 3) := dk_167 0 22 (dk_at dksX0_findComponents_12 18 rfl rfl)
theorem dX0_findComponents_300 : decode cX0_findComponents 300 = .ok (.aload_n 0, 1) := dk_42 (dk_at dksX0_findComponents_12 21 rfl rfl)
theorem dX0_findComponents_301 : decode cX0_findComponents 301 = .ok (.getfield 69, 3) := dk_180 0 69 (dk_at dksX0_findComponents_13 0 rfl rfl)
theorem dX0_findComponents_304 : decode cX0_findComponents 304 = .ok (.aload_n 1, 1) := dk_43 (dk_at dksX0_findComponents_13 3 rfl rfl)
theorem dX0_findComponents_305 : decode cX0_findComponents 305 = .ok (.iload_n 2, 1) := dk_28 (dk_at dksX0_findComponents_13 4 rfl rfl)
theorem dX0_findComponents_306 : decode cX0_findComponents 306 = .ok (.iaload, 1) := dk_46 (dk_at dksX0_findComponents_13 5 rfl rfl)
theorem dX0_findComponents_307 : decode cX0_findComponents 307 = .ok (.invokestatic 259, 3) := dk_184 1 3 (dk_at dksX0_findComponents_13 6 rfl rfl)
theorem dX0_findComponents_310 : decode cX0_findComponents 310 = .ok (.invokevirtual 270, 3) := dk_182 1 14 (dk_at dksX0_findComponents_13 9 rfl rfl)
theorem dX0_findComponents_313 : decode cX0_findComponents 313 = .ok (.checkcast 260, 3) := dk_192 1 4 (dk_at dksX0_findComponents_13 12 rfl rfl)
theorem dX0_findComponents_316 : decode cX0_findComponents 316 = .ok (.invokevirtual 274, 3) := dk_182 1 18 (dk_at dksX0_findComponents_13 15 rfl rfl)
theorem dX0_findComponents_319 : decode cX0_findComponents 319 = .ok (.iastore, 1) := dk_79 (dk_at dksX0_findComponents_13 18 rfl rfl)
theorem dX0_findComponents_320 : decode cX0_findComponents 320 = .ok (.iinc 2 1, 3) := dk_132 2 1 (dk_at dksX0_findComponents_13 19 rfl rfl)
theorem dX0_findComponents_323 : decode cX0_findComponents 323 = .ok (.goto (-46), 3) := dk_167 255 210 (dk_at dksX0_findComponents_14 0 rfl rfl)
theorem dX0_findComponents_326 : decode cX0_findComponents 326 = .ok (.return_, 1) := dk_177 (dk_at dksX0_findComponents_14 3 rfl rfl)
abbrev cX0_countComponents : ByteArray := prog_1_method_33_code
def yX0_countComponents : MethodName := ⟨RX0, "countComponents", "([I)I"⟩
def dkwX0_countComponents_1 : List UInt8 := [132, 3, 1, 167, 255, 235, 28, 172]
abbrev dktX0_countComponents_1 : List UInt8 := dkwX0_countComponents_1 ++ []
def dkwX0_countComponents_0 : List UInt8 := [3, 61, 3, 62, 29, 42, 180, 0, 219, 162, 0, 19, 28, 43, 29, 46, 4, 96, 184, 1, 21, 61]
abbrev dktX0_countComponents_0 : List UInt8 := dkwX0_countComponents_0 ++ dktX0_countComponents_1
theorem dksX0_countComponents_0 : cX0_countComponents.data.toList.drop 0 = dktX0_countComponents_0 := by decide +kernel
theorem dksX0_countComponents_1 : cX0_countComponents.data.toList.drop 22 = dktX0_countComponents_1 := dk_seg dksX0_countComponents_0 22 rfl rfl
theorem dX0_countComponents_0 : decode cX0_countComponents 0 = .ok (.iconst 0, 1) := dk_3 (dk_at dksX0_countComponents_0 0 rfl rfl)
theorem dX0_countComponents_1 : decode cX0_countComponents 1 = .ok (.istore_n 2, 1) := dk_61 (dk_at dksX0_countComponents_0 1 rfl rfl)
theorem dX0_countComponents_2 : decode cX0_countComponents 2 = .ok (.iconst 0, 1) := dk_3 (dk_at dksX0_countComponents_0 2 rfl rfl)
theorem dX0_countComponents_3 : decode cX0_countComponents 3 = .ok (.istore_n 3, 1) := dk_62 (dk_at dksX0_countComponents_0 3 rfl rfl)
theorem dX0_countComponents_4 : decode cX0_countComponents 4 = .ok (.iload_n 3, 1) := dk_29 (dk_at dksX0_countComponents_0 4 rfl rfl)
theorem dX0_countComponents_5 : decode cX0_countComponents 5 = .ok (.aload_n 0, 1) := dk_42 (dk_at dksX0_countComponents_0 5 rfl rfl)
theorem dX0_countComponents_6 : decode cX0_countComponents 6 = .ok (.getfield 219, 3) := dk_180 0 219 (dk_at dksX0_countComponents_0 6 rfl rfl)
theorem dX0_countComponents_9 : decode cX0_countComponents 9 = .ok (.if_icmp .ge 19, 3) := dk_162 0 19 (dk_at dksX0_countComponents_0 9 rfl rfl)
theorem dX0_countComponents_12 : decode cX0_countComponents 12 = .ok (.iload_n 2, 1) := dk_28 (dk_at dksX0_countComponents_0 12 rfl rfl)
theorem dX0_countComponents_13 : decode cX0_countComponents 13 = .ok (.aload_n 1, 1) := dk_43 (dk_at dksX0_countComponents_0 13 rfl rfl)
theorem dX0_countComponents_14 : decode cX0_countComponents 14 = .ok (.iload_n 3, 1) := dk_29 (dk_at dksX0_countComponents_0 14 rfl rfl)
theorem dX0_countComponents_15 : decode cX0_countComponents 15 = .ok (.iaload, 1) := dk_46 (dk_at dksX0_countComponents_0 15 rfl rfl)
theorem dX0_countComponents_16 : decode cX0_countComponents 16 = .ok (.iconst 1, 1) := dk_4 (dk_at dksX0_countComponents_0 16 rfl rfl)
theorem dX0_countComponents_17 : decode cX0_countComponents 17 = .ok (.iadd, 1) := dk_96 (dk_at dksX0_countComponents_0 17 rfl rfl)
theorem dX0_countComponents_18 : decode cX0_countComponents 18 = .ok (.invokestatic 277, 3) := dk_184 1 21 (dk_at dksX0_countComponents_0 18 rfl rfl)
theorem dX0_countComponents_21 : decode cX0_countComponents 21 = .ok (.istore_n 2, 1) := dk_61 (dk_at dksX0_countComponents_0 21 rfl rfl)
theorem dX0_countComponents_22 : decode cX0_countComponents 22 = .ok (.iinc 3 1, 3) := dk_132 3 1 (dk_at dksX0_countComponents_1 0 rfl rfl)
theorem dX0_countComponents_25 : decode cX0_countComponents 25 = .ok (.goto (-21), 3) := dk_167 255 235 (dk_at dksX0_countComponents_1 3 rfl rfl)
theorem dX0_countComponents_28 : decode cX0_countComponents 28 = .ok (.iload_n 2, 1) := dk_28 (dk_at dksX0_countComponents_1 6 rfl rfl)
theorem dX0_countComponents_29 : decode cX0_countComponents 29 = .ok (.ireturn, 1) := dk_172 (dk_at dksX0_countComponents_1 7 rfl rfl)
abbrev cX0_pairRule : ByteArray := prog_1_method_26_code
def yX0_pairRule : MethodName := ⟨RX0, "pairRule", "(I)I"⟩
def dkwX0_pairRule_0 : List UInt8 := [42, 27, 182, 0, 243, 153, 0, 15, 42, 180, 0, 47, 27, 50, 180, 0, 246, 167, 0, 4, 2, 172]
abbrev dktX0_pairRule_0 : List UInt8 := dkwX0_pairRule_0 ++ []
theorem dksX0_pairRule_0 : cX0_pairRule.data.toList.drop 0 = dktX0_pairRule_0 := by decide +kernel
theorem dX0_pairRule_0 : decode cX0_pairRule 0 = .ok (.aload_n 0, 1) := dk_42 (dk_at dksX0_pairRule_0 0 rfl rfl)
theorem dX0_pairRule_1 : decode cX0_pairRule 1 = .ok (.iload_n 1, 1) := dk_27 (dk_at dksX0_pairRule_0 1 rfl rfl)
theorem dX0_pairRule_2 : decode cX0_pairRule 2 = .ok (.invokevirtual 243, 3) := dk_182 0 243 (dk_at dksX0_pairRule_0 2 rfl rfl)
theorem dX0_pairRule_5 : decode cX0_pairRule 5 = .ok (.ifCond .eq 15, 3) := dk_153 0 15 (dk_at dksX0_pairRule_0 5 rfl rfl)
theorem dX0_pairRule_8 : decode cX0_pairRule 8 = .ok (.aload_n 0, 1) := dk_42 (dk_at dksX0_pairRule_0 8 rfl rfl)
theorem dX0_pairRule_9 : decode cX0_pairRule 9 = .ok (.getfield 47, 3) := dk_180 0 47 (dk_at dksX0_pairRule_0 9 rfl rfl)
theorem dX0_pairRule_12 : decode cX0_pairRule 12 = .ok (.iload_n 1, 1) := dk_27 (dk_at dksX0_pairRule_0 12 rfl rfl)
theorem dX0_pairRule_13 : decode cX0_pairRule 13 = .ok (.aaload, 1) := dk_50 (dk_at dksX0_pairRule_0 13 rfl rfl)
theorem dX0_pairRule_14 : decode cX0_pairRule 14 = .ok (.getfield 246, 3) := dk_180 0 246 (dk_at dksX0_pairRule_0 14 rfl rfl)
theorem dX0_pairRule_17 : decode cX0_pairRule 17 = .ok (.goto 4, 3) := dk_167 0 4 (dk_at dksX0_pairRule_0 17 rfl rfl)
theorem dX0_pairRule_20 : decode cX0_pairRule 20 = .ok (.iconst (-1), 1) := dk_2 (dk_at dksX0_pairRule_0 20 rfl rfl)
theorem dX0_pairRule_21 : decode cX0_pairRule 21 = .ok (.ireturn, 1) := dk_172 (dk_at dksX0_pairRule_0 21 rfl rfl)
abbrev cX0_isPair : ByteArray := prog_1_method_24_code
def yX0_isPair : MethodName := ⟨RX0, "isPair", "(I)Z"⟩
def dkwX0_isPair_0 : List UInt8 := [42, 182, 0, 240, 27, 133, 9, 42, 180, 0, 219, 4, 100, 133, 184, 0, 134, 172]
abbrev dktX0_isPair_0 : List UInt8 := dkwX0_isPair_0 ++ []
theorem dksX0_isPair_0 : cX0_isPair.data.toList.drop 0 = dktX0_isPair_0 := by decide +kernel
theorem dX0_isPair_0 : decode cX0_isPair 0 = .ok (.aload_n 0, 1) := dk_42 (dk_at dksX0_isPair_0 0 rfl rfl)
theorem dX0_isPair_1 : decode cX0_isPair 1 = .ok (.invokevirtual 240, 3) := dk_182 0 240 (dk_at dksX0_isPair_0 1 rfl rfl)
theorem dX0_isPair_4 : decode cX0_isPair 4 = .ok (.iload_n 1, 1) := dk_27 (dk_at dksX0_isPair_0 4 rfl rfl)
theorem dX0_isPair_5 : decode cX0_isPair 5 = .ok (.i2l, 1) := dk_133 (dk_at dksX0_isPair_0 5 rfl rfl)
theorem dX0_isPair_6 : decode cX0_isPair 6 = .ok (.lconst 0, 1) := dk_9 (dk_at dksX0_isPair_0 6 rfl rfl)
theorem dX0_isPair_7 : decode cX0_isPair 7 = .ok (.aload_n 0, 1) := dk_42 (dk_at dksX0_isPair_0 7 rfl rfl)
theorem dX0_isPair_8 : decode cX0_isPair 8 = .ok (.getfield 219, 3) := dk_180 0 219 (dk_at dksX0_isPair_0 8 rfl rfl)
theorem dX0_isPair_11 : decode cX0_isPair 11 = .ok (.iconst 1, 1) := dk_4 (dk_at dksX0_isPair_0 11 rfl rfl)
theorem dX0_isPair_12 : decode cX0_isPair 12 = .ok (.isub, 1) := dk_100 (dk_at dksX0_isPair_0 12 rfl rfl)
theorem dX0_isPair_13 : decode cX0_isPair 13 = .ok (.i2l, 1) := dk_133 (dk_at dksX0_isPair_0 13 rfl rfl)
theorem dX0_isPair_14 : decode cX0_isPair 14 = .ok (.invokestatic 134, 3) := dk_184 0 134 (dk_at dksX0_isPair_0 14 rfl rfl)
theorem dX0_isPair_17 : decode cX0_isPair 17 = .ok (.ireturn, 1) := dk_172 (dk_at dksX0_isPair_0 17 rfl rfl)
abbrev cX0_pairPosition : ByteArray := prog_1_method_27_code
def yX0_pairPosition : MethodName := ⟨RX0, "pairPosition", "(I)I"⟩
def dkwX0_pairPosition_0 : List UInt8 := [42, 27, 182, 0, 243, 153, 0, 15, 42, 180, 0, 47, 27, 50, 180, 0, 208, 167, 0, 4, 2, 172]
abbrev dktX0_pairPosition_0 : List UInt8 := dkwX0_pairPosition_0 ++ []
theorem dksX0_pairPosition_0 : cX0_pairPosition.data.toList.drop 0 = dktX0_pairPosition_0 := by decide +kernel
theorem dX0_pairPosition_0 : decode cX0_pairPosition 0 = .ok (.aload_n 0, 1) := dk_42 (dk_at dksX0_pairPosition_0 0 rfl rfl)
theorem dX0_pairPosition_1 : decode cX0_pairPosition 1 = .ok (.iload_n 1, 1) := dk_27 (dk_at dksX0_pairPosition_0 1 rfl rfl)
theorem dX0_pairPosition_2 : decode cX0_pairPosition 2 = .ok (.invokevirtual 243, 3) := dk_182 0 243 (dk_at dksX0_pairPosition_0 2 rfl rfl)
theorem dX0_pairPosition_5 : decode cX0_pairPosition 5 = .ok (.ifCond .eq 15, 3) := dk_153 0 15 (dk_at dksX0_pairPosition_0 5 rfl rfl)
theorem dX0_pairPosition_8 : decode cX0_pairPosition 8 = .ok (.aload_n 0, 1) := dk_42 (dk_at dksX0_pairPosition_0 8 rfl rfl)
theorem dX0_pairPosition_9 : decode cX0_pairPosition 9 = .ok (.getfield 47, 3) := dk_180 0 47 (dk_at dksX0_pairPosition_0 9 rfl rfl)
theorem dX0_pairPosition_12 : decode cX0_pairPosition 12 = .ok (.iload_n 1, 1) := dk_27 (dk_at dksX0_pairPosition_0 12 rfl rfl)
theorem dX0_pairPosition_13 : decode cX0_pairPosition 13 = .ok (.aaload, 1) := dk_50 (dk_at dksX0_pairPosition_0 13 rfl rfl)
theorem dX0_pairPosition_14 : decode cX0_pairPosition 14 = .ok (.getfield 208, 3) := dk_180 0 208 (dk_at dksX0_pairPosition_0 14 rfl rfl)
theorem dX0_pairPosition_17 : decode cX0_pairPosition 17 = .ok (.goto 4, 3) := dk_167 0 4 (dk_at dksX0_pairPosition_0 17 rfl rfl)
theorem dX0_pairPosition_20 : decode cX0_pairPosition 20 = .ok (.iconst (-1), 1) := dk_2 (dk_at dksX0_pairPosition_0 20 rfl rfl)
theorem dX0_pairPosition_21 : decode cX0_pairPosition 21 = .ok (.ireturn, 1) := dk_172 (dk_at dksX0_pairPosition_0 21 rfl rfl)
abbrev cX0_sourceFunction : ByteArray := prog_1_method_28_code
def yX0_sourceFunction : MethodName := ⟨RX0, "sourceFunction", "(I)I"⟩
def dkwX0_sourceFunction_1 : List UInt8 := [2, 172]
abbrev dktX0_sourceFunction_1 : List UInt8 := dkwX0_sourceFunction_1 ++ []
def dkwX0_sourceFunction_0 : List UInt8 := [42, 27, 182, 0, 243, 153, 0, 19, 42, 180, 0, 47, 27, 50, 180, 0, 209, 3, 182, 0, 248, 167, 0, 4]
abbrev dktX0_sourceFunction_0 : List UInt8 := dkwX0_sourceFunction_0 ++ dktX0_sourceFunction_1
theorem dksX0_sourceFunction_0 : cX0_sourceFunction.data.toList.drop 0 = dktX0_sourceFunction_0 := by decide +kernel
theorem dksX0_sourceFunction_1 : cX0_sourceFunction.data.toList.drop 24 = dktX0_sourceFunction_1 := dk_seg dksX0_sourceFunction_0 24 rfl rfl
theorem dX0_sourceFunction_0 : decode cX0_sourceFunction 0 = .ok (.aload_n 0, 1) := dk_42 (dk_at dksX0_sourceFunction_0 0 rfl rfl)
theorem dX0_sourceFunction_1 : decode cX0_sourceFunction 1 = .ok (.iload_n 1, 1) := dk_27 (dk_at dksX0_sourceFunction_0 1 rfl rfl)
theorem dX0_sourceFunction_2 : decode cX0_sourceFunction 2 = .ok (.invokevirtual 243, 3) := dk_182 0 243 (dk_at dksX0_sourceFunction_0 2 rfl rfl)
theorem dX0_sourceFunction_5 : decode cX0_sourceFunction 5 = .ok (.ifCond .eq 19, 3) := dk_153 0 19 (dk_at dksX0_sourceFunction_0 5 rfl rfl)
theorem dX0_sourceFunction_8 : decode cX0_sourceFunction 8 = .ok (.aload_n 0, 1) := dk_42 (dk_at dksX0_sourceFunction_0 8 rfl rfl)
theorem dX0_sourceFunction_9 : decode cX0_sourceFunction 9 = .ok (.getfield 47, 3) := dk_180 0 47 (dk_at dksX0_sourceFunction_0 9 rfl rfl)
theorem dX0_sourceFunction_12 : decode cX0_sourceFunction 12 = .ok (.iload_n 1, 1) := dk_27 (dk_at dksX0_sourceFunction_0 12 rfl rfl)
theorem dX0_sourceFunction_13 : decode cX0_sourceFunction 13 = .ok (.aaload, 1) := dk_50 (dk_at dksX0_sourceFunction_0 13 rfl rfl)
theorem dX0_sourceFunction_14 : decode cX0_sourceFunction 14 = .ok (.getfield 209, 3) := dk_180 0 209 (dk_at dksX0_sourceFunction_0 14 rfl rfl)
theorem dX0_sourceFunction_17 : decode cX0_sourceFunction 17 = .ok (.iconst 0, 1) := dk_3 (dk_at dksX0_sourceFunction_0 17 rfl rfl)
theorem dX0_sourceFunction_18 : decode cX0_sourceFunction 18 = .ok (.invokevirtual 248, 3) := dk_182 0 248 (dk_at dksX0_sourceFunction_0 18 rfl rfl)
theorem dX0_sourceFunction_21 : decode cX0_sourceFunction 21 = .ok (.goto 4, 3) := dk_167 0 4 (dk_at dksX0_sourceFunction_0 21 rfl rfl)
theorem dX0_sourceFunction_24 : decode cX0_sourceFunction 24 = .ok (.iconst (-1), 1) := dk_2 (dk_at dksX0_sourceFunction_1 0 rfl rfl)
theorem dX0_sourceFunction_25 : decode cX0_sourceFunction 25 = .ok (.ireturn, 1) := dk_172 (dk_at dksX0_sourceFunction_1 1 rfl rfl)
abbrev cX0_targetFunction : ByteArray := prog_1_method_29_code
def yX0_targetFunction : MethodName := ⟨RX0, "targetFunction", "(I)I"⟩
def dkwX0_targetFunction_1 : List UInt8 := [180, 0, 208, 182, 0, 248, 167, 0, 4, 2, 172]
abbrev dktX0_targetFunction_1 : List UInt8 := dkwX0_targetFunction_1 ++ []
def dkwX0_targetFunction_0 : List UInt8 := [42, 27, 182, 0, 243, 153, 0, 27, 42, 180, 0, 47, 27, 50, 180, 0, 207, 42, 180, 0, 47, 27, 50]
abbrev dktX0_targetFunction_0 : List UInt8 := dkwX0_targetFunction_0 ++ dktX0_targetFunction_1
theorem dksX0_targetFunction_0 : cX0_targetFunction.data.toList.drop 0 = dktX0_targetFunction_0 := by decide +kernel
theorem dksX0_targetFunction_1 : cX0_targetFunction.data.toList.drop 23 = dktX0_targetFunction_1 := dk_seg dksX0_targetFunction_0 23 rfl rfl
theorem dX0_targetFunction_0 : decode cX0_targetFunction 0 = .ok (.aload_n 0, 1) := dk_42 (dk_at dksX0_targetFunction_0 0 rfl rfl)
theorem dX0_targetFunction_1 : decode cX0_targetFunction 1 = .ok (.iload_n 1, 1) := dk_27 (dk_at dksX0_targetFunction_0 1 rfl rfl)
theorem dX0_targetFunction_2 : decode cX0_targetFunction 2 = .ok (.invokevirtual 243, 3) := dk_182 0 243 (dk_at dksX0_targetFunction_0 2 rfl rfl)
theorem dX0_targetFunction_5 : decode cX0_targetFunction 5 = .ok (.ifCond .eq 27, 3) := dk_153 0 27 (dk_at dksX0_targetFunction_0 5 rfl rfl)
theorem dX0_targetFunction_8 : decode cX0_targetFunction 8 = .ok (.aload_n 0, 1) := dk_42 (dk_at dksX0_targetFunction_0 8 rfl rfl)
theorem dX0_targetFunction_9 : decode cX0_targetFunction 9 = .ok (.getfield 47, 3) := dk_180 0 47 (dk_at dksX0_targetFunction_0 9 rfl rfl)
theorem dX0_targetFunction_12 : decode cX0_targetFunction 12 = .ok (.iload_n 1, 1) := dk_27 (dk_at dksX0_targetFunction_0 12 rfl rfl)
theorem dX0_targetFunction_13 : decode cX0_targetFunction 13 = .ok (.aaload, 1) := dk_50 (dk_at dksX0_targetFunction_0 13 rfl rfl)
theorem dX0_targetFunction_14 : decode cX0_targetFunction 14 = .ok (.getfield 207, 3) := dk_180 0 207 (dk_at dksX0_targetFunction_0 14 rfl rfl)
theorem dX0_targetFunction_17 : decode cX0_targetFunction 17 = .ok (.aload_n 0, 1) := dk_42 (dk_at dksX0_targetFunction_0 17 rfl rfl)
theorem dX0_targetFunction_18 : decode cX0_targetFunction 18 = .ok (.getfield 47, 3) := dk_180 0 47 (dk_at dksX0_targetFunction_0 18 rfl rfl)
theorem dX0_targetFunction_21 : decode cX0_targetFunction 21 = .ok (.iload_n 1, 1) := dk_27 (dk_at dksX0_targetFunction_0 21 rfl rfl)
theorem dX0_targetFunction_22 : decode cX0_targetFunction 22 = .ok (.aaload, 1) := dk_50 (dk_at dksX0_targetFunction_0 22 rfl rfl)
theorem dX0_targetFunction_23 : decode cX0_targetFunction 23 = .ok (.getfield 208, 3) := dk_180 0 208 (dk_at dksX0_targetFunction_1 0 rfl rfl)
theorem dX0_targetFunction_26 : decode cX0_targetFunction 26 = .ok (.invokevirtual 248, 3) := dk_182 0 248 (dk_at dksX0_targetFunction_1 3 rfl rfl)
theorem dX0_targetFunction_29 : decode cX0_targetFunction 29 = .ok (.goto 4, 3) := dk_167 0 4 (dk_at dksX0_targetFunction_1 6 rfl rfl)
theorem dX0_targetFunction_32 : decode cX0_targetFunction 32 = .ok (.iconst (-1), 1) := dk_2 (dk_at dksX0_targetFunction_1 9 rfl rfl)
theorem dX0_targetFunction_33 : decode cX0_targetFunction 33 = .ok (.ireturn, 1) := dk_172 (dk_at dksX0_targetFunction_1 10 rfl rfl)
abbrev cX0_hasEdge : ByteArray := prog_1_method_30_code
def yX0_hasEdge : MethodName := ⟨RX0, "hasEdge", "(II)I"⟩
def dkwX0_hasEdge_1 : List UInt8 := [184, 0, 252, 167, 0, 4, 2, 172]
abbrev dktX0_hasEdge_1 : List UInt8 := dkwX0_hasEdge_1 ++ []
def dkwX0_hasEdge_0 : List UInt8 := [42, 27, 182, 0, 243, 153, 0, 25, 42, 28, 182, 0, 243, 153, 0, 17, 42, 180, 0, 53, 27, 50, 28, 51]
abbrev dktX0_hasEdge_0 : List UInt8 := dkwX0_hasEdge_0 ++ dktX0_hasEdge_1
theorem dksX0_hasEdge_0 : cX0_hasEdge.data.toList.drop 0 = dktX0_hasEdge_0 := by decide +kernel
theorem dksX0_hasEdge_1 : cX0_hasEdge.data.toList.drop 24 = dktX0_hasEdge_1 := dk_seg dksX0_hasEdge_0 24 rfl rfl
theorem dX0_hasEdge_0 : decode cX0_hasEdge 0 = .ok (.aload_n 0, 1) := dk_42 (dk_at dksX0_hasEdge_0 0 rfl rfl)
theorem dX0_hasEdge_1 : decode cX0_hasEdge 1 = .ok (.iload_n 1, 1) := dk_27 (dk_at dksX0_hasEdge_0 1 rfl rfl)
theorem dX0_hasEdge_2 : decode cX0_hasEdge 2 = .ok (.invokevirtual 243, 3) := dk_182 0 243 (dk_at dksX0_hasEdge_0 2 rfl rfl)
theorem dX0_hasEdge_5 : decode cX0_hasEdge 5 = .ok (.ifCond .eq 25, 3) := dk_153 0 25 (dk_at dksX0_hasEdge_0 5 rfl rfl)
theorem dX0_hasEdge_8 : decode cX0_hasEdge 8 = .ok (.aload_n 0, 1) := dk_42 (dk_at dksX0_hasEdge_0 8 rfl rfl)
theorem dX0_hasEdge_9 : decode cX0_hasEdge 9 = .ok (.iload_n 2, 1) := dk_28 (dk_at dksX0_hasEdge_0 9 rfl rfl)
theorem dX0_hasEdge_10 : decode cX0_hasEdge 10 = .ok (.invokevirtual 243, 3) := dk_182 0 243 (dk_at dksX0_hasEdge_0 10 rfl rfl)
theorem dX0_hasEdge_13 : decode cX0_hasEdge 13 = .ok (.ifCond .eq 17, 3) := dk_153 0 17 (dk_at dksX0_hasEdge_0 13 rfl rfl)
theorem dX0_hasEdge_16 : decode cX0_hasEdge 16 = .ok (.aload_n 0, 1) := dk_42 (dk_at dksX0_hasEdge_0 16 rfl rfl)
theorem dX0_hasEdge_17 : decode cX0_hasEdge 17 = .ok (.getfield 53, 3) := dk_180 0 53 (dk_at dksX0_hasEdge_0 17 rfl rfl)
theorem dX0_hasEdge_20 : decode cX0_hasEdge 20 = .ok (.iload_n 1, 1) := dk_27 (dk_at dksX0_hasEdge_0 20 rfl rfl)
theorem dX0_hasEdge_21 : decode cX0_hasEdge 21 = .ok (.aaload, 1) := dk_50 (dk_at dksX0_hasEdge_0 21 rfl rfl)
theorem dX0_hasEdge_22 : decode cX0_hasEdge 22 = .ok (.iload_n 2, 1) := dk_28 (dk_at dksX0_hasEdge_0 22 rfl rfl)
theorem dX0_hasEdge_23 : decode cX0_hasEdge 23 = .ok (.baload, 1) := dk_51 (dk_at dksX0_hasEdge_0 23 rfl rfl)
theorem dX0_hasEdge_24 : decode cX0_hasEdge 24 = .ok (.invokestatic 252, 3) := dk_184 0 252 (dk_at dksX0_hasEdge_1 0 rfl rfl)
theorem dX0_hasEdge_27 : decode cX0_hasEdge 27 = .ok (.goto 4, 3) := dk_167 0 4 (dk_at dksX0_hasEdge_1 3 rfl rfl)
theorem dX0_hasEdge_30 : decode cX0_hasEdge 30 = .ok (.iconst (-1), 1) := dk_2 (dk_at dksX0_hasEdge_1 6 rfl rfl)
theorem dX0_hasEdge_31 : decode cX0_hasEdge 31 = .ok (.ireturn, 1) := dk_172 (dk_at dksX0_hasEdge_1 7 rfl rfl)
abbrev cX0_asInt : ByteArray := prog_1_method_2_code
def yX0_asInt : MethodName := ⟨RX0, "asInt", "(Z)I"⟩
def dkwX0_asInt_0 : List UInt8 := [26, 153, 0, 7, 4, 167, 0, 4, 3, 172]
abbrev dktX0_asInt_0 : List UInt8 := dkwX0_asInt_0 ++ []
theorem dksX0_asInt_0 : cX0_asInt.data.toList.drop 0 = dktX0_asInt_0 := by decide +kernel
theorem dX0_asInt_0 : decode cX0_asInt 0 = .ok (.iload_n 0, 1) := dk_26 (dk_at dksX0_asInt_0 0 rfl rfl)
theorem dX0_asInt_1 : decode cX0_asInt 1 = .ok (.ifCond .eq 7, 3) := dk_153 0 7 (dk_at dksX0_asInt_0 1 rfl rfl)
theorem dX0_asInt_4 : decode cX0_asInt 4 = .ok (.iconst 1, 1) := dk_4 (dk_at dksX0_asInt_0 4 rfl rfl)
theorem dX0_asInt_5 : decode cX0_asInt 5 = .ok (.goto 4, 3) := dk_167 0 4 (dk_at dksX0_asInt_0 5 rfl rfl)
theorem dX0_asInt_8 : decode cX0_asInt 8 = .ok (.iconst 0, 1) := dk_3 (dk_at dksX0_asInt_0 8 rfl rfl)
theorem dX0_asInt_9 : decode cX0_asInt 9 = .ok (.ireturn, 1) := dk_172 (dk_at dksX0_asInt_0 9 rfl rfl)
abbrev cX0_edgeCount : ByteArray := prog_1_method_31_code
def yX0_edgeCount : MethodName := ⟨RX0, "edgeCount", "()I"⟩
def dkwX0_edgeCount_2 : List UInt8 := [132, 2, 1, 167, 255, 215, 27, 172]
abbrev dktX0_edgeCount_2 : List UInt8 := dkwX0_edgeCount_2 ++ []
def dkwX0_edgeCount_1 : List UInt8 := [162, 0, 23, 27, 42, 180, 0, 53, 28, 50, 29, 51, 184, 0, 252, 96, 60, 132, 3, 1, 167, 255, 231]
abbrev dktX0_edgeCount_1 : List UInt8 := dkwX0_edgeCount_1 ++ dktX0_edgeCount_2
def dkwX0_edgeCount_0 : List UInt8 := [42, 182, 0, 240, 3, 60, 3, 61, 28, 42, 180, 0, 219, 162, 0, 39, 3, 62, 29, 42, 180, 0, 219]
abbrev dktX0_edgeCount_0 : List UInt8 := dkwX0_edgeCount_0 ++ dktX0_edgeCount_1
theorem dksX0_edgeCount_0 : cX0_edgeCount.data.toList.drop 0 = dktX0_edgeCount_0 := by decide +kernel
theorem dksX0_edgeCount_1 : cX0_edgeCount.data.toList.drop 23 = dktX0_edgeCount_1 := dk_seg dksX0_edgeCount_0 23 rfl rfl
theorem dksX0_edgeCount_2 : cX0_edgeCount.data.toList.drop 46 = dktX0_edgeCount_2 := dk_seg dksX0_edgeCount_1 23 rfl rfl
theorem dX0_edgeCount_0 : decode cX0_edgeCount 0 = .ok (.aload_n 0, 1) := dk_42 (dk_at dksX0_edgeCount_0 0 rfl rfl)
theorem dX0_edgeCount_1 : decode cX0_edgeCount 1 = .ok (.invokevirtual 240, 3) := dk_182 0 240 (dk_at dksX0_edgeCount_0 1 rfl rfl)
theorem dX0_edgeCount_4 : decode cX0_edgeCount 4 = .ok (.iconst 0, 1) := dk_3 (dk_at dksX0_edgeCount_0 4 rfl rfl)
theorem dX0_edgeCount_5 : decode cX0_edgeCount 5 = .ok (.istore_n 1, 1) := dk_60 (dk_at dksX0_edgeCount_0 5 rfl rfl)
theorem dX0_edgeCount_6 : decode cX0_edgeCount 6 = .ok (.iconst 0, 1) := dk_3 (dk_at dksX0_edgeCount_0 6 rfl rfl)
theorem dX0_edgeCount_7 : decode cX0_edgeCount 7 = .ok (.istore_n 2, 1) := dk_61 (dk_at dksX0_edgeCount_0 7 rfl rfl)
theorem dX0_edgeCount_8 : decode cX0_edgeCount 8 = .ok (.iload_n 2, 1) := dk_28 (dk_at dksX0_edgeCount_0 8 rfl rfl)
theorem dX0_edgeCount_9 : decode cX0_edgeCount 9 = .ok (.aload_n 0, 1) := dk_42 (dk_at dksX0_edgeCount_0 9 rfl rfl)
theorem dX0_edgeCount_10 : decode cX0_edgeCount 10 = .ok (.getfield 219, 3) := dk_180 0 219 (dk_at dksX0_edgeCount_0 10 rfl rfl)
theorem dX0_edgeCount_13 : decode cX0_edgeCount 13 = .ok (.if_icmp .ge 39, 3) := dk_162 0 39 (dk_at dksX0_edgeCount_0 13 rfl rfl)
theorem dX0_edgeCount_16 : decode cX0_edgeCount 16 = .ok (.iconst 0, 1) := dk_3 (dk_at dksX0_edgeCount_0 16 rfl rfl)
theorem dX0_edgeCount_17 : decode cX0_edgeCount 17 = .ok (.istore_n 3, 1) := dk_62 (dk_at dksX0_edgeCount_0 17 rfl rfl)
theorem dX0_edgeCount_18 : decode cX0_edgeCount 18 = .ok (.iload_n 3, 1) := dk_29 (dk_at dksX0_edgeCount_0 18 rfl rfl)
theorem dX0_edgeCount_19 : decode cX0_edgeCount 19 = .ok (.aload_n 0, 1) := dk_42 (dk_at dksX0_edgeCount_0 19 rfl rfl)
theorem dX0_edgeCount_20 : decode cX0_edgeCount 20 = .ok (.getfield 219, 3) := dk_180 0 219 (dk_at dksX0_edgeCount_0 20 rfl rfl)
theorem dX0_edgeCount_23 : decode cX0_edgeCount 23 = .ok (.if_icmp .ge 23, 3) := dk_162 0 23 (dk_at dksX0_edgeCount_1 0 rfl rfl)
theorem dX0_edgeCount_26 : decode cX0_edgeCount 26 = .ok (.iload_n 1, 1) := dk_27 (dk_at dksX0_edgeCount_1 3 rfl rfl)
theorem dX0_edgeCount_27 : decode cX0_edgeCount 27 = .ok (.aload_n 0, 1) := dk_42 (dk_at dksX0_edgeCount_1 4 rfl rfl)
theorem dX0_edgeCount_28 : decode cX0_edgeCount 28 = .ok (.getfield 53, 3) := dk_180 0 53 (dk_at dksX0_edgeCount_1 5 rfl rfl)
theorem dX0_edgeCount_31 : decode cX0_edgeCount 31 = .ok (.iload_n 2, 1) := dk_28 (dk_at dksX0_edgeCount_1 8 rfl rfl)
theorem dX0_edgeCount_32 : decode cX0_edgeCount 32 = .ok (.aaload, 1) := dk_50 (dk_at dksX0_edgeCount_1 9 rfl rfl)
theorem dX0_edgeCount_33 : decode cX0_edgeCount 33 = .ok (.iload_n 3, 1) := dk_29 (dk_at dksX0_edgeCount_1 10 rfl rfl)
theorem dX0_edgeCount_34 : decode cX0_edgeCount 34 = .ok (.baload, 1) := dk_51 (dk_at dksX0_edgeCount_1 11 rfl rfl)
theorem dX0_edgeCount_35 : decode cX0_edgeCount 35 = .ok (.invokestatic 252, 3) := dk_184 0 252 (dk_at dksX0_edgeCount_1 12 rfl rfl)
theorem dX0_edgeCount_38 : decode cX0_edgeCount 38 = .ok (.iadd, 1) := dk_96 (dk_at dksX0_edgeCount_1 15 rfl rfl)
theorem dX0_edgeCount_39 : decode cX0_edgeCount 39 = .ok (.istore_n 1, 1) := dk_60 (dk_at dksX0_edgeCount_1 16 rfl rfl)
theorem dX0_edgeCount_40 : decode cX0_edgeCount 40 = .ok (.iinc 3 1, 3) := dk_132 3 1 (dk_at dksX0_edgeCount_1 17 rfl rfl)
theorem dX0_edgeCount_43 : decode cX0_edgeCount 43 = .ok (.goto (-25), 3) := dk_167 255 231 (dk_at dksX0_edgeCount_1 20 rfl rfl)
theorem dX0_edgeCount_46 : decode cX0_edgeCount 46 = .ok (.iinc 2 1, 3) := dk_132 2 1 (dk_at dksX0_edgeCount_2 0 rfl rfl)
theorem dX0_edgeCount_49 : decode cX0_edgeCount 49 = .ok (.goto (-41), 3) := dk_167 255 215 (dk_at dksX0_edgeCount_2 3 rfl rfl)
theorem dX0_edgeCount_52 : decode cX0_edgeCount 52 = .ok (.iload_n 1, 1) := dk_27 (dk_at dksX0_edgeCount_2 6 rfl rfl)
theorem dX0_edgeCount_53 : decode cX0_edgeCount 53 = .ok (.ireturn, 1) := dk_172 (dk_at dksX0_edgeCount_2 7 rfl rfl)
abbrev cX0_componentCount : ByteArray := prog_1_method_34_code
def yX0_componentCount : MethodName := ⟨RX0, "componentCount", "()I"⟩
def dkwX0_componentCount_0 : List UInt8 := [42, 182, 0, 240, 42, 180, 0, 237, 172]
abbrev dktX0_componentCount_0 : List UInt8 := dkwX0_componentCount_0 ++ []
theorem dksX0_componentCount_0 : cX0_componentCount.data.toList.drop 0 = dktX0_componentCount_0 := by decide +kernel
theorem dX0_componentCount_0 : decode cX0_componentCount 0 = .ok (.aload_n 0, 1) := dk_42 (dk_at dksX0_componentCount_0 0 rfl rfl)
theorem dX0_componentCount_1 : decode cX0_componentCount 1 = .ok (.invokevirtual 240, 3) := dk_182 0 240 (dk_at dksX0_componentCount_0 1 rfl rfl)
theorem dX0_componentCount_4 : decode cX0_componentCount 4 = .ok (.aload_n 0, 1) := dk_42 (dk_at dksX0_componentCount_0 4 rfl rfl)
theorem dX0_componentCount_5 : decode cX0_componentCount 5 = .ok (.getfield 237, 3) := dk_180 0 237 (dk_at dksX0_componentCount_0 5 rfl rfl)
theorem dX0_componentCount_8 : decode cX0_componentCount 8 = .ok (.ireturn, 1) := dk_172 (dk_at dksX0_componentCount_0 8 rfl rfl)
abbrev cX0_componentOf : ByteArray := prog_1_method_35_code
def yX0_componentOf : MethodName := ⟨RX0, "componentOf", "(I)I"⟩
def dkwX0_componentOf_0 : List UInt8 := [42, 27, 182, 0, 243, 153, 0, 12, 42, 180, 0, 56, 27, 46, 167, 0, 4, 2, 172]
abbrev dktX0_componentOf_0 : List UInt8 := dkwX0_componentOf_0 ++ []
theorem dksX0_componentOf_0 : cX0_componentOf.data.toList.drop 0 = dktX0_componentOf_0 := by decide +kernel
theorem dX0_componentOf_0 : decode cX0_componentOf 0 = .ok (.aload_n 0, 1) := dk_42 (dk_at dksX0_componentOf_0 0 rfl rfl)
theorem dX0_componentOf_1 : decode cX0_componentOf 1 = .ok (.iload_n 1, 1) := dk_27 (dk_at dksX0_componentOf_0 1 rfl rfl)
theorem dX0_componentOf_2 : decode cX0_componentOf 2 = .ok (.invokevirtual 243, 3) := dk_182 0 243 (dk_at dksX0_componentOf_0 2 rfl rfl)
theorem dX0_componentOf_5 : decode cX0_componentOf 5 = .ok (.ifCond .eq 12, 3) := dk_153 0 12 (dk_at dksX0_componentOf_0 5 rfl rfl)
theorem dX0_componentOf_8 : decode cX0_componentOf 8 = .ok (.aload_n 0, 1) := dk_42 (dk_at dksX0_componentOf_0 8 rfl rfl)
theorem dX0_componentOf_9 : decode cX0_componentOf 9 = .ok (.getfield 56, 3) := dk_180 0 56 (dk_at dksX0_componentOf_0 9 rfl rfl)
theorem dX0_componentOf_12 : decode cX0_componentOf 12 = .ok (.iload_n 1, 1) := dk_27 (dk_at dksX0_componentOf_0 12 rfl rfl)
theorem dX0_componentOf_13 : decode cX0_componentOf 13 = .ok (.iaload, 1) := dk_46 (dk_at dksX0_componentOf_0 13 rfl rfl)
theorem dX0_componentOf_14 : decode cX0_componentOf 14 = .ok (.goto 4, 3) := dk_167 0 4 (dk_at dksX0_componentOf_0 14 rfl rfl)
theorem dX0_componentOf_17 : decode cX0_componentOf 17 = .ok (.iconst (-1), 1) := dk_2 (dk_at dksX0_componentOf_0 17 rfl rfl)
theorem dX0_componentOf_18 : decode cX0_componentOf 18 = .ok (.ireturn, 1) := dk_172 (dk_at dksX0_componentOf_0 18 rfl rfl)
abbrev cX0_sizeRelation : ByteArray := prog_1_method_36_code
def yX0_sizeRelation : MethodName := ⟨RX0, "sizeRelation", "(III)I"⟩
def dkwX0_sizeRelation_3 : List UInt8 := [167, 0, 4, 3, 54, 5, 21, 5, 153, 0, 13, 25, 4, 28, 29, 182, 1, 36, 167, 0, 4, 2, 172]
abbrev dktX0_sizeRelation_3 : List UInt8 := dkwX0_sizeRelation_3 ++ []
def dkwX0_sizeRelation_2 : List UInt8 := [42, 180, 0, 7, 25, 4, 180, 1, 27, 180, 1, 33, 46, 4, 100, 133, 184, 0, 134, 153, 0, 7, 4]
abbrev dktX0_sizeRelation_2 : List UInt8 := dkwX0_sizeRelation_2 ++ dktX0_sizeRelation_3
def dkwX0_sizeRelation_1 : List UInt8 := [180, 0, 7, 25, 4, 180, 1, 27, 180, 1, 30, 46, 4, 100, 133, 184, 0, 134, 153, 0, 32, 29, 133, 9]
abbrev dktX0_sizeRelation_1 : List UInt8 := dkwX0_sizeRelation_1 ++ dktX0_sizeRelation_2
def dkwX0_sizeRelation_0 : List UInt8 := [42, 27, 182, 0, 243, 154, 0, 5, 2, 172, 42, 180, 0, 47, 27, 50, 58, 4, 28, 133, 9, 42]
abbrev dktX0_sizeRelation_0 : List UInt8 := dkwX0_sizeRelation_0 ++ dktX0_sizeRelation_1
theorem dksX0_sizeRelation_0 : cX0_sizeRelation.data.toList.drop 0 = dktX0_sizeRelation_0 := by decide +kernel
theorem dksX0_sizeRelation_1 : cX0_sizeRelation.data.toList.drop 22 = dktX0_sizeRelation_1 := dk_seg dksX0_sizeRelation_0 22 rfl rfl
theorem dksX0_sizeRelation_2 : cX0_sizeRelation.data.toList.drop 46 = dktX0_sizeRelation_2 := dk_seg dksX0_sizeRelation_1 24 rfl rfl
theorem dksX0_sizeRelation_3 : cX0_sizeRelation.data.toList.drop 69 = dktX0_sizeRelation_3 := dk_seg dksX0_sizeRelation_2 23 rfl rfl
theorem dX0_sizeRelation_0 : decode cX0_sizeRelation 0 = .ok (.aload_n 0, 1) := dk_42 (dk_at dksX0_sizeRelation_0 0 rfl rfl)
theorem dX0_sizeRelation_1 : decode cX0_sizeRelation 1 = .ok (.iload_n 1, 1) := dk_27 (dk_at dksX0_sizeRelation_0 1 rfl rfl)
theorem dX0_sizeRelation_2 : decode cX0_sizeRelation 2 = .ok (.invokevirtual 243, 3) := dk_182 0 243 (dk_at dksX0_sizeRelation_0 2 rfl rfl)
theorem dX0_sizeRelation_5 : decode cX0_sizeRelation 5 = .ok (.ifCond .ne 5, 3) := dk_154 0 5 (dk_at dksX0_sizeRelation_0 5 rfl rfl)
theorem dX0_sizeRelation_8 : decode cX0_sizeRelation 8 = .ok (.iconst (-1), 1) := dk_2 (dk_at dksX0_sizeRelation_0 8 rfl rfl)
theorem dX0_sizeRelation_9 : decode cX0_sizeRelation 9 = .ok (.ireturn, 1) := dk_172 (dk_at dksX0_sizeRelation_0 9 rfl rfl)
theorem dX0_sizeRelation_10 : decode cX0_sizeRelation 10 = .ok (.aload_n 0, 1) := dk_42 (dk_at dksX0_sizeRelation_0 10 rfl rfl)
theorem dX0_sizeRelation_11 : decode cX0_sizeRelation 11 = .ok (.getfield 47, 3) := dk_180 0 47 (dk_at dksX0_sizeRelation_0 11 rfl rfl)
theorem dX0_sizeRelation_14 : decode cX0_sizeRelation 14 = .ok (.iload_n 1, 1) := dk_27 (dk_at dksX0_sizeRelation_0 14 rfl rfl)
theorem dX0_sizeRelation_15 : decode cX0_sizeRelation 15 = .ok (.aaload, 1) := dk_50 (dk_at dksX0_sizeRelation_0 15 rfl rfl)
theorem dX0_sizeRelation_16 : decode cX0_sizeRelation 16 = .ok (.astore 4, 2) := dk_58 4 (dk_at dksX0_sizeRelation_0 16 rfl rfl)
theorem dX0_sizeRelation_18 : decode cX0_sizeRelation 18 = .ok (.iload_n 2, 1) := dk_28 (dk_at dksX0_sizeRelation_0 18 rfl rfl)
theorem dX0_sizeRelation_19 : decode cX0_sizeRelation 19 = .ok (.i2l, 1) := dk_133 (dk_at dksX0_sizeRelation_0 19 rfl rfl)
theorem dX0_sizeRelation_20 : decode cX0_sizeRelation 20 = .ok (.lconst 0, 1) := dk_9 (dk_at dksX0_sizeRelation_0 20 rfl rfl)
theorem dX0_sizeRelation_21 : decode cX0_sizeRelation 21 = .ok (.aload_n 0, 1) := dk_42 (dk_at dksX0_sizeRelation_0 21 rfl rfl)
theorem dX0_sizeRelation_22 : decode cX0_sizeRelation 22 = .ok (.getfield 7, 3) := dk_180 0 7 (dk_at dksX0_sizeRelation_1 0 rfl rfl)
theorem dX0_sizeRelation_25 : decode cX0_sizeRelation 25 = .ok (.aload 4, 2) := dk_25 4 (dk_at dksX0_sizeRelation_1 3 rfl rfl)
theorem dX0_sizeRelation_27 : decode cX0_sizeRelation 27 = .ok (.getfield 283, 3) := dk_180 1 27 (dk_at dksX0_sizeRelation_1 5 rfl rfl)
theorem dX0_sizeRelation_30 : decode cX0_sizeRelation 30 = .ok (.getfield 286, 3) := dk_180 1 30 (dk_at dksX0_sizeRelation_1 8 rfl rfl)
theorem dX0_sizeRelation_33 : decode cX0_sizeRelation 33 = .ok (.iaload, 1) := dk_46 (dk_at dksX0_sizeRelation_1 11 rfl rfl)
theorem dX0_sizeRelation_34 : decode cX0_sizeRelation 34 = .ok (.iconst 1, 1) := dk_4 (dk_at dksX0_sizeRelation_1 12 rfl rfl)
theorem dX0_sizeRelation_35 : decode cX0_sizeRelation 35 = .ok (.isub, 1) := dk_100 (dk_at dksX0_sizeRelation_1 13 rfl rfl)
theorem dX0_sizeRelation_36 : decode cX0_sizeRelation 36 = .ok (.i2l, 1) := dk_133 (dk_at dksX0_sizeRelation_1 14 rfl rfl)
theorem dX0_sizeRelation_37 : decode cX0_sizeRelation 37 = .ok (.invokestatic 134, 3) := dk_184 0 134 (dk_at dksX0_sizeRelation_1 15 rfl rfl)
theorem dX0_sizeRelation_40 : decode cX0_sizeRelation 40 = .ok (.ifCond .eq 32, 3) := dk_153 0 32 (dk_at dksX0_sizeRelation_1 18 rfl rfl)
theorem dX0_sizeRelation_43 : decode cX0_sizeRelation 43 = .ok (.iload_n 3, 1) := dk_29 (dk_at dksX0_sizeRelation_1 21 rfl rfl)
theorem dX0_sizeRelation_44 : decode cX0_sizeRelation 44 = .ok (.i2l, 1) := dk_133 (dk_at dksX0_sizeRelation_1 22 rfl rfl)
theorem dX0_sizeRelation_45 : decode cX0_sizeRelation 45 = .ok (.lconst 0, 1) := dk_9 (dk_at dksX0_sizeRelation_1 23 rfl rfl)
theorem dX0_sizeRelation_46 : decode cX0_sizeRelation 46 = .ok (.aload_n 0, 1) := dk_42 (dk_at dksX0_sizeRelation_2 0 rfl rfl)
theorem dX0_sizeRelation_47 : decode cX0_sizeRelation 47 = .ok (.getfield 7, 3) := dk_180 0 7 (dk_at dksX0_sizeRelation_2 1 rfl rfl)
theorem dX0_sizeRelation_50 : decode cX0_sizeRelation 50 = .ok (.aload 4, 2) := dk_25 4 (dk_at dksX0_sizeRelation_2 4 rfl rfl)
theorem dX0_sizeRelation_52 : decode cX0_sizeRelation 52 = .ok (.getfield 283, 3) := dk_180 1 27 (dk_at dksX0_sizeRelation_2 6 rfl rfl)
theorem dX0_sizeRelation_55 : decode cX0_sizeRelation 55 = .ok (.getfield 289, 3) := dk_180 1 33 (dk_at dksX0_sizeRelation_2 9 rfl rfl)
theorem dX0_sizeRelation_58 : decode cX0_sizeRelation 58 = .ok (.iaload, 1) := dk_46 (dk_at dksX0_sizeRelation_2 12 rfl rfl)
theorem dX0_sizeRelation_59 : decode cX0_sizeRelation 59 = .ok (.iconst 1, 1) := dk_4 (dk_at dksX0_sizeRelation_2 13 rfl rfl)
theorem dX0_sizeRelation_60 : decode cX0_sizeRelation 60 = .ok (.isub, 1) := dk_100 (dk_at dksX0_sizeRelation_2 14 rfl rfl)
theorem dX0_sizeRelation_61 : decode cX0_sizeRelation 61 = .ok (.i2l, 1) := dk_133 (dk_at dksX0_sizeRelation_2 15 rfl rfl)
theorem dX0_sizeRelation_62 : decode cX0_sizeRelation 62 = .ok (.invokestatic 134, 3) := dk_184 0 134 (dk_at dksX0_sizeRelation_2 16 rfl rfl)
theorem dX0_sizeRelation_65 : decode cX0_sizeRelation 65 = .ok (.ifCond .eq 7, 3) := dk_153 0 7 (dk_at dksX0_sizeRelation_2 19 rfl rfl)
theorem dX0_sizeRelation_68 : decode cX0_sizeRelation 68 = .ok (.iconst 1, 1) := dk_4 (dk_at dksX0_sizeRelation_2 22 rfl rfl)
theorem dX0_sizeRelation_69 : decode cX0_sizeRelation 69 = .ok (.goto 4, 3) := dk_167 0 4 (dk_at dksX0_sizeRelation_3 0 rfl rfl)
theorem dX0_sizeRelation_72 : decode cX0_sizeRelation 72 = .ok (.iconst 0, 1) := dk_3 (dk_at dksX0_sizeRelation_3 3 rfl rfl)
theorem dX0_sizeRelation_73 : decode cX0_sizeRelation 73 = .ok (.istore 5, 2) := dk_54 5 (dk_at dksX0_sizeRelation_3 4 rfl rfl)
theorem dX0_sizeRelation_75 : decode cX0_sizeRelation 75 = .ok (.iload 5, 2) := dk_21 5 (dk_at dksX0_sizeRelation_3 6 rfl rfl)
theorem dX0_sizeRelation_77 : decode cX0_sizeRelation 77 = .ok (.ifCond .eq 13, 3) := dk_153 0 13 (dk_at dksX0_sizeRelation_3 8 rfl rfl)
theorem dX0_sizeRelation_80 : decode cX0_sizeRelation 80 = .ok (.aload 4, 2) := dk_25 4 (dk_at dksX0_sizeRelation_3 11 rfl rfl)
theorem dX0_sizeRelation_82 : decode cX0_sizeRelation 82 = .ok (.iload_n 2, 1) := dk_28 (dk_at dksX0_sizeRelation_3 13 rfl rfl)
theorem dX0_sizeRelation_83 : decode cX0_sizeRelation 83 = .ok (.iload_n 3, 1) := dk_29 (dk_at dksX0_sizeRelation_3 14 rfl rfl)
theorem dX0_sizeRelation_84 : decode cX0_sizeRelation 84 = .ok (.invokevirtual 292, 3) := dk_182 1 36 (dk_at dksX0_sizeRelation_3 15 rfl rfl)
theorem dX0_sizeRelation_87 : decode cX0_sizeRelation 87 = .ok (.goto 4, 3) := dk_167 0 4 (dk_at dksX0_sizeRelation_3 18 rfl rfl)
theorem dX0_sizeRelation_90 : decode cX0_sizeRelation 90 = .ok (.iconst (-1), 1) := dk_2 (dk_at dksX0_sizeRelation_3 21 rfl rfl)
theorem dX0_sizeRelation_91 : decode cX0_sizeRelation 91 = .ok (.ireturn, 1) := dk_172 (dk_at dksX0_sizeRelation_3 22 rfl rfl)
abbrev cX0_closureSize : ByteArray := prog_1_method_41_code
def yX0_closureSize : MethodName := ⟨RX0, "closureSize", "()I"⟩
def dkwX0_closureSize_0 : List UInt8 := [42, 182, 1, 70, 153, 0, 13, 42, 180, 0, 76, 182, 1, 74, 167, 0, 5, 16, 248, 172]
abbrev dktX0_closureSize_0 : List UInt8 := dkwX0_closureSize_0 ++ []
theorem dksX0_closureSize_0 : cX0_closureSize.data.toList.drop 0 = dktX0_closureSize_0 := by decide +kernel
theorem dX0_closureSize_0 : decode cX0_closureSize 0 = .ok (.aload_n 0, 1) := dk_42 (dk_at dksX0_closureSize_0 0 rfl rfl)
theorem dX0_closureSize_1 : decode cX0_closureSize 1 = .ok (.invokevirtual 326, 3) := dk_182 1 70 (dk_at dksX0_closureSize_0 1 rfl rfl)
theorem dX0_closureSize_4 : decode cX0_closureSize 4 = .ok (.ifCond .eq 13, 3) := dk_153 0 13 (dk_at dksX0_closureSize_0 4 rfl rfl)
theorem dX0_closureSize_7 : decode cX0_closureSize 7 = .ok (.aload_n 0, 1) := dk_42 (dk_at dksX0_closureSize_0 7 rfl rfl)
theorem dX0_closureSize_8 : decode cX0_closureSize 8 = .ok (.getfield 76, 3) := dk_180 0 76 (dk_at dksX0_closureSize_0 8 rfl rfl)
theorem dX0_closureSize_11 : decode cX0_closureSize 11 = .ok (.invokevirtual 330, 3) := dk_182 1 74 (dk_at dksX0_closureSize_0 11 rfl rfl)
theorem dX0_closureSize_14 : decode cX0_closureSize 14 = .ok (.goto 5, 3) := dk_167 0 5 (dk_at dksX0_closureSize_0 14 rfl rfl)
theorem dX0_closureSize_17 : decode cX0_closureSize 17 = .ok (.bipush (-8), 2) := dk_16 248 (dk_at dksX0_closureSize_0 17 rfl rfl)
theorem dX0_closureSize_19 : decode cX0_closureSize 19 = .ok (.ireturn, 1) := dk_172 (dk_at dksX0_closureSize_0 19 rfl rfl)
abbrev cX0_computeClosure : ByteArray := prog_1_method_40_code
def yX0_computeClosure : MethodName := ⟨RX0, "computeClosure", "()Z"⟩
def dkwX0_computeClosure_6 : List UInt8 := [17, 1, 144, 163, 0, 7, 4, 167, 0, 4, 3, 181, 1, 62, 42, 180, 1, 62, 172]
abbrev dktX0_computeClosure_6 : List UInt8 := dkwX0_computeClosure_6 ++ []
def dkwX0_computeClosure_5 : List UInt8 := [182, 1, 66, 60, 132, 3, 1, 167, 255, 205, 132, 2, 1, 167, 255, 185, 42, 4, 181, 0, 216, 42, 27]
abbrev dktX0_computeClosure_5 : List UInt8 := dkwX0_computeClosure_5 ++ dktX0_computeClosure_6
def dkwX0_computeClosure_4 : List UInt8 := [180, 0, 82, 29, 50, 27, 182, 1, 66, 60, 42, 42, 180, 0, 82, 29, 50, 42, 180, 0, 82, 28, 50, 27]
abbrev dktX0_computeClosure_4 : List UInt8 := dkwX0_computeClosure_4 ++ dktX0_computeClosure_5
def dkwX0_computeClosure_3 : List UInt8 := [3, 62, 29, 28, 163, 0, 52, 27, 17, 1, 144, 163, 0, 45, 42, 42, 180, 0, 82, 28, 50, 42]
abbrev dktX0_computeClosure_3 : List UInt8 := dkwX0_computeClosure_3 ++ dktX0_computeClosure_4
def dkwX0_computeClosure_2 : List UInt8 := [182, 1, 54, 60, 132, 2, 1, 167, 255, 230, 3, 61, 28, 27, 162, 0, 72, 27, 17, 1, 144, 163, 0, 65]
abbrev dktX0_computeClosure_2 : List UInt8 := dkwX0_computeClosure_2 ++ dktX0_computeClosure_3
def dkwX0_computeClosure_1 : List UInt8 := [60, 3, 61, 28, 42, 180, 0, 219, 162, 0, 24, 42, 42, 180, 0, 47, 28, 50, 180, 1, 27, 27]
abbrev dktX0_computeClosure_1 : List UInt8 := dkwX0_computeClosure_1 ++ dktX0_computeClosure_2
def dkwX0_computeClosure_0 : List UInt8 := [42, 182, 0, 240, 42, 180, 0, 216, 153, 0, 8, 42, 180, 1, 62, 172, 42, 180, 0, 76, 182, 1, 65, 3]
abbrev dktX0_computeClosure_0 : List UInt8 := dkwX0_computeClosure_0 ++ dktX0_computeClosure_1
theorem dksX0_computeClosure_0 : cX0_computeClosure.data.toList.drop 0 = dktX0_computeClosure_0 := by decide +kernel
theorem dksX0_computeClosure_1 : cX0_computeClosure.data.toList.drop 24 = dktX0_computeClosure_1 := dk_seg dksX0_computeClosure_0 24 rfl rfl
theorem dksX0_computeClosure_2 : cX0_computeClosure.data.toList.drop 46 = dktX0_computeClosure_2 := dk_seg dksX0_computeClosure_1 22 rfl rfl
theorem dksX0_computeClosure_3 : cX0_computeClosure.data.toList.drop 70 = dktX0_computeClosure_3 := dk_seg dksX0_computeClosure_2 24 rfl rfl
theorem dksX0_computeClosure_4 : cX0_computeClosure.data.toList.drop 92 = dktX0_computeClosure_4 := dk_seg dksX0_computeClosure_3 22 rfl rfl
theorem dksX0_computeClosure_5 : cX0_computeClosure.data.toList.drop 116 = dktX0_computeClosure_5 := dk_seg dksX0_computeClosure_4 24 rfl rfl
theorem dksX0_computeClosure_6 : cX0_computeClosure.data.toList.drop 139 = dktX0_computeClosure_6 := dk_seg dksX0_computeClosure_5 23 rfl rfl
theorem dX0_computeClosure_0 : decode cX0_computeClosure 0 = .ok (.aload_n 0, 1) := dk_42 (dk_at dksX0_computeClosure_0 0 rfl rfl)
theorem dX0_computeClosure_1 : decode cX0_computeClosure 1 = .ok (.invokevirtual 240, 3) := dk_182 0 240 (dk_at dksX0_computeClosure_0 1 rfl rfl)
theorem dX0_computeClosure_4 : decode cX0_computeClosure 4 = .ok (.aload_n 0, 1) := dk_42 (dk_at dksX0_computeClosure_0 4 rfl rfl)
theorem dX0_computeClosure_5 : decode cX0_computeClosure 5 = .ok (.getfield 216, 3) := dk_180 0 216 (dk_at dksX0_computeClosure_0 5 rfl rfl)
theorem dX0_computeClosure_8 : decode cX0_computeClosure 8 = .ok (.ifCond .eq 8, 3) := dk_153 0 8 (dk_at dksX0_computeClosure_0 8 rfl rfl)
theorem dX0_computeClosure_11 : decode cX0_computeClosure 11 = .ok (.aload_n 0, 1) := dk_42 (dk_at dksX0_computeClosure_0 11 rfl rfl)
theorem dX0_computeClosure_12 : decode cX0_computeClosure 12 = .ok (.getfield 318, 3) := dk_180 1 62 (dk_at dksX0_computeClosure_0 12 rfl rfl)
theorem dX0_computeClosure_15 : decode cX0_computeClosure 15 = .ok (.ireturn, 1) := dk_172 (dk_at dksX0_computeClosure_0 15 rfl rfl)
theorem dX0_computeClosure_16 : decode cX0_computeClosure 16 = .ok (.aload_n 0, 1) := dk_42 (dk_at dksX0_computeClosure_0 16 rfl rfl)
theorem dX0_computeClosure_17 : decode cX0_computeClosure 17 = .ok (.getfield 76, 3) := dk_180 0 76 (dk_at dksX0_computeClosure_0 17 rfl rfl)
theorem dX0_computeClosure_20 : decode cX0_computeClosure 20 = .ok (.invokevirtual 321, 3) := dk_182 1 65 (dk_at dksX0_computeClosure_0 20 rfl rfl)
theorem dX0_computeClosure_23 : decode cX0_computeClosure 23 = .ok (.iconst 0, 1) := dk_3 (dk_at dksX0_computeClosure_0 23 rfl rfl)
theorem dX0_computeClosure_24 : decode cX0_computeClosure 24 = .ok (.istore_n 1, 1) := dk_60 (dk_at dksX0_computeClosure_1 0 rfl rfl)
theorem dX0_computeClosure_25 : decode cX0_computeClosure 25 = .ok (.iconst 0, 1) := dk_3 (dk_at dksX0_computeClosure_1 1 rfl rfl)
theorem dX0_computeClosure_26 : decode cX0_computeClosure 26 = .ok (.istore_n 2, 1) := dk_61 (dk_at dksX0_computeClosure_1 2 rfl rfl)
theorem dX0_computeClosure_27 : decode cX0_computeClosure 27 = .ok (.iload_n 2, 1) := dk_28 (dk_at dksX0_computeClosure_1 3 rfl rfl)
theorem dX0_computeClosure_28 : decode cX0_computeClosure 28 = .ok (.aload_n 0, 1) := dk_42 (dk_at dksX0_computeClosure_1 4 rfl rfl)
theorem dX0_computeClosure_29 : decode cX0_computeClosure 29 = .ok (.getfield 219, 3) := dk_180 0 219 (dk_at dksX0_computeClosure_1 5 rfl rfl)
theorem dX0_computeClosure_32 : decode cX0_computeClosure 32 = .ok (.if_icmp .ge 24, 3) := dk_162 0 24 (dk_at dksX0_computeClosure_1 8 rfl rfl)
theorem dX0_computeClosure_35 : decode cX0_computeClosure 35 = .ok (.aload_n 0, 1) := dk_42 (dk_at dksX0_computeClosure_1 11 rfl rfl)
theorem dX0_computeClosure_36 : decode cX0_computeClosure 36 = .ok (.aload_n 0, 1) := dk_42 (dk_at dksX0_computeClosure_1 12 rfl rfl)
theorem dX0_computeClosure_37 : decode cX0_computeClosure 37 = .ok (.getfield 47, 3) := dk_180 0 47 (dk_at dksX0_computeClosure_1 13 rfl rfl)
theorem dX0_computeClosure_40 : decode cX0_computeClosure 40 = .ok (.iload_n 2, 1) := dk_28 (dk_at dksX0_computeClosure_1 16 rfl rfl)
theorem dX0_computeClosure_41 : decode cX0_computeClosure 41 = .ok (.aaload, 1) := dk_50 (dk_at dksX0_computeClosure_1 17 rfl rfl)
theorem dX0_computeClosure_42 : decode cX0_computeClosure 42 = .ok (.getfield 283, 3) := dk_180 1 27 (dk_at dksX0_computeClosure_1 18 rfl rfl)
theorem dX0_computeClosure_45 : decode cX0_computeClosure 45 = .ok (.iload_n 1, 1) := dk_27 (dk_at dksX0_computeClosure_1 21 rfl rfl)
theorem dX0_computeClosure_46 : decode cX0_computeClosure 46 = .ok (.invokevirtual 310, 3) := dk_182 1 54 (dk_at dksX0_computeClosure_2 0 rfl rfl)
theorem dX0_computeClosure_49 : decode cX0_computeClosure 49 = .ok (.istore_n 1, 1) := dk_60 (dk_at dksX0_computeClosure_2 3 rfl rfl)
theorem dX0_computeClosure_50 : decode cX0_computeClosure 50 = .ok (.iinc 2 1, 3) := dk_132 2 1 (dk_at dksX0_computeClosure_2 4 rfl rfl)
theorem dX0_computeClosure_53 : decode cX0_computeClosure 53 = .ok (.goto (-26), 3) := dk_167 255 230 (dk_at dksX0_computeClosure_2 7 rfl rfl)
theorem dX0_computeClosure_56 : decode cX0_computeClosure 56 = .ok (.iconst 0, 1) := dk_3 (dk_at dksX0_computeClosure_2 10 rfl rfl)
theorem dX0_computeClosure_57 : decode cX0_computeClosure 57 = .ok (.istore_n 2, 1) := dk_61 (dk_at dksX0_computeClosure_2 11 rfl rfl)
theorem dX0_computeClosure_58 : decode cX0_computeClosure 58 = .ok (.iload_n 2, 1) := dk_28 (dk_at dksX0_computeClosure_2 12 rfl rfl)
theorem dX0_computeClosure_59 : decode cX0_computeClosure 59 = .ok (.iload_n 1, 1) := dk_27 (dk_at dksX0_computeClosure_2 13 rfl rfl)
theorem dX0_computeClosure_60 : decode cX0_computeClosure 60 = .ok (.if_icmp .ge 72, 3) := dk_162 0 72 (dk_at dksX0_computeClosure_2 14 rfl rfl)
theorem dX0_computeClosure_63 : decode cX0_computeClosure 63 = .ok (.iload_n 1, 1) := dk_27 (dk_at dksX0_computeClosure_2 17 rfl rfl)
theorem dX0_computeClosure_64 : decode cX0_computeClosure 64 = .ok (.sipush 400, 3) := dk_17 1 144 (dk_at dksX0_computeClosure_2 18 rfl rfl)
theorem dX0_computeClosure_67 : decode cX0_computeClosure 67 = .ok (.if_icmp .gt 65, 3) := dk_163 0 65 (dk_at dksX0_computeClosure_2 21 rfl rfl)
theorem dX0_computeClosure_70 : decode cX0_computeClosure 70 = .ok (.iconst 0, 1) := dk_3 (dk_at dksX0_computeClosure_3 0 rfl rfl)
theorem dX0_computeClosure_71 : decode cX0_computeClosure 71 = .ok (.istore_n 3, 1) := dk_62 (dk_at dksX0_computeClosure_3 1 rfl rfl)
theorem dX0_computeClosure_72 : decode cX0_computeClosure 72 = .ok (.iload_n 3, 1) := dk_29 (dk_at dksX0_computeClosure_3 2 rfl rfl)
theorem dX0_computeClosure_73 : decode cX0_computeClosure 73 = .ok (.iload_n 2, 1) := dk_28 (dk_at dksX0_computeClosure_3 3 rfl rfl)
theorem dX0_computeClosure_74 : decode cX0_computeClosure 74 = .ok (.if_icmp .gt 52, 3) := dk_163 0 52 (dk_at dksX0_computeClosure_3 4 rfl rfl)
theorem dX0_computeClosure_77 : decode cX0_computeClosure 77 = .ok (.iload_n 1, 1) := dk_27 (dk_at dksX0_computeClosure_3 7 rfl rfl)
theorem dX0_computeClosure_78 : decode cX0_computeClosure 78 = .ok (.sipush 400, 3) := dk_17 1 144 (dk_at dksX0_computeClosure_3 8 rfl rfl)
theorem dX0_computeClosure_81 : decode cX0_computeClosure 81 = .ok (.if_icmp .gt 45, 3) := dk_163 0 45 (dk_at dksX0_computeClosure_3 11 rfl rfl)
theorem dX0_computeClosure_84 : decode cX0_computeClosure 84 = .ok (.aload_n 0, 1) := dk_42 (dk_at dksX0_computeClosure_3 14 rfl rfl)
theorem dX0_computeClosure_85 : decode cX0_computeClosure 85 = .ok (.aload_n 0, 1) := dk_42 (dk_at dksX0_computeClosure_3 15 rfl rfl)
theorem dX0_computeClosure_86 : decode cX0_computeClosure 86 = .ok (.getfield 82, 3) := dk_180 0 82 (dk_at dksX0_computeClosure_3 16 rfl rfl)
theorem dX0_computeClosure_89 : decode cX0_computeClosure 89 = .ok (.iload_n 2, 1) := dk_28 (dk_at dksX0_computeClosure_3 19 rfl rfl)
theorem dX0_computeClosure_90 : decode cX0_computeClosure 90 = .ok (.aaload, 1) := dk_50 (dk_at dksX0_computeClosure_3 20 rfl rfl)
theorem dX0_computeClosure_91 : decode cX0_computeClosure 91 = .ok (.aload_n 0, 1) := dk_42 (dk_at dksX0_computeClosure_3 21 rfl rfl)
theorem dX0_computeClosure_92 : decode cX0_computeClosure 92 = .ok (.getfield 82, 3) := dk_180 0 82 (dk_at dksX0_computeClosure_4 0 rfl rfl)
theorem dX0_computeClosure_95 : decode cX0_computeClosure 95 = .ok (.iload_n 3, 1) := dk_29 (dk_at dksX0_computeClosure_4 3 rfl rfl)
theorem dX0_computeClosure_96 : decode cX0_computeClosure 96 = .ok (.aaload, 1) := dk_50 (dk_at dksX0_computeClosure_4 4 rfl rfl)
theorem dX0_computeClosure_97 : decode cX0_computeClosure 97 = .ok (.iload_n 1, 1) := dk_27 (dk_at dksX0_computeClosure_4 5 rfl rfl)
theorem dX0_computeClosure_98 : decode cX0_computeClosure 98 = .ok (.invokevirtual 322, 3) := dk_182 1 66 (dk_at dksX0_computeClosure_4 6 rfl rfl)
theorem dX0_computeClosure_101 : decode cX0_computeClosure 101 = .ok (.istore_n 1, 1) := dk_60 (dk_at dksX0_computeClosure_4 9 rfl rfl)
theorem dX0_computeClosure_102 : decode cX0_computeClosure 102 = .ok (.aload_n 0, 1) := dk_42 (dk_at dksX0_computeClosure_4 10 rfl rfl)
theorem dX0_computeClosure_103 : decode cX0_computeClosure 103 = .ok (.aload_n 0, 1) := dk_42 (dk_at dksX0_computeClosure_4 11 rfl rfl)
theorem dX0_computeClosure_104 : decode cX0_computeClosure 104 = .ok (.getfield 82, 3) := dk_180 0 82 (dk_at dksX0_computeClosure_4 12 rfl rfl)
theorem dX0_computeClosure_107 : decode cX0_computeClosure 107 = .ok (.iload_n 3, 1) := dk_29 (dk_at dksX0_computeClosure_4 15 rfl rfl)
theorem dX0_computeClosure_108 : decode cX0_computeClosure 108 = .ok (.aaload, 1) := dk_50 (dk_at dksX0_computeClosure_4 16 rfl rfl)
theorem dX0_computeClosure_109 : decode cX0_computeClosure 109 = .ok (.aload_n 0, 1) := dk_42 (dk_at dksX0_computeClosure_4 17 rfl rfl)
theorem dX0_computeClosure_110 : decode cX0_computeClosure 110 = .ok (.getfield 82, 3) := dk_180 0 82 (dk_at dksX0_computeClosure_4 18 rfl rfl)
theorem dX0_computeClosure_113 : decode cX0_computeClosure 113 = .ok (.iload_n 2, 1) := dk_28 (dk_at dksX0_computeClosure_4 21 rfl rfl)
theorem dX0_computeClosure_114 : decode cX0_computeClosure 114 = .ok (.aaload, 1) := dk_50 (dk_at dksX0_computeClosure_4 22 rfl rfl)
theorem dX0_computeClosure_115 : decode cX0_computeClosure 115 = .ok (.iload_n 1, 1) := dk_27 (dk_at dksX0_computeClosure_4 23 rfl rfl)
theorem dX0_computeClosure_116 : decode cX0_computeClosure 116 = .ok (.invokevirtual 322, 3) := dk_182 1 66 (dk_at dksX0_computeClosure_5 0 rfl rfl)
theorem dX0_computeClosure_119 : decode cX0_computeClosure 119 = .ok (.istore_n 1, 1) := dk_60 (dk_at dksX0_computeClosure_5 3 rfl rfl)
theorem dX0_computeClosure_120 : decode cX0_computeClosure 120 = .ok (.iinc 3 1, 3) := dk_132 3 1 (dk_at dksX0_computeClosure_5 4 rfl rfl)
theorem dX0_computeClosure_123 : decode cX0_computeClosure 123 = .ok (.goto (-51), 3) := dk_167 255 205 (dk_at dksX0_computeClosure_5 7 rfl rfl)
theorem dX0_computeClosure_126 : decode cX0_computeClosure 126 = .ok (.iinc 2 1, 3) := dk_132 2 1 (dk_at dksX0_computeClosure_5 10 rfl rfl)
theorem dX0_computeClosure_129 : decode cX0_computeClosure 129 = .ok (.goto (-71), 3) := dk_167 255 185 (dk_at dksX0_computeClosure_5 13 rfl rfl)
theorem dX0_computeClosure_132 : decode cX0_computeClosure 132 = .ok (.aload_n 0, 1) := dk_42 (dk_at dksX0_computeClosure_5 16 rfl rfl)
theorem dX0_computeClosure_133 : decode cX0_computeClosure 133 = .ok (.iconst 1, 1) := dk_4 (dk_at dksX0_computeClosure_5 17 rfl rfl)
theorem dX0_computeClosure_134 : decode cX0_computeClosure 134 = .ok (.putfield 216, 3) := dk_181 0 216 (dk_at dksX0_computeClosure_5 18 rfl rfl)
theorem dX0_computeClosure_137 : decode cX0_computeClosure 137 = .ok (.aload_n 0, 1) := dk_42 (dk_at dksX0_computeClosure_5 21 rfl rfl)
theorem dX0_computeClosure_138 : decode cX0_computeClosure 138 = .ok (.iload_n 1, 1) := dk_27 (dk_at dksX0_computeClosure_5 22 rfl rfl)
theorem dX0_computeClosure_139 : decode cX0_computeClosure 139 = .ok (.sipush 400, 3) := dk_17 1 144 (dk_at dksX0_computeClosure_6 0 rfl rfl)
theorem dX0_computeClosure_142 : decode cX0_computeClosure 142 = .ok (.if_icmp .gt 7, 3) := dk_163 0 7 (dk_at dksX0_computeClosure_6 3 rfl rfl)
theorem dX0_computeClosure_145 : decode cX0_computeClosure 145 = .ok (.iconst 1, 1) := dk_4 (dk_at dksX0_computeClosure_6 6 rfl rfl)
theorem dX0_computeClosure_146 : decode cX0_computeClosure 146 = .ok (.goto 4, 3) := dk_167 0 4 (dk_at dksX0_computeClosure_6 7 rfl rfl)
theorem dX0_computeClosure_149 : decode cX0_computeClosure 149 = .ok (.iconst 0, 1) := dk_3 (dk_at dksX0_computeClosure_6 10 rfl rfl)
theorem dX0_computeClosure_150 : decode cX0_computeClosure 150 = .ok (.putfield 318, 3) := dk_181 1 62 (dk_at dksX0_computeClosure_6 11 rfl rfl)
theorem dX0_computeClosure_153 : decode cX0_computeClosure 153 = .ok (.aload_n 0, 1) := dk_42 (dk_at dksX0_computeClosure_6 14 rfl rfl)
theorem dX0_computeClosure_154 : decode cX0_computeClosure 154 = .ok (.getfield 318, 3) := dk_180 1 62 (dk_at dksX0_computeClosure_6 15 rfl rfl)
theorem dX0_computeClosure_157 : decode cX0_computeClosure 157 = .ok (.ireturn, 1) := dk_172 (dk_at dksX0_computeClosure_6 18 rfl rfl)
abbrev cX0_addToClosure : ByteArray := prog_1_method_37_code
def yX0_addToClosure : MethodName := ⟨RX0, "addToClosure", "(LDependencyPairAnalyzer$SizeChangeGraph;I)I"⟩
def dkwX0_addToClosure_1 : List UInt8 := [28, 43, 182, 1, 43, 83, 42, 180, 0, 76, 42, 180, 0, 82, 28, 50, 182, 1, 47, 87, 28, 4, 96, 172]
abbrev dktX0_addToClosure_1 : List UInt8 := dkwX0_addToClosure_1 ++ []
def dkwX0_addToClosure_0 : List UInt8 := [28, 17, 1, 144, 163, 0, 14, 42, 180, 0, 76, 43, 182, 1, 39, 153, 0, 5, 28, 172, 42, 180, 0, 82]
abbrev dktX0_addToClosure_0 : List UInt8 := dkwX0_addToClosure_0 ++ dktX0_addToClosure_1
theorem dksX0_addToClosure_0 : cX0_addToClosure.data.toList.drop 0 = dktX0_addToClosure_0 := by decide +kernel
theorem dksX0_addToClosure_1 : cX0_addToClosure.data.toList.drop 24 = dktX0_addToClosure_1 := dk_seg dksX0_addToClosure_0 24 rfl rfl
theorem dX0_addToClosure_0 : decode cX0_addToClosure 0 = .ok (.iload_n 2, 1) := dk_28 (dk_at dksX0_addToClosure_0 0 rfl rfl)
theorem dX0_addToClosure_1 : decode cX0_addToClosure 1 = .ok (.sipush 400, 3) := dk_17 1 144 (dk_at dksX0_addToClosure_0 1 rfl rfl)
theorem dX0_addToClosure_4 : decode cX0_addToClosure 4 = .ok (.if_icmp .gt 14, 3) := dk_163 0 14 (dk_at dksX0_addToClosure_0 4 rfl rfl)
theorem dX0_addToClosure_7 : decode cX0_addToClosure 7 = .ok (.aload_n 0, 1) := dk_42 (dk_at dksX0_addToClosure_0 7 rfl rfl)
theorem dX0_addToClosure_8 : decode cX0_addToClosure 8 = .ok (.getfield 76, 3) := dk_180 0 76 (dk_at dksX0_addToClosure_0 8 rfl rfl)
theorem dX0_addToClosure_11 : decode cX0_addToClosure 11 = .ok (.aload_n 1, 1) := dk_43 (dk_at dksX0_addToClosure_0 11 rfl rfl)
theorem dX0_addToClosure_12 : decode cX0_addToClosure 12 = .ok (.invokevirtual 295, 3) := dk_182 1 39 (dk_at dksX0_addToClosure_0 12 rfl rfl)
theorem dX0_addToClosure_15 : decode cX0_addToClosure 15 = .ok (.ifCond .eq 5, 3) := dk_153 0 5 (dk_at dksX0_addToClosure_0 15 rfl rfl)
theorem dX0_addToClosure_18 : decode cX0_addToClosure 18 = .ok (.iload_n 2, 1) := dk_28 (dk_at dksX0_addToClosure_0 18 rfl rfl)
theorem dX0_addToClosure_19 : decode cX0_addToClosure 19 = .ok (.ireturn, 1) := dk_172 (dk_at dksX0_addToClosure_0 19 rfl rfl)
theorem dX0_addToClosure_20 : decode cX0_addToClosure 20 = .ok (.aload_n 0, 1) := dk_42 (dk_at dksX0_addToClosure_0 20 rfl rfl)
theorem dX0_addToClosure_21 : decode cX0_addToClosure 21 = .ok (.getfield 82, 3) := dk_180 0 82 (dk_at dksX0_addToClosure_0 21 rfl rfl)
theorem dX0_addToClosure_24 : decode cX0_addToClosure 24 = .ok (.iload_n 2, 1) := dk_28 (dk_at dksX0_addToClosure_1 0 rfl rfl)
theorem dX0_addToClosure_25 : decode cX0_addToClosure 25 = .ok (.aload_n 1, 1) := dk_43 (dk_at dksX0_addToClosure_1 1 rfl rfl)
theorem dX0_addToClosure_26 : decode cX0_addToClosure 26 = .ok (.invokevirtual 299, 3) := dk_182 1 43 (dk_at dksX0_addToClosure_1 2 rfl rfl)
theorem dX0_addToClosure_29 : decode cX0_addToClosure 29 = .ok (.aastore, 1) := dk_83 (dk_at dksX0_addToClosure_1 5 rfl rfl)
theorem dX0_addToClosure_30 : decode cX0_addToClosure 30 = .ok (.aload_n 0, 1) := dk_42 (dk_at dksX0_addToClosure_1 6 rfl rfl)
theorem dX0_addToClosure_31 : decode cX0_addToClosure 31 = .ok (.getfield 76, 3) := dk_180 0 76 (dk_at dksX0_addToClosure_1 7 rfl rfl)
theorem dX0_addToClosure_34 : decode cX0_addToClosure 34 = .ok (.aload_n 0, 1) := dk_42 (dk_at dksX0_addToClosure_1 10 rfl rfl)
theorem dX0_addToClosure_35 : decode cX0_addToClosure 35 = .ok (.getfield 82, 3) := dk_180 0 82 (dk_at dksX0_addToClosure_1 11 rfl rfl)
theorem dX0_addToClosure_38 : decode cX0_addToClosure 38 = .ok (.iload_n 2, 1) := dk_28 (dk_at dksX0_addToClosure_1 14 rfl rfl)
theorem dX0_addToClosure_39 : decode cX0_addToClosure 39 = .ok (.aaload, 1) := dk_50 (dk_at dksX0_addToClosure_1 15 rfl rfl)
theorem dX0_addToClosure_40 : decode cX0_addToClosure 40 = .ok (.invokevirtual 303, 3) := dk_182 1 47 (dk_at dksX0_addToClosure_1 16 rfl rfl)
theorem dX0_addToClosure_43 : decode cX0_addToClosure 43 = .ok (.pop, 1) := dk_87 (dk_at dksX0_addToClosure_1 19 rfl rfl)
theorem dX0_addToClosure_44 : decode cX0_addToClosure 44 = .ok (.iload_n 2, 1) := dk_28 (dk_at dksX0_addToClosure_1 20 rfl rfl)
theorem dX0_addToClosure_45 : decode cX0_addToClosure 45 = .ok (.iconst 1, 1) := dk_4 (dk_at dksX0_addToClosure_1 21 rfl rfl)
theorem dX0_addToClosure_46 : decode cX0_addToClosure 46 = .ok (.iadd, 1) := dk_96 (dk_at dksX0_addToClosure_1 22 rfl rfl)
theorem dX0_addToClosure_47 : decode cX0_addToClosure 47 = .ok (.ireturn, 1) := dk_172 (dk_at dksX0_addToClosure_1 23 rfl rfl)
abbrev cX0_addComposition : ByteArray := prog_1_method_38_code
def yX0_addComposition : MethodName := ⟨RX0, "addComposition", "(LDependencyPairAnalyzer$SizeChangeGraph;LDependencyPairAnalyzer$SizeChangeGraph;I)I"⟩
def dkwX0_addComposition_1 : List UInt8 := [180, 0, 89, 29, 182, 1, 54, 172]
abbrev dktX0_addComposition_1 : List UInt8 := dkwX0_addComposition_1 ++ []
def dkwX0_addComposition_0 : List UInt8 := [43, 180, 1, 33, 44, 180, 1, 30, 159, 0, 5, 29, 172, 42, 180, 0, 89, 43, 44, 182, 1, 50, 42, 42]
abbrev dktX0_addComposition_0 : List UInt8 := dkwX0_addComposition_0 ++ dktX0_addComposition_1
theorem dksX0_addComposition_0 : cX0_addComposition.data.toList.drop 0 = dktX0_addComposition_0 := by decide +kernel
theorem dksX0_addComposition_1 : cX0_addComposition.data.toList.drop 24 = dktX0_addComposition_1 := dk_seg dksX0_addComposition_0 24 rfl rfl
theorem dX0_addComposition_0 : decode cX0_addComposition 0 = .ok (.aload_n 1, 1) := dk_43 (dk_at dksX0_addComposition_0 0 rfl rfl)
theorem dX0_addComposition_1 : decode cX0_addComposition 1 = .ok (.getfield 289, 3) := dk_180 1 33 (dk_at dksX0_addComposition_0 1 rfl rfl)
theorem dX0_addComposition_4 : decode cX0_addComposition 4 = .ok (.aload_n 2, 1) := dk_44 (dk_at dksX0_addComposition_0 4 rfl rfl)
theorem dX0_addComposition_5 : decode cX0_addComposition 5 = .ok (.getfield 286, 3) := dk_180 1 30 (dk_at dksX0_addComposition_0 5 rfl rfl)
theorem dX0_addComposition_8 : decode cX0_addComposition 8 = .ok (.if_icmp .eq 5, 3) := dk_159 0 5 (dk_at dksX0_addComposition_0 8 rfl rfl)
theorem dX0_addComposition_11 : decode cX0_addComposition 11 = .ok (.iload_n 3, 1) := dk_29 (dk_at dksX0_addComposition_0 11 rfl rfl)
theorem dX0_addComposition_12 : decode cX0_addComposition 12 = .ok (.ireturn, 1) := dk_172 (dk_at dksX0_addComposition_0 12 rfl rfl)
theorem dX0_addComposition_13 : decode cX0_addComposition 13 = .ok (.aload_n 0, 1) := dk_42 (dk_at dksX0_addComposition_0 13 rfl rfl)
theorem dX0_addComposition_14 : decode cX0_addComposition 14 = .ok (.getfield 89, 3) := dk_180 0 89 (dk_at dksX0_addComposition_0 14 rfl rfl)
theorem dX0_addComposition_17 : decode cX0_addComposition 17 = .ok (.aload_n 1, 1) := dk_43 (dk_at dksX0_addComposition_0 17 rfl rfl)
theorem dX0_addComposition_18 : decode cX0_addComposition 18 = .ok (.aload_n 2, 1) := dk_44 (dk_at dksX0_addComposition_0 18 rfl rfl)
theorem dX0_addComposition_19 : decode cX0_addComposition 19 = .ok (.invokevirtual 306, 3) := dk_182 1 50 (dk_at dksX0_addComposition_0 19 rfl rfl)
theorem dX0_addComposition_22 : decode cX0_addComposition 22 = .ok (.aload_n 0, 1) := dk_42 (dk_at dksX0_addComposition_0 22 rfl rfl)
theorem dX0_addComposition_23 : decode cX0_addComposition 23 = .ok (.aload_n 0, 1) := dk_42 (dk_at dksX0_addComposition_0 23 rfl rfl)
theorem dX0_addComposition_24 : decode cX0_addComposition 24 = .ok (.getfield 89, 3) := dk_180 0 89 (dk_at dksX0_addComposition_1 0 rfl rfl)
theorem dX0_addComposition_27 : decode cX0_addComposition 27 = .ok (.iload_n 3, 1) := dk_29 (dk_at dksX0_addComposition_1 3 rfl rfl)
theorem dX0_addComposition_28 : decode cX0_addComposition 28 = .ok (.invokevirtual 310, 3) := dk_182 1 54 (dk_at dksX0_addComposition_1 4 rfl rfl)
theorem dX0_addComposition_31 : decode cX0_addComposition 31 = .ok (.ireturn, 1) := dk_172 (dk_at dksX0_addComposition_1 7 rfl rfl)
abbrev cX0_idempotentCount : ByteArray := prog_1_method_42_code
def yX0_idempotentCount : MethodName := ⟨RX0, "idempotentCount", "()I"⟩
def dkwX0_idempotentCount_2 : List UInt8 := [184, 0, 252, 96, 60, 167, 255, 226, 27, 172]
abbrev dktX0_idempotentCount_2 : List UInt8 := dkwX0_idempotentCount_2 ++ []
def dkwX0_idempotentCount_1 : List UInt8 := [185, 1, 79, 1, 0, 153, 0, 27, 44, 185, 1, 84, 1, 0, 192, 0, 80, 78, 27, 42, 45, 182, 1, 88]
abbrev dktX0_idempotentCount_1 : List UInt8 := dkwX0_idempotentCount_1 ++ dktX0_idempotentCount_2
def dkwX0_idempotentCount_0 : List UInt8 := [42, 182, 1, 70, 154, 0, 6, 16, 248, 172, 3, 60, 42, 180, 0, 76, 182, 1, 75, 77, 44]
abbrev dktX0_idempotentCount_0 : List UInt8 := dkwX0_idempotentCount_0 ++ dktX0_idempotentCount_1
theorem dksX0_idempotentCount_0 : cX0_idempotentCount.data.toList.drop 0 = dktX0_idempotentCount_0 := by decide +kernel
theorem dksX0_idempotentCount_1 : cX0_idempotentCount.data.toList.drop 21 = dktX0_idempotentCount_1 := dk_seg dksX0_idempotentCount_0 21 rfl rfl
theorem dksX0_idempotentCount_2 : cX0_idempotentCount.data.toList.drop 45 = dktX0_idempotentCount_2 := dk_seg dksX0_idempotentCount_1 24 rfl rfl
theorem dX0_idempotentCount_0 : decode cX0_idempotentCount 0 = .ok (.aload_n 0, 1) := dk_42 (dk_at dksX0_idempotentCount_0 0 rfl rfl)
theorem dX0_idempotentCount_1 : decode cX0_idempotentCount 1 = .ok (.invokevirtual 326, 3) := dk_182 1 70 (dk_at dksX0_idempotentCount_0 1 rfl rfl)
theorem dX0_idempotentCount_4 : decode cX0_idempotentCount 4 = .ok (.ifCond .ne 6, 3) := dk_154 0 6 (dk_at dksX0_idempotentCount_0 4 rfl rfl)
theorem dX0_idempotentCount_7 : decode cX0_idempotentCount 7 = .ok (.bipush (-8), 2) := dk_16 248 (dk_at dksX0_idempotentCount_0 7 rfl rfl)
theorem dX0_idempotentCount_9 : decode cX0_idempotentCount 9 = .ok (.ireturn, 1) := dk_172 (dk_at dksX0_idempotentCount_0 9 rfl rfl)
theorem dX0_idempotentCount_10 : decode cX0_idempotentCount 10 = .ok (.iconst 0, 1) := dk_3 (dk_at dksX0_idempotentCount_0 10 rfl rfl)
theorem dX0_idempotentCount_11 : decode cX0_idempotentCount 11 = .ok (.istore_n 1, 1) := dk_60 (dk_at dksX0_idempotentCount_0 11 rfl rfl)
theorem dX0_idempotentCount_12 : decode cX0_idempotentCount 12 = .ok (.aload_n 0, 1) := dk_42 (dk_at dksX0_idempotentCount_0 12 rfl rfl)
theorem dX0_idempotentCount_13 : decode cX0_idempotentCount 13 = .ok (.getfield 76, 3) := dk_180 0 76 (dk_at dksX0_idempotentCount_0 13 rfl rfl)
theorem dX0_idempotentCount_16 : decode cX0_idempotentCount 16 = .ok (.invokevirtual 331, 3) := dk_182 1 75 (dk_at dksX0_idempotentCount_0 16 rfl rfl)
theorem dX0_idempotentCount_19 : decode cX0_idempotentCount 19 = .ok (.astore_n 2, 1) := dk_77 (dk_at dksX0_idempotentCount_0 19 rfl rfl)
theorem dX0_idempotentCount_20 : decode cX0_idempotentCount 20 = .ok (.aload_n 2, 1) := dk_44 (dk_at dksX0_idempotentCount_0 20 rfl rfl)
theorem dX0_idempotentCount_21 : decode cX0_idempotentCount 21 = .ok (.invokeinterface 335 1, 5) := by decide +kernel
theorem dX0_idempotentCount_26 : decode cX0_idempotentCount 26 = .ok (.ifCond .eq 27, 3) := dk_153 0 27 (dk_at dksX0_idempotentCount_1 5 rfl rfl)
theorem dX0_idempotentCount_29 : decode cX0_idempotentCount 29 = .ok (.aload_n 2, 1) := dk_44 (dk_at dksX0_idempotentCount_1 8 rfl rfl)
theorem dX0_idempotentCount_30 : decode cX0_idempotentCount 30 = .ok (.invokeinterface 340 1, 5) := by decide +kernel
theorem dX0_idempotentCount_35 : decode cX0_idempotentCount 35 = .ok (.checkcast 80, 3) := dk_192 0 80 (dk_at dksX0_idempotentCount_1 14 rfl rfl)
theorem dX0_idempotentCount_38 : decode cX0_idempotentCount 38 = .ok (.astore_n 3, 1) := dk_78 (dk_at dksX0_idempotentCount_1 17 rfl rfl)
theorem dX0_idempotentCount_39 : decode cX0_idempotentCount 39 = .ok (.iload_n 1, 1) := dk_27 (dk_at dksX0_idempotentCount_1 18 rfl rfl)
theorem dX0_idempotentCount_40 : decode cX0_idempotentCount 40 = .ok (.aload_n 0, 1) := dk_42 (dk_at dksX0_idempotentCount_1 19 rfl rfl)
theorem dX0_idempotentCount_41 : decode cX0_idempotentCount 41 = .ok (.aload_n 3, 1) := dk_45 (dk_at dksX0_idempotentCount_1 20 rfl rfl)
theorem dX0_idempotentCount_42 : decode cX0_idempotentCount 42 = .ok (.invokevirtual 344, 3) := dk_182 1 88 (dk_at dksX0_idempotentCount_1 21 rfl rfl)
theorem dX0_idempotentCount_45 : decode cX0_idempotentCount 45 = .ok (.invokestatic 252, 3) := dk_184 0 252 (dk_at dksX0_idempotentCount_2 0 rfl rfl)
theorem dX0_idempotentCount_48 : decode cX0_idempotentCount 48 = .ok (.iadd, 1) := dk_96 (dk_at dksX0_idempotentCount_2 3 rfl rfl)
theorem dX0_idempotentCount_49 : decode cX0_idempotentCount 49 = .ok (.istore_n 1, 1) := dk_60 (dk_at dksX0_idempotentCount_2 4 rfl rfl)
theorem dX0_idempotentCount_50 : decode cX0_idempotentCount 50 = .ok (.goto (-30), 3) := dk_167 255 226 (dk_at dksX0_idempotentCount_2 5 rfl rfl)
theorem dX0_idempotentCount_53 : decode cX0_idempotentCount 53 = .ok (.iload_n 1, 1) := dk_27 (dk_at dksX0_idempotentCount_2 8 rfl rfl)
theorem dX0_idempotentCount_54 : decode cX0_idempotentCount 54 = .ok (.ireturn, 1) := dk_172 (dk_at dksX0_idempotentCount_2 9 rfl rfl)
abbrev cX0_isIdempotent : ByteArray := prog_1_method_39_code
def yX0_isIdempotent : MethodName := ⟨RX0, "isIdempotent", "(LDependencyPairAnalyzer$SizeChangeGraph;)Z"⟩
def dkwX0_isIdempotent_1 : List UInt8 := [43, 182, 1, 58, 154, 0, 7, 4, 167, 0, 4, 3, 172]
abbrev dktX0_isIdempotent_1 : List UInt8 := dkwX0_isIdempotent_1 ++ []
def dkwX0_isIdempotent_0 : List UInt8 := [42, 180, 0, 89, 43, 43, 182, 1, 50, 43, 180, 1, 30, 43, 180, 1, 33, 160, 0, 18, 42, 180, 0, 89]
abbrev dktX0_isIdempotent_0 : List UInt8 := dkwX0_isIdempotent_0 ++ dktX0_isIdempotent_1
theorem dksX0_isIdempotent_0 : cX0_isIdempotent.data.toList.drop 0 = dktX0_isIdempotent_0 := by decide +kernel
theorem dksX0_isIdempotent_1 : cX0_isIdempotent.data.toList.drop 24 = dktX0_isIdempotent_1 := dk_seg dksX0_isIdempotent_0 24 rfl rfl
theorem dX0_isIdempotent_0 : decode cX0_isIdempotent 0 = .ok (.aload_n 0, 1) := dk_42 (dk_at dksX0_isIdempotent_0 0 rfl rfl)
theorem dX0_isIdempotent_1 : decode cX0_isIdempotent 1 = .ok (.getfield 89, 3) := dk_180 0 89 (dk_at dksX0_isIdempotent_0 1 rfl rfl)
theorem dX0_isIdempotent_4 : decode cX0_isIdempotent 4 = .ok (.aload_n 1, 1) := dk_43 (dk_at dksX0_isIdempotent_0 4 rfl rfl)
theorem dX0_isIdempotent_5 : decode cX0_isIdempotent 5 = .ok (.aload_n 1, 1) := dk_43 (dk_at dksX0_isIdempotent_0 5 rfl rfl)
theorem dX0_isIdempotent_6 : decode cX0_isIdempotent 6 = .ok (.invokevirtual 306, 3) := dk_182 1 50 (dk_at dksX0_isIdempotent_0 6 rfl rfl)
theorem dX0_isIdempotent_9 : decode cX0_isIdempotent 9 = .ok (.aload_n 1, 1) := dk_43 (dk_at dksX0_isIdempotent_0 9 rfl rfl)
theorem dX0_isIdempotent_10 : decode cX0_isIdempotent 10 = .ok (.getfield 286, 3) := dk_180 1 30 (dk_at dksX0_isIdempotent_0 10 rfl rfl)
theorem dX0_isIdempotent_13 : decode cX0_isIdempotent 13 = .ok (.aload_n 1, 1) := dk_43 (dk_at dksX0_isIdempotent_0 13 rfl rfl)
theorem dX0_isIdempotent_14 : decode cX0_isIdempotent 14 = .ok (.getfield 289, 3) := dk_180 1 33 (dk_at dksX0_isIdempotent_0 14 rfl rfl)
theorem dX0_isIdempotent_17 : decode cX0_isIdempotent 17 = .ok (.if_icmp .ne 18, 3) := dk_160 0 18 (dk_at dksX0_isIdempotent_0 17 rfl rfl)
theorem dX0_isIdempotent_20 : decode cX0_isIdempotent 20 = .ok (.aload_n 0, 1) := dk_42 (dk_at dksX0_isIdempotent_0 20 rfl rfl)
theorem dX0_isIdempotent_21 : decode cX0_isIdempotent 21 = .ok (.getfield 89, 3) := dk_180 0 89 (dk_at dksX0_isIdempotent_0 21 rfl rfl)
theorem dX0_isIdempotent_24 : decode cX0_isIdempotent 24 = .ok (.aload_n 1, 1) := dk_43 (dk_at dksX0_isIdempotent_1 0 rfl rfl)
theorem dX0_isIdempotent_25 : decode cX0_isIdempotent 25 = .ok (.invokevirtual 314, 3) := dk_182 1 58 (dk_at dksX0_isIdempotent_1 1 rfl rfl)
theorem dX0_isIdempotent_28 : decode cX0_isIdempotent 28 = .ok (.ifCond .ne 7, 3) := dk_154 0 7 (dk_at dksX0_isIdempotent_1 4 rfl rfl)
theorem dX0_isIdempotent_31 : decode cX0_isIdempotent 31 = .ok (.iconst 1, 1) := dk_4 (dk_at dksX0_isIdempotent_1 7 rfl rfl)
theorem dX0_isIdempotent_32 : decode cX0_isIdempotent 32 = .ok (.goto 4, 3) := dk_167 0 4 (dk_at dksX0_isIdempotent_1 8 rfl rfl)
theorem dX0_isIdempotent_35 : decode cX0_isIdempotent 35 = .ok (.iconst 0, 1) := dk_3 (dk_at dksX0_isIdempotent_1 11 rfl rfl)
theorem dX0_isIdempotent_36 : decode cX0_isIdempotent 36 = .ok (.ireturn, 1) := dk_172 (dk_at dksX0_isIdempotent_1 12 rfl rfl)
abbrev cX0_terminatesBySizeChange : ByteArray := prog_1_method_43_code
def yX0_terminatesBySizeChange : MethodName := ⟨RX0, "terminatesBySizeChange", "()I"⟩
def dkwX0_terminatesBySizeChange_2 : List UInt8 := [182, 1, 92, 154, 0, 5, 3, 172, 167, 255, 220, 4, 172]
abbrev dktX0_terminatesBySizeChange_2 : List UInt8 := dkwX0_terminatesBySizeChange_2 ++ []
def dkwX0_terminatesBySizeChange_1 : List UInt8 := [153, 0, 33, 43, 185, 1, 84, 1, 0, 192, 0, 80, 77, 42, 44, 182, 1, 88, 153, 0, 12, 44]
abbrev dktX0_terminatesBySizeChange_1 : List UInt8 := dkwX0_terminatesBySizeChange_1 ++ dktX0_terminatesBySizeChange_2
def dkwX0_terminatesBySizeChange_0 : List UInt8 := [42, 182, 1, 70, 154, 0, 6, 16, 248, 172, 42, 180, 0, 76, 182, 1, 75, 76, 43, 185, 1, 79, 1, 0]
abbrev dktX0_terminatesBySizeChange_0 : List UInt8 := dkwX0_terminatesBySizeChange_0 ++ dktX0_terminatesBySizeChange_1
theorem dksX0_terminatesBySizeChange_0 : cX0_terminatesBySizeChange.data.toList.drop 0 = dktX0_terminatesBySizeChange_0 := by decide +kernel
theorem dksX0_terminatesBySizeChange_1 : cX0_terminatesBySizeChange.data.toList.drop 24 = dktX0_terminatesBySizeChange_1 := dk_seg dksX0_terminatesBySizeChange_0 24 rfl rfl
theorem dksX0_terminatesBySizeChange_2 : cX0_terminatesBySizeChange.data.toList.drop 46 = dktX0_terminatesBySizeChange_2 := dk_seg dksX0_terminatesBySizeChange_1 22 rfl rfl
theorem dX0_terminatesBySizeChange_0 : decode cX0_terminatesBySizeChange 0 = .ok (.aload_n 0, 1) := dk_42 (dk_at dksX0_terminatesBySizeChange_0 0 rfl rfl)
theorem dX0_terminatesBySizeChange_1 : decode cX0_terminatesBySizeChange 1 = .ok (.invokevirtual 326, 3) := dk_182 1 70 (dk_at dksX0_terminatesBySizeChange_0 1 rfl rfl)
theorem dX0_terminatesBySizeChange_4 : decode cX0_terminatesBySizeChange 4 = .ok (.ifCond .ne 6, 3) := dk_154 0 6 (dk_at dksX0_terminatesBySizeChange_0 4 rfl rfl)
theorem dX0_terminatesBySizeChange_7 : decode cX0_terminatesBySizeChange 7 = .ok (.bipush (-8), 2) := dk_16 248 (dk_at dksX0_terminatesBySizeChange_0 7 rfl rfl)
theorem dX0_terminatesBySizeChange_9 : decode cX0_terminatesBySizeChange 9 = .ok (.ireturn, 1) := dk_172 (dk_at dksX0_terminatesBySizeChange_0 9 rfl rfl)
theorem dX0_terminatesBySizeChange_10 : decode cX0_terminatesBySizeChange 10 = .ok (.aload_n 0, 1) := dk_42 (dk_at dksX0_terminatesBySizeChange_0 10 rfl rfl)
theorem dX0_terminatesBySizeChange_11 : decode cX0_terminatesBySizeChange 11 = .ok (.getfield 76, 3) := dk_180 0 76 (dk_at dksX0_terminatesBySizeChange_0 11 rfl rfl)
theorem dX0_terminatesBySizeChange_14 : decode cX0_terminatesBySizeChange 14 = .ok (.invokevirtual 331, 3) := dk_182 1 75 (dk_at dksX0_terminatesBySizeChange_0 14 rfl rfl)
theorem dX0_terminatesBySizeChange_17 : decode cX0_terminatesBySizeChange 17 = .ok (.astore_n 1, 1) := dk_76 (dk_at dksX0_terminatesBySizeChange_0 17 rfl rfl)
theorem dX0_terminatesBySizeChange_18 : decode cX0_terminatesBySizeChange 18 = .ok (.aload_n 1, 1) := dk_43 (dk_at dksX0_terminatesBySizeChange_0 18 rfl rfl)
theorem dX0_terminatesBySizeChange_19 : decode cX0_terminatesBySizeChange 19 = .ok (.invokeinterface 335 1, 5) := by decide +kernel
theorem dX0_terminatesBySizeChange_24 : decode cX0_terminatesBySizeChange 24 = .ok (.ifCond .eq 33, 3) := dk_153 0 33 (dk_at dksX0_terminatesBySizeChange_1 0 rfl rfl)
theorem dX0_terminatesBySizeChange_27 : decode cX0_terminatesBySizeChange 27 = .ok (.aload_n 1, 1) := dk_43 (dk_at dksX0_terminatesBySizeChange_1 3 rfl rfl)
theorem dX0_terminatesBySizeChange_28 : decode cX0_terminatesBySizeChange 28 = .ok (.invokeinterface 340 1, 5) := by decide +kernel
theorem dX0_terminatesBySizeChange_33 : decode cX0_terminatesBySizeChange 33 = .ok (.checkcast 80, 3) := dk_192 0 80 (dk_at dksX0_terminatesBySizeChange_1 9 rfl rfl)
theorem dX0_terminatesBySizeChange_36 : decode cX0_terminatesBySizeChange 36 = .ok (.astore_n 2, 1) := dk_77 (dk_at dksX0_terminatesBySizeChange_1 12 rfl rfl)
theorem dX0_terminatesBySizeChange_37 : decode cX0_terminatesBySizeChange 37 = .ok (.aload_n 0, 1) := dk_42 (dk_at dksX0_terminatesBySizeChange_1 13 rfl rfl)
theorem dX0_terminatesBySizeChange_38 : decode cX0_terminatesBySizeChange 38 = .ok (.aload_n 2, 1) := dk_44 (dk_at dksX0_terminatesBySizeChange_1 14 rfl rfl)
theorem dX0_terminatesBySizeChange_39 : decode cX0_terminatesBySizeChange 39 = .ok (.invokevirtual 344, 3) := dk_182 1 88 (dk_at dksX0_terminatesBySizeChange_1 15 rfl rfl)
theorem dX0_terminatesBySizeChange_42 : decode cX0_terminatesBySizeChange 42 = .ok (.ifCond .eq 12, 3) := dk_153 0 12 (dk_at dksX0_terminatesBySizeChange_1 18 rfl rfl)
theorem dX0_terminatesBySizeChange_45 : decode cX0_terminatesBySizeChange 45 = .ok (.aload_n 2, 1) := dk_44 (dk_at dksX0_terminatesBySizeChange_1 21 rfl rfl)
theorem dX0_terminatesBySizeChange_46 : decode cX0_terminatesBySizeChange 46 = .ok (.invokevirtual 348, 3) := dk_182 1 92 (dk_at dksX0_terminatesBySizeChange_2 0 rfl rfl)
theorem dX0_terminatesBySizeChange_49 : decode cX0_terminatesBySizeChange 49 = .ok (.ifCond .ne 5, 3) := dk_154 0 5 (dk_at dksX0_terminatesBySizeChange_2 3 rfl rfl)
theorem dX0_terminatesBySizeChange_52 : decode cX0_terminatesBySizeChange 52 = .ok (.iconst 0, 1) := dk_3 (dk_at dksX0_terminatesBySizeChange_2 6 rfl rfl)
theorem dX0_terminatesBySizeChange_53 : decode cX0_terminatesBySizeChange 53 = .ok (.ireturn, 1) := dk_172 (dk_at dksX0_terminatesBySizeChange_2 7 rfl rfl)
theorem dX0_terminatesBySizeChange_54 : decode cX0_terminatesBySizeChange 54 = .ok (.goto (-36), 3) := dk_167 255 220 (dk_at dksX0_terminatesBySizeChange_2 8 rfl rfl)
theorem dX0_terminatesBySizeChange_57 : decode cX0_terminatesBySizeChange 57 = .ok (.iconst 1, 1) := dk_4 (dk_at dksX0_terminatesBySizeChange_2 11 rfl rfl)
theorem dX0_terminatesBySizeChange_58 : decode cX0_terminatesBySizeChange 58 = .ok (.ireturn, 1) := dk_172 (dk_at dksX0_terminatesBySizeChange_2 12 rfl rfl)
abbrev cX0_projection : ByteArray := prog_1_method_48_code
def yX0_projection : MethodName := ⟨RX0, "projection", "(I)I"⟩
def dkwX0_projection_1 : List UInt8 := [180, 0, 56, 27, 3, 3, 182, 1, 106, 167, 0, 4, 2, 172]
abbrev dktX0_projection_1 : List UInt8 := dkwX0_projection_1 ++ []
def dkwX0_projection_0 : List UInt8 := [42, 182, 0, 240, 27, 133, 9, 42, 180, 0, 237, 4, 100, 133, 184, 0, 134, 153, 0, 17, 42, 42]
abbrev dktX0_projection_0 : List UInt8 := dkwX0_projection_0 ++ dktX0_projection_1
theorem dksX0_projection_0 : cX0_projection.data.toList.drop 0 = dktX0_projection_0 := by decide +kernel
theorem dksX0_projection_1 : cX0_projection.data.toList.drop 22 = dktX0_projection_1 := dk_seg dksX0_projection_0 22 rfl rfl
theorem dX0_projection_0 : decode cX0_projection 0 = .ok (.aload_n 0, 1) := dk_42 (dk_at dksX0_projection_0 0 rfl rfl)
theorem dX0_projection_1 : decode cX0_projection 1 = .ok (.invokevirtual 240, 3) := dk_182 0 240 (dk_at dksX0_projection_0 1 rfl rfl)
theorem dX0_projection_4 : decode cX0_projection 4 = .ok (.iload_n 1, 1) := dk_27 (dk_at dksX0_projection_0 4 rfl rfl)
theorem dX0_projection_5 : decode cX0_projection 5 = .ok (.i2l, 1) := dk_133 (dk_at dksX0_projection_0 5 rfl rfl)
theorem dX0_projection_6 : decode cX0_projection 6 = .ok (.lconst 0, 1) := dk_9 (dk_at dksX0_projection_0 6 rfl rfl)
theorem dX0_projection_7 : decode cX0_projection 7 = .ok (.aload_n 0, 1) := dk_42 (dk_at dksX0_projection_0 7 rfl rfl)
theorem dX0_projection_8 : decode cX0_projection 8 = .ok (.getfield 237, 3) := dk_180 0 237 (dk_at dksX0_projection_0 8 rfl rfl)
theorem dX0_projection_11 : decode cX0_projection 11 = .ok (.iconst 1, 1) := dk_4 (dk_at dksX0_projection_0 11 rfl rfl)
theorem dX0_projection_12 : decode cX0_projection 12 = .ok (.isub, 1) := dk_100 (dk_at dksX0_projection_0 12 rfl rfl)
theorem dX0_projection_13 : decode cX0_projection 13 = .ok (.i2l, 1) := dk_133 (dk_at dksX0_projection_0 13 rfl rfl)
theorem dX0_projection_14 : decode cX0_projection 14 = .ok (.invokestatic 134, 3) := dk_184 0 134 (dk_at dksX0_projection_0 14 rfl rfl)
theorem dX0_projection_17 : decode cX0_projection 17 = .ok (.ifCond .eq 17, 3) := dk_153 0 17 (dk_at dksX0_projection_0 17 rfl rfl)
theorem dX0_projection_20 : decode cX0_projection 20 = .ok (.aload_n 0, 1) := dk_42 (dk_at dksX0_projection_0 20 rfl rfl)
theorem dX0_projection_21 : decode cX0_projection 21 = .ok (.aload_n 0, 1) := dk_42 (dk_at dksX0_projection_0 21 rfl rfl)
theorem dX0_projection_22 : decode cX0_projection 22 = .ok (.getfield 56, 3) := dk_180 0 56 (dk_at dksX0_projection_1 0 rfl rfl)
theorem dX0_projection_25 : decode cX0_projection 25 = .ok (.iload_n 1, 1) := dk_27 (dk_at dksX0_projection_1 3 rfl rfl)
theorem dX0_projection_26 : decode cX0_projection 26 = .ok (.iconst 0, 1) := dk_3 (dk_at dksX0_projection_1 4 rfl rfl)
theorem dX0_projection_27 : decode cX0_projection 27 = .ok (.iconst 0, 1) := dk_3 (dk_at dksX0_projection_1 5 rfl rfl)
theorem dX0_projection_28 : decode cX0_projection 28 = .ok (.invokevirtual 362, 3) := dk_182 1 106 (dk_at dksX0_projection_1 6 rfl rfl)
theorem dX0_projection_31 : decode cX0_projection 31 = .ok (.goto 4, 3) := dk_167 0 4 (dk_at dksX0_projection_1 9 rfl rfl)
theorem dX0_projection_34 : decode cX0_projection 34 = .ok (.iconst (-1), 1) := dk_2 (dk_at dksX0_projection_1 12 rfl rfl)
theorem dX0_projection_35 : decode cX0_projection 35 = .ok (.ireturn, 1) := dk_172 (dk_at dksX0_projection_1 13 rfl rfl)
abbrev cX0_lowestProjection : ByteArray := prog_1_method_47_code
def yX0_lowestProjection : MethodName := ⟨RX0, "lowestProjection", "([IIII)I"⟩
def dkwX0_lowestProjection_4 : List UInt8 := [132, 6, 1, 167, 255, 207, 16, 251, 172]
abbrev dktX0_lowestProjection_4 : List UInt8 := dkwX0_lowestProjection_4 ++ []
def dkwX0_lowestProjection_3 : List UInt8 := [21, 4, 104, 21, 6, 96, 4, 96, 182, 1, 106, 54, 7, 21, 7, 16, 251, 159, 0, 6, 21, 7, 172]
abbrev dktX0_lowestProjection_3 : List UInt8 := dkwX0_lowestProjection_3 ++ dktX0_lowestProjection_4
def dkwX0_lowestProjection_2 : List UInt8 := [21, 6, 21, 5, 162, 0, 48, 42, 180, 0, 93, 29, 21, 6, 79, 42, 43, 28, 29, 4, 96, 16, 10]
abbrev dktX0_lowestProjection_2 : List UInt8 := dkwX0_lowestProjection_2 ++ dktX0_lowestProjection_3
def dkwX0_lowestProjection_1 : List UInt8 := [28, 29, 182, 1, 103, 153, 0, 12, 42, 180, 0, 7, 29, 46, 167, 0, 4, 4, 54, 5, 3, 54, 6]
abbrev dktX0_lowestProjection_1 : List UInt8 := dkwX0_lowestProjection_1 ++ dktX0_lowestProjection_2
def dkwX0_lowestProjection_0 : List UInt8 := [29, 6, 160, 0, 20, 42, 43, 28, 182, 1, 99, 153, 0, 8, 21, 4, 167, 0, 5, 16, 251, 172, 42, 43]
abbrev dktX0_lowestProjection_0 : List UInt8 := dkwX0_lowestProjection_0 ++ dktX0_lowestProjection_1
theorem dksX0_lowestProjection_0 : cX0_lowestProjection.data.toList.drop 0 = dktX0_lowestProjection_0 := by decide +kernel
theorem dksX0_lowestProjection_1 : cX0_lowestProjection.data.toList.drop 24 = dktX0_lowestProjection_1 := dk_seg dksX0_lowestProjection_0 24 rfl rfl
theorem dksX0_lowestProjection_2 : cX0_lowestProjection.data.toList.drop 47 = dktX0_lowestProjection_2 := dk_seg dksX0_lowestProjection_1 23 rfl rfl
theorem dksX0_lowestProjection_3 : cX0_lowestProjection.data.toList.drop 70 = dktX0_lowestProjection_3 := dk_seg dksX0_lowestProjection_2 23 rfl rfl
theorem dksX0_lowestProjection_4 : cX0_lowestProjection.data.toList.drop 93 = dktX0_lowestProjection_4 := dk_seg dksX0_lowestProjection_3 23 rfl rfl
theorem dX0_lowestProjection_0 : decode cX0_lowestProjection 0 = .ok (.iload_n 3, 1) := dk_29 (dk_at dksX0_lowestProjection_0 0 rfl rfl)
theorem dX0_lowestProjection_1 : decode cX0_lowestProjection 1 = .ok (.iconst 3, 1) := dk_6 (dk_at dksX0_lowestProjection_0 1 rfl rfl)
theorem dX0_lowestProjection_2 : decode cX0_lowestProjection 2 = .ok (.if_icmp .ne 20, 3) := dk_160 0 20 (dk_at dksX0_lowestProjection_0 2 rfl rfl)
theorem dX0_lowestProjection_5 : decode cX0_lowestProjection 5 = .ok (.aload_n 0, 1) := dk_42 (dk_at dksX0_lowestProjection_0 5 rfl rfl)
theorem dX0_lowestProjection_6 : decode cX0_lowestProjection 6 = .ok (.aload_n 1, 1) := dk_43 (dk_at dksX0_lowestProjection_0 6 rfl rfl)
theorem dX0_lowestProjection_7 : decode cX0_lowestProjection 7 = .ok (.iload_n 2, 1) := dk_28 (dk_at dksX0_lowestProjection_0 7 rfl rfl)
theorem dX0_lowestProjection_8 : decode cX0_lowestProjection 8 = .ok (.invokevirtual 355, 3) := dk_182 1 99 (dk_at dksX0_lowestProjection_0 8 rfl rfl)
theorem dX0_lowestProjection_11 : decode cX0_lowestProjection 11 = .ok (.ifCond .eq 8, 3) := dk_153 0 8 (dk_at dksX0_lowestProjection_0 11 rfl rfl)
theorem dX0_lowestProjection_14 : decode cX0_lowestProjection 14 = .ok (.iload 4, 2) := dk_21 4 (dk_at dksX0_lowestProjection_0 14 rfl rfl)
theorem dX0_lowestProjection_16 : decode cX0_lowestProjection 16 = .ok (.goto 5, 3) := dk_167 0 5 (dk_at dksX0_lowestProjection_0 16 rfl rfl)
theorem dX0_lowestProjection_19 : decode cX0_lowestProjection 19 = .ok (.bipush (-5), 2) := dk_16 251 (dk_at dksX0_lowestProjection_0 19 rfl rfl)
theorem dX0_lowestProjection_21 : decode cX0_lowestProjection 21 = .ok (.ireturn, 1) := dk_172 (dk_at dksX0_lowestProjection_0 21 rfl rfl)
theorem dX0_lowestProjection_22 : decode cX0_lowestProjection 22 = .ok (.aload_n 0, 1) := dk_42 (dk_at dksX0_lowestProjection_0 22 rfl rfl)
theorem dX0_lowestProjection_23 : decode cX0_lowestProjection 23 = .ok (.aload_n 1, 1) := dk_43 (dk_at dksX0_lowestProjection_0 23 rfl rfl)
theorem dX0_lowestProjection_24 : decode cX0_lowestProjection 24 = .ok (.iload_n 2, 1) := dk_28 (dk_at dksX0_lowestProjection_1 0 rfl rfl)
theorem dX0_lowestProjection_25 : decode cX0_lowestProjection 25 = .ok (.iload_n 3, 1) := dk_29 (dk_at dksX0_lowestProjection_1 1 rfl rfl)
theorem dX0_lowestProjection_26 : decode cX0_lowestProjection 26 = .ok (.invokevirtual 359, 3) := dk_182 1 103 (dk_at dksX0_lowestProjection_1 2 rfl rfl)
theorem dX0_lowestProjection_29 : decode cX0_lowestProjection 29 = .ok (.ifCond .eq 12, 3) := dk_153 0 12 (dk_at dksX0_lowestProjection_1 5 rfl rfl)
theorem dX0_lowestProjection_32 : decode cX0_lowestProjection 32 = .ok (.aload_n 0, 1) := dk_42 (dk_at dksX0_lowestProjection_1 8 rfl rfl)
theorem dX0_lowestProjection_33 : decode cX0_lowestProjection 33 = .ok (.getfield 7, 3) := dk_180 0 7 (dk_at dksX0_lowestProjection_1 9 rfl rfl)
theorem dX0_lowestProjection_36 : decode cX0_lowestProjection 36 = .ok (.iload_n 3, 1) := dk_29 (dk_at dksX0_lowestProjection_1 12 rfl rfl)
theorem dX0_lowestProjection_37 : decode cX0_lowestProjection 37 = .ok (.iaload, 1) := dk_46 (dk_at dksX0_lowestProjection_1 13 rfl rfl)
theorem dX0_lowestProjection_38 : decode cX0_lowestProjection 38 = .ok (.goto 4, 3) := dk_167 0 4 (dk_at dksX0_lowestProjection_1 14 rfl rfl)
theorem dX0_lowestProjection_41 : decode cX0_lowestProjection 41 = .ok (.iconst 1, 1) := dk_4 (dk_at dksX0_lowestProjection_1 17 rfl rfl)
theorem dX0_lowestProjection_42 : decode cX0_lowestProjection 42 = .ok (.istore 5, 2) := dk_54 5 (dk_at dksX0_lowestProjection_1 18 rfl rfl)
theorem dX0_lowestProjection_44 : decode cX0_lowestProjection 44 = .ok (.iconst 0, 1) := dk_3 (dk_at dksX0_lowestProjection_1 20 rfl rfl)
theorem dX0_lowestProjection_45 : decode cX0_lowestProjection 45 = .ok (.istore 6, 2) := dk_54 6 (dk_at dksX0_lowestProjection_1 21 rfl rfl)
theorem dX0_lowestProjection_47 : decode cX0_lowestProjection 47 = .ok (.iload 6, 2) := dk_21 6 (dk_at dksX0_lowestProjection_2 0 rfl rfl)
theorem dX0_lowestProjection_49 : decode cX0_lowestProjection 49 = .ok (.iload 5, 2) := dk_21 5 (dk_at dksX0_lowestProjection_2 2 rfl rfl)
theorem dX0_lowestProjection_51 : decode cX0_lowestProjection 51 = .ok (.if_icmp .ge 48, 3) := dk_162 0 48 (dk_at dksX0_lowestProjection_2 4 rfl rfl)
theorem dX0_lowestProjection_54 : decode cX0_lowestProjection 54 = .ok (.aload_n 0, 1) := dk_42 (dk_at dksX0_lowestProjection_2 7 rfl rfl)
theorem dX0_lowestProjection_55 : decode cX0_lowestProjection 55 = .ok (.getfield 93, 3) := dk_180 0 93 (dk_at dksX0_lowestProjection_2 8 rfl rfl)
theorem dX0_lowestProjection_58 : decode cX0_lowestProjection 58 = .ok (.iload_n 3, 1) := dk_29 (dk_at dksX0_lowestProjection_2 11 rfl rfl)
theorem dX0_lowestProjection_59 : decode cX0_lowestProjection 59 = .ok (.iload 6, 2) := dk_21 6 (dk_at dksX0_lowestProjection_2 12 rfl rfl)
theorem dX0_lowestProjection_61 : decode cX0_lowestProjection 61 = .ok (.iastore, 1) := dk_79 (dk_at dksX0_lowestProjection_2 14 rfl rfl)
theorem dX0_lowestProjection_62 : decode cX0_lowestProjection 62 = .ok (.aload_n 0, 1) := dk_42 (dk_at dksX0_lowestProjection_2 15 rfl rfl)
theorem dX0_lowestProjection_63 : decode cX0_lowestProjection 63 = .ok (.aload_n 1, 1) := dk_43 (dk_at dksX0_lowestProjection_2 16 rfl rfl)
theorem dX0_lowestProjection_64 : decode cX0_lowestProjection 64 = .ok (.iload_n 2, 1) := dk_28 (dk_at dksX0_lowestProjection_2 17 rfl rfl)
theorem dX0_lowestProjection_65 : decode cX0_lowestProjection 65 = .ok (.iload_n 3, 1) := dk_29 (dk_at dksX0_lowestProjection_2 18 rfl rfl)
theorem dX0_lowestProjection_66 : decode cX0_lowestProjection 66 = .ok (.iconst 1, 1) := dk_4 (dk_at dksX0_lowestProjection_2 19 rfl rfl)
theorem dX0_lowestProjection_67 : decode cX0_lowestProjection 67 = .ok (.iadd, 1) := dk_96 (dk_at dksX0_lowestProjection_2 20 rfl rfl)
theorem dX0_lowestProjection_68 : decode cX0_lowestProjection 68 = .ok (.bipush 10, 2) := dk_16 10 (dk_at dksX0_lowestProjection_2 21 rfl rfl)
theorem dX0_lowestProjection_70 : decode cX0_lowestProjection 70 = .ok (.iload 4, 2) := dk_21 4 (dk_at dksX0_lowestProjection_3 0 rfl rfl)
theorem dX0_lowestProjection_72 : decode cX0_lowestProjection 72 = .ok (.imul, 1) := dk_104 (dk_at dksX0_lowestProjection_3 2 rfl rfl)
theorem dX0_lowestProjection_73 : decode cX0_lowestProjection 73 = .ok (.iload 6, 2) := dk_21 6 (dk_at dksX0_lowestProjection_3 3 rfl rfl)
theorem dX0_lowestProjection_75 : decode cX0_lowestProjection 75 = .ok (.iadd, 1) := dk_96 (dk_at dksX0_lowestProjection_3 5 rfl rfl)
theorem dX0_lowestProjection_76 : decode cX0_lowestProjection 76 = .ok (.iconst 1, 1) := dk_4 (dk_at dksX0_lowestProjection_3 6 rfl rfl)
theorem dX0_lowestProjection_77 : decode cX0_lowestProjection 77 = .ok (.iadd, 1) := dk_96 (dk_at dksX0_lowestProjection_3 7 rfl rfl)
theorem dX0_lowestProjection_78 : decode cX0_lowestProjection 78 = .ok (.invokevirtual 362, 3) := dk_182 1 106 (dk_at dksX0_lowestProjection_3 8 rfl rfl)
theorem dX0_lowestProjection_81 : decode cX0_lowestProjection 81 = .ok (.istore 7, 2) := dk_54 7 (dk_at dksX0_lowestProjection_3 11 rfl rfl)
theorem dX0_lowestProjection_83 : decode cX0_lowestProjection 83 = .ok (.iload 7, 2) := dk_21 7 (dk_at dksX0_lowestProjection_3 13 rfl rfl)
theorem dX0_lowestProjection_85 : decode cX0_lowestProjection 85 = .ok (.bipush (-5), 2) := dk_16 251 (dk_at dksX0_lowestProjection_3 15 rfl rfl)
theorem dX0_lowestProjection_87 : decode cX0_lowestProjection 87 = .ok (.if_icmp .eq 6, 3) := dk_159 0 6 (dk_at dksX0_lowestProjection_3 17 rfl rfl)
theorem dX0_lowestProjection_90 : decode cX0_lowestProjection 90 = .ok (.iload 7, 2) := dk_21 7 (dk_at dksX0_lowestProjection_3 20 rfl rfl)
theorem dX0_lowestProjection_92 : decode cX0_lowestProjection 92 = .ok (.ireturn, 1) := dk_172 (dk_at dksX0_lowestProjection_3 22 rfl rfl)
theorem dX0_lowestProjection_93 : decode cX0_lowestProjection 93 = .ok (.iinc 6 1, 3) := dk_132 6 1 (dk_at dksX0_lowestProjection_4 0 rfl rfl)
theorem dX0_lowestProjection_96 : decode cX0_lowestProjection 96 = .ok (.goto (-49), 3) := dk_167 255 207 (dk_at dksX0_lowestProjection_4 3 rfl rfl)
theorem dX0_lowestProjection_99 : decode cX0_lowestProjection 99 = .ok (.bipush (-5), 2) := dk_16 251 (dk_at dksX0_lowestProjection_4 6 rfl rfl)
theorem dX0_lowestProjection_101 : decode cX0_lowestProjection 101 = .ok (.ireturn, 1) := dk_172 (dk_at dksX0_lowestProjection_4 8 rfl rfl)
abbrev cX0_isValidProjection : ByteArray := prog_1_method_45_code
def yX0_isValidProjection : MethodName := ⟨RX0, "isValidProjection", "([II)Z"⟩
def dkwX0_isValidProjection_2 : List UInt8 := [160, 0, 7, 4, 167, 0, 4, 3, 128, 62, 132, 4, 1, 167, 255, 202, 29, 172]
abbrev dktX0_isValidProjection_2 : List UInt8 := dkwX0_isValidProjection_2 ++ []
def dkwX0_isValidProjection_1 : List UInt8 := [180, 0, 47, 21, 4, 50, 182, 1, 95, 54, 5, 21, 5, 154, 0, 5, 3, 172, 29, 21, 5, 5]
abbrev dktX0_isValidProjection_1 : List UInt8 := dkwX0_isValidProjection_1 ++ dktX0_isValidProjection_2
def dkwX0_isValidProjection_0 : List UInt8 := [3, 62, 3, 54, 4, 21, 4, 42, 180, 0, 219, 162, 0, 51, 43, 21, 4, 46, 28, 160, 0, 37, 42, 42]
abbrev dktX0_isValidProjection_0 : List UInt8 := dkwX0_isValidProjection_0 ++ dktX0_isValidProjection_1
theorem dksX0_isValidProjection_0 : cX0_isValidProjection.data.toList.drop 0 = dktX0_isValidProjection_0 := by decide +kernel
theorem dksX0_isValidProjection_1 : cX0_isValidProjection.data.toList.drop 24 = dktX0_isValidProjection_1 := dk_seg dksX0_isValidProjection_0 24 rfl rfl
theorem dksX0_isValidProjection_2 : cX0_isValidProjection.data.toList.drop 46 = dktX0_isValidProjection_2 := dk_seg dksX0_isValidProjection_1 22 rfl rfl
theorem dX0_isValidProjection_0 : decode cX0_isValidProjection 0 = .ok (.iconst 0, 1) := dk_3 (dk_at dksX0_isValidProjection_0 0 rfl rfl)
theorem dX0_isValidProjection_1 : decode cX0_isValidProjection 1 = .ok (.istore_n 3, 1) := dk_62 (dk_at dksX0_isValidProjection_0 1 rfl rfl)
theorem dX0_isValidProjection_2 : decode cX0_isValidProjection 2 = .ok (.iconst 0, 1) := dk_3 (dk_at dksX0_isValidProjection_0 2 rfl rfl)
theorem dX0_isValidProjection_3 : decode cX0_isValidProjection 3 = .ok (.istore 4, 2) := dk_54 4 (dk_at dksX0_isValidProjection_0 3 rfl rfl)
theorem dX0_isValidProjection_5 : decode cX0_isValidProjection 5 = .ok (.iload 4, 2) := dk_21 4 (dk_at dksX0_isValidProjection_0 5 rfl rfl)
theorem dX0_isValidProjection_7 : decode cX0_isValidProjection 7 = .ok (.aload_n 0, 1) := dk_42 (dk_at dksX0_isValidProjection_0 7 rfl rfl)
theorem dX0_isValidProjection_8 : decode cX0_isValidProjection 8 = .ok (.getfield 219, 3) := dk_180 0 219 (dk_at dksX0_isValidProjection_0 8 rfl rfl)
theorem dX0_isValidProjection_11 : decode cX0_isValidProjection 11 = .ok (.if_icmp .ge 51, 3) := dk_162 0 51 (dk_at dksX0_isValidProjection_0 11 rfl rfl)
theorem dX0_isValidProjection_14 : decode cX0_isValidProjection 14 = .ok (.aload_n 1, 1) := dk_43 (dk_at dksX0_isValidProjection_0 14 rfl rfl)
theorem dX0_isValidProjection_15 : decode cX0_isValidProjection 15 = .ok (.iload 4, 2) := dk_21 4 (dk_at dksX0_isValidProjection_0 15 rfl rfl)
theorem dX0_isValidProjection_17 : decode cX0_isValidProjection 17 = .ok (.iaload, 1) := dk_46 (dk_at dksX0_isValidProjection_0 17 rfl rfl)
theorem dX0_isValidProjection_18 : decode cX0_isValidProjection 18 = .ok (.iload_n 2, 1) := dk_28 (dk_at dksX0_isValidProjection_0 18 rfl rfl)
theorem dX0_isValidProjection_19 : decode cX0_isValidProjection 19 = .ok (.if_icmp .ne 37, 3) := dk_160 0 37 (dk_at dksX0_isValidProjection_0 19 rfl rfl)
theorem dX0_isValidProjection_22 : decode cX0_isValidProjection 22 = .ok (.aload_n 0, 1) := dk_42 (dk_at dksX0_isValidProjection_0 22 rfl rfl)
theorem dX0_isValidProjection_23 : decode cX0_isValidProjection 23 = .ok (.aload_n 0, 1) := dk_42 (dk_at dksX0_isValidProjection_0 23 rfl rfl)
theorem dX0_isValidProjection_24 : decode cX0_isValidProjection 24 = .ok (.getfield 47, 3) := dk_180 0 47 (dk_at dksX0_isValidProjection_1 0 rfl rfl)
theorem dX0_isValidProjection_27 : decode cX0_isValidProjection 27 = .ok (.iload 4, 2) := dk_21 4 (dk_at dksX0_isValidProjection_1 3 rfl rfl)
theorem dX0_isValidProjection_29 : decode cX0_isValidProjection 29 = .ok (.aaload, 1) := dk_50 (dk_at dksX0_isValidProjection_1 5 rfl rfl)
theorem dX0_isValidProjection_30 : decode cX0_isValidProjection 30 = .ok (.invokevirtual 351, 3) := dk_182 1 95 (dk_at dksX0_isValidProjection_1 6 rfl rfl)
theorem dX0_isValidProjection_33 : decode cX0_isValidProjection 33 = .ok (.istore 5, 2) := dk_54 5 (dk_at dksX0_isValidProjection_1 9 rfl rfl)
theorem dX0_isValidProjection_35 : decode cX0_isValidProjection 35 = .ok (.iload 5, 2) := dk_21 5 (dk_at dksX0_isValidProjection_1 11 rfl rfl)
theorem dX0_isValidProjection_37 : decode cX0_isValidProjection 37 = .ok (.ifCond .ne 5, 3) := dk_154 0 5 (dk_at dksX0_isValidProjection_1 13 rfl rfl)
theorem dX0_isValidProjection_40 : decode cX0_isValidProjection 40 = .ok (.iconst 0, 1) := dk_3 (dk_at dksX0_isValidProjection_1 16 rfl rfl)
theorem dX0_isValidProjection_41 : decode cX0_isValidProjection 41 = .ok (.ireturn, 1) := dk_172 (dk_at dksX0_isValidProjection_1 17 rfl rfl)
theorem dX0_isValidProjection_42 : decode cX0_isValidProjection 42 = .ok (.iload_n 3, 1) := dk_29 (dk_at dksX0_isValidProjection_1 18 rfl rfl)
theorem dX0_isValidProjection_43 : decode cX0_isValidProjection 43 = .ok (.iload 5, 2) := dk_21 5 (dk_at dksX0_isValidProjection_1 19 rfl rfl)
theorem dX0_isValidProjection_45 : decode cX0_isValidProjection 45 = .ok (.iconst 2, 1) := dk_5 (dk_at dksX0_isValidProjection_1 21 rfl rfl)
theorem dX0_isValidProjection_46 : decode cX0_isValidProjection 46 = .ok (.if_icmp .ne 7, 3) := dk_160 0 7 (dk_at dksX0_isValidProjection_2 0 rfl rfl)
theorem dX0_isValidProjection_49 : decode cX0_isValidProjection 49 = .ok (.iconst 1, 1) := dk_4 (dk_at dksX0_isValidProjection_2 3 rfl rfl)
theorem dX0_isValidProjection_50 : decode cX0_isValidProjection 50 = .ok (.goto 4, 3) := dk_167 0 4 (dk_at dksX0_isValidProjection_2 4 rfl rfl)
theorem dX0_isValidProjection_53 : decode cX0_isValidProjection 53 = .ok (.iconst 0, 1) := dk_3 (dk_at dksX0_isValidProjection_2 7 rfl rfl)
theorem dX0_isValidProjection_54 : decode cX0_isValidProjection 54 = .ok (.ior, 1) := dk_128 (dk_at dksX0_isValidProjection_2 8 rfl rfl)
theorem dX0_isValidProjection_55 : decode cX0_isValidProjection 55 = .ok (.istore_n 3, 1) := dk_62 (dk_at dksX0_isValidProjection_2 9 rfl rfl)
theorem dX0_isValidProjection_56 : decode cX0_isValidProjection 56 = .ok (.iinc 4 1, 3) := dk_132 4 1 (dk_at dksX0_isValidProjection_2 10 rfl rfl)
theorem dX0_isValidProjection_59 : decode cX0_isValidProjection 59 = .ok (.goto (-54), 3) := dk_167 255 202 (dk_at dksX0_isValidProjection_2 13 rfl rfl)
theorem dX0_isValidProjection_62 : decode cX0_isValidProjection 62 = .ok (.iload_n 3, 1) := dk_29 (dk_at dksX0_isValidProjection_2 16 rfl rfl)
theorem dX0_isValidProjection_63 : decode cX0_isValidProjection 63 = .ok (.ireturn, 1) := dk_172 (dk_at dksX0_isValidProjection_2 17 rfl rfl)
abbrev cX0_chosenRelation : ByteArray := prog_1_method_44_code
def yX0_chosenRelation : MethodName := ⟨RX0, "chosenRelation", "(LDependencyPairAnalyzer$Pair;)I"⟩
def dkwX0_chosenRelation_1 : List UInt8 := [46, 182, 1, 36, 172]
abbrev dktX0_chosenRelation_1 : List UInt8 := dkwX0_chosenRelation_1 ++ []
def dkwX0_chosenRelation_0 : List UInt8 := [43, 42, 180, 0, 93, 43, 180, 1, 27, 180, 1, 30, 46, 42, 180, 0, 93, 43, 180, 1, 27, 180, 1, 33]
abbrev dktX0_chosenRelation_0 : List UInt8 := dkwX0_chosenRelation_0 ++ dktX0_chosenRelation_1
theorem dksX0_chosenRelation_0 : cX0_chosenRelation.data.toList.drop 0 = dktX0_chosenRelation_0 := by decide +kernel
theorem dksX0_chosenRelation_1 : cX0_chosenRelation.data.toList.drop 24 = dktX0_chosenRelation_1 := dk_seg dksX0_chosenRelation_0 24 rfl rfl
theorem dX0_chosenRelation_0 : decode cX0_chosenRelation 0 = .ok (.aload_n 1, 1) := dk_43 (dk_at dksX0_chosenRelation_0 0 rfl rfl)
theorem dX0_chosenRelation_1 : decode cX0_chosenRelation 1 = .ok (.aload_n 0, 1) := dk_42 (dk_at dksX0_chosenRelation_0 1 rfl rfl)
theorem dX0_chosenRelation_2 : decode cX0_chosenRelation 2 = .ok (.getfield 93, 3) := dk_180 0 93 (dk_at dksX0_chosenRelation_0 2 rfl rfl)
theorem dX0_chosenRelation_5 : decode cX0_chosenRelation 5 = .ok (.aload_n 1, 1) := dk_43 (dk_at dksX0_chosenRelation_0 5 rfl rfl)
theorem dX0_chosenRelation_6 : decode cX0_chosenRelation 6 = .ok (.getfield 283, 3) := dk_180 1 27 (dk_at dksX0_chosenRelation_0 6 rfl rfl)
theorem dX0_chosenRelation_9 : decode cX0_chosenRelation 9 = .ok (.getfield 286, 3) := dk_180 1 30 (dk_at dksX0_chosenRelation_0 9 rfl rfl)
theorem dX0_chosenRelation_12 : decode cX0_chosenRelation 12 = .ok (.iaload, 1) := dk_46 (dk_at dksX0_chosenRelation_0 12 rfl rfl)
theorem dX0_chosenRelation_13 : decode cX0_chosenRelation 13 = .ok (.aload_n 0, 1) := dk_42 (dk_at dksX0_chosenRelation_0 13 rfl rfl)
theorem dX0_chosenRelation_14 : decode cX0_chosenRelation 14 = .ok (.getfield 93, 3) := dk_180 0 93 (dk_at dksX0_chosenRelation_0 14 rfl rfl)
theorem dX0_chosenRelation_17 : decode cX0_chosenRelation 17 = .ok (.aload_n 1, 1) := dk_43 (dk_at dksX0_chosenRelation_0 17 rfl rfl)
theorem dX0_chosenRelation_18 : decode cX0_chosenRelation 18 = .ok (.getfield 283, 3) := dk_180 1 27 (dk_at dksX0_chosenRelation_0 18 rfl rfl)
theorem dX0_chosenRelation_21 : decode cX0_chosenRelation 21 = .ok (.getfield 289, 3) := dk_180 1 33 (dk_at dksX0_chosenRelation_0 21 rfl rfl)
theorem dX0_chosenRelation_24 : decode cX0_chosenRelation 24 = .ok (.iaload, 1) := dk_46 (dk_at dksX0_chosenRelation_1 0 rfl rfl)
theorem dX0_chosenRelation_25 : decode cX0_chosenRelation 25 = .ok (.invokevirtual 292, 3) := dk_182 1 36 (dk_at dksX0_chosenRelation_1 1 rfl rfl)
theorem dX0_chosenRelation_28 : decode cX0_chosenRelation 28 = .ok (.ireturn, 1) := dk_172 (dk_at dksX0_chosenRelation_1 4 rfl rfl)
abbrev cX0_contains : ByteArray := prog_1_method_46_code
def yX0_contains : MethodName := ⟨RX0, "contains", "([III)Z"⟩
def dkwX0_contains_2 : List UInt8 := [180, 1, 33, 29, 160, 0, 5, 4, 172, 132, 4, 1, 167, 255, 200, 3, 172]
abbrev dktX0_contains_2 : List UInt8 := dkwX0_contains_2 ++ []
def dkwX0_contains_1 : List UInt8 := [21, 4, 50, 180, 1, 27, 180, 1, 30, 29, 159, 0, 20, 42, 180, 0, 47, 21, 4, 50, 180, 1, 27]
abbrev dktX0_contains_1 : List UInt8 := dkwX0_contains_1 ++ dktX0_contains_2
def dkwX0_contains_0 : List UInt8 := [3, 54, 4, 21, 4, 42, 180, 0, 219, 162, 0, 53, 43, 21, 4, 46, 28, 160, 0, 39, 42, 180, 0, 47]
abbrev dktX0_contains_0 : List UInt8 := dkwX0_contains_0 ++ dktX0_contains_1
theorem dksX0_contains_0 : cX0_contains.data.toList.drop 0 = dktX0_contains_0 := by decide +kernel
theorem dksX0_contains_1 : cX0_contains.data.toList.drop 24 = dktX0_contains_1 := dk_seg dksX0_contains_0 24 rfl rfl
theorem dksX0_contains_2 : cX0_contains.data.toList.drop 47 = dktX0_contains_2 := dk_seg dksX0_contains_1 23 rfl rfl
theorem dX0_contains_0 : decode cX0_contains 0 = .ok (.iconst 0, 1) := dk_3 (dk_at dksX0_contains_0 0 rfl rfl)
theorem dX0_contains_1 : decode cX0_contains 1 = .ok (.istore 4, 2) := dk_54 4 (dk_at dksX0_contains_0 1 rfl rfl)
theorem dX0_contains_3 : decode cX0_contains 3 = .ok (.iload 4, 2) := dk_21 4 (dk_at dksX0_contains_0 3 rfl rfl)
theorem dX0_contains_5 : decode cX0_contains 5 = .ok (.aload_n 0, 1) := dk_42 (dk_at dksX0_contains_0 5 rfl rfl)
theorem dX0_contains_6 : decode cX0_contains 6 = .ok (.getfield 219, 3) := dk_180 0 219 (dk_at dksX0_contains_0 6 rfl rfl)
theorem dX0_contains_9 : decode cX0_contains 9 = .ok (.if_icmp .ge 53, 3) := dk_162 0 53 (dk_at dksX0_contains_0 9 rfl rfl)
theorem dX0_contains_12 : decode cX0_contains 12 = .ok (.aload_n 1, 1) := dk_43 (dk_at dksX0_contains_0 12 rfl rfl)
theorem dX0_contains_13 : decode cX0_contains 13 = .ok (.iload 4, 2) := dk_21 4 (dk_at dksX0_contains_0 13 rfl rfl)
theorem dX0_contains_15 : decode cX0_contains 15 = .ok (.iaload, 1) := dk_46 (dk_at dksX0_contains_0 15 rfl rfl)
theorem dX0_contains_16 : decode cX0_contains 16 = .ok (.iload_n 2, 1) := dk_28 (dk_at dksX0_contains_0 16 rfl rfl)
theorem dX0_contains_17 : decode cX0_contains 17 = .ok (.if_icmp .ne 39, 3) := dk_160 0 39 (dk_at dksX0_contains_0 17 rfl rfl)
theorem dX0_contains_20 : decode cX0_contains 20 = .ok (.aload_n 0, 1) := dk_42 (dk_at dksX0_contains_0 20 rfl rfl)
theorem dX0_contains_21 : decode cX0_contains 21 = .ok (.getfield 47, 3) := dk_180 0 47 (dk_at dksX0_contains_0 21 rfl rfl)
theorem dX0_contains_24 : decode cX0_contains 24 = .ok (.iload 4, 2) := dk_21 4 (dk_at dksX0_contains_1 0 rfl rfl)
theorem dX0_contains_26 : decode cX0_contains 26 = .ok (.aaload, 1) := dk_50 (dk_at dksX0_contains_1 2 rfl rfl)
theorem dX0_contains_27 : decode cX0_contains 27 = .ok (.getfield 283, 3) := dk_180 1 27 (dk_at dksX0_contains_1 3 rfl rfl)
theorem dX0_contains_30 : decode cX0_contains 30 = .ok (.getfield 286, 3) := dk_180 1 30 (dk_at dksX0_contains_1 6 rfl rfl)
theorem dX0_contains_33 : decode cX0_contains 33 = .ok (.iload_n 3, 1) := dk_29 (dk_at dksX0_contains_1 9 rfl rfl)
theorem dX0_contains_34 : decode cX0_contains 34 = .ok (.if_icmp .eq 20, 3) := dk_159 0 20 (dk_at dksX0_contains_1 10 rfl rfl)
theorem dX0_contains_37 : decode cX0_contains 37 = .ok (.aload_n 0, 1) := dk_42 (dk_at dksX0_contains_1 13 rfl rfl)
theorem dX0_contains_38 : decode cX0_contains 38 = .ok (.getfield 47, 3) := dk_180 0 47 (dk_at dksX0_contains_1 14 rfl rfl)
theorem dX0_contains_41 : decode cX0_contains 41 = .ok (.iload 4, 2) := dk_21 4 (dk_at dksX0_contains_1 17 rfl rfl)
theorem dX0_contains_43 : decode cX0_contains 43 = .ok (.aaload, 1) := dk_50 (dk_at dksX0_contains_1 19 rfl rfl)
theorem dX0_contains_44 : decode cX0_contains 44 = .ok (.getfield 283, 3) := dk_180 1 27 (dk_at dksX0_contains_1 20 rfl rfl)
theorem dX0_contains_47 : decode cX0_contains 47 = .ok (.getfield 289, 3) := dk_180 1 33 (dk_at dksX0_contains_2 0 rfl rfl)
theorem dX0_contains_50 : decode cX0_contains 50 = .ok (.iload_n 3, 1) := dk_29 (dk_at dksX0_contains_2 3 rfl rfl)
theorem dX0_contains_51 : decode cX0_contains 51 = .ok (.if_icmp .ne 5, 3) := dk_160 0 5 (dk_at dksX0_contains_2 4 rfl rfl)
theorem dX0_contains_54 : decode cX0_contains 54 = .ok (.iconst 1, 1) := dk_4 (dk_at dksX0_contains_2 7 rfl rfl)
theorem dX0_contains_55 : decode cX0_contains 55 = .ok (.ireturn, 1) := dk_172 (dk_at dksX0_contains_2 8 rfl rfl)
theorem dX0_contains_56 : decode cX0_contains 56 = .ok (.iinc 4 1, 3) := dk_132 4 1 (dk_at dksX0_contains_2 9 rfl rfl)
theorem dX0_contains_59 : decode cX0_contains 59 = .ok (.goto (-56), 3) := dk_167 255 200 (dk_at dksX0_contains_2 12 rfl rfl)
theorem dX0_contains_62 : decode cX0_contains 62 = .ok (.iconst 0, 1) := dk_3 (dk_at dksX0_contains_2 15 rfl rfl)
theorem dX0_contains_63 : decode cX0_contains 63 = .ok (.ireturn, 1) := dk_172 (dk_at dksX0_contains_2 16 rfl rfl)
abbrev cX0_eliminationRounds : ByteArray := prog_1_method_51_code
def yX0_eliminationRounds : MethodName := ⟨RX0, "eliminationRounds", "()I"⟩
theorem dX0_eliminationRounds_0 : decode cX0_eliminationRounds 0 = .ok (.aload_n 0, 1) := by decide +kernel
theorem dX0_eliminationRounds_1 : decode cX0_eliminationRounds 1 = .ok (.invokevirtual 369, 3) := by decide +kernel
theorem dX0_eliminationRounds_4 : decode cX0_eliminationRounds 4 = .ok (.ireturn, 1) := by decide +kernel
abbrev cX0_eliminate : ByteArray := prog_1_method_49_code
def yX0_eliminate : MethodName := ⟨RX0, "eliminate", "()I"⟩
def dkwX0_eliminate_4 : List UInt8 := [167, 255, 222, 167, 255, 190, 27, 172]
abbrev dktX0_eliminate_4 : List UInt8 := dkwX0_eliminate_4 ++ []
def dkwX0_eliminate_3 : List UInt8 := [21, 4, 3, 3, 182, 1, 106, 16, 251, 159, 0, 11, 4, 61, 42, 21, 4, 182, 1, 110, 132, 4, 1]
abbrev dktX0_eliminate_3 : List UInt8 := dkwX0_eliminate_3 ++ dktX0_eliminate_4
def dkwX0_eliminate_2 : List UInt8 := [180, 0, 96, 182, 0, 233, 62, 3, 61, 3, 54, 4, 21, 4, 29, 162, 0, 34, 42, 42, 180, 0, 96]
abbrev dktX0_eliminate_2 : List UInt8 := dkwX0_eliminate_2 ++ dktX0_eliminate_3
def dkwX0_eliminate_1 : List UInt8 := [167, 255, 238, 2, 60, 4, 61, 28, 153, 0, 68, 132, 1, 1, 42, 42, 180, 0, 96, 182, 0, 229, 42, 42]
abbrev dktX0_eliminate_1 : List UInt8 := dkwX0_eliminate_1 ++ dktX0_eliminate_2
def dkwX0_eliminate_0 : List UInt8 := [42, 182, 0, 240, 3, 60, 27, 42, 180, 0, 219, 162, 0, 16, 42, 180, 0, 59, 27, 4, 84, 132, 1, 1]
abbrev dktX0_eliminate_0 : List UInt8 := dkwX0_eliminate_0 ++ dktX0_eliminate_1
theorem dksX0_eliminate_0 : cX0_eliminate.data.toList.drop 0 = dktX0_eliminate_0 := by decide +kernel
theorem dksX0_eliminate_1 : cX0_eliminate.data.toList.drop 24 = dktX0_eliminate_1 := dk_seg dksX0_eliminate_0 24 rfl rfl
theorem dksX0_eliminate_2 : cX0_eliminate.data.toList.drop 48 = dktX0_eliminate_2 := dk_seg dksX0_eliminate_1 24 rfl rfl
theorem dksX0_eliminate_3 : cX0_eliminate.data.toList.drop 71 = dktX0_eliminate_3 := dk_seg dksX0_eliminate_2 23 rfl rfl
theorem dksX0_eliminate_4 : cX0_eliminate.data.toList.drop 94 = dktX0_eliminate_4 := dk_seg dksX0_eliminate_3 23 rfl rfl
theorem dX0_eliminate_0 : decode cX0_eliminate 0 = .ok (.aload_n 0, 1) := dk_42 (dk_at dksX0_eliminate_0 0 rfl rfl)
theorem dX0_eliminate_1 : decode cX0_eliminate 1 = .ok (.invokevirtual 240, 3) := dk_182 0 240 (dk_at dksX0_eliminate_0 1 rfl rfl)
theorem dX0_eliminate_4 : decode cX0_eliminate 4 = .ok (.iconst 0, 1) := dk_3 (dk_at dksX0_eliminate_0 4 rfl rfl)
theorem dX0_eliminate_5 : decode cX0_eliminate 5 = .ok (.istore_n 1, 1) := dk_60 (dk_at dksX0_eliminate_0 5 rfl rfl)
theorem dX0_eliminate_6 : decode cX0_eliminate 6 = .ok (.iload_n 1, 1) := dk_27 (dk_at dksX0_eliminate_0 6 rfl rfl)
theorem dX0_eliminate_7 : decode cX0_eliminate 7 = .ok (.aload_n 0, 1) := dk_42 (dk_at dksX0_eliminate_0 7 rfl rfl)
theorem dX0_eliminate_8 : decode cX0_eliminate 8 = .ok (.getfield 219, 3) := dk_180 0 219 (dk_at dksX0_eliminate_0 8 rfl rfl)
theorem dX0_eliminate_11 : decode cX0_eliminate 11 = .ok (.if_icmp .ge 16, 3) := dk_162 0 16 (dk_at dksX0_eliminate_0 11 rfl rfl)
theorem dX0_eliminate_14 : decode cX0_eliminate 14 = .ok (.aload_n 0, 1) := dk_42 (dk_at dksX0_eliminate_0 14 rfl rfl)
theorem dX0_eliminate_15 : decode cX0_eliminate 15 = .ok (.getfield 59, 3) := dk_180 0 59 (dk_at dksX0_eliminate_0 15 rfl rfl)
theorem dX0_eliminate_18 : decode cX0_eliminate 18 = .ok (.iload_n 1, 1) := dk_27 (dk_at dksX0_eliminate_0 18 rfl rfl)
theorem dX0_eliminate_19 : decode cX0_eliminate 19 = .ok (.iconst 1, 1) := dk_4 (dk_at dksX0_eliminate_0 19 rfl rfl)
theorem dX0_eliminate_20 : decode cX0_eliminate 20 = .ok (.bastore, 1) := dk_84 (dk_at dksX0_eliminate_0 20 rfl rfl)
theorem dX0_eliminate_21 : decode cX0_eliminate 21 = .ok (.iinc 1 1, 3) := dk_132 1 1 (dk_at dksX0_eliminate_0 21 rfl rfl)
theorem dX0_eliminate_24 : decode cX0_eliminate 24 = .ok (.goto (-18), 3) := dk_167 255 238 (dk_at dksX0_eliminate_1 0 rfl rfl)
theorem dX0_eliminate_27 : decode cX0_eliminate 27 = .ok (.iconst (-1), 1) := dk_2 (dk_at dksX0_eliminate_1 3 rfl rfl)
theorem dX0_eliminate_28 : decode cX0_eliminate 28 = .ok (.istore_n 1, 1) := dk_60 (dk_at dksX0_eliminate_1 4 rfl rfl)
theorem dX0_eliminate_29 : decode cX0_eliminate 29 = .ok (.iconst 1, 1) := dk_4 (dk_at dksX0_eliminate_1 5 rfl rfl)
theorem dX0_eliminate_30 : decode cX0_eliminate 30 = .ok (.istore_n 2, 1) := dk_61 (dk_at dksX0_eliminate_1 6 rfl rfl)
theorem dX0_eliminate_31 : decode cX0_eliminate 31 = .ok (.iload_n 2, 1) := dk_28 (dk_at dksX0_eliminate_1 7 rfl rfl)
theorem dX0_eliminate_32 : decode cX0_eliminate 32 = .ok (.ifCond .eq 68, 3) := dk_153 0 68 (dk_at dksX0_eliminate_1 8 rfl rfl)
theorem dX0_eliminate_35 : decode cX0_eliminate 35 = .ok (.iinc 1 1, 3) := dk_132 1 1 (dk_at dksX0_eliminate_1 11 rfl rfl)
theorem dX0_eliminate_38 : decode cX0_eliminate 38 = .ok (.aload_n 0, 1) := dk_42 (dk_at dksX0_eliminate_1 14 rfl rfl)
theorem dX0_eliminate_39 : decode cX0_eliminate 39 = .ok (.aload_n 0, 1) := dk_42 (dk_at dksX0_eliminate_1 15 rfl rfl)
theorem dX0_eliminate_40 : decode cX0_eliminate 40 = .ok (.getfield 96, 3) := dk_180 0 96 (dk_at dksX0_eliminate_1 16 rfl rfl)
theorem dX0_eliminate_43 : decode cX0_eliminate 43 = .ok (.invokevirtual 229, 3) := dk_182 0 229 (dk_at dksX0_eliminate_1 19 rfl rfl)
theorem dX0_eliminate_46 : decode cX0_eliminate 46 = .ok (.aload_n 0, 1) := dk_42 (dk_at dksX0_eliminate_1 22 rfl rfl)
theorem dX0_eliminate_47 : decode cX0_eliminate 47 = .ok (.aload_n 0, 1) := dk_42 (dk_at dksX0_eliminate_1 23 rfl rfl)
theorem dX0_eliminate_48 : decode cX0_eliminate 48 = .ok (.getfield 96, 3) := dk_180 0 96 (dk_at dksX0_eliminate_2 0 rfl rfl)
theorem dX0_eliminate_51 : decode cX0_eliminate 51 = .ok (.invokevirtual 233, 3) := dk_182 0 233 (dk_at dksX0_eliminate_2 3 rfl rfl)
theorem dX0_eliminate_54 : decode cX0_eliminate 54 = .ok (.istore_n 3, 1) := dk_62 (dk_at dksX0_eliminate_2 6 rfl rfl)
theorem dX0_eliminate_55 : decode cX0_eliminate 55 = .ok (.iconst 0, 1) := dk_3 (dk_at dksX0_eliminate_2 7 rfl rfl)
theorem dX0_eliminate_56 : decode cX0_eliminate 56 = .ok (.istore_n 2, 1) := dk_61 (dk_at dksX0_eliminate_2 8 rfl rfl)
theorem dX0_eliminate_57 : decode cX0_eliminate 57 = .ok (.iconst 0, 1) := dk_3 (dk_at dksX0_eliminate_2 9 rfl rfl)
theorem dX0_eliminate_58 : decode cX0_eliminate 58 = .ok (.istore 4, 2) := dk_54 4 (dk_at dksX0_eliminate_2 10 rfl rfl)
theorem dX0_eliminate_60 : decode cX0_eliminate 60 = .ok (.iload 4, 2) := dk_21 4 (dk_at dksX0_eliminate_2 12 rfl rfl)
theorem dX0_eliminate_62 : decode cX0_eliminate 62 = .ok (.iload_n 3, 1) := dk_29 (dk_at dksX0_eliminate_2 14 rfl rfl)
theorem dX0_eliminate_63 : decode cX0_eliminate 63 = .ok (.if_icmp .ge 34, 3) := dk_162 0 34 (dk_at dksX0_eliminate_2 15 rfl rfl)
theorem dX0_eliminate_66 : decode cX0_eliminate 66 = .ok (.aload_n 0, 1) := dk_42 (dk_at dksX0_eliminate_2 18 rfl rfl)
theorem dX0_eliminate_67 : decode cX0_eliminate 67 = .ok (.aload_n 0, 1) := dk_42 (dk_at dksX0_eliminate_2 19 rfl rfl)
theorem dX0_eliminate_68 : decode cX0_eliminate 68 = .ok (.getfield 96, 3) := dk_180 0 96 (dk_at dksX0_eliminate_2 20 rfl rfl)
theorem dX0_eliminate_71 : decode cX0_eliminate 71 = .ok (.iload 4, 2) := dk_21 4 (dk_at dksX0_eliminate_3 0 rfl rfl)
theorem dX0_eliminate_73 : decode cX0_eliminate 73 = .ok (.iconst 0, 1) := dk_3 (dk_at dksX0_eliminate_3 2 rfl rfl)
theorem dX0_eliminate_74 : decode cX0_eliminate 74 = .ok (.iconst 0, 1) := dk_3 (dk_at dksX0_eliminate_3 3 rfl rfl)
theorem dX0_eliminate_75 : decode cX0_eliminate 75 = .ok (.invokevirtual 362, 3) := dk_182 1 106 (dk_at dksX0_eliminate_3 4 rfl rfl)
theorem dX0_eliminate_78 : decode cX0_eliminate 78 = .ok (.bipush (-5), 2) := dk_16 251 (dk_at dksX0_eliminate_3 7 rfl rfl)
theorem dX0_eliminate_80 : decode cX0_eliminate 80 = .ok (.if_icmp .eq 11, 3) := dk_159 0 11 (dk_at dksX0_eliminate_3 9 rfl rfl)
theorem dX0_eliminate_83 : decode cX0_eliminate 83 = .ok (.iconst 1, 1) := dk_4 (dk_at dksX0_eliminate_3 12 rfl rfl)
theorem dX0_eliminate_84 : decode cX0_eliminate 84 = .ok (.istore_n 2, 1) := dk_61 (dk_at dksX0_eliminate_3 13 rfl rfl)
theorem dX0_eliminate_85 : decode cX0_eliminate 85 = .ok (.aload_n 0, 1) := dk_42 (dk_at dksX0_eliminate_3 14 rfl rfl)
theorem dX0_eliminate_86 : decode cX0_eliminate 86 = .ok (.iload 4, 2) := dk_21 4 (dk_at dksX0_eliminate_3 15 rfl rfl)
theorem dX0_eliminate_88 : decode cX0_eliminate 88 = .ok (.invokevirtual 366, 3) := dk_182 1 110 (dk_at dksX0_eliminate_3 17 rfl rfl)
theorem dX0_eliminate_91 : decode cX0_eliminate 91 = .ok (.iinc 4 1, 3) := dk_132 4 1 (dk_at dksX0_eliminate_3 20 rfl rfl)
theorem dX0_eliminate_94 : decode cX0_eliminate 94 = .ok (.goto (-34), 3) := dk_167 255 222 (dk_at dksX0_eliminate_4 0 rfl rfl)
theorem dX0_eliminate_97 : decode cX0_eliminate 97 = .ok (.goto (-66), 3) := dk_167 255 190 (dk_at dksX0_eliminate_4 3 rfl rfl)
theorem dX0_eliminate_100 : decode cX0_eliminate 100 = .ok (.iload_n 1, 1) := dk_27 (dk_at dksX0_eliminate_4 6 rfl rfl)
theorem dX0_eliminate_101 : decode cX0_eliminate 101 = .ok (.ireturn, 1) := dk_172 (dk_at dksX0_eliminate_4 7 rfl rfl)
abbrev cX0_removeDecreasing : ByteArray := prog_1_method_50_code
def yX0_removeDecreasing : MethodName := ⟨RX0, "removeDecreasing", "(I)V"⟩
def dkwX0_removeDecreasing_2 : List UInt8 := [132, 2, 1, 167, 255, 207, 177]
abbrev dktX0_removeDecreasing_2 : List UInt8 := dkwX0_removeDecreasing_2 ++ []
def dkwX0_removeDecreasing_1 : List UInt8 := [160, 0, 17, 42, 42, 180, 0, 47, 28, 50, 182, 1, 95, 5, 159, 0, 7, 4, 167, 0, 4, 3, 126, 84]
abbrev dktX0_removeDecreasing_1 : List UInt8 := dkwX0_removeDecreasing_1 ++ dktX0_removeDecreasing_2
def dkwX0_removeDecreasing_0 : List UInt8 := [3, 61, 28, 42, 180, 0, 219, 162, 0, 47, 42, 180, 0, 59, 28, 92, 51, 42, 180, 0, 96, 28, 46, 27]
abbrev dktX0_removeDecreasing_0 : List UInt8 := dkwX0_removeDecreasing_0 ++ dktX0_removeDecreasing_1
theorem dksX0_removeDecreasing_0 : cX0_removeDecreasing.data.toList.drop 0 = dktX0_removeDecreasing_0 := by decide +kernel
theorem dksX0_removeDecreasing_1 : cX0_removeDecreasing.data.toList.drop 24 = dktX0_removeDecreasing_1 := dk_seg dksX0_removeDecreasing_0 24 rfl rfl
theorem dksX0_removeDecreasing_2 : cX0_removeDecreasing.data.toList.drop 48 = dktX0_removeDecreasing_2 := dk_seg dksX0_removeDecreasing_1 24 rfl rfl
theorem dX0_removeDecreasing_0 : decode cX0_removeDecreasing 0 = .ok (.iconst 0, 1) := dk_3 (dk_at dksX0_removeDecreasing_0 0 rfl rfl)
theorem dX0_removeDecreasing_1 : decode cX0_removeDecreasing 1 = .ok (.istore_n 2, 1) := dk_61 (dk_at dksX0_removeDecreasing_0 1 rfl rfl)
theorem dX0_removeDecreasing_2 : decode cX0_removeDecreasing 2 = .ok (.iload_n 2, 1) := dk_28 (dk_at dksX0_removeDecreasing_0 2 rfl rfl)
theorem dX0_removeDecreasing_3 : decode cX0_removeDecreasing 3 = .ok (.aload_n 0, 1) := dk_42 (dk_at dksX0_removeDecreasing_0 3 rfl rfl)
theorem dX0_removeDecreasing_4 : decode cX0_removeDecreasing 4 = .ok (.getfield 219, 3) := dk_180 0 219 (dk_at dksX0_removeDecreasing_0 4 rfl rfl)
theorem dX0_removeDecreasing_7 : decode cX0_removeDecreasing 7 = .ok (.if_icmp .ge 47, 3) := dk_162 0 47 (dk_at dksX0_removeDecreasing_0 7 rfl rfl)
theorem dX0_removeDecreasing_10 : decode cX0_removeDecreasing 10 = .ok (.aload_n 0, 1) := dk_42 (dk_at dksX0_removeDecreasing_0 10 rfl rfl)
theorem dX0_removeDecreasing_11 : decode cX0_removeDecreasing 11 = .ok (.getfield 59, 3) := dk_180 0 59 (dk_at dksX0_removeDecreasing_0 11 rfl rfl)
theorem dX0_removeDecreasing_14 : decode cX0_removeDecreasing 14 = .ok (.iload_n 2, 1) := dk_28 (dk_at dksX0_removeDecreasing_0 14 rfl rfl)
theorem dX0_removeDecreasing_15 : decode cX0_removeDecreasing 15 = .ok (.dup2, 1) := dk_92 (dk_at dksX0_removeDecreasing_0 15 rfl rfl)
theorem dX0_removeDecreasing_16 : decode cX0_removeDecreasing 16 = .ok (.baload, 1) := dk_51 (dk_at dksX0_removeDecreasing_0 16 rfl rfl)
theorem dX0_removeDecreasing_17 : decode cX0_removeDecreasing 17 = .ok (.aload_n 0, 1) := dk_42 (dk_at dksX0_removeDecreasing_0 17 rfl rfl)
theorem dX0_removeDecreasing_18 : decode cX0_removeDecreasing 18 = .ok (.getfield 96, 3) := dk_180 0 96 (dk_at dksX0_removeDecreasing_0 18 rfl rfl)
theorem dX0_removeDecreasing_21 : decode cX0_removeDecreasing 21 = .ok (.iload_n 2, 1) := dk_28 (dk_at dksX0_removeDecreasing_0 21 rfl rfl)
theorem dX0_removeDecreasing_22 : decode cX0_removeDecreasing 22 = .ok (.iaload, 1) := dk_46 (dk_at dksX0_removeDecreasing_0 22 rfl rfl)
theorem dX0_removeDecreasing_23 : decode cX0_removeDecreasing 23 = .ok (.iload_n 1, 1) := dk_27 (dk_at dksX0_removeDecreasing_0 23 rfl rfl)
theorem dX0_removeDecreasing_24 : decode cX0_removeDecreasing 24 = .ok (.if_icmp .ne 17, 3) := dk_160 0 17 (dk_at dksX0_removeDecreasing_1 0 rfl rfl)
theorem dX0_removeDecreasing_27 : decode cX0_removeDecreasing 27 = .ok (.aload_n 0, 1) := dk_42 (dk_at dksX0_removeDecreasing_1 3 rfl rfl)
theorem dX0_removeDecreasing_28 : decode cX0_removeDecreasing 28 = .ok (.aload_n 0, 1) := dk_42 (dk_at dksX0_removeDecreasing_1 4 rfl rfl)
theorem dX0_removeDecreasing_29 : decode cX0_removeDecreasing 29 = .ok (.getfield 47, 3) := dk_180 0 47 (dk_at dksX0_removeDecreasing_1 5 rfl rfl)
theorem dX0_removeDecreasing_32 : decode cX0_removeDecreasing 32 = .ok (.iload_n 2, 1) := dk_28 (dk_at dksX0_removeDecreasing_1 8 rfl rfl)
theorem dX0_removeDecreasing_33 : decode cX0_removeDecreasing 33 = .ok (.aaload, 1) := dk_50 (dk_at dksX0_removeDecreasing_1 9 rfl rfl)
theorem dX0_removeDecreasing_34 : decode cX0_removeDecreasing 34 = .ok (.invokevirtual 351, 3) := dk_182 1 95 (dk_at dksX0_removeDecreasing_1 10 rfl rfl)
theorem dX0_removeDecreasing_37 : decode cX0_removeDecreasing 37 = .ok (.iconst 2, 1) := dk_5 (dk_at dksX0_removeDecreasing_1 13 rfl rfl)
theorem dX0_removeDecreasing_38 : decode cX0_removeDecreasing 38 = .ok (.if_icmp .eq 7, 3) := dk_159 0 7 (dk_at dksX0_removeDecreasing_1 14 rfl rfl)
theorem dX0_removeDecreasing_41 : decode cX0_removeDecreasing 41 = .ok (.iconst 1, 1) := dk_4 (dk_at dksX0_removeDecreasing_1 17 rfl rfl)
theorem dX0_removeDecreasing_42 : decode cX0_removeDecreasing 42 = .ok (.goto 4, 3) := dk_167 0 4 (dk_at dksX0_removeDecreasing_1 18 rfl rfl)
theorem dX0_removeDecreasing_45 : decode cX0_removeDecreasing 45 = .ok (.iconst 0, 1) := dk_3 (dk_at dksX0_removeDecreasing_1 21 rfl rfl)
theorem dX0_removeDecreasing_46 : decode cX0_removeDecreasing 46 = .ok (.iand, 1) := dk_126 (dk_at dksX0_removeDecreasing_1 22 rfl rfl)
theorem dX0_removeDecreasing_47 : decode cX0_removeDecreasing 47 = .ok (.bastore, 1) := dk_84 (dk_at dksX0_removeDecreasing_1 23 rfl rfl)
theorem dX0_removeDecreasing_48 : decode cX0_removeDecreasing 48 = .ok (.iinc 2 1, 3) := dk_132 2 1 (dk_at dksX0_removeDecreasing_2 0 rfl rfl)
theorem dX0_removeDecreasing_51 : decode cX0_removeDecreasing 51 = .ok (.goto (-49), 3) := dk_167 255 207 (dk_at dksX0_removeDecreasing_2 3 rfl rfl)
theorem dX0_removeDecreasing_54 : decode cX0_removeDecreasing 54 = .ok (.return_, 1) := dk_177 (dk_at dksX0_removeDecreasing_2 6 rfl rfl)
abbrev cX0_remainingPairCount : ByteArray := prog_1_method_52_code
def yX0_remainingPairCount : MethodName := ⟨RX0, "remainingPairCount", "()I"⟩
def dkwX0_remainingPairCount_1 : List UInt8 := [16, 251, 159, 0, 7, 4, 167, 0, 4, 3, 184, 0, 252, 96, 60, 132, 2, 1, 167, 255, 223, 27, 172]
abbrev dktX0_remainingPairCount_1 : List UInt8 := dkwX0_remainingPairCount_1 ++ []
def dkwX0_remainingPairCount_0 : List UInt8 := [42, 182, 1, 113, 87, 3, 60, 3, 61, 28, 42, 180, 0, 219, 162, 0, 31, 27, 42, 180, 0, 96, 28, 46]
abbrev dktX0_remainingPairCount_0 : List UInt8 := dkwX0_remainingPairCount_0 ++ dktX0_remainingPairCount_1
theorem dksX0_remainingPairCount_0 : cX0_remainingPairCount.data.toList.drop 0 = dktX0_remainingPairCount_0 := by decide +kernel
theorem dksX0_remainingPairCount_1 : cX0_remainingPairCount.data.toList.drop 24 = dktX0_remainingPairCount_1 := dk_seg dksX0_remainingPairCount_0 24 rfl rfl
theorem dX0_remainingPairCount_0 : decode cX0_remainingPairCount 0 = .ok (.aload_n 0, 1) := dk_42 (dk_at dksX0_remainingPairCount_0 0 rfl rfl)
theorem dX0_remainingPairCount_1 : decode cX0_remainingPairCount 1 = .ok (.invokevirtual 369, 3) := dk_182 1 113 (dk_at dksX0_remainingPairCount_0 1 rfl rfl)
theorem dX0_remainingPairCount_4 : decode cX0_remainingPairCount 4 = .ok (.pop, 1) := dk_87 (dk_at dksX0_remainingPairCount_0 4 rfl rfl)
theorem dX0_remainingPairCount_5 : decode cX0_remainingPairCount 5 = .ok (.iconst 0, 1) := dk_3 (dk_at dksX0_remainingPairCount_0 5 rfl rfl)
theorem dX0_remainingPairCount_6 : decode cX0_remainingPairCount 6 = .ok (.istore_n 1, 1) := dk_60 (dk_at dksX0_remainingPairCount_0 6 rfl rfl)
theorem dX0_remainingPairCount_7 : decode cX0_remainingPairCount 7 = .ok (.iconst 0, 1) := dk_3 (dk_at dksX0_remainingPairCount_0 7 rfl rfl)
theorem dX0_remainingPairCount_8 : decode cX0_remainingPairCount 8 = .ok (.istore_n 2, 1) := dk_61 (dk_at dksX0_remainingPairCount_0 8 rfl rfl)
theorem dX0_remainingPairCount_9 : decode cX0_remainingPairCount 9 = .ok (.iload_n 2, 1) := dk_28 (dk_at dksX0_remainingPairCount_0 9 rfl rfl)
theorem dX0_remainingPairCount_10 : decode cX0_remainingPairCount 10 = .ok (.aload_n 0, 1) := dk_42 (dk_at dksX0_remainingPairCount_0 10 rfl rfl)
theorem dX0_remainingPairCount_11 : decode cX0_remainingPairCount 11 = .ok (.getfield 219, 3) := dk_180 0 219 (dk_at dksX0_remainingPairCount_0 11 rfl rfl)
theorem dX0_remainingPairCount_14 : decode cX0_remainingPairCount 14 = .ok (.if_icmp .ge 31, 3) := dk_162 0 31 (dk_at dksX0_remainingPairCount_0 14 rfl rfl)
theorem dX0_remainingPairCount_17 : decode cX0_remainingPairCount 17 = .ok (.iload_n 1, 1) := dk_27 (dk_at dksX0_remainingPairCount_0 17 rfl rfl)
theorem dX0_remainingPairCount_18 : decode cX0_remainingPairCount 18 = .ok (.aload_n 0, 1) := dk_42 (dk_at dksX0_remainingPairCount_0 18 rfl rfl)
theorem dX0_remainingPairCount_19 : decode cX0_remainingPairCount 19 = .ok (.getfield 96, 3) := dk_180 0 96 (dk_at dksX0_remainingPairCount_0 19 rfl rfl)
theorem dX0_remainingPairCount_22 : decode cX0_remainingPairCount 22 = .ok (.iload_n 2, 1) := dk_28 (dk_at dksX0_remainingPairCount_0 22 rfl rfl)
theorem dX0_remainingPairCount_23 : decode cX0_remainingPairCount 23 = .ok (.iaload, 1) := dk_46 (dk_at dksX0_remainingPairCount_0 23 rfl rfl)
theorem dX0_remainingPairCount_24 : decode cX0_remainingPairCount 24 = .ok (.bipush (-5), 2) := dk_16 251 (dk_at dksX0_remainingPairCount_1 0 rfl rfl)
theorem dX0_remainingPairCount_26 : decode cX0_remainingPairCount 26 = .ok (.if_icmp .eq 7, 3) := dk_159 0 7 (dk_at dksX0_remainingPairCount_1 2 rfl rfl)
theorem dX0_remainingPairCount_29 : decode cX0_remainingPairCount 29 = .ok (.iconst 1, 1) := dk_4 (dk_at dksX0_remainingPairCount_1 5 rfl rfl)
theorem dX0_remainingPairCount_30 : decode cX0_remainingPairCount 30 = .ok (.goto 4, 3) := dk_167 0 4 (dk_at dksX0_remainingPairCount_1 6 rfl rfl)
theorem dX0_remainingPairCount_33 : decode cX0_remainingPairCount 33 = .ok (.iconst 0, 1) := dk_3 (dk_at dksX0_remainingPairCount_1 9 rfl rfl)
theorem dX0_remainingPairCount_34 : decode cX0_remainingPairCount 34 = .ok (.invokestatic 252, 3) := dk_184 0 252 (dk_at dksX0_remainingPairCount_1 10 rfl rfl)
theorem dX0_remainingPairCount_37 : decode cX0_remainingPairCount 37 = .ok (.iadd, 1) := dk_96 (dk_at dksX0_remainingPairCount_1 13 rfl rfl)
theorem dX0_remainingPairCount_38 : decode cX0_remainingPairCount 38 = .ok (.istore_n 1, 1) := dk_60 (dk_at dksX0_remainingPairCount_1 14 rfl rfl)
theorem dX0_remainingPairCount_39 : decode cX0_remainingPairCount 39 = .ok (.iinc 2 1, 3) := dk_132 2 1 (dk_at dksX0_remainingPairCount_1 15 rfl rfl)
theorem dX0_remainingPairCount_42 : decode cX0_remainingPairCount 42 = .ok (.goto (-33), 3) := dk_167 255 223 (dk_at dksX0_remainingPairCount_1 18 rfl rfl)
theorem dX0_remainingPairCount_45 : decode cX0_remainingPairCount 45 = .ok (.iload_n 1, 1) := dk_27 (dk_at dksX0_remainingPairCount_1 21 rfl rfl)
theorem dX0_remainingPairCount_46 : decode cX0_remainingPairCount 46 = .ok (.ireturn, 1) := dk_172 (dk_at dksX0_remainingPairCount_1 22 rfl rfl)
abbrev cX0_remainingComponentCount : ByteArray := prog_1_method_53_code
def yX0_remainingComponentCount : MethodName := ⟨RX0, "remainingComponentCount", "()I"⟩
def dkwX0_remainingComponentCount_0 : List UInt8 := [42, 182, 1, 113, 87, 42, 42, 180, 0, 96, 182, 0, 233, 172]
abbrev dktX0_remainingComponentCount_0 : List UInt8 := dkwX0_remainingComponentCount_0 ++ []
theorem dksX0_remainingComponentCount_0 : cX0_remainingComponentCount.data.toList.drop 0 = dktX0_remainingComponentCount_0 := by decide +kernel
theorem dX0_remainingComponentCount_0 : decode cX0_remainingComponentCount 0 = .ok (.aload_n 0, 1) := dk_42 (dk_at dksX0_remainingComponentCount_0 0 rfl rfl)
theorem dX0_remainingComponentCount_1 : decode cX0_remainingComponentCount 1 = .ok (.invokevirtual 369, 3) := dk_182 1 113 (dk_at dksX0_remainingComponentCount_0 1 rfl rfl)
theorem dX0_remainingComponentCount_4 : decode cX0_remainingComponentCount 4 = .ok (.pop, 1) := dk_87 (dk_at dksX0_remainingComponentCount_0 4 rfl rfl)
theorem dX0_remainingComponentCount_5 : decode cX0_remainingComponentCount 5 = .ok (.aload_n 0, 1) := dk_42 (dk_at dksX0_remainingComponentCount_0 5 rfl rfl)
theorem dX0_remainingComponentCount_6 : decode cX0_remainingComponentCount 6 = .ok (.aload_n 0, 1) := dk_42 (dk_at dksX0_remainingComponentCount_0 6 rfl rfl)
theorem dX0_remainingComponentCount_7 : decode cX0_remainingComponentCount 7 = .ok (.getfield 96, 3) := dk_180 0 96 (dk_at dksX0_remainingComponentCount_0 7 rfl rfl)
theorem dX0_remainingComponentCount_10 : decode cX0_remainingComponentCount 10 = .ok (.invokevirtual 233, 3) := dk_182 0 233 (dk_at dksX0_remainingComponentCount_0 10 rfl rfl)
theorem dX0_remainingComponentCount_13 : decode cX0_remainingComponentCount 13 = .ok (.ireturn, 1) := dk_172 (dk_at dksX0_remainingComponentCount_0 13 rfl rfl)
abbrev cX0_terminatesBySubtermCriterion : ByteArray := prog_1_method_54_code
def yX0_terminatesBySubtermCriterion : MethodName := ⟨RX0, "terminatesBySubtermCriterion", "()I"⟩
def dkwX0_terminatesBySubtermCriterion_0 : List UInt8 := [42, 182, 1, 116, 154, 0, 7, 4, 167, 0, 4, 3, 184, 0, 252, 172]
abbrev dktX0_terminatesBySubtermCriterion_0 : List UInt8 := dkwX0_terminatesBySubtermCriterion_0 ++ []
theorem dksX0_terminatesBySubtermCriterion_0 : cX0_terminatesBySubtermCriterion.data.toList.drop 0 = dktX0_terminatesBySubtermCriterion_0 := by decide +kernel
theorem dX0_terminatesBySubtermCriterion_0 : decode cX0_terminatesBySubtermCriterion 0 = .ok (.aload_n 0, 1) := dk_42 (dk_at dksX0_terminatesBySubtermCriterion_0 0 rfl rfl)
theorem dX0_terminatesBySubtermCriterion_1 : decode cX0_terminatesBySubtermCriterion 1 = .ok (.invokevirtual 372, 3) := dk_182 1 116 (dk_at dksX0_terminatesBySubtermCriterion_0 1 rfl rfl)
theorem dX0_terminatesBySubtermCriterion_4 : decode cX0_terminatesBySubtermCriterion 4 = .ok (.ifCond .ne 7, 3) := dk_154 0 7 (dk_at dksX0_terminatesBySubtermCriterion_0 4 rfl rfl)
theorem dX0_terminatesBySubtermCriterion_7 : decode cX0_terminatesBySubtermCriterion 7 = .ok (.iconst 1, 1) := dk_4 (dk_at dksX0_terminatesBySubtermCriterion_0 7 rfl rfl)
theorem dX0_terminatesBySubtermCriterion_8 : decode cX0_terminatesBySubtermCriterion 8 = .ok (.goto 4, 3) := dk_167 0 4 (dk_at dksX0_terminatesBySubtermCriterion_0 8 rfl rfl)
theorem dX0_terminatesBySubtermCriterion_11 : decode cX0_terminatesBySubtermCriterion 11 = .ok (.iconst 0, 1) := dk_3 (dk_at dksX0_terminatesBySubtermCriterion_0 11 rfl rfl)
theorem dX0_terminatesBySubtermCriterion_12 : decode cX0_terminatesBySubtermCriterion 12 = .ok (.invokestatic 252, 3) := dk_184 0 252 (dk_at dksX0_terminatesBySubtermCriterion_0 12 rfl rfl)
theorem dX0_terminatesBySubtermCriterion_15 : decode cX0_terminatesBySubtermCriterion 15 = .ok (.ireturn, 1) := dk_172 (dk_at dksX0_terminatesBySubtermCriterion_0 15 rfl rfl)
abbrev cX0_parseTerm : ByteArray := prog_1_method_64_code
def yX0_parseTerm : MethodName := ⟨RX0, "parseTerm", "(I)I"⟩
def dkwX0_parseTerm_3 : List UInt8 := [191]
abbrev dktX0_parseTerm_3 : List UInt8 := dkwX0_parseTerm_3 ++ []
def dkwX0_parseTerm_2 : List UInt8 := [16, 156, 44, 180, 0, 189, 100, 62, 42, 3, 181, 0, 154, 29, 172, 58, 4, 42, 3, 181, 0, 154, 25, 4]
abbrev dktX0_parseTerm_2 : List UInt8 := dkwX0_parseTerm_2 ++ dktX0_parseTerm_3
def dkwX0_parseTerm_1 : List UInt8 := [164, 0, 8, 16, 250, 167, 0, 9, 42, 44, 27, 182, 1, 158, 62, 42, 3, 181, 0, 154, 29, 172, 77]
abbrev dktX0_parseTerm_1 : List UInt8 := dkwX0_parseTerm_1 ++ dktX0_parseTerm_2
def dkwX0_parseTerm_0 : List UInt8 := [27, 184, 1, 152, 154, 0, 5, 2, 172, 42, 180, 0, 37, 182, 1, 155, 77, 44, 182, 0, 165, 16, 40]
abbrev dktX0_parseTerm_0 : List UInt8 := dkwX0_parseTerm_0 ++ dktX0_parseTerm_1
theorem dksX0_parseTerm_0 : cX0_parseTerm.data.toList.drop 0 = dktX0_parseTerm_0 := by decide +kernel
theorem dksX0_parseTerm_1 : cX0_parseTerm.data.toList.drop 23 = dktX0_parseTerm_1 := dk_seg dksX0_parseTerm_0 23 rfl rfl
theorem dksX0_parseTerm_2 : cX0_parseTerm.data.toList.drop 46 = dktX0_parseTerm_2 := dk_seg dksX0_parseTerm_1 23 rfl rfl
theorem dksX0_parseTerm_3 : cX0_parseTerm.data.toList.drop 70 = dktX0_parseTerm_3 := dk_seg dksX0_parseTerm_2 24 rfl rfl
theorem dX0_parseTerm_0 : decode cX0_parseTerm 0 = .ok (.iload_n 1, 1) := dk_27 (dk_at dksX0_parseTerm_0 0 rfl rfl)
theorem dX0_parseTerm_1 : decode cX0_parseTerm 1 = .ok (.invokestatic 408, 3) := dk_184 1 152 (dk_at dksX0_parseTerm_0 1 rfl rfl)
theorem dX0_parseTerm_4 : decode cX0_parseTerm 4 = .ok (.ifCond .ne 5, 3) := dk_154 0 5 (dk_at dksX0_parseTerm_0 4 rfl rfl)
theorem dX0_parseTerm_7 : decode cX0_parseTerm 7 = .ok (.iconst (-1), 1) := dk_2 (dk_at dksX0_parseTerm_0 7 rfl rfl)
theorem dX0_parseTerm_8 : decode cX0_parseTerm 8 = .ok (.ireturn, 1) := dk_172 (dk_at dksX0_parseTerm_0 8 rfl rfl)
theorem dX0_parseTerm_9 : decode cX0_parseTerm 9 = .ok (.aload_n 0, 1) := dk_42 (dk_at dksX0_parseTerm_0 9 rfl rfl)
theorem dX0_parseTerm_10 : decode cX0_parseTerm 10 = .ok (.getfield 37, 3) := dk_180 0 37 (dk_at dksX0_parseTerm_0 10 rfl rfl)
theorem dX0_parseTerm_13 : decode cX0_parseTerm 13 = .ok (.invokevirtual 411, 3) := dk_182 1 155 (dk_at dksX0_parseTerm_0 13 rfl rfl)
theorem dX0_parseTerm_16 : decode cX0_parseTerm 16 = .ok (.astore_n 2, 1) := dk_77 (dk_at dksX0_parseTerm_0 16 rfl rfl)
theorem dX0_parseTerm_17 : decode cX0_parseTerm 17 = .ok (.aload_n 2, 1) := dk_44 (dk_at dksX0_parseTerm_0 17 rfl rfl)
theorem dX0_parseTerm_18 : decode cX0_parseTerm 18 = .ok (.invokevirtual 165, 3) := dk_182 0 165 (dk_at dksX0_parseTerm_0 18 rfl rfl)
theorem dX0_parseTerm_21 : decode cX0_parseTerm 21 = .ok (.bipush 40, 2) := dk_16 40 (dk_at dksX0_parseTerm_0 21 rfl rfl)
theorem dX0_parseTerm_23 : decode cX0_parseTerm 23 = .ok (.if_icmp .le 8, 3) := dk_164 0 8 (dk_at dksX0_parseTerm_1 0 rfl rfl)
theorem dX0_parseTerm_26 : decode cX0_parseTerm 26 = .ok (.bipush (-6), 2) := dk_16 250 (dk_at dksX0_parseTerm_1 3 rfl rfl)
theorem dX0_parseTerm_28 : decode cX0_parseTerm 28 = .ok (.goto 9, 3) := dk_167 0 9 (dk_at dksX0_parseTerm_1 5 rfl rfl)
theorem dX0_parseTerm_31 : decode cX0_parseTerm 31 = .ok (.aload_n 0, 1) := dk_42 (dk_at dksX0_parseTerm_1 8 rfl rfl)
theorem dX0_parseTerm_32 : decode cX0_parseTerm 32 = .ok (.aload_n 2, 1) := dk_44 (dk_at dksX0_parseTerm_1 9 rfl rfl)
theorem dX0_parseTerm_33 : decode cX0_parseTerm 33 = .ok (.iload_n 1, 1) := dk_27 (dk_at dksX0_parseTerm_1 10 rfl rfl)
theorem dX0_parseTerm_34 : decode cX0_parseTerm 34 = .ok (.invokevirtual 414, 3) := dk_182 1 158 (dk_at dksX0_parseTerm_1 11 rfl rfl)
theorem dX0_parseTerm_37 : decode cX0_parseTerm 37 = .ok (.istore_n 3, 1) := dk_62 (dk_at dksX0_parseTerm_1 14 rfl rfl)
theorem dX0_parseTerm_38 : decode cX0_parseTerm 38 = .ok (.aload_n 0, 1) := dk_42 (dk_at dksX0_parseTerm_1 15 rfl rfl)
theorem dX0_parseTerm_39 : decode cX0_parseTerm 39 = .ok (.iconst 0, 1) := dk_3 (dk_at dksX0_parseTerm_1 16 rfl rfl)
theorem dX0_parseTerm_40 : decode cX0_parseTerm 40 = .ok (.putfield 154, 3) := dk_181 0 154 (dk_at dksX0_parseTerm_1 17 rfl rfl)
theorem dX0_parseTerm_43 : decode cX0_parseTerm 43 = .ok (.iload_n 3, 1) := dk_29 (dk_at dksX0_parseTerm_1 20 rfl rfl)
theorem dX0_parseTerm_44 : decode cX0_parseTerm 44 = .ok (.ireturn, 1) := dk_172 (dk_at dksX0_parseTerm_1 21 rfl rfl)
theorem dX0_parseTerm_45 : decode cX0_parseTerm 45 = .ok (.astore_n 2, 1) := dk_77 (dk_at dksX0_parseTerm_1 22 rfl rfl)
theorem dX0_parseTerm_46 : decode cX0_parseTerm 46 = .ok (.bipush (-100), 2) := dk_16 156 (dk_at dksX0_parseTerm_2 0 rfl rfl)
theorem dX0_parseTerm_48 : decode cX0_parseTerm 48 = .ok (.aload_n 2, 1) := dk_44 (dk_at dksX0_parseTerm_2 2 rfl rfl)
theorem dX0_parseTerm_49 : decode cX0_parseTerm 49 = .ok (.getfield 189, 3) := dk_180 0 189 (dk_at dksX0_parseTerm_2 3 rfl rfl)
theorem dX0_parseTerm_52 : decode cX0_parseTerm 52 = .ok (.isub, 1) := dk_100 (dk_at dksX0_parseTerm_2 6 rfl rfl)
theorem dX0_parseTerm_53 : decode cX0_parseTerm 53 = .ok (.istore_n 3, 1) := dk_62 (dk_at dksX0_parseTerm_2 7 rfl rfl)
theorem dX0_parseTerm_54 : decode cX0_parseTerm 54 = .ok (.aload_n 0, 1) := dk_42 (dk_at dksX0_parseTerm_2 8 rfl rfl)
theorem dX0_parseTerm_55 : decode cX0_parseTerm 55 = .ok (.iconst 0, 1) := dk_3 (dk_at dksX0_parseTerm_2 9 rfl rfl)
theorem dX0_parseTerm_56 : decode cX0_parseTerm 56 = .ok (.putfield 154, 3) := dk_181 0 154 (dk_at dksX0_parseTerm_2 10 rfl rfl)
theorem dX0_parseTerm_59 : decode cX0_parseTerm 59 = .ok (.iload_n 3, 1) := dk_29 (dk_at dksX0_parseTerm_2 13 rfl rfl)
theorem dX0_parseTerm_60 : decode cX0_parseTerm 60 = .ok (.ireturn, 1) := dk_172 (dk_at dksX0_parseTerm_2 14 rfl rfl)
theorem dX0_parseTerm_61 : decode cX0_parseTerm 61 = .ok (.astore 4, 2) := dk_58 4 (dk_at dksX0_parseTerm_2 15 rfl rfl)
theorem dX0_parseTerm_63 : decode cX0_parseTerm 63 = .ok (.aload_n 0, 1) := dk_42 (dk_at dksX0_parseTerm_2 17 rfl rfl)
theorem dX0_parseTerm_64 : decode cX0_parseTerm 64 = .ok (.iconst 0, 1) := dk_3 (dk_at dksX0_parseTerm_2 18 rfl rfl)
theorem dX0_parseTerm_65 : decode cX0_parseTerm 65 = .ok (.putfield 154, 3) := dk_181 0 154 (dk_at dksX0_parseTerm_2 19 rfl rfl)
theorem dX0_parseTerm_68 : decode cX0_parseTerm 68 = .ok (.aload 4, 2) := dk_25 4 (dk_at dksX0_parseTerm_2 22 rfl rfl)
theorem dX0_parseTerm_70 : decode cX0_parseTerm 70 = .ok (.athrow, 1) := dk_191 (dk_at dksX0_parseTerm_3 0 rfl rfl)
abbrev cX0_isRegister : ByteArray := prog_1_method_8_code
def yX0_isRegister : MethodName := ⟨RX0, "isRegister", "(I)Z"⟩
def dkwX0_isRegister_0 : List UInt8 := [26, 133, 9, 20, 0, 141, 184, 0, 134, 172]
abbrev dktX0_isRegister_0 : List UInt8 := dkwX0_isRegister_0 ++ []
theorem dksX0_isRegister_0 : cX0_isRegister.data.toList.drop 0 = dktX0_isRegister_0 := by decide +kernel
theorem dX0_isRegister_0 : decode cX0_isRegister 0 = .ok (.iload_n 0, 1) := dk_26 (dk_at dksX0_isRegister_0 0 rfl rfl)
theorem dX0_isRegister_1 : decode cX0_isRegister 1 = .ok (.i2l, 1) := dk_133 (dk_at dksX0_isRegister_0 1 rfl rfl)
theorem dX0_isRegister_2 : decode cX0_isRegister 2 = .ok (.lconst 0, 1) := dk_9 (dk_at dksX0_isRegister_0 2 rfl rfl)
theorem dX0_isRegister_3 : decode cX0_isRegister 3 = .ok (.ldc2_w 141, 3) := dk_20 0 141 (dk_at dksX0_isRegister_0 3 rfl rfl)
theorem dX0_isRegister_6 : decode cX0_isRegister 6 = .ok (.invokestatic 134, 3) := dk_184 0 134 (dk_at dksX0_isRegister_0 6 rfl rfl)
theorem dX0_isRegister_9 : decode cX0_isRegister 9 = .ok (.ireturn, 1) := dk_172 (dk_at dksX0_isRegister_0 9 rfl rfl)
abbrev cX0_store : ByteArray := prog_1_method_70_code
def yX0_store : MethodName := ⟨RX0, "store", "(LDependencyPairAnalyzer$Term;I)I"⟩
def dkwX0_store_0 : List UInt8 := [42, 180, 0, 21, 28, 43, 83, 43, 182, 0, 165, 172]
abbrev dktX0_store_0 : List UInt8 := dkwX0_store_0 ++ []
theorem dksX0_store_0 : cX0_store.data.toList.drop 0 = dktX0_store_0 := by decide +kernel
theorem dX0_store_0 : decode cX0_store 0 = .ok (.aload_n 0, 1) := dk_42 (dk_at dksX0_store_0 0 rfl rfl)
theorem dX0_store_1 : decode cX0_store 1 = .ok (.getfield 21, 3) := dk_180 0 21 (dk_at dksX0_store_0 1 rfl rfl)
theorem dX0_store_4 : decode cX0_store 4 = .ok (.iload_n 2, 1) := dk_28 (dk_at dksX0_store_0 4 rfl rfl)
theorem dX0_store_5 : decode cX0_store 5 = .ok (.aload_n 1, 1) := dk_43 (dk_at dksX0_store_0 5 rfl rfl)
theorem dX0_store_6 : decode cX0_store 6 = .ok (.aastore, 1) := dk_83 (dk_at dksX0_store_0 6 rfl rfl)
theorem dX0_store_7 : decode cX0_store 7 = .ok (.aload_n 1, 1) := dk_43 (dk_at dksX0_store_0 7 rfl rfl)
theorem dX0_store_8 : decode cX0_store 8 = .ok (.invokevirtual 165, 3) := dk_182 0 165 (dk_at dksX0_store_0 8 rfl rfl)
theorem dX0_store_11 : decode cX0_store 11 = .ok (.ireturn, 1) := dk_172 (dk_at dksX0_store_0 11 rfl rfl)
abbrev cX0_termSize : ByteArray := prog_1_method_65_code
def yX0_termSize : MethodName := ⟨RX0, "termSize", "(I)I"⟩
def dkwX0_termSize_0 : List UInt8 := [27, 184, 1, 152, 153, 0, 15, 42, 180, 0, 21, 27, 50, 182, 0, 165, 167, 0, 4, 2, 172]
abbrev dktX0_termSize_0 : List UInt8 := dkwX0_termSize_0 ++ []
theorem dksX0_termSize_0 : cX0_termSize.data.toList.drop 0 = dktX0_termSize_0 := by decide +kernel
theorem dX0_termSize_0 : decode cX0_termSize 0 = .ok (.iload_n 1, 1) := dk_27 (dk_at dksX0_termSize_0 0 rfl rfl)
theorem dX0_termSize_1 : decode cX0_termSize 1 = .ok (.invokestatic 408, 3) := dk_184 1 152 (dk_at dksX0_termSize_0 1 rfl rfl)
theorem dX0_termSize_4 : decode cX0_termSize 4 = .ok (.ifCond .eq 15, 3) := dk_153 0 15 (dk_at dksX0_termSize_0 4 rfl rfl)
theorem dX0_termSize_7 : decode cX0_termSize 7 = .ok (.aload_n 0, 1) := dk_42 (dk_at dksX0_termSize_0 7 rfl rfl)
theorem dX0_termSize_8 : decode cX0_termSize 8 = .ok (.getfield 21, 3) := dk_180 0 21 (dk_at dksX0_termSize_0 8 rfl rfl)
theorem dX0_termSize_11 : decode cX0_termSize 11 = .ok (.iload_n 1, 1) := dk_27 (dk_at dksX0_termSize_0 11 rfl rfl)
theorem dX0_termSize_12 : decode cX0_termSize 12 = .ok (.aaload, 1) := dk_50 (dk_at dksX0_termSize_0 12 rfl rfl)
theorem dX0_termSize_13 : decode cX0_termSize 13 = .ok (.invokevirtual 165, 3) := dk_182 0 165 (dk_at dksX0_termSize_0 13 rfl rfl)
theorem dX0_termSize_16 : decode cX0_termSize 16 = .ok (.goto 4, 3) := dk_167 0 4 (dk_at dksX0_termSize_0 16 rfl rfl)
theorem dX0_termSize_19 : decode cX0_termSize 19 = .ok (.iconst (-1), 1) := dk_2 (dk_at dksX0_termSize_0 19 rfl rfl)
theorem dX0_termSize_20 : decode cX0_termSize 20 = .ok (.ireturn, 1) := dk_172 (dk_at dksX0_termSize_0 20 rfl rfl)
abbrev cX0_formattedLength : ByteArray := prog_1_method_67_code
def yX0_formattedLength : MethodName := ⟨RX0, "formattedLength", "(I)I"⟩
def dkwX0_formattedLength_0 : List UInt8 := [27, 184, 1, 152, 153, 0, 18, 42, 180, 0, 21, 27, 50, 184, 1, 168, 182, 1, 172, 167, 0, 4, 2, 172]
abbrev dktX0_formattedLength_0 : List UInt8 := dkwX0_formattedLength_0 ++ []
theorem dksX0_formattedLength_0 : cX0_formattedLength.data.toList.drop 0 = dktX0_formattedLength_0 := by decide +kernel
theorem dX0_formattedLength_0 : decode cX0_formattedLength 0 = .ok (.iload_n 1, 1) := dk_27 (dk_at dksX0_formattedLength_0 0 rfl rfl)
theorem dX0_formattedLength_1 : decode cX0_formattedLength 1 = .ok (.invokestatic 408, 3) := dk_184 1 152 (dk_at dksX0_formattedLength_0 1 rfl rfl)
theorem dX0_formattedLength_4 : decode cX0_formattedLength 4 = .ok (.ifCond .eq 18, 3) := dk_153 0 18 (dk_at dksX0_formattedLength_0 4 rfl rfl)
theorem dX0_formattedLength_7 : decode cX0_formattedLength 7 = .ok (.aload_n 0, 1) := dk_42 (dk_at dksX0_formattedLength_0 7 rfl rfl)
theorem dX0_formattedLength_8 : decode cX0_formattedLength 8 = .ok (.getfield 21, 3) := dk_180 0 21 (dk_at dksX0_formattedLength_0 8 rfl rfl)
theorem dX0_formattedLength_11 : decode cX0_formattedLength 11 = .ok (.iload_n 1, 1) := dk_27 (dk_at dksX0_formattedLength_0 11 rfl rfl)
theorem dX0_formattedLength_12 : decode cX0_formattedLength 12 = .ok (.aaload, 1) := dk_50 (dk_at dksX0_formattedLength_0 12 rfl rfl)
theorem dX0_formattedLength_13 : decode cX0_formattedLength 13 = .ok (.invokestatic 424, 3) := dk_184 1 168 (dk_at dksX0_formattedLength_0 13 rfl rfl)
theorem dX0_formattedLength_16 : decode cX0_formattedLength 16 = .ok (.invokevirtual 428, 3) := dk_182 1 172 (dk_at dksX0_formattedLength_0 16 rfl rfl)
theorem dX0_formattedLength_19 : decode cX0_formattedLength 19 = .ok (.goto 4, 3) := dk_167 0 4 (dk_at dksX0_formattedLength_0 19 rfl rfl)
theorem dX0_formattedLength_22 : decode cX0_formattedLength 22 = .ok (.iconst (-1), 1) := dk_2 (dk_at dksX0_formattedLength_0 22 rfl rfl)
theorem dX0_formattedLength_23 : decode cX0_formattedLength 23 = .ok (.ireturn, 1) := dk_172 (dk_at dksX0_formattedLength_0 23 rfl rfl)
abbrev cX0_format : ByteArray := prog_1_method_66_code
def yX0_format : MethodName := ⟨RX0, "format", "(LDependencyPairAnalyzer$Term;)Ljava/lang/StringBuilder;"⟩
def dkwX0_format_0 : List UInt8 := [187, 1, 161, 89, 183, 1, 163, 76, 42, 3, 43, 182, 1, 164, 43, 176]
abbrev dktX0_format_0 : List UInt8 := dkwX0_format_0 ++ []
theorem dksX0_format_0 : cX0_format.data.toList.drop 0 = dktX0_format_0 := by decide +kernel
theorem dX0_format_0 : decode cX0_format 0 = .ok (.new 417, 3) := dk_187 1 161 (dk_at dksX0_format_0 0 rfl rfl)
theorem dX0_format_3 : decode cX0_format 3 = .ok (.dup, 1) := dk_89 (dk_at dksX0_format_0 3 rfl rfl)
theorem dX0_format_4 : decode cX0_format 4 = .ok (.invokespecial 419, 3) := dk_183 1 163 (dk_at dksX0_format_0 4 rfl rfl)
theorem dX0_format_7 : decode cX0_format 7 = .ok (.astore_n 1, 1) := dk_76 (dk_at dksX0_format_0 7 rfl rfl)
theorem dX0_format_8 : decode cX0_format 8 = .ok (.aload_n 0, 1) := dk_42 (dk_at dksX0_format_0 8 rfl rfl)
theorem dX0_format_9 : decode cX0_format 9 = .ok (.iconst 0, 1) := dk_3 (dk_at dksX0_format_0 9 rfl rfl)
theorem dX0_format_10 : decode cX0_format 10 = .ok (.aload_n 1, 1) := dk_43 (dk_at dksX0_format_0 10 rfl rfl)
theorem dX0_format_11 : decode cX0_format 11 = .ok (.invokevirtual 420, 3) := dk_182 1 164 (dk_at dksX0_format_0 11 rfl rfl)
theorem dX0_format_14 : decode cX0_format 14 = .ok (.aload_n 1, 1) := dk_43 (dk_at dksX0_format_0 14 rfl rfl)
theorem dX0_format_15 : decode cX0_format 15 = .ok (.areturn, 1) := dk_176 (dk_at dksX0_format_0 15 rfl rfl)
abbrev cX0_formattedCharacter : ByteArray := prog_1_method_68_code
def yX0_formattedCharacter : MethodName := ⟨RX0, "formattedCharacter", "(II)I"⟩
def dkwX0_formattedCharacter_1 : List UInt8 := [182, 1, 172, 4, 100, 133, 184, 0, 134, 153, 0, 11, 45, 28, 182, 1, 174, 167, 0, 4, 2, 172]
abbrev dktX0_formattedCharacter_1 : List UInt8 := dkwX0_formattedCharacter_1 ++ []
def dkwX0_formattedCharacter_0 : List UInt8 := [27, 184, 1, 152, 154, 0, 5, 2, 172, 42, 180, 0, 21, 27, 50, 184, 1, 168, 78, 28, 133, 9, 45]
abbrev dktX0_formattedCharacter_0 : List UInt8 := dkwX0_formattedCharacter_0 ++ dktX0_formattedCharacter_1
theorem dksX0_formattedCharacter_0 : cX0_formattedCharacter.data.toList.drop 0 = dktX0_formattedCharacter_0 := by decide +kernel
theorem dksX0_formattedCharacter_1 : cX0_formattedCharacter.data.toList.drop 23 = dktX0_formattedCharacter_1 := dk_seg dksX0_formattedCharacter_0 23 rfl rfl
theorem dX0_formattedCharacter_0 : decode cX0_formattedCharacter 0 = .ok (.iload_n 1, 1) := dk_27 (dk_at dksX0_formattedCharacter_0 0 rfl rfl)
theorem dX0_formattedCharacter_1 : decode cX0_formattedCharacter 1 = .ok (.invokestatic 408, 3) := dk_184 1 152 (dk_at dksX0_formattedCharacter_0 1 rfl rfl)
theorem dX0_formattedCharacter_4 : decode cX0_formattedCharacter 4 = .ok (.ifCond .ne 5, 3) := dk_154 0 5 (dk_at dksX0_formattedCharacter_0 4 rfl rfl)
theorem dX0_formattedCharacter_7 : decode cX0_formattedCharacter 7 = .ok (.iconst (-1), 1) := dk_2 (dk_at dksX0_formattedCharacter_0 7 rfl rfl)
theorem dX0_formattedCharacter_8 : decode cX0_formattedCharacter 8 = .ok (.ireturn, 1) := dk_172 (dk_at dksX0_formattedCharacter_0 8 rfl rfl)
theorem dX0_formattedCharacter_9 : decode cX0_formattedCharacter 9 = .ok (.aload_n 0, 1) := dk_42 (dk_at dksX0_formattedCharacter_0 9 rfl rfl)
theorem dX0_formattedCharacter_10 : decode cX0_formattedCharacter 10 = .ok (.getfield 21, 3) := dk_180 0 21 (dk_at dksX0_formattedCharacter_0 10 rfl rfl)
theorem dX0_formattedCharacter_13 : decode cX0_formattedCharacter 13 = .ok (.iload_n 1, 1) := dk_27 (dk_at dksX0_formattedCharacter_0 13 rfl rfl)
theorem dX0_formattedCharacter_14 : decode cX0_formattedCharacter 14 = .ok (.aaload, 1) := dk_50 (dk_at dksX0_formattedCharacter_0 14 rfl rfl)
theorem dX0_formattedCharacter_15 : decode cX0_formattedCharacter 15 = .ok (.invokestatic 424, 3) := dk_184 1 168 (dk_at dksX0_formattedCharacter_0 15 rfl rfl)
theorem dX0_formattedCharacter_18 : decode cX0_formattedCharacter 18 = .ok (.astore_n 3, 1) := dk_78 (dk_at dksX0_formattedCharacter_0 18 rfl rfl)
theorem dX0_formattedCharacter_19 : decode cX0_formattedCharacter 19 = .ok (.iload_n 2, 1) := dk_28 (dk_at dksX0_formattedCharacter_0 19 rfl rfl)
theorem dX0_formattedCharacter_20 : decode cX0_formattedCharacter 20 = .ok (.i2l, 1) := dk_133 (dk_at dksX0_formattedCharacter_0 20 rfl rfl)
theorem dX0_formattedCharacter_21 : decode cX0_formattedCharacter 21 = .ok (.lconst 0, 1) := dk_9 (dk_at dksX0_formattedCharacter_0 21 rfl rfl)
theorem dX0_formattedCharacter_22 : decode cX0_formattedCharacter 22 = .ok (.aload_n 3, 1) := dk_45 (dk_at dksX0_formattedCharacter_0 22 rfl rfl)
theorem dX0_formattedCharacter_23 : decode cX0_formattedCharacter 23 = .ok (.invokevirtual 428, 3) := dk_182 1 172 (dk_at dksX0_formattedCharacter_1 0 rfl rfl)
theorem dX0_formattedCharacter_26 : decode cX0_formattedCharacter 26 = .ok (.iconst 1, 1) := dk_4 (dk_at dksX0_formattedCharacter_1 3 rfl rfl)
theorem dX0_formattedCharacter_27 : decode cX0_formattedCharacter 27 = .ok (.isub, 1) := dk_100 (dk_at dksX0_formattedCharacter_1 4 rfl rfl)
theorem dX0_formattedCharacter_28 : decode cX0_formattedCharacter 28 = .ok (.i2l, 1) := dk_133 (dk_at dksX0_formattedCharacter_1 5 rfl rfl)
theorem dX0_formattedCharacter_29 : decode cX0_formattedCharacter 29 = .ok (.invokestatic 134, 3) := dk_184 0 134 (dk_at dksX0_formattedCharacter_1 6 rfl rfl)
theorem dX0_formattedCharacter_32 : decode cX0_formattedCharacter 32 = .ok (.ifCond .eq 11, 3) := dk_153 0 11 (dk_at dksX0_formattedCharacter_1 9 rfl rfl)
theorem dX0_formattedCharacter_35 : decode cX0_formattedCharacter 35 = .ok (.aload_n 3, 1) := dk_45 (dk_at dksX0_formattedCharacter_1 12 rfl rfl)
theorem dX0_formattedCharacter_36 : decode cX0_formattedCharacter 36 = .ok (.iload_n 2, 1) := dk_28 (dk_at dksX0_formattedCharacter_1 13 rfl rfl)
theorem dX0_formattedCharacter_37 : decode cX0_formattedCharacter 37 = .ok (.invokevirtual 430, 3) := dk_182 1 174 (dk_at dksX0_formattedCharacter_1 14 rfl rfl)
theorem dX0_formattedCharacter_40 : decode cX0_formattedCharacter 40 = .ok (.goto 4, 3) := dk_167 0 4 (dk_at dksX0_formattedCharacter_1 17 rfl rfl)
theorem dX0_formattedCharacter_43 : decode cX0_formattedCharacter 43 = .ok (.iconst (-1), 1) := dk_2 (dk_at dksX0_formattedCharacter_1 20 rfl rfl)
theorem dX0_formattedCharacter_44 : decode cX0_formattedCharacter 44 = .ok (.ireturn, 1) := dk_172 (dk_at dksX0_formattedCharacter_1 21 rfl rfl)
abbrev cX0_compareTerms : ByteArray := prog_1_method_69_code
def yX0_compareTerms : MethodName := ⟨RX0, "compareTerms", "(II)I"⟩
def dkwX0_compareTerms_2 : List UInt8 := [167, 0, 4, 5, 172]
abbrev dktX0_compareTerms_2 : List UInt8 := dkwX0_compareTerms_2 ++ []
def dkwX0_compareTerms_1 : List UInt8 := [180, 0, 21, 28, 50, 182, 1, 178, 62, 29, 156, 0, 7, 3, 167, 0, 12, 29, 154, 0, 7, 4]
abbrev dktX0_compareTerms_1 : List UInt8 := dkwX0_compareTerms_1 ++ dktX0_compareTerms_2
def dkwX0_compareTerms_0 : List UInt8 := [27, 184, 1, 152, 153, 0, 10, 28, 184, 1, 152, 154, 0, 5, 2, 172, 42, 180, 0, 21, 27, 50, 42]
abbrev dktX0_compareTerms_0 : List UInt8 := dkwX0_compareTerms_0 ++ dktX0_compareTerms_1
theorem dksX0_compareTerms_0 : cX0_compareTerms.data.toList.drop 0 = dktX0_compareTerms_0 := by decide +kernel
theorem dksX0_compareTerms_1 : cX0_compareTerms.data.toList.drop 23 = dktX0_compareTerms_1 := dk_seg dksX0_compareTerms_0 23 rfl rfl
theorem dksX0_compareTerms_2 : cX0_compareTerms.data.toList.drop 45 = dktX0_compareTerms_2 := dk_seg dksX0_compareTerms_1 22 rfl rfl
theorem dX0_compareTerms_0 : decode cX0_compareTerms 0 = .ok (.iload_n 1, 1) := dk_27 (dk_at dksX0_compareTerms_0 0 rfl rfl)
theorem dX0_compareTerms_1 : decode cX0_compareTerms 1 = .ok (.invokestatic 408, 3) := dk_184 1 152 (dk_at dksX0_compareTerms_0 1 rfl rfl)
theorem dX0_compareTerms_4 : decode cX0_compareTerms 4 = .ok (.ifCond .eq 10, 3) := dk_153 0 10 (dk_at dksX0_compareTerms_0 4 rfl rfl)
theorem dX0_compareTerms_7 : decode cX0_compareTerms 7 = .ok (.iload_n 2, 1) := dk_28 (dk_at dksX0_compareTerms_0 7 rfl rfl)
theorem dX0_compareTerms_8 : decode cX0_compareTerms 8 = .ok (.invokestatic 408, 3) := dk_184 1 152 (dk_at dksX0_compareTerms_0 8 rfl rfl)
theorem dX0_compareTerms_11 : decode cX0_compareTerms 11 = .ok (.ifCond .ne 5, 3) := dk_154 0 5 (dk_at dksX0_compareTerms_0 11 rfl rfl)
theorem dX0_compareTerms_14 : decode cX0_compareTerms 14 = .ok (.iconst (-1), 1) := dk_2 (dk_at dksX0_compareTerms_0 14 rfl rfl)
theorem dX0_compareTerms_15 : decode cX0_compareTerms 15 = .ok (.ireturn, 1) := dk_172 (dk_at dksX0_compareTerms_0 15 rfl rfl)
theorem dX0_compareTerms_16 : decode cX0_compareTerms 16 = .ok (.aload_n 0, 1) := dk_42 (dk_at dksX0_compareTerms_0 16 rfl rfl)
theorem dX0_compareTerms_17 : decode cX0_compareTerms 17 = .ok (.getfield 21, 3) := dk_180 0 21 (dk_at dksX0_compareTerms_0 17 rfl rfl)
theorem dX0_compareTerms_20 : decode cX0_compareTerms 20 = .ok (.iload_n 1, 1) := dk_27 (dk_at dksX0_compareTerms_0 20 rfl rfl)
theorem dX0_compareTerms_21 : decode cX0_compareTerms 21 = .ok (.aaload, 1) := dk_50 (dk_at dksX0_compareTerms_0 21 rfl rfl)
theorem dX0_compareTerms_22 : decode cX0_compareTerms 22 = .ok (.aload_n 0, 1) := dk_42 (dk_at dksX0_compareTerms_0 22 rfl rfl)
theorem dX0_compareTerms_23 : decode cX0_compareTerms 23 = .ok (.getfield 21, 3) := dk_180 0 21 (dk_at dksX0_compareTerms_1 0 rfl rfl)
theorem dX0_compareTerms_26 : decode cX0_compareTerms 26 = .ok (.iload_n 2, 1) := dk_28 (dk_at dksX0_compareTerms_1 3 rfl rfl)
theorem dX0_compareTerms_27 : decode cX0_compareTerms 27 = .ok (.aaload, 1) := dk_50 (dk_at dksX0_compareTerms_1 4 rfl rfl)
theorem dX0_compareTerms_28 : decode cX0_compareTerms 28 = .ok (.invokevirtual 434, 3) := dk_182 1 178 (dk_at dksX0_compareTerms_1 5 rfl rfl)
theorem dX0_compareTerms_31 : decode cX0_compareTerms 31 = .ok (.istore_n 3, 1) := dk_62 (dk_at dksX0_compareTerms_1 8 rfl rfl)
theorem dX0_compareTerms_32 : decode cX0_compareTerms 32 = .ok (.iload_n 3, 1) := dk_29 (dk_at dksX0_compareTerms_1 9 rfl rfl)
theorem dX0_compareTerms_33 : decode cX0_compareTerms 33 = .ok (.ifCond .ge 7, 3) := dk_156 0 7 (dk_at dksX0_compareTerms_1 10 rfl rfl)
theorem dX0_compareTerms_36 : decode cX0_compareTerms 36 = .ok (.iconst 0, 1) := dk_3 (dk_at dksX0_compareTerms_1 13 rfl rfl)
theorem dX0_compareTerms_37 : decode cX0_compareTerms 37 = .ok (.goto 12, 3) := dk_167 0 12 (dk_at dksX0_compareTerms_1 14 rfl rfl)
theorem dX0_compareTerms_40 : decode cX0_compareTerms 40 = .ok (.iload_n 3, 1) := dk_29 (dk_at dksX0_compareTerms_1 17 rfl rfl)
theorem dX0_compareTerms_41 : decode cX0_compareTerms 41 = .ok (.ifCond .ne 7, 3) := dk_154 0 7 (dk_at dksX0_compareTerms_1 18 rfl rfl)
theorem dX0_compareTerms_44 : decode cX0_compareTerms 44 = .ok (.iconst 1, 1) := dk_4 (dk_at dksX0_compareTerms_1 21 rfl rfl)
theorem dX0_compareTerms_45 : decode cX0_compareTerms 45 = .ok (.goto 4, 3) := dk_167 0 4 (dk_at dksX0_compareTerms_2 0 rfl rfl)
theorem dX0_compareTerms_48 : decode cX0_compareTerms 48 = .ok (.iconst 2, 1) := dk_5 (dk_at dksX0_compareTerms_2 3 rfl rfl)
theorem dX0_compareTerms_49 : decode cX0_compareTerms 49 = .ok (.ireturn, 1) := dk_172 (dk_at dksX0_compareTerms_2 4 rfl rfl)
abbrev cX0_copyTerm : ByteArray := prog_1_method_71_code
def yX0_copyTerm : MethodName := ⟨RX0, "copyTerm", "(II)I"⟩
def dkwX0_copyTerm_1 : List UInt8 := [182, 1, 158, 167, 0, 4, 2, 172]
abbrev dktX0_copyTerm_1 : List UInt8 := dkwX0_copyTerm_1 ++ []
def dkwX0_copyTerm_0 : List UInt8 := [27, 184, 1, 152, 153, 0, 24, 28, 184, 1, 152, 153, 0, 17, 42, 42, 180, 0, 21, 27, 50, 28]
abbrev dktX0_copyTerm_0 : List UInt8 := dkwX0_copyTerm_0 ++ dktX0_copyTerm_1
theorem dksX0_copyTerm_0 : cX0_copyTerm.data.toList.drop 0 = dktX0_copyTerm_0 := by decide +kernel
theorem dksX0_copyTerm_1 : cX0_copyTerm.data.toList.drop 22 = dktX0_copyTerm_1 := dk_seg dksX0_copyTerm_0 22 rfl rfl
theorem dX0_copyTerm_0 : decode cX0_copyTerm 0 = .ok (.iload_n 1, 1) := dk_27 (dk_at dksX0_copyTerm_0 0 rfl rfl)
theorem dX0_copyTerm_1 : decode cX0_copyTerm 1 = .ok (.invokestatic 408, 3) := dk_184 1 152 (dk_at dksX0_copyTerm_0 1 rfl rfl)
theorem dX0_copyTerm_4 : decode cX0_copyTerm 4 = .ok (.ifCond .eq 24, 3) := dk_153 0 24 (dk_at dksX0_copyTerm_0 4 rfl rfl)
theorem dX0_copyTerm_7 : decode cX0_copyTerm 7 = .ok (.iload_n 2, 1) := dk_28 (dk_at dksX0_copyTerm_0 7 rfl rfl)
theorem dX0_copyTerm_8 : decode cX0_copyTerm 8 = .ok (.invokestatic 408, 3) := dk_184 1 152 (dk_at dksX0_copyTerm_0 8 rfl rfl)
theorem dX0_copyTerm_11 : decode cX0_copyTerm 11 = .ok (.ifCond .eq 17, 3) := dk_153 0 17 (dk_at dksX0_copyTerm_0 11 rfl rfl)
theorem dX0_copyTerm_14 : decode cX0_copyTerm 14 = .ok (.aload_n 0, 1) := dk_42 (dk_at dksX0_copyTerm_0 14 rfl rfl)
theorem dX0_copyTerm_15 : decode cX0_copyTerm 15 = .ok (.aload_n 0, 1) := dk_42 (dk_at dksX0_copyTerm_0 15 rfl rfl)
theorem dX0_copyTerm_16 : decode cX0_copyTerm 16 = .ok (.getfield 21, 3) := dk_180 0 21 (dk_at dksX0_copyTerm_0 16 rfl rfl)
theorem dX0_copyTerm_19 : decode cX0_copyTerm 19 = .ok (.iload_n 1, 1) := dk_27 (dk_at dksX0_copyTerm_0 19 rfl rfl)
theorem dX0_copyTerm_20 : decode cX0_copyTerm 20 = .ok (.aaload, 1) := dk_50 (dk_at dksX0_copyTerm_0 20 rfl rfl)
theorem dX0_copyTerm_21 : decode cX0_copyTerm 21 = .ok (.iload_n 2, 1) := dk_28 (dk_at dksX0_copyTerm_0 21 rfl rfl)
theorem dX0_copyTerm_22 : decode cX0_copyTerm 22 = .ok (.invokevirtual 414, 3) := dk_182 1 158 (dk_at dksX0_copyTerm_1 0 rfl rfl)
theorem dX0_copyTerm_25 : decode cX0_copyTerm 25 = .ok (.goto 4, 3) := dk_167 0 4 (dk_at dksX0_copyTerm_1 3 rfl rfl)
theorem dX0_copyTerm_28 : decode cX0_copyTerm 28 = .ok (.iconst (-1), 1) := dk_2 (dk_at dksX0_copyTerm_1 6 rfl rfl)
theorem dX0_copyTerm_29 : decode cX0_copyTerm 29 = .ok (.ireturn, 1) := dk_172 (dk_at dksX0_copyTerm_1 7 rfl rfl)
abbrev cX0_loadLeft : ByteArray := prog_1_method_72_code
def yX0_loadLeft : MethodName := ⟨RX0, "loadLeft", "(II)I"⟩
def dkwX0_loadLeft_1 : List UInt8 := [180, 0, 157, 28, 182, 1, 158, 167, 0, 4, 2, 172]
abbrev dktX0_loadLeft_1 : List UInt8 := dkwX0_loadLeft_1 ++ []
def dkwX0_loadLeft_0 : List UInt8 := [42, 27, 182, 0, 192, 153, 0, 27, 28, 184, 1, 152, 153, 0, 20, 42, 42, 180, 0, 15, 27, 50]
abbrev dktX0_loadLeft_0 : List UInt8 := dkwX0_loadLeft_0 ++ dktX0_loadLeft_1
theorem dksX0_loadLeft_0 : cX0_loadLeft.data.toList.drop 0 = dktX0_loadLeft_0 := by decide +kernel
theorem dksX0_loadLeft_1 : cX0_loadLeft.data.toList.drop 22 = dktX0_loadLeft_1 := dk_seg dksX0_loadLeft_0 22 rfl rfl
theorem dX0_loadLeft_0 : decode cX0_loadLeft 0 = .ok (.aload_n 0, 1) := dk_42 (dk_at dksX0_loadLeft_0 0 rfl rfl)
theorem dX0_loadLeft_1 : decode cX0_loadLeft 1 = .ok (.iload_n 1, 1) := dk_27 (dk_at dksX0_loadLeft_0 1 rfl rfl)
theorem dX0_loadLeft_2 : decode cX0_loadLeft 2 = .ok (.invokevirtual 192, 3) := dk_182 0 192 (dk_at dksX0_loadLeft_0 2 rfl rfl)
theorem dX0_loadLeft_5 : decode cX0_loadLeft 5 = .ok (.ifCond .eq 27, 3) := dk_153 0 27 (dk_at dksX0_loadLeft_0 5 rfl rfl)
theorem dX0_loadLeft_8 : decode cX0_loadLeft 8 = .ok (.iload_n 2, 1) := dk_28 (dk_at dksX0_loadLeft_0 8 rfl rfl)
theorem dX0_loadLeft_9 : decode cX0_loadLeft 9 = .ok (.invokestatic 408, 3) := dk_184 1 152 (dk_at dksX0_loadLeft_0 9 rfl rfl)
theorem dX0_loadLeft_12 : decode cX0_loadLeft 12 = .ok (.ifCond .eq 20, 3) := dk_153 0 20 (dk_at dksX0_loadLeft_0 12 rfl rfl)
theorem dX0_loadLeft_15 : decode cX0_loadLeft 15 = .ok (.aload_n 0, 1) := dk_42 (dk_at dksX0_loadLeft_0 15 rfl rfl)
theorem dX0_loadLeft_16 : decode cX0_loadLeft 16 = .ok (.aload_n 0, 1) := dk_42 (dk_at dksX0_loadLeft_0 16 rfl rfl)
theorem dX0_loadLeft_17 : decode cX0_loadLeft 17 = .ok (.getfield 15, 3) := dk_180 0 15 (dk_at dksX0_loadLeft_0 17 rfl rfl)
theorem dX0_loadLeft_20 : decode cX0_loadLeft 20 = .ok (.iload_n 1, 1) := dk_27 (dk_at dksX0_loadLeft_0 20 rfl rfl)
theorem dX0_loadLeft_21 : decode cX0_loadLeft 21 = .ok (.aaload, 1) := dk_50 (dk_at dksX0_loadLeft_0 21 rfl rfl)
theorem dX0_loadLeft_22 : decode cX0_loadLeft 22 = .ok (.getfield 157, 3) := dk_180 0 157 (dk_at dksX0_loadLeft_1 0 rfl rfl)
theorem dX0_loadLeft_25 : decode cX0_loadLeft 25 = .ok (.iload_n 2, 1) := dk_28 (dk_at dksX0_loadLeft_1 3 rfl rfl)
theorem dX0_loadLeft_26 : decode cX0_loadLeft 26 = .ok (.invokevirtual 414, 3) := dk_182 1 158 (dk_at dksX0_loadLeft_1 4 rfl rfl)
theorem dX0_loadLeft_29 : decode cX0_loadLeft 29 = .ok (.goto 4, 3) := dk_167 0 4 (dk_at dksX0_loadLeft_1 7 rfl rfl)
theorem dX0_loadLeft_32 : decode cX0_loadLeft 32 = .ok (.iconst (-1), 1) := dk_2 (dk_at dksX0_loadLeft_1 10 rfl rfl)
theorem dX0_loadLeft_33 : decode cX0_loadLeft 33 = .ok (.ireturn, 1) := dk_172 (dk_at dksX0_loadLeft_1 11 rfl rfl)
abbrev cX0_loadRight : ByteArray := prog_1_method_73_code
def yX0_loadRight : MethodName := ⟨RX0, "loadRight", "(II)I"⟩
def dkwX0_loadRight_1 : List UInt8 := [180, 0, 161, 28, 182, 1, 158, 167, 0, 4, 2, 172]
abbrev dktX0_loadRight_1 : List UInt8 := dkwX0_loadRight_1 ++ []
def dkwX0_loadRight_0 : List UInt8 := [42, 27, 182, 0, 192, 153, 0, 27, 28, 184, 1, 152, 153, 0, 20, 42, 42, 180, 0, 15, 27, 50]
abbrev dktX0_loadRight_0 : List UInt8 := dkwX0_loadRight_0 ++ dktX0_loadRight_1
theorem dksX0_loadRight_0 : cX0_loadRight.data.toList.drop 0 = dktX0_loadRight_0 := by decide +kernel
theorem dksX0_loadRight_1 : cX0_loadRight.data.toList.drop 22 = dktX0_loadRight_1 := dk_seg dksX0_loadRight_0 22 rfl rfl
theorem dX0_loadRight_0 : decode cX0_loadRight 0 = .ok (.aload_n 0, 1) := dk_42 (dk_at dksX0_loadRight_0 0 rfl rfl)
theorem dX0_loadRight_1 : decode cX0_loadRight 1 = .ok (.iload_n 1, 1) := dk_27 (dk_at dksX0_loadRight_0 1 rfl rfl)
theorem dX0_loadRight_2 : decode cX0_loadRight 2 = .ok (.invokevirtual 192, 3) := dk_182 0 192 (dk_at dksX0_loadRight_0 2 rfl rfl)
theorem dX0_loadRight_5 : decode cX0_loadRight 5 = .ok (.ifCond .eq 27, 3) := dk_153 0 27 (dk_at dksX0_loadRight_0 5 rfl rfl)
theorem dX0_loadRight_8 : decode cX0_loadRight 8 = .ok (.iload_n 2, 1) := dk_28 (dk_at dksX0_loadRight_0 8 rfl rfl)
theorem dX0_loadRight_9 : decode cX0_loadRight 9 = .ok (.invokestatic 408, 3) := dk_184 1 152 (dk_at dksX0_loadRight_0 9 rfl rfl)
theorem dX0_loadRight_12 : decode cX0_loadRight 12 = .ok (.ifCond .eq 20, 3) := dk_153 0 20 (dk_at dksX0_loadRight_0 12 rfl rfl)
theorem dX0_loadRight_15 : decode cX0_loadRight 15 = .ok (.aload_n 0, 1) := dk_42 (dk_at dksX0_loadRight_0 15 rfl rfl)
theorem dX0_loadRight_16 : decode cX0_loadRight 16 = .ok (.aload_n 0, 1) := dk_42 (dk_at dksX0_loadRight_0 16 rfl rfl)
theorem dX0_loadRight_17 : decode cX0_loadRight 17 = .ok (.getfield 15, 3) := dk_180 0 15 (dk_at dksX0_loadRight_0 17 rfl rfl)
theorem dX0_loadRight_20 : decode cX0_loadRight 20 = .ok (.iload_n 1, 1) := dk_27 (dk_at dksX0_loadRight_0 20 rfl rfl)
theorem dX0_loadRight_21 : decode cX0_loadRight 21 = .ok (.aaload, 1) := dk_50 (dk_at dksX0_loadRight_0 21 rfl rfl)
theorem dX0_loadRight_22 : decode cX0_loadRight 22 = .ok (.getfield 161, 3) := dk_180 0 161 (dk_at dksX0_loadRight_1 0 rfl rfl)
theorem dX0_loadRight_25 : decode cX0_loadRight 25 = .ok (.iload_n 2, 1) := dk_28 (dk_at dksX0_loadRight_1 3 rfl rfl)
theorem dX0_loadRight_26 : decode cX0_loadRight 26 = .ok (.invokevirtual 414, 3) := dk_182 1 158 (dk_at dksX0_loadRight_1 4 rfl rfl)
theorem dX0_loadRight_29 : decode cX0_loadRight 29 = .ok (.goto 4, 3) := dk_167 0 4 (dk_at dksX0_loadRight_1 7 rfl rfl)
theorem dX0_loadRight_32 : decode cX0_loadRight 32 = .ok (.iconst (-1), 1) := dk_2 (dk_at dksX0_loadRight_1 10 rfl rfl)
theorem dX0_loadRight_33 : decode cX0_loadRight 33 = .ok (.ireturn, 1) := dk_172 (dk_at dksX0_loadRight_1 11 rfl rfl)
abbrev cX0_matches : ByteArray := prog_1_method_75_code
def yX0_matches : MethodName := ⟨RX0, "matches", "(III)I"⟩
def dkwX0_matches_1 : List UInt8 := [180, 0, 21, 28, 50, 29, 182, 1, 122, 184, 0, 252, 172]
abbrev dktX0_matches_1 : List UInt8 := dkwX0_matches_1 ++ []
def dkwX0_matches_0 : List UInt8 := [42, 27, 182, 0, 192, 153, 0, 12, 42, 28, 29, 182, 1, 180, 154, 0, 5, 2, 172, 42, 27, 42]
abbrev dktX0_matches_0 : List UInt8 := dkwX0_matches_0 ++ dktX0_matches_1
theorem dksX0_matches_0 : cX0_matches.data.toList.drop 0 = dktX0_matches_0 := by decide +kernel
theorem dksX0_matches_1 : cX0_matches.data.toList.drop 22 = dktX0_matches_1 := dk_seg dksX0_matches_0 22 rfl rfl
theorem dX0_matches_0 : decode cX0_matches 0 = .ok (.aload_n 0, 1) := dk_42 (dk_at dksX0_matches_0 0 rfl rfl)
theorem dX0_matches_1 : decode cX0_matches 1 = .ok (.iload_n 1, 1) := dk_27 (dk_at dksX0_matches_0 1 rfl rfl)
theorem dX0_matches_2 : decode cX0_matches 2 = .ok (.invokevirtual 192, 3) := dk_182 0 192 (dk_at dksX0_matches_0 2 rfl rfl)
theorem dX0_matches_5 : decode cX0_matches 5 = .ok (.ifCond .eq 12, 3) := dk_153 0 12 (dk_at dksX0_matches_0 5 rfl rfl)
theorem dX0_matches_8 : decode cX0_matches 8 = .ok (.aload_n 0, 1) := dk_42 (dk_at dksX0_matches_0 8 rfl rfl)
theorem dX0_matches_9 : decode cX0_matches 9 = .ok (.iload_n 2, 1) := dk_28 (dk_at dksX0_matches_0 9 rfl rfl)
theorem dX0_matches_10 : decode cX0_matches 10 = .ok (.iload_n 3, 1) := dk_29 (dk_at dksX0_matches_0 10 rfl rfl)
theorem dX0_matches_11 : decode cX0_matches 11 = .ok (.invokevirtual 436, 3) := dk_182 1 180 (dk_at dksX0_matches_0 11 rfl rfl)
theorem dX0_matches_14 : decode cX0_matches 14 = .ok (.ifCond .ne 5, 3) := dk_154 0 5 (dk_at dksX0_matches_0 14 rfl rfl)
theorem dX0_matches_17 : decode cX0_matches 17 = .ok (.iconst (-1), 1) := dk_2 (dk_at dksX0_matches_0 17 rfl rfl)
theorem dX0_matches_18 : decode cX0_matches 18 = .ok (.ireturn, 1) := dk_172 (dk_at dksX0_matches_0 18 rfl rfl)
theorem dX0_matches_19 : decode cX0_matches 19 = .ok (.aload_n 0, 1) := dk_42 (dk_at dksX0_matches_0 19 rfl rfl)
theorem dX0_matches_20 : decode cX0_matches 20 = .ok (.iload_n 1, 1) := dk_27 (dk_at dksX0_matches_0 20 rfl rfl)
theorem dX0_matches_21 : decode cX0_matches 21 = .ok (.aload_n 0, 1) := dk_42 (dk_at dksX0_matches_0 21 rfl rfl)
theorem dX0_matches_22 : decode cX0_matches 22 = .ok (.getfield 21, 3) := dk_180 0 21 (dk_at dksX0_matches_1 0 rfl rfl)
theorem dX0_matches_25 : decode cX0_matches 25 = .ok (.iload_n 2, 1) := dk_28 (dk_at dksX0_matches_1 3 rfl rfl)
theorem dX0_matches_26 : decode cX0_matches 26 = .ok (.aaload, 1) := dk_50 (dk_at dksX0_matches_1 4 rfl rfl)
theorem dX0_matches_27 : decode cX0_matches 27 = .ok (.iload_n 3, 1) := dk_29 (dk_at dksX0_matches_1 5 rfl rfl)
theorem dX0_matches_28 : decode cX0_matches 28 = .ok (.invokevirtual 378, 3) := dk_182 1 122 (dk_at dksX0_matches_1 6 rfl rfl)
theorem dX0_matches_31 : decode cX0_matches 31 = .ok (.invokestatic 252, 3) := dk_184 0 252 (dk_at dksX0_matches_1 9 rfl rfl)
theorem dX0_matches_34 : decode cX0_matches 34 = .ok (.ireturn, 1) := dk_172 (dk_at dksX0_matches_1 12 rfl rfl)
abbrev cX0_isPosition : ByteArray := prog_1_method_74_code
def yX0_isPosition : MethodName := ⟨RX0, "isPosition", "(II)Z"⟩
def dkwX0_isPosition_1 : List UInt8 := [184, 0, 134, 153, 0, 7, 4, 167, 0, 4, 3, 172]
abbrev dktX0_isPosition_1 : List UInt8 := dkwX0_isPosition_1 ++ []
def dkwX0_isPosition_0 : List UInt8 := [27, 184, 1, 152, 153, 0, 28, 28, 133, 9, 42, 180, 0, 21, 27, 50, 182, 0, 165, 4, 100, 133]
abbrev dktX0_isPosition_0 : List UInt8 := dkwX0_isPosition_0 ++ dktX0_isPosition_1
theorem dksX0_isPosition_0 : cX0_isPosition.data.toList.drop 0 = dktX0_isPosition_0 := by decide +kernel
theorem dksX0_isPosition_1 : cX0_isPosition.data.toList.drop 22 = dktX0_isPosition_1 := dk_seg dksX0_isPosition_0 22 rfl rfl
theorem dX0_isPosition_0 : decode cX0_isPosition 0 = .ok (.iload_n 1, 1) := dk_27 (dk_at dksX0_isPosition_0 0 rfl rfl)
theorem dX0_isPosition_1 : decode cX0_isPosition 1 = .ok (.invokestatic 408, 3) := dk_184 1 152 (dk_at dksX0_isPosition_0 1 rfl rfl)
theorem dX0_isPosition_4 : decode cX0_isPosition 4 = .ok (.ifCond .eq 28, 3) := dk_153 0 28 (dk_at dksX0_isPosition_0 4 rfl rfl)
theorem dX0_isPosition_7 : decode cX0_isPosition 7 = .ok (.iload_n 2, 1) := dk_28 (dk_at dksX0_isPosition_0 7 rfl rfl)
theorem dX0_isPosition_8 : decode cX0_isPosition 8 = .ok (.i2l, 1) := dk_133 (dk_at dksX0_isPosition_0 8 rfl rfl)
theorem dX0_isPosition_9 : decode cX0_isPosition 9 = .ok (.lconst 0, 1) := dk_9 (dk_at dksX0_isPosition_0 9 rfl rfl)
theorem dX0_isPosition_10 : decode cX0_isPosition 10 = .ok (.aload_n 0, 1) := dk_42 (dk_at dksX0_isPosition_0 10 rfl rfl)
theorem dX0_isPosition_11 : decode cX0_isPosition 11 = .ok (.getfield 21, 3) := dk_180 0 21 (dk_at dksX0_isPosition_0 11 rfl rfl)
theorem dX0_isPosition_14 : decode cX0_isPosition 14 = .ok (.iload_n 1, 1) := dk_27 (dk_at dksX0_isPosition_0 14 rfl rfl)
theorem dX0_isPosition_15 : decode cX0_isPosition 15 = .ok (.aaload, 1) := dk_50 (dk_at dksX0_isPosition_0 15 rfl rfl)
theorem dX0_isPosition_16 : decode cX0_isPosition 16 = .ok (.invokevirtual 165, 3) := dk_182 0 165 (dk_at dksX0_isPosition_0 16 rfl rfl)
theorem dX0_isPosition_19 : decode cX0_isPosition 19 = .ok (.iconst 1, 1) := dk_4 (dk_at dksX0_isPosition_0 19 rfl rfl)
theorem dX0_isPosition_20 : decode cX0_isPosition 20 = .ok (.isub, 1) := dk_100 (dk_at dksX0_isPosition_0 20 rfl rfl)
theorem dX0_isPosition_21 : decode cX0_isPosition 21 = .ok (.i2l, 1) := dk_133 (dk_at dksX0_isPosition_0 21 rfl rfl)
theorem dX0_isPosition_22 : decode cX0_isPosition 22 = .ok (.invokestatic 134, 3) := dk_184 0 134 (dk_at dksX0_isPosition_1 0 rfl rfl)
theorem dX0_isPosition_25 : decode cX0_isPosition 25 = .ok (.ifCond .eq 7, 3) := dk_153 0 7 (dk_at dksX0_isPosition_1 3 rfl rfl)
theorem dX0_isPosition_28 : decode cX0_isPosition 28 = .ok (.iconst 1, 1) := dk_4 (dk_at dksX0_isPosition_1 6 rfl rfl)
theorem dX0_isPosition_29 : decode cX0_isPosition 29 = .ok (.goto 4, 3) := dk_167 0 4 (dk_at dksX0_isPosition_1 7 rfl rfl)
theorem dX0_isPosition_32 : decode cX0_isPosition 32 = .ok (.iconst 0, 1) := dk_3 (dk_at dksX0_isPosition_1 10 rfl rfl)
theorem dX0_isPosition_33 : decode cX0_isPosition 33 = .ok (.ireturn, 1) := dk_172 (dk_at dksX0_isPosition_1 11 rfl rfl)
abbrev cX0_isMatch : ByteArray := prog_1_method_55_code
def yX0_isMatch : MethodName := ⟨RX0, "isMatch", "(ILDependencyPairAnalyzer$Term;I)Z"⟩
def dkwX0_isMatch_7 : List UInt8 := [167, 0, 4, 3, 54, 6, 132, 5, 1, 132, 7, 1, 167, 255, 130, 21, 6, 172]
abbrev dktX0_isMatch_7 : List UInt8 := dkwX0_isMatch_7 ++ []
def dkwX0_isMatch_6 : List UInt8 := [167, 0, 31, 25, 4, 180, 0, 204, 21, 7, 51, 44, 180, 0, 204, 21, 5, 51, 160, 0, 7, 4]
abbrev dktX0_isMatch_6 : List UInt8 := dkwX0_isMatch_6 ++ dktX0_isMatch_7
def dkwX0_isMatch_5 : List UInt8 := [180, 0, 99, 21, 8, 46, 44, 21, 5, 182, 1, 119, 54, 6, 44, 180, 0, 201, 21, 5, 46, 54, 5]
abbrev dktX0_isMatch_5 : List UInt8 := dkwX0_isMatch_5 ++ dktX0_isMatch_6
def dkwX0_isMatch_4 : List UInt8 := [180, 0, 99, 21, 8, 46, 156, 0, 8, 21, 5, 167, 0, 10, 42, 180, 0, 99, 21, 8, 46, 79, 44, 42]
abbrev dktX0_isMatch_4 : List UInt8 := dkwX0_isMatch_4 ++ dktX0_isMatch_5
def dkwX0_isMatch_3 : List UInt8 := [153, 0, 73, 25, 4, 180, 0, 204, 21, 7, 51, 16, 119, 100, 54, 8, 42, 180, 0, 99, 21, 8, 42]
abbrev dktX0_isMatch_3 : List UInt8 := dkwX0_isMatch_3 ++ dktX0_isMatch_4
def dkwX0_isMatch_2 : List UInt8 := [21, 7, 25, 4, 182, 0, 165, 162, 0, 122, 21, 6, 153, 0, 117, 25, 4, 21, 7, 182, 0, 169]
abbrev dktX0_isMatch_2 : List UInt8 := dkwX0_isMatch_2 ++ dktX0_isMatch_3
def dkwX0_isMatch_1 : List UInt8 := [42, 180, 0, 99, 21, 5, 2, 79, 132, 5, 1, 167, 255, 235, 29, 54, 5, 4, 54, 6, 3, 54, 7]
abbrev dktX0_isMatch_1 : List UInt8 := dkwX0_isMatch_1 ++ dktX0_isMatch_2
def dkwX0_isMatch_0 : List UInt8 := [42, 180, 0, 15, 27, 50, 180, 0, 157, 58, 4, 3, 54, 5, 21, 5, 42, 180, 0, 99, 190, 162, 0, 17]
abbrev dktX0_isMatch_0 : List UInt8 := dkwX0_isMatch_0 ++ dktX0_isMatch_1
theorem dksX0_isMatch_0 : cX0_isMatch.data.toList.drop 0 = dktX0_isMatch_0 := by decide +kernel
theorem dksX0_isMatch_1 : cX0_isMatch.data.toList.drop 24 = dktX0_isMatch_1 := dk_seg dksX0_isMatch_0 24 rfl rfl
theorem dksX0_isMatch_2 : cX0_isMatch.data.toList.drop 47 = dktX0_isMatch_2 := dk_seg dksX0_isMatch_1 23 rfl rfl
theorem dksX0_isMatch_3 : cX0_isMatch.data.toList.drop 69 = dktX0_isMatch_3 := dk_seg dksX0_isMatch_2 22 rfl rfl
theorem dksX0_isMatch_4 : cX0_isMatch.data.toList.drop 92 = dktX0_isMatch_4 := dk_seg dksX0_isMatch_3 23 rfl rfl
theorem dksX0_isMatch_5 : cX0_isMatch.data.toList.drop 116 = dktX0_isMatch_5 := dk_seg dksX0_isMatch_4 24 rfl rfl
theorem dksX0_isMatch_6 : cX0_isMatch.data.toList.drop 139 = dktX0_isMatch_6 := dk_seg dksX0_isMatch_5 23 rfl rfl
theorem dksX0_isMatch_7 : cX0_isMatch.data.toList.drop 161 = dktX0_isMatch_7 := dk_seg dksX0_isMatch_6 22 rfl rfl
theorem dX0_isMatch_0 : decode cX0_isMatch 0 = .ok (.aload_n 0, 1) := dk_42 (dk_at dksX0_isMatch_0 0 rfl rfl)
theorem dX0_isMatch_1 : decode cX0_isMatch 1 = .ok (.getfield 15, 3) := dk_180 0 15 (dk_at dksX0_isMatch_0 1 rfl rfl)
theorem dX0_isMatch_4 : decode cX0_isMatch 4 = .ok (.iload_n 1, 1) := dk_27 (dk_at dksX0_isMatch_0 4 rfl rfl)
theorem dX0_isMatch_5 : decode cX0_isMatch 5 = .ok (.aaload, 1) := dk_50 (dk_at dksX0_isMatch_0 5 rfl rfl)
theorem dX0_isMatch_6 : decode cX0_isMatch 6 = .ok (.getfield 157, 3) := dk_180 0 157 (dk_at dksX0_isMatch_0 6 rfl rfl)
theorem dX0_isMatch_9 : decode cX0_isMatch 9 = .ok (.astore 4, 2) := dk_58 4 (dk_at dksX0_isMatch_0 9 rfl rfl)
theorem dX0_isMatch_11 : decode cX0_isMatch 11 = .ok (.iconst 0, 1) := dk_3 (dk_at dksX0_isMatch_0 11 rfl rfl)
theorem dX0_isMatch_12 : decode cX0_isMatch 12 = .ok (.istore 5, 2) := dk_54 5 (dk_at dksX0_isMatch_0 12 rfl rfl)
theorem dX0_isMatch_14 : decode cX0_isMatch 14 = .ok (.iload 5, 2) := dk_21 5 (dk_at dksX0_isMatch_0 14 rfl rfl)
theorem dX0_isMatch_16 : decode cX0_isMatch 16 = .ok (.aload_n 0, 1) := dk_42 (dk_at dksX0_isMatch_0 16 rfl rfl)
theorem dX0_isMatch_17 : decode cX0_isMatch 17 = .ok (.getfield 99, 3) := dk_180 0 99 (dk_at dksX0_isMatch_0 17 rfl rfl)
theorem dX0_isMatch_20 : decode cX0_isMatch 20 = .ok (.arraylength, 1) := dk_190 (dk_at dksX0_isMatch_0 20 rfl rfl)
theorem dX0_isMatch_21 : decode cX0_isMatch 21 = .ok (.if_icmp .ge 17, 3) := dk_162 0 17 (dk_at dksX0_isMatch_0 21 rfl rfl)
theorem dX0_isMatch_24 : decode cX0_isMatch 24 = .ok (.aload_n 0, 1) := dk_42 (dk_at dksX0_isMatch_1 0 rfl rfl)
theorem dX0_isMatch_25 : decode cX0_isMatch 25 = .ok (.getfield 99, 3) := dk_180 0 99 (dk_at dksX0_isMatch_1 1 rfl rfl)
theorem dX0_isMatch_28 : decode cX0_isMatch 28 = .ok (.iload 5, 2) := dk_21 5 (dk_at dksX0_isMatch_1 4 rfl rfl)
theorem dX0_isMatch_30 : decode cX0_isMatch 30 = .ok (.iconst (-1), 1) := dk_2 (dk_at dksX0_isMatch_1 6 rfl rfl)
theorem dX0_isMatch_31 : decode cX0_isMatch 31 = .ok (.iastore, 1) := dk_79 (dk_at dksX0_isMatch_1 7 rfl rfl)
theorem dX0_isMatch_32 : decode cX0_isMatch 32 = .ok (.iinc 5 1, 3) := dk_132 5 1 (dk_at dksX0_isMatch_1 8 rfl rfl)
theorem dX0_isMatch_35 : decode cX0_isMatch 35 = .ok (.goto (-21), 3) := dk_167 255 235 (dk_at dksX0_isMatch_1 11 rfl rfl)
theorem dX0_isMatch_38 : decode cX0_isMatch 38 = .ok (.iload_n 3, 1) := dk_29 (dk_at dksX0_isMatch_1 14 rfl rfl)
theorem dX0_isMatch_39 : decode cX0_isMatch 39 = .ok (.istore 5, 2) := dk_54 5 (dk_at dksX0_isMatch_1 15 rfl rfl)
theorem dX0_isMatch_41 : decode cX0_isMatch 41 = .ok (.iconst 1, 1) := dk_4 (dk_at dksX0_isMatch_1 17 rfl rfl)
theorem dX0_isMatch_42 : decode cX0_isMatch 42 = .ok (.istore 6, 2) := dk_54 6 (dk_at dksX0_isMatch_1 18 rfl rfl)
theorem dX0_isMatch_44 : decode cX0_isMatch 44 = .ok (.iconst 0, 1) := dk_3 (dk_at dksX0_isMatch_1 20 rfl rfl)
theorem dX0_isMatch_45 : decode cX0_isMatch 45 = .ok (.istore 7, 2) := dk_54 7 (dk_at dksX0_isMatch_1 21 rfl rfl)
theorem dX0_isMatch_47 : decode cX0_isMatch 47 = .ok (.iload 7, 2) := dk_21 7 (dk_at dksX0_isMatch_2 0 rfl rfl)
theorem dX0_isMatch_49 : decode cX0_isMatch 49 = .ok (.aload 4, 2) := dk_25 4 (dk_at dksX0_isMatch_2 2 rfl rfl)
theorem dX0_isMatch_51 : decode cX0_isMatch 51 = .ok (.invokevirtual 165, 3) := dk_182 0 165 (dk_at dksX0_isMatch_2 4 rfl rfl)
theorem dX0_isMatch_54 : decode cX0_isMatch 54 = .ok (.if_icmp .ge 122, 3) := dk_162 0 122 (dk_at dksX0_isMatch_2 7 rfl rfl)
theorem dX0_isMatch_57 : decode cX0_isMatch 57 = .ok (.iload 6, 2) := dk_21 6 (dk_at dksX0_isMatch_2 10 rfl rfl)
theorem dX0_isMatch_59 : decode cX0_isMatch 59 = .ok (.ifCond .eq 117, 3) := dk_153 0 117 (dk_at dksX0_isMatch_2 12 rfl rfl)
theorem dX0_isMatch_62 : decode cX0_isMatch 62 = .ok (.aload 4, 2) := dk_25 4 (dk_at dksX0_isMatch_2 15 rfl rfl)
theorem dX0_isMatch_64 : decode cX0_isMatch 64 = .ok (.iload 7, 2) := dk_21 7 (dk_at dksX0_isMatch_2 17 rfl rfl)
theorem dX0_isMatch_66 : decode cX0_isMatch 66 = .ok (.invokevirtual 169, 3) := dk_182 0 169 (dk_at dksX0_isMatch_2 19 rfl rfl)
theorem dX0_isMatch_69 : decode cX0_isMatch 69 = .ok (.ifCond .eq 73, 3) := dk_153 0 73 (dk_at dksX0_isMatch_3 0 rfl rfl)
theorem dX0_isMatch_72 : decode cX0_isMatch 72 = .ok (.aload 4, 2) := dk_25 4 (dk_at dksX0_isMatch_3 3 rfl rfl)
theorem dX0_isMatch_74 : decode cX0_isMatch 74 = .ok (.getfield 204, 3) := dk_180 0 204 (dk_at dksX0_isMatch_3 5 rfl rfl)
theorem dX0_isMatch_77 : decode cX0_isMatch 77 = .ok (.iload 7, 2) := dk_21 7 (dk_at dksX0_isMatch_3 8 rfl rfl)
theorem dX0_isMatch_79 : decode cX0_isMatch 79 = .ok (.baload, 1) := dk_51 (dk_at dksX0_isMatch_3 10 rfl rfl)
theorem dX0_isMatch_80 : decode cX0_isMatch 80 = .ok (.bipush 119, 2) := dk_16 119 (dk_at dksX0_isMatch_3 11 rfl rfl)
theorem dX0_isMatch_82 : decode cX0_isMatch 82 = .ok (.isub, 1) := dk_100 (dk_at dksX0_isMatch_3 13 rfl rfl)
theorem dX0_isMatch_83 : decode cX0_isMatch 83 = .ok (.istore 8, 2) := dk_54 8 (dk_at dksX0_isMatch_3 14 rfl rfl)
theorem dX0_isMatch_85 : decode cX0_isMatch 85 = .ok (.aload_n 0, 1) := dk_42 (dk_at dksX0_isMatch_3 16 rfl rfl)
theorem dX0_isMatch_86 : decode cX0_isMatch 86 = .ok (.getfield 99, 3) := dk_180 0 99 (dk_at dksX0_isMatch_3 17 rfl rfl)
theorem dX0_isMatch_89 : decode cX0_isMatch 89 = .ok (.iload 8, 2) := dk_21 8 (dk_at dksX0_isMatch_3 20 rfl rfl)
theorem dX0_isMatch_91 : decode cX0_isMatch 91 = .ok (.aload_n 0, 1) := dk_42 (dk_at dksX0_isMatch_3 22 rfl rfl)
theorem dX0_isMatch_92 : decode cX0_isMatch 92 = .ok (.getfield 99, 3) := dk_180 0 99 (dk_at dksX0_isMatch_4 0 rfl rfl)
theorem dX0_isMatch_95 : decode cX0_isMatch 95 = .ok (.iload 8, 2) := dk_21 8 (dk_at dksX0_isMatch_4 3 rfl rfl)
theorem dX0_isMatch_97 : decode cX0_isMatch 97 = .ok (.iaload, 1) := dk_46 (dk_at dksX0_isMatch_4 5 rfl rfl)
theorem dX0_isMatch_98 : decode cX0_isMatch 98 = .ok (.ifCond .ge 8, 3) := dk_156 0 8 (dk_at dksX0_isMatch_4 6 rfl rfl)
theorem dX0_isMatch_101 : decode cX0_isMatch 101 = .ok (.iload 5, 2) := dk_21 5 (dk_at dksX0_isMatch_4 9 rfl rfl)
theorem dX0_isMatch_103 : decode cX0_isMatch 103 = .ok (.goto 10, 3) := dk_167 0 10 (dk_at dksX0_isMatch_4 11 rfl rfl)
theorem dX0_isMatch_106 : decode cX0_isMatch 106 = .ok (.aload_n 0, 1) := dk_42 (dk_at dksX0_isMatch_4 14 rfl rfl)
theorem dX0_isMatch_107 : decode cX0_isMatch 107 = .ok (.getfield 99, 3) := dk_180 0 99 (dk_at dksX0_isMatch_4 15 rfl rfl)
theorem dX0_isMatch_110 : decode cX0_isMatch 110 = .ok (.iload 8, 2) := dk_21 8 (dk_at dksX0_isMatch_4 18 rfl rfl)
theorem dX0_isMatch_112 : decode cX0_isMatch 112 = .ok (.iaload, 1) := dk_46 (dk_at dksX0_isMatch_4 20 rfl rfl)
theorem dX0_isMatch_113 : decode cX0_isMatch 113 = .ok (.iastore, 1) := dk_79 (dk_at dksX0_isMatch_4 21 rfl rfl)
theorem dX0_isMatch_114 : decode cX0_isMatch 114 = .ok (.aload_n 2, 1) := dk_44 (dk_at dksX0_isMatch_4 22 rfl rfl)
theorem dX0_isMatch_115 : decode cX0_isMatch 115 = .ok (.aload_n 0, 1) := dk_42 (dk_at dksX0_isMatch_4 23 rfl rfl)
theorem dX0_isMatch_116 : decode cX0_isMatch 116 = .ok (.getfield 99, 3) := dk_180 0 99 (dk_at dksX0_isMatch_5 0 rfl rfl)
theorem dX0_isMatch_119 : decode cX0_isMatch 119 = .ok (.iload 8, 2) := dk_21 8 (dk_at dksX0_isMatch_5 3 rfl rfl)
theorem dX0_isMatch_121 : decode cX0_isMatch 121 = .ok (.iaload, 1) := dk_46 (dk_at dksX0_isMatch_5 5 rfl rfl)
theorem dX0_isMatch_122 : decode cX0_isMatch 122 = .ok (.aload_n 2, 1) := dk_44 (dk_at dksX0_isMatch_5 6 rfl rfl)
theorem dX0_isMatch_123 : decode cX0_isMatch 123 = .ok (.iload 5, 2) := dk_21 5 (dk_at dksX0_isMatch_5 7 rfl rfl)
theorem dX0_isMatch_125 : decode cX0_isMatch 125 = .ok (.invokevirtual 375, 3) := dk_182 1 119 (dk_at dksX0_isMatch_5 9 rfl rfl)
theorem dX0_isMatch_128 : decode cX0_isMatch 128 = .ok (.istore 6, 2) := dk_54 6 (dk_at dksX0_isMatch_5 12 rfl rfl)
theorem dX0_isMatch_130 : decode cX0_isMatch 130 = .ok (.aload_n 2, 1) := dk_44 (dk_at dksX0_isMatch_5 14 rfl rfl)
theorem dX0_isMatch_131 : decode cX0_isMatch 131 = .ok (.getfield 201, 3) := dk_180 0 201 (dk_at dksX0_isMatch_5 15 rfl rfl)
theorem dX0_isMatch_134 : decode cX0_isMatch 134 = .ok (.iload 5, 2) := dk_21 5 (dk_at dksX0_isMatch_5 18 rfl rfl)
theorem dX0_isMatch_136 : decode cX0_isMatch 136 = .ok (.iaload, 1) := dk_46 (dk_at dksX0_isMatch_5 20 rfl rfl)
theorem dX0_isMatch_137 : decode cX0_isMatch 137 = .ok (.istore 5, 2) := dk_54 5 (dk_at dksX0_isMatch_5 21 rfl rfl)
theorem dX0_isMatch_139 : decode cX0_isMatch 139 = .ok (.goto 31, 3) := dk_167 0 31 (dk_at dksX0_isMatch_6 0 rfl rfl)
theorem dX0_isMatch_142 : decode cX0_isMatch 142 = .ok (.aload 4, 2) := dk_25 4 (dk_at dksX0_isMatch_6 3 rfl rfl)
theorem dX0_isMatch_144 : decode cX0_isMatch 144 = .ok (.getfield 204, 3) := dk_180 0 204 (dk_at dksX0_isMatch_6 5 rfl rfl)
theorem dX0_isMatch_147 : decode cX0_isMatch 147 = .ok (.iload 7, 2) := dk_21 7 (dk_at dksX0_isMatch_6 8 rfl rfl)
theorem dX0_isMatch_149 : decode cX0_isMatch 149 = .ok (.baload, 1) := dk_51 (dk_at dksX0_isMatch_6 10 rfl rfl)
theorem dX0_isMatch_150 : decode cX0_isMatch 150 = .ok (.aload_n 2, 1) := dk_44 (dk_at dksX0_isMatch_6 11 rfl rfl)
theorem dX0_isMatch_151 : decode cX0_isMatch 151 = .ok (.getfield 204, 3) := dk_180 0 204 (dk_at dksX0_isMatch_6 12 rfl rfl)
theorem dX0_isMatch_154 : decode cX0_isMatch 154 = .ok (.iload 5, 2) := dk_21 5 (dk_at dksX0_isMatch_6 15 rfl rfl)
theorem dX0_isMatch_156 : decode cX0_isMatch 156 = .ok (.baload, 1) := dk_51 (dk_at dksX0_isMatch_6 17 rfl rfl)
theorem dX0_isMatch_157 : decode cX0_isMatch 157 = .ok (.if_icmp .ne 7, 3) := dk_160 0 7 (dk_at dksX0_isMatch_6 18 rfl rfl)
theorem dX0_isMatch_160 : decode cX0_isMatch 160 = .ok (.iconst 1, 1) := dk_4 (dk_at dksX0_isMatch_6 21 rfl rfl)
theorem dX0_isMatch_161 : decode cX0_isMatch 161 = .ok (.goto 4, 3) := dk_167 0 4 (dk_at dksX0_isMatch_7 0 rfl rfl)
theorem dX0_isMatch_164 : decode cX0_isMatch 164 = .ok (.iconst 0, 1) := dk_3 (dk_at dksX0_isMatch_7 3 rfl rfl)
theorem dX0_isMatch_165 : decode cX0_isMatch 165 = .ok (.istore 6, 2) := dk_54 6 (dk_at dksX0_isMatch_7 4 rfl rfl)
theorem dX0_isMatch_167 : decode cX0_isMatch 167 = .ok (.iinc 5 1, 3) := dk_132 5 1 (dk_at dksX0_isMatch_7 6 rfl rfl)
theorem dX0_isMatch_170 : decode cX0_isMatch 170 = .ok (.iinc 7 1, 3) := dk_132 7 1 (dk_at dksX0_isMatch_7 9 rfl rfl)
theorem dX0_isMatch_173 : decode cX0_isMatch 173 = .ok (.goto (-126), 3) := dk_167 255 130 (dk_at dksX0_isMatch_7 12 rfl rfl)
theorem dX0_isMatch_176 : decode cX0_isMatch 176 = .ok (.iload 6, 2) := dk_21 6 (dk_at dksX0_isMatch_7 15 rfl rfl)
theorem dX0_isMatch_178 : decode cX0_isMatch 178 = .ok (.ireturn, 1) := dk_172 (dk_at dksX0_isMatch_7 17 rfl rfl)
abbrev cX0_redexCount : ByteArray := prog_1_method_76_code
def yX0_redexCount : MethodName := ⟨RX0, "redexCount", "(I)I"⟩
def dkwX0_redexCount_2 : List UInt8 := [167, 255, 231, 29, 172]
abbrev dktX0_redexCount_2 : List UInt8 := dkwX0_redexCount_2 ++ []
def dkwX0_redexCount_1 : List UInt8 := [182, 0, 165, 162, 0, 22, 29, 42, 44, 21, 4, 182, 1, 129, 184, 0, 252, 96, 62, 132, 4, 1]
abbrev dktX0_redexCount_1 : List UInt8 := dkwX0_redexCount_1 ++ dktX0_redexCount_2
def dkwX0_redexCount_0 : List UInt8 := [27, 184, 1, 152, 154, 0, 5, 2, 172, 42, 180, 0, 21, 27, 50, 77, 3, 62, 3, 54, 4, 21, 4, 44]
abbrev dktX0_redexCount_0 : List UInt8 := dkwX0_redexCount_0 ++ dktX0_redexCount_1
theorem dksX0_redexCount_0 : cX0_redexCount.data.toList.drop 0 = dktX0_redexCount_0 := by decide +kernel
theorem dksX0_redexCount_1 : cX0_redexCount.data.toList.drop 24 = dktX0_redexCount_1 := dk_seg dksX0_redexCount_0 24 rfl rfl
theorem dksX0_redexCount_2 : cX0_redexCount.data.toList.drop 46 = dktX0_redexCount_2 := dk_seg dksX0_redexCount_1 22 rfl rfl
theorem dX0_redexCount_0 : decode cX0_redexCount 0 = .ok (.iload_n 1, 1) := dk_27 (dk_at dksX0_redexCount_0 0 rfl rfl)
theorem dX0_redexCount_1 : decode cX0_redexCount 1 = .ok (.invokestatic 408, 3) := dk_184 1 152 (dk_at dksX0_redexCount_0 1 rfl rfl)
theorem dX0_redexCount_4 : decode cX0_redexCount 4 = .ok (.ifCond .ne 5, 3) := dk_154 0 5 (dk_at dksX0_redexCount_0 4 rfl rfl)
theorem dX0_redexCount_7 : decode cX0_redexCount 7 = .ok (.iconst (-1), 1) := dk_2 (dk_at dksX0_redexCount_0 7 rfl rfl)
theorem dX0_redexCount_8 : decode cX0_redexCount 8 = .ok (.ireturn, 1) := dk_172 (dk_at dksX0_redexCount_0 8 rfl rfl)
theorem dX0_redexCount_9 : decode cX0_redexCount 9 = .ok (.aload_n 0, 1) := dk_42 (dk_at dksX0_redexCount_0 9 rfl rfl)
theorem dX0_redexCount_10 : decode cX0_redexCount 10 = .ok (.getfield 21, 3) := dk_180 0 21 (dk_at dksX0_redexCount_0 10 rfl rfl)
theorem dX0_redexCount_13 : decode cX0_redexCount 13 = .ok (.iload_n 1, 1) := dk_27 (dk_at dksX0_redexCount_0 13 rfl rfl)
theorem dX0_redexCount_14 : decode cX0_redexCount 14 = .ok (.aaload, 1) := dk_50 (dk_at dksX0_redexCount_0 14 rfl rfl)
theorem dX0_redexCount_15 : decode cX0_redexCount 15 = .ok (.astore_n 2, 1) := dk_77 (dk_at dksX0_redexCount_0 15 rfl rfl)
theorem dX0_redexCount_16 : decode cX0_redexCount 16 = .ok (.iconst 0, 1) := dk_3 (dk_at dksX0_redexCount_0 16 rfl rfl)
theorem dX0_redexCount_17 : decode cX0_redexCount 17 = .ok (.istore_n 3, 1) := dk_62 (dk_at dksX0_redexCount_0 17 rfl rfl)
theorem dX0_redexCount_18 : decode cX0_redexCount 18 = .ok (.iconst 0, 1) := dk_3 (dk_at dksX0_redexCount_0 18 rfl rfl)
theorem dX0_redexCount_19 : decode cX0_redexCount 19 = .ok (.istore 4, 2) := dk_54 4 (dk_at dksX0_redexCount_0 19 rfl rfl)
theorem dX0_redexCount_21 : decode cX0_redexCount 21 = .ok (.iload 4, 2) := dk_21 4 (dk_at dksX0_redexCount_0 21 rfl rfl)
theorem dX0_redexCount_23 : decode cX0_redexCount 23 = .ok (.aload_n 2, 1) := dk_44 (dk_at dksX0_redexCount_0 23 rfl rfl)
theorem dX0_redexCount_24 : decode cX0_redexCount 24 = .ok (.invokevirtual 165, 3) := dk_182 0 165 (dk_at dksX0_redexCount_1 0 rfl rfl)
theorem dX0_redexCount_27 : decode cX0_redexCount 27 = .ok (.if_icmp .ge 22, 3) := dk_162 0 22 (dk_at dksX0_redexCount_1 3 rfl rfl)
theorem dX0_redexCount_30 : decode cX0_redexCount 30 = .ok (.iload_n 3, 1) := dk_29 (dk_at dksX0_redexCount_1 6 rfl rfl)
theorem dX0_redexCount_31 : decode cX0_redexCount 31 = .ok (.aload_n 0, 1) := dk_42 (dk_at dksX0_redexCount_1 7 rfl rfl)
theorem dX0_redexCount_32 : decode cX0_redexCount 32 = .ok (.aload_n 2, 1) := dk_44 (dk_at dksX0_redexCount_1 8 rfl rfl)
theorem dX0_redexCount_33 : decode cX0_redexCount 33 = .ok (.iload 4, 2) := dk_21 4 (dk_at dksX0_redexCount_1 9 rfl rfl)
theorem dX0_redexCount_35 : decode cX0_redexCount 35 = .ok (.invokevirtual 385, 3) := dk_182 1 129 (dk_at dksX0_redexCount_1 11 rfl rfl)
theorem dX0_redexCount_38 : decode cX0_redexCount 38 = .ok (.invokestatic 252, 3) := dk_184 0 252 (dk_at dksX0_redexCount_1 14 rfl rfl)
theorem dX0_redexCount_41 : decode cX0_redexCount 41 = .ok (.iadd, 1) := dk_96 (dk_at dksX0_redexCount_1 17 rfl rfl)
theorem dX0_redexCount_42 : decode cX0_redexCount 42 = .ok (.istore_n 3, 1) := dk_62 (dk_at dksX0_redexCount_1 18 rfl rfl)
theorem dX0_redexCount_43 : decode cX0_redexCount 43 = .ok (.iinc 4 1, 3) := dk_132 4 1 (dk_at dksX0_redexCount_1 19 rfl rfl)
theorem dX0_redexCount_46 : decode cX0_redexCount 46 = .ok (.goto (-25), 3) := dk_167 255 231 (dk_at dksX0_redexCount_2 0 rfl rfl)
theorem dX0_redexCount_49 : decode cX0_redexCount 49 = .ok (.iload_n 3, 1) := dk_29 (dk_at dksX0_redexCount_2 3 rfl rfl)
theorem dX0_redexCount_50 : decode cX0_redexCount 50 = .ok (.ireturn, 1) := dk_172 (dk_at dksX0_redexCount_2 4 rfl rfl)
abbrev cX0_isRedex : ByteArray := prog_1_method_57_code
def yX0_isRedex : MethodName := ⟨RX0, "isRedex", "(LDependencyPairAnalyzer$Term;I)Z"⟩
def dkwX0_isRedex_0 : List UInt8 := [42, 43, 28, 182, 1, 125, 16, 251, 159, 0, 7, 4, 167, 0, 4, 3, 172]
abbrev dktX0_isRedex_0 : List UInt8 := dkwX0_isRedex_0 ++ []
theorem dksX0_isRedex_0 : cX0_isRedex.data.toList.drop 0 = dktX0_isRedex_0 := by decide +kernel
theorem dX0_isRedex_0 : decode cX0_isRedex 0 = .ok (.aload_n 0, 1) := dk_42 (dk_at dksX0_isRedex_0 0 rfl rfl)
theorem dX0_isRedex_1 : decode cX0_isRedex 1 = .ok (.aload_n 1, 1) := dk_43 (dk_at dksX0_isRedex_0 1 rfl rfl)
theorem dX0_isRedex_2 : decode cX0_isRedex 2 = .ok (.iload_n 2, 1) := dk_28 (dk_at dksX0_isRedex_0 2 rfl rfl)
theorem dX0_isRedex_3 : decode cX0_isRedex 3 = .ok (.invokevirtual 381, 3) := dk_182 1 125 (dk_at dksX0_isRedex_0 3 rfl rfl)
theorem dX0_isRedex_6 : decode cX0_isRedex 6 = .ok (.bipush (-5), 2) := dk_16 251 (dk_at dksX0_isRedex_0 6 rfl rfl)
theorem dX0_isRedex_8 : decode cX0_isRedex 8 = .ok (.if_icmp .eq 7, 3) := dk_159 0 7 (dk_at dksX0_isRedex_0 8 rfl rfl)
theorem dX0_isRedex_11 : decode cX0_isRedex 11 = .ok (.iconst 1, 1) := dk_4 (dk_at dksX0_isRedex_0 11 rfl rfl)
theorem dX0_isRedex_12 : decode cX0_isRedex 12 = .ok (.goto 4, 3) := dk_167 0 4 (dk_at dksX0_isRedex_0 12 rfl rfl)
theorem dX0_isRedex_15 : decode cX0_isRedex 15 = .ok (.iconst 0, 1) := dk_3 (dk_at dksX0_isRedex_0 15 rfl rfl)
theorem dX0_isRedex_16 : decode cX0_isRedex 16 = .ok (.ireturn, 1) := dk_172 (dk_at dksX0_isRedex_0 16 rfl rfl)
abbrev cX0_matchingRule : ByteArray := prog_1_method_56_code
def yX0_matchingRule : MethodName := ⟨RX0, "matchingRule", "(LDependencyPairAnalyzer$Term;I)I"⟩
def dkwX0_matchingRule_2 : List UInt8 := [162, 0, 7, 29, 167, 0, 5, 16, 251, 172]
abbrev dktX0_matchingRule_2 : List UInt8 := dkwX0_matchingRule_2 ++ []
def dkwX0_matchingRule_1 : List UInt8 := [162, 0, 19, 42, 29, 43, 28, 182, 1, 122, 154, 0, 9, 132, 3, 1, 167, 255, 235, 29, 42, 180, 0, 138]
abbrev dktX0_matchingRule_1 : List UInt8 := dkwX0_matchingRule_1 ++ dktX0_matchingRule_2
def dkwX0_matchingRule_0 : List UInt8 := [43, 28, 182, 0, 164, 153, 0, 7, 3, 167, 0, 7, 42, 180, 0, 138, 62, 29, 42, 180, 0, 138]
abbrev dktX0_matchingRule_0 : List UInt8 := dkwX0_matchingRule_0 ++ dktX0_matchingRule_1
theorem dksX0_matchingRule_0 : cX0_matchingRule.data.toList.drop 0 = dktX0_matchingRule_0 := by decide +kernel
theorem dksX0_matchingRule_1 : cX0_matchingRule.data.toList.drop 22 = dktX0_matchingRule_1 := dk_seg dksX0_matchingRule_0 22 rfl rfl
theorem dksX0_matchingRule_2 : cX0_matchingRule.data.toList.drop 46 = dktX0_matchingRule_2 := dk_seg dksX0_matchingRule_1 24 rfl rfl
theorem dX0_matchingRule_0 : decode cX0_matchingRule 0 = .ok (.aload_n 1, 1) := dk_43 (dk_at dksX0_matchingRule_0 0 rfl rfl)
theorem dX0_matchingRule_1 : decode cX0_matchingRule 1 = .ok (.iload_n 2, 1) := dk_28 (dk_at dksX0_matchingRule_0 1 rfl rfl)
theorem dX0_matchingRule_2 : decode cX0_matchingRule 2 = .ok (.invokevirtual 164, 3) := dk_182 0 164 (dk_at dksX0_matchingRule_0 2 rfl rfl)
theorem dX0_matchingRule_5 : decode cX0_matchingRule 5 = .ok (.ifCond .eq 7, 3) := dk_153 0 7 (dk_at dksX0_matchingRule_0 5 rfl rfl)
theorem dX0_matchingRule_8 : decode cX0_matchingRule 8 = .ok (.iconst 0, 1) := dk_3 (dk_at dksX0_matchingRule_0 8 rfl rfl)
theorem dX0_matchingRule_9 : decode cX0_matchingRule 9 = .ok (.goto 7, 3) := dk_167 0 7 (dk_at dksX0_matchingRule_0 9 rfl rfl)
theorem dX0_matchingRule_12 : decode cX0_matchingRule 12 = .ok (.aload_n 0, 1) := dk_42 (dk_at dksX0_matchingRule_0 12 rfl rfl)
theorem dX0_matchingRule_13 : decode cX0_matchingRule 13 = .ok (.getfield 138, 3) := dk_180 0 138 (dk_at dksX0_matchingRule_0 13 rfl rfl)
theorem dX0_matchingRule_16 : decode cX0_matchingRule 16 = .ok (.istore_n 3, 1) := dk_62 (dk_at dksX0_matchingRule_0 16 rfl rfl)
theorem dX0_matchingRule_17 : decode cX0_matchingRule 17 = .ok (.iload_n 3, 1) := dk_29 (dk_at dksX0_matchingRule_0 17 rfl rfl)
theorem dX0_matchingRule_18 : decode cX0_matchingRule 18 = .ok (.aload_n 0, 1) := dk_42 (dk_at dksX0_matchingRule_0 18 rfl rfl)
theorem dX0_matchingRule_19 : decode cX0_matchingRule 19 = .ok (.getfield 138, 3) := dk_180 0 138 (dk_at dksX0_matchingRule_0 19 rfl rfl)
theorem dX0_matchingRule_22 : decode cX0_matchingRule 22 = .ok (.if_icmp .ge 19, 3) := dk_162 0 19 (dk_at dksX0_matchingRule_1 0 rfl rfl)
theorem dX0_matchingRule_25 : decode cX0_matchingRule 25 = .ok (.aload_n 0, 1) := dk_42 (dk_at dksX0_matchingRule_1 3 rfl rfl)
theorem dX0_matchingRule_26 : decode cX0_matchingRule 26 = .ok (.iload_n 3, 1) := dk_29 (dk_at dksX0_matchingRule_1 4 rfl rfl)
theorem dX0_matchingRule_27 : decode cX0_matchingRule 27 = .ok (.aload_n 1, 1) := dk_43 (dk_at dksX0_matchingRule_1 5 rfl rfl)
theorem dX0_matchingRule_28 : decode cX0_matchingRule 28 = .ok (.iload_n 2, 1) := dk_28 (dk_at dksX0_matchingRule_1 6 rfl rfl)
theorem dX0_matchingRule_29 : decode cX0_matchingRule 29 = .ok (.invokevirtual 378, 3) := dk_182 1 122 (dk_at dksX0_matchingRule_1 7 rfl rfl)
theorem dX0_matchingRule_32 : decode cX0_matchingRule 32 = .ok (.ifCond .ne 9, 3) := dk_154 0 9 (dk_at dksX0_matchingRule_1 10 rfl rfl)
theorem dX0_matchingRule_35 : decode cX0_matchingRule 35 = .ok (.iinc 3 1, 3) := dk_132 3 1 (dk_at dksX0_matchingRule_1 13 rfl rfl)
theorem dX0_matchingRule_38 : decode cX0_matchingRule 38 = .ok (.goto (-21), 3) := dk_167 255 235 (dk_at dksX0_matchingRule_1 16 rfl rfl)
theorem dX0_matchingRule_41 : decode cX0_matchingRule 41 = .ok (.iload_n 3, 1) := dk_29 (dk_at dksX0_matchingRule_1 19 rfl rfl)
theorem dX0_matchingRule_42 : decode cX0_matchingRule 42 = .ok (.aload_n 0, 1) := dk_42 (dk_at dksX0_matchingRule_1 20 rfl rfl)
theorem dX0_matchingRule_43 : decode cX0_matchingRule 43 = .ok (.getfield 138, 3) := dk_180 0 138 (dk_at dksX0_matchingRule_1 21 rfl rfl)
theorem dX0_matchingRule_46 : decode cX0_matchingRule 46 = .ok (.if_icmp .ge 7, 3) := dk_162 0 7 (dk_at dksX0_matchingRule_2 0 rfl rfl)
theorem dX0_matchingRule_49 : decode cX0_matchingRule 49 = .ok (.iload_n 3, 1) := dk_29 (dk_at dksX0_matchingRule_2 3 rfl rfl)
theorem dX0_matchingRule_50 : decode cX0_matchingRule 50 = .ok (.goto 5, 3) := dk_167 0 5 (dk_at dksX0_matchingRule_2 4 rfl rfl)
theorem dX0_matchingRule_53 : decode cX0_matchingRule 53 = .ok (.bipush (-5), 2) := dk_16 251 (dk_at dksX0_matchingRule_2 7 rfl rfl)
theorem dX0_matchingRule_55 : decode cX0_matchingRule 55 = .ok (.ireturn, 1) := dk_172 (dk_at dksX0_matchingRule_2 9 rfl rfl)
abbrev cX0_redexAt : ByteArray := prog_1_method_77_code
def yX0_redexAt : MethodName := ⟨RX0, "redexAt", "(II)I"⟩
def dkwX0_redexAt_2 : List UInt8 := [160, 0, 6, 21, 5, 172, 132, 4, 1, 132, 5, 1, 167, 255, 222, 16, 251, 172]
abbrev dktX0_redexAt_2 : List UInt8 := dkwX0_redexAt_2 ++ []
def dkwX0_redexAt_1 : List UInt8 := [54, 5, 21, 5, 45, 182, 0, 165, 162, 0, 31, 42, 45, 21, 5, 182, 1, 129, 153, 0, 15, 21, 4, 28]
abbrev dktX0_redexAt_1 : List UInt8 := dkwX0_redexAt_1 ++ dktX0_redexAt_2
def dkwX0_redexAt_0 : List UInt8 := [27, 184, 1, 152, 153, 0, 7, 28, 156, 0, 5, 2, 172, 42, 180, 0, 21, 27, 50, 78, 3, 54, 4, 3]
abbrev dktX0_redexAt_0 : List UInt8 := dkwX0_redexAt_0 ++ dktX0_redexAt_1
theorem dksX0_redexAt_0 : cX0_redexAt.data.toList.drop 0 = dktX0_redexAt_0 := by decide +kernel
theorem dksX0_redexAt_1 : cX0_redexAt.data.toList.drop 24 = dktX0_redexAt_1 := dk_seg dksX0_redexAt_0 24 rfl rfl
theorem dksX0_redexAt_2 : cX0_redexAt.data.toList.drop 48 = dktX0_redexAt_2 := dk_seg dksX0_redexAt_1 24 rfl rfl
theorem dX0_redexAt_0 : decode cX0_redexAt 0 = .ok (.iload_n 1, 1) := dk_27 (dk_at dksX0_redexAt_0 0 rfl rfl)
theorem dX0_redexAt_1 : decode cX0_redexAt 1 = .ok (.invokestatic 408, 3) := dk_184 1 152 (dk_at dksX0_redexAt_0 1 rfl rfl)
theorem dX0_redexAt_4 : decode cX0_redexAt 4 = .ok (.ifCond .eq 7, 3) := dk_153 0 7 (dk_at dksX0_redexAt_0 4 rfl rfl)
theorem dX0_redexAt_7 : decode cX0_redexAt 7 = .ok (.iload_n 2, 1) := dk_28 (dk_at dksX0_redexAt_0 7 rfl rfl)
theorem dX0_redexAt_8 : decode cX0_redexAt 8 = .ok (.ifCond .ge 5, 3) := dk_156 0 5 (dk_at dksX0_redexAt_0 8 rfl rfl)
theorem dX0_redexAt_11 : decode cX0_redexAt 11 = .ok (.iconst (-1), 1) := dk_2 (dk_at dksX0_redexAt_0 11 rfl rfl)
theorem dX0_redexAt_12 : decode cX0_redexAt 12 = .ok (.ireturn, 1) := dk_172 (dk_at dksX0_redexAt_0 12 rfl rfl)
theorem dX0_redexAt_13 : decode cX0_redexAt 13 = .ok (.aload_n 0, 1) := dk_42 (dk_at dksX0_redexAt_0 13 rfl rfl)
theorem dX0_redexAt_14 : decode cX0_redexAt 14 = .ok (.getfield 21, 3) := dk_180 0 21 (dk_at dksX0_redexAt_0 14 rfl rfl)
theorem dX0_redexAt_17 : decode cX0_redexAt 17 = .ok (.iload_n 1, 1) := dk_27 (dk_at dksX0_redexAt_0 17 rfl rfl)
theorem dX0_redexAt_18 : decode cX0_redexAt 18 = .ok (.aaload, 1) := dk_50 (dk_at dksX0_redexAt_0 18 rfl rfl)
theorem dX0_redexAt_19 : decode cX0_redexAt 19 = .ok (.astore_n 3, 1) := dk_78 (dk_at dksX0_redexAt_0 19 rfl rfl)
theorem dX0_redexAt_20 : decode cX0_redexAt 20 = .ok (.iconst 0, 1) := dk_3 (dk_at dksX0_redexAt_0 20 rfl rfl)
theorem dX0_redexAt_21 : decode cX0_redexAt 21 = .ok (.istore 4, 2) := dk_54 4 (dk_at dksX0_redexAt_0 21 rfl rfl)
theorem dX0_redexAt_23 : decode cX0_redexAt 23 = .ok (.iconst 0, 1) := dk_3 (dk_at dksX0_redexAt_0 23 rfl rfl)
theorem dX0_redexAt_24 : decode cX0_redexAt 24 = .ok (.istore 5, 2) := dk_54 5 (dk_at dksX0_redexAt_1 0 rfl rfl)
theorem dX0_redexAt_26 : decode cX0_redexAt 26 = .ok (.iload 5, 2) := dk_21 5 (dk_at dksX0_redexAt_1 2 rfl rfl)
theorem dX0_redexAt_28 : decode cX0_redexAt 28 = .ok (.aload_n 3, 1) := dk_45 (dk_at dksX0_redexAt_1 4 rfl rfl)
theorem dX0_redexAt_29 : decode cX0_redexAt 29 = .ok (.invokevirtual 165, 3) := dk_182 0 165 (dk_at dksX0_redexAt_1 5 rfl rfl)
theorem dX0_redexAt_32 : decode cX0_redexAt 32 = .ok (.if_icmp .ge 31, 3) := dk_162 0 31 (dk_at dksX0_redexAt_1 8 rfl rfl)
theorem dX0_redexAt_35 : decode cX0_redexAt 35 = .ok (.aload_n 0, 1) := dk_42 (dk_at dksX0_redexAt_1 11 rfl rfl)
theorem dX0_redexAt_36 : decode cX0_redexAt 36 = .ok (.aload_n 3, 1) := dk_45 (dk_at dksX0_redexAt_1 12 rfl rfl)
theorem dX0_redexAt_37 : decode cX0_redexAt 37 = .ok (.iload 5, 2) := dk_21 5 (dk_at dksX0_redexAt_1 13 rfl rfl)
theorem dX0_redexAt_39 : decode cX0_redexAt 39 = .ok (.invokevirtual 385, 3) := dk_182 1 129 (dk_at dksX0_redexAt_1 15 rfl rfl)
theorem dX0_redexAt_42 : decode cX0_redexAt 42 = .ok (.ifCond .eq 15, 3) := dk_153 0 15 (dk_at dksX0_redexAt_1 18 rfl rfl)
theorem dX0_redexAt_45 : decode cX0_redexAt 45 = .ok (.iload 4, 2) := dk_21 4 (dk_at dksX0_redexAt_1 21 rfl rfl)
theorem dX0_redexAt_47 : decode cX0_redexAt 47 = .ok (.iload_n 2, 1) := dk_28 (dk_at dksX0_redexAt_1 23 rfl rfl)
theorem dX0_redexAt_48 : decode cX0_redexAt 48 = .ok (.if_icmp .ne 6, 3) := dk_160 0 6 (dk_at dksX0_redexAt_2 0 rfl rfl)
theorem dX0_redexAt_51 : decode cX0_redexAt 51 = .ok (.iload 5, 2) := dk_21 5 (dk_at dksX0_redexAt_2 3 rfl rfl)
theorem dX0_redexAt_53 : decode cX0_redexAt 53 = .ok (.ireturn, 1) := dk_172 (dk_at dksX0_redexAt_2 5 rfl rfl)
theorem dX0_redexAt_54 : decode cX0_redexAt 54 = .ok (.iinc 4 1, 3) := dk_132 4 1 (dk_at dksX0_redexAt_2 6 rfl rfl)
theorem dX0_redexAt_57 : decode cX0_redexAt 57 = .ok (.iinc 5 1, 3) := dk_132 5 1 (dk_at dksX0_redexAt_2 9 rfl rfl)
theorem dX0_redexAt_60 : decode cX0_redexAt 60 = .ok (.goto (-34), 3) := dk_167 255 222 (dk_at dksX0_redexAt_2 12 rfl rfl)
theorem dX0_redexAt_63 : decode cX0_redexAt 63 = .ok (.bipush (-5), 2) := dk_16 251 (dk_at dksX0_redexAt_2 15 rfl rfl)
theorem dX0_redexAt_65 : decode cX0_redexAt 65 = .ok (.ireturn, 1) := dk_172 (dk_at dksX0_redexAt_2 17 rfl rfl)
abbrev cX0_rewriteAt : ByteArray := prog_1_method_78_code
def yX0_rewriteAt : MethodName := ⟨RX0, "rewriteAt", "(II)I"⟩
def dkwX0_rewriteAt_2 : List UInt8 := [167, 0, 9, 42, 45, 27, 182, 1, 158, 172]
abbrev dktX0_rewriteAt_2 : List UInt8 := dkwX0_rewriteAt_2 ++ []
def dkwX0_rewriteAt_1 : List UInt8 := [154, 0, 6, 16, 251, 172, 42, 42, 180, 0, 21, 27, 50, 28, 182, 1, 148, 78, 45, 199, 0, 8, 16, 248]
abbrev dktX0_rewriteAt_1 : List UInt8 := dkwX0_rewriteAt_1 ++ dktX0_rewriteAt_2
def dkwX0_rewriteAt_0 : List UInt8 := [42, 27, 28, 182, 1, 180, 154, 0, 5, 2, 172, 42, 42, 180, 0, 21, 27, 50, 28, 182, 1, 129]
abbrev dktX0_rewriteAt_0 : List UInt8 := dkwX0_rewriteAt_0 ++ dktX0_rewriteAt_1
theorem dksX0_rewriteAt_0 : cX0_rewriteAt.data.toList.drop 0 = dktX0_rewriteAt_0 := by decide +kernel
theorem dksX0_rewriteAt_1 : cX0_rewriteAt.data.toList.drop 22 = dktX0_rewriteAt_1 := dk_seg dksX0_rewriteAt_0 22 rfl rfl
theorem dksX0_rewriteAt_2 : cX0_rewriteAt.data.toList.drop 46 = dktX0_rewriteAt_2 := dk_seg dksX0_rewriteAt_1 24 rfl rfl
theorem dX0_rewriteAt_0 : decode cX0_rewriteAt 0 = .ok (.aload_n 0, 1) := dk_42 (dk_at dksX0_rewriteAt_0 0 rfl rfl)
theorem dX0_rewriteAt_1 : decode cX0_rewriteAt 1 = .ok (.iload_n 1, 1) := dk_27 (dk_at dksX0_rewriteAt_0 1 rfl rfl)
theorem dX0_rewriteAt_2 : decode cX0_rewriteAt 2 = .ok (.iload_n 2, 1) := dk_28 (dk_at dksX0_rewriteAt_0 2 rfl rfl)
theorem dX0_rewriteAt_3 : decode cX0_rewriteAt 3 = .ok (.invokevirtual 436, 3) := dk_182 1 180 (dk_at dksX0_rewriteAt_0 3 rfl rfl)
theorem dX0_rewriteAt_6 : decode cX0_rewriteAt 6 = .ok (.ifCond .ne 5, 3) := dk_154 0 5 (dk_at dksX0_rewriteAt_0 6 rfl rfl)
theorem dX0_rewriteAt_9 : decode cX0_rewriteAt 9 = .ok (.iconst (-1), 1) := dk_2 (dk_at dksX0_rewriteAt_0 9 rfl rfl)
theorem dX0_rewriteAt_10 : decode cX0_rewriteAt 10 = .ok (.ireturn, 1) := dk_172 (dk_at dksX0_rewriteAt_0 10 rfl rfl)
theorem dX0_rewriteAt_11 : decode cX0_rewriteAt 11 = .ok (.aload_n 0, 1) := dk_42 (dk_at dksX0_rewriteAt_0 11 rfl rfl)
theorem dX0_rewriteAt_12 : decode cX0_rewriteAt 12 = .ok (.aload_n 0, 1) := dk_42 (dk_at dksX0_rewriteAt_0 12 rfl rfl)
theorem dX0_rewriteAt_13 : decode cX0_rewriteAt 13 = .ok (.getfield 21, 3) := dk_180 0 21 (dk_at dksX0_rewriteAt_0 13 rfl rfl)
theorem dX0_rewriteAt_16 : decode cX0_rewriteAt 16 = .ok (.iload_n 1, 1) := dk_27 (dk_at dksX0_rewriteAt_0 16 rfl rfl)
theorem dX0_rewriteAt_17 : decode cX0_rewriteAt 17 = .ok (.aaload, 1) := dk_50 (dk_at dksX0_rewriteAt_0 17 rfl rfl)
theorem dX0_rewriteAt_18 : decode cX0_rewriteAt 18 = .ok (.iload_n 2, 1) := dk_28 (dk_at dksX0_rewriteAt_0 18 rfl rfl)
theorem dX0_rewriteAt_19 : decode cX0_rewriteAt 19 = .ok (.invokevirtual 385, 3) := dk_182 1 129 (dk_at dksX0_rewriteAt_0 19 rfl rfl)
theorem dX0_rewriteAt_22 : decode cX0_rewriteAt 22 = .ok (.ifCond .ne 6, 3) := dk_154 0 6 (dk_at dksX0_rewriteAt_1 0 rfl rfl)
theorem dX0_rewriteAt_25 : decode cX0_rewriteAt 25 = .ok (.bipush (-5), 2) := dk_16 251 (dk_at dksX0_rewriteAt_1 3 rfl rfl)
theorem dX0_rewriteAt_27 : decode cX0_rewriteAt 27 = .ok (.ireturn, 1) := dk_172 (dk_at dksX0_rewriteAt_1 5 rfl rfl)
theorem dX0_rewriteAt_28 : decode cX0_rewriteAt 28 = .ok (.aload_n 0, 1) := dk_42 (dk_at dksX0_rewriteAt_1 6 rfl rfl)
theorem dX0_rewriteAt_29 : decode cX0_rewriteAt 29 = .ok (.aload_n 0, 1) := dk_42 (dk_at dksX0_rewriteAt_1 7 rfl rfl)
theorem dX0_rewriteAt_30 : decode cX0_rewriteAt 30 = .ok (.getfield 21, 3) := dk_180 0 21 (dk_at dksX0_rewriteAt_1 8 rfl rfl)
theorem dX0_rewriteAt_33 : decode cX0_rewriteAt 33 = .ok (.iload_n 1, 1) := dk_27 (dk_at dksX0_rewriteAt_1 11 rfl rfl)
theorem dX0_rewriteAt_34 : decode cX0_rewriteAt 34 = .ok (.aaload, 1) := dk_50 (dk_at dksX0_rewriteAt_1 12 rfl rfl)
theorem dX0_rewriteAt_35 : decode cX0_rewriteAt 35 = .ok (.iload_n 2, 1) := dk_28 (dk_at dksX0_rewriteAt_1 13 rfl rfl)
theorem dX0_rewriteAt_36 : decode cX0_rewriteAt 36 = .ok (.invokevirtual 404, 3) := dk_182 1 148 (dk_at dksX0_rewriteAt_1 14 rfl rfl)
theorem dX0_rewriteAt_39 : decode cX0_rewriteAt 39 = .ok (.astore_n 3, 1) := dk_78 (dk_at dksX0_rewriteAt_1 17 rfl rfl)
theorem dX0_rewriteAt_40 : decode cX0_rewriteAt 40 = .ok (.aload_n 3, 1) := dk_45 (dk_at dksX0_rewriteAt_1 18 rfl rfl)
theorem dX0_rewriteAt_41 : decode cX0_rewriteAt 41 = .ok (.ifnonnull 8, 3) := dk_199 0 8 (dk_at dksX0_rewriteAt_1 19 rfl rfl)
theorem dX0_rewriteAt_44 : decode cX0_rewriteAt 44 = .ok (.bipush (-8), 2) := dk_16 248 (dk_at dksX0_rewriteAt_1 22 rfl rfl)
theorem dX0_rewriteAt_46 : decode cX0_rewriteAt 46 = .ok (.goto 9, 3) := dk_167 0 9 (dk_at dksX0_rewriteAt_2 0 rfl rfl)
theorem dX0_rewriteAt_49 : decode cX0_rewriteAt 49 = .ok (.aload_n 0, 1) := dk_42 (dk_at dksX0_rewriteAt_2 3 rfl rfl)
theorem dX0_rewriteAt_50 : decode cX0_rewriteAt 50 = .ok (.aload_n 3, 1) := dk_45 (dk_at dksX0_rewriteAt_2 4 rfl rfl)
theorem dX0_rewriteAt_51 : decode cX0_rewriteAt 51 = .ok (.iload_n 1, 1) := dk_27 (dk_at dksX0_rewriteAt_2 5 rfl rfl)
theorem dX0_rewriteAt_52 : decode cX0_rewriteAt 52 = .ok (.invokevirtual 414, 3) := dk_182 1 158 (dk_at dksX0_rewriteAt_2 6 rfl rfl)
theorem dX0_rewriteAt_55 : decode cX0_rewriteAt 55 = .ok (.ireturn, 1) := dk_172 (dk_at dksX0_rewriteAt_2 9 rfl rfl)
abbrev cX0_rewritten : ByteArray := prog_1_method_62_code
def yX0_rewritten : MethodName := ⟨RX0, "rewritten", "(LDependencyPairAnalyzer$Term;I)LDependencyPairAnalyzer$Term;"⟩
def dkwX0_rewritten_6 : List UInt8 := [89, 42, 180, 0, 25, 42, 180, 0, 121, 42, 180, 0, 7, 183, 0, 129, 176]
abbrev dktX0_rewritten_6 : List UInt8 := dkwX0_rewritten_6 ++ []
def dkwX0_rewritten_5 : List UInt8 := [132, 4, 1, 167, 255, 190, 42, 43, 43, 180, 0, 201, 28, 46, 43, 182, 0, 165, 182, 1, 144, 187, 0, 19]
abbrev dktX0_rewritten_5 : List UInt8 := dkwX0_rewritten_5 ++ dktX0_rewritten_6
def dkwX0_rewritten_4 : List UInt8 := [180, 0, 201, 21, 5, 46, 182, 1, 144, 167, 0, 14, 42, 45, 180, 0, 204, 21, 4, 51, 182, 0, 125]
abbrev dktX0_rewritten_4 : List UInt8 := dkwX0_rewritten_4 ++ dktX0_rewritten_5
def dkwX0_rewritten_3 : List UInt8 := [42, 180, 0, 99, 45, 180, 0, 204, 21, 4, 51, 16, 119, 100, 46, 54, 5, 42, 43, 21, 5, 43]
abbrev dktX0_rewritten_3 : List UInt8 := dkwX0_rewritten_3 ++ dktX0_rewritten_4
def dkwX0_rewritten_2 : List UInt8 := [182, 1, 144, 3, 54, 4, 21, 4, 45, 182, 0, 165, 162, 0, 63, 45, 21, 4, 182, 0, 169, 153, 0, 37]
abbrev dktX0_rewritten_2 : List UInt8 := dkwX0_rewritten_2 ++ dktX0_rewritten_3
def dkwX0_rewritten_1 : List UInt8 := [100, 42, 45, 43, 182, 1, 140, 96, 16, 40, 164, 0, 5, 1, 176, 42, 3, 181, 0, 121, 42, 43, 3, 28]
abbrev dktX0_rewritten_1 : List UInt8 := dkwX0_rewritten_1 ++ dktX0_rewritten_2
def dkwX0_rewritten_0 : List UInt8 := [42, 180, 0, 15, 42, 43, 28, 182, 1, 125, 50, 180, 0, 161, 78, 43, 182, 0, 165, 43, 28, 182, 1, 137]
abbrev dktX0_rewritten_0 : List UInt8 := dkwX0_rewritten_0 ++ dktX0_rewritten_1
theorem dksX0_rewritten_0 : cX0_rewritten.data.toList.drop 0 = dktX0_rewritten_0 := by decide +kernel
theorem dksX0_rewritten_1 : cX0_rewritten.data.toList.drop 24 = dktX0_rewritten_1 := dk_seg dksX0_rewritten_0 24 rfl rfl
theorem dksX0_rewritten_2 : cX0_rewritten.data.toList.drop 48 = dktX0_rewritten_2 := dk_seg dksX0_rewritten_1 24 rfl rfl
theorem dksX0_rewritten_3 : cX0_rewritten.data.toList.drop 72 = dktX0_rewritten_3 := dk_seg dksX0_rewritten_2 24 rfl rfl
theorem dksX0_rewritten_4 : cX0_rewritten.data.toList.drop 94 = dktX0_rewritten_4 := dk_seg dksX0_rewritten_3 22 rfl rfl
theorem dksX0_rewritten_5 : cX0_rewritten.data.toList.drop 117 = dktX0_rewritten_5 := dk_seg dksX0_rewritten_4 23 rfl rfl
theorem dksX0_rewritten_6 : cX0_rewritten.data.toList.drop 141 = dktX0_rewritten_6 := dk_seg dksX0_rewritten_5 24 rfl rfl
theorem dX0_rewritten_0 : decode cX0_rewritten 0 = .ok (.aload_n 0, 1) := dk_42 (dk_at dksX0_rewritten_0 0 rfl rfl)
theorem dX0_rewritten_1 : decode cX0_rewritten 1 = .ok (.getfield 15, 3) := dk_180 0 15 (dk_at dksX0_rewritten_0 1 rfl rfl)
theorem dX0_rewritten_4 : decode cX0_rewritten 4 = .ok (.aload_n 0, 1) := dk_42 (dk_at dksX0_rewritten_0 4 rfl rfl)
theorem dX0_rewritten_5 : decode cX0_rewritten 5 = .ok (.aload_n 1, 1) := dk_43 (dk_at dksX0_rewritten_0 5 rfl rfl)
theorem dX0_rewritten_6 : decode cX0_rewritten 6 = .ok (.iload_n 2, 1) := dk_28 (dk_at dksX0_rewritten_0 6 rfl rfl)
theorem dX0_rewritten_7 : decode cX0_rewritten 7 = .ok (.invokevirtual 381, 3) := dk_182 1 125 (dk_at dksX0_rewritten_0 7 rfl rfl)
theorem dX0_rewritten_10 : decode cX0_rewritten 10 = .ok (.aaload, 1) := dk_50 (dk_at dksX0_rewritten_0 10 rfl rfl)
theorem dX0_rewritten_11 : decode cX0_rewritten 11 = .ok (.getfield 161, 3) := dk_180 0 161 (dk_at dksX0_rewritten_0 11 rfl rfl)
theorem dX0_rewritten_14 : decode cX0_rewritten 14 = .ok (.astore_n 3, 1) := dk_78 (dk_at dksX0_rewritten_0 14 rfl rfl)
theorem dX0_rewritten_15 : decode cX0_rewritten 15 = .ok (.aload_n 1, 1) := dk_43 (dk_at dksX0_rewritten_0 15 rfl rfl)
theorem dX0_rewritten_16 : decode cX0_rewritten 16 = .ok (.invokevirtual 165, 3) := dk_182 0 165 (dk_at dksX0_rewritten_0 16 rfl rfl)
theorem dX0_rewritten_19 : decode cX0_rewritten 19 = .ok (.aload_n 1, 1) := dk_43 (dk_at dksX0_rewritten_0 19 rfl rfl)
theorem dX0_rewritten_20 : decode cX0_rewritten 20 = .ok (.iload_n 2, 1) := dk_28 (dk_at dksX0_rewritten_0 20 rfl rfl)
theorem dX0_rewritten_21 : decode cX0_rewritten 21 = .ok (.invokevirtual 393, 3) := dk_182 1 137 (dk_at dksX0_rewritten_0 21 rfl rfl)
theorem dX0_rewritten_24 : decode cX0_rewritten 24 = .ok (.isub, 1) := dk_100 (dk_at dksX0_rewritten_1 0 rfl rfl)
theorem dX0_rewritten_25 : decode cX0_rewritten 25 = .ok (.aload_n 0, 1) := dk_42 (dk_at dksX0_rewritten_1 1 rfl rfl)
theorem dX0_rewritten_26 : decode cX0_rewritten 26 = .ok (.aload_n 3, 1) := dk_45 (dk_at dksX0_rewritten_1 2 rfl rfl)
theorem dX0_rewritten_27 : decode cX0_rewritten 27 = .ok (.aload_n 1, 1) := dk_43 (dk_at dksX0_rewritten_1 3 rfl rfl)
theorem dX0_rewritten_28 : decode cX0_rewritten 28 = .ok (.invokevirtual 396, 3) := dk_182 1 140 (dk_at dksX0_rewritten_1 4 rfl rfl)
theorem dX0_rewritten_31 : decode cX0_rewritten 31 = .ok (.iadd, 1) := dk_96 (dk_at dksX0_rewritten_1 7 rfl rfl)
theorem dX0_rewritten_32 : decode cX0_rewritten 32 = .ok (.bipush 40, 2) := dk_16 40 (dk_at dksX0_rewritten_1 8 rfl rfl)
theorem dX0_rewritten_34 : decode cX0_rewritten 34 = .ok (.if_icmp .le 5, 3) := dk_164 0 5 (dk_at dksX0_rewritten_1 10 rfl rfl)
theorem dX0_rewritten_37 : decode cX0_rewritten 37 = .ok (.aconst_null, 1) := dk_1 (dk_at dksX0_rewritten_1 13 rfl rfl)
theorem dX0_rewritten_38 : decode cX0_rewritten 38 = .ok (.areturn, 1) := dk_176 (dk_at dksX0_rewritten_1 14 rfl rfl)
theorem dX0_rewritten_39 : decode cX0_rewritten 39 = .ok (.aload_n 0, 1) := dk_42 (dk_at dksX0_rewritten_1 15 rfl rfl)
theorem dX0_rewritten_40 : decode cX0_rewritten 40 = .ok (.iconst 0, 1) := dk_3 (dk_at dksX0_rewritten_1 16 rfl rfl)
theorem dX0_rewritten_41 : decode cX0_rewritten 41 = .ok (.putfield 121, 3) := dk_181 0 121 (dk_at dksX0_rewritten_1 17 rfl rfl)
theorem dX0_rewritten_44 : decode cX0_rewritten 44 = .ok (.aload_n 0, 1) := dk_42 (dk_at dksX0_rewritten_1 20 rfl rfl)
theorem dX0_rewritten_45 : decode cX0_rewritten 45 = .ok (.aload_n 1, 1) := dk_43 (dk_at dksX0_rewritten_1 21 rfl rfl)
theorem dX0_rewritten_46 : decode cX0_rewritten 46 = .ok (.iconst 0, 1) := dk_3 (dk_at dksX0_rewritten_1 22 rfl rfl)
theorem dX0_rewritten_47 : decode cX0_rewritten 47 = .ok (.iload_n 2, 1) := dk_28 (dk_at dksX0_rewritten_1 23 rfl rfl)
theorem dX0_rewritten_48 : decode cX0_rewritten 48 = .ok (.invokevirtual 400, 3) := dk_182 1 144 (dk_at dksX0_rewritten_2 0 rfl rfl)
theorem dX0_rewritten_51 : decode cX0_rewritten 51 = .ok (.iconst 0, 1) := dk_3 (dk_at dksX0_rewritten_2 3 rfl rfl)
theorem dX0_rewritten_52 : decode cX0_rewritten 52 = .ok (.istore 4, 2) := dk_54 4 (dk_at dksX0_rewritten_2 4 rfl rfl)
theorem dX0_rewritten_54 : decode cX0_rewritten 54 = .ok (.iload 4, 2) := dk_21 4 (dk_at dksX0_rewritten_2 6 rfl rfl)
theorem dX0_rewritten_56 : decode cX0_rewritten 56 = .ok (.aload_n 3, 1) := dk_45 (dk_at dksX0_rewritten_2 8 rfl rfl)
theorem dX0_rewritten_57 : decode cX0_rewritten 57 = .ok (.invokevirtual 165, 3) := dk_182 0 165 (dk_at dksX0_rewritten_2 9 rfl rfl)
theorem dX0_rewritten_60 : decode cX0_rewritten 60 = .ok (.if_icmp .ge 63, 3) := dk_162 0 63 (dk_at dksX0_rewritten_2 12 rfl rfl)
theorem dX0_rewritten_63 : decode cX0_rewritten 63 = .ok (.aload_n 3, 1) := dk_45 (dk_at dksX0_rewritten_2 15 rfl rfl)
theorem dX0_rewritten_64 : decode cX0_rewritten 64 = .ok (.iload 4, 2) := dk_21 4 (dk_at dksX0_rewritten_2 16 rfl rfl)
theorem dX0_rewritten_66 : decode cX0_rewritten 66 = .ok (.invokevirtual 169, 3) := dk_182 0 169 (dk_at dksX0_rewritten_2 18 rfl rfl)
theorem dX0_rewritten_69 : decode cX0_rewritten 69 = .ok (.ifCond .eq 37, 3) := dk_153 0 37 (dk_at dksX0_rewritten_2 21 rfl rfl)
theorem dX0_rewritten_72 : decode cX0_rewritten 72 = .ok (.aload_n 0, 1) := dk_42 (dk_at dksX0_rewritten_3 0 rfl rfl)
theorem dX0_rewritten_73 : decode cX0_rewritten 73 = .ok (.getfield 99, 3) := dk_180 0 99 (dk_at dksX0_rewritten_3 1 rfl rfl)
theorem dX0_rewritten_76 : decode cX0_rewritten 76 = .ok (.aload_n 3, 1) := dk_45 (dk_at dksX0_rewritten_3 4 rfl rfl)
theorem dX0_rewritten_77 : decode cX0_rewritten 77 = .ok (.getfield 204, 3) := dk_180 0 204 (dk_at dksX0_rewritten_3 5 rfl rfl)
theorem dX0_rewritten_80 : decode cX0_rewritten 80 = .ok (.iload 4, 2) := dk_21 4 (dk_at dksX0_rewritten_3 8 rfl rfl)
theorem dX0_rewritten_82 : decode cX0_rewritten 82 = .ok (.baload, 1) := dk_51 (dk_at dksX0_rewritten_3 10 rfl rfl)
theorem dX0_rewritten_83 : decode cX0_rewritten 83 = .ok (.bipush 119, 2) := dk_16 119 (dk_at dksX0_rewritten_3 11 rfl rfl)
theorem dX0_rewritten_85 : decode cX0_rewritten 85 = .ok (.isub, 1) := dk_100 (dk_at dksX0_rewritten_3 13 rfl rfl)
theorem dX0_rewritten_86 : decode cX0_rewritten 86 = .ok (.iaload, 1) := dk_46 (dk_at dksX0_rewritten_3 14 rfl rfl)
theorem dX0_rewritten_87 : decode cX0_rewritten 87 = .ok (.istore 5, 2) := dk_54 5 (dk_at dksX0_rewritten_3 15 rfl rfl)
theorem dX0_rewritten_89 : decode cX0_rewritten 89 = .ok (.aload_n 0, 1) := dk_42 (dk_at dksX0_rewritten_3 17 rfl rfl)
theorem dX0_rewritten_90 : decode cX0_rewritten 90 = .ok (.aload_n 1, 1) := dk_43 (dk_at dksX0_rewritten_3 18 rfl rfl)
theorem dX0_rewritten_91 : decode cX0_rewritten 91 = .ok (.iload 5, 2) := dk_21 5 (dk_at dksX0_rewritten_3 19 rfl rfl)
theorem dX0_rewritten_93 : decode cX0_rewritten 93 = .ok (.aload_n 1, 1) := dk_43 (dk_at dksX0_rewritten_3 21 rfl rfl)
theorem dX0_rewritten_94 : decode cX0_rewritten 94 = .ok (.getfield 201, 3) := dk_180 0 201 (dk_at dksX0_rewritten_4 0 rfl rfl)
theorem dX0_rewritten_97 : decode cX0_rewritten 97 = .ok (.iload 5, 2) := dk_21 5 (dk_at dksX0_rewritten_4 3 rfl rfl)
theorem dX0_rewritten_99 : decode cX0_rewritten 99 = .ok (.iaload, 1) := dk_46 (dk_at dksX0_rewritten_4 5 rfl rfl)
theorem dX0_rewritten_100 : decode cX0_rewritten 100 = .ok (.invokevirtual 400, 3) := dk_182 1 144 (dk_at dksX0_rewritten_4 6 rfl rfl)
theorem dX0_rewritten_103 : decode cX0_rewritten 103 = .ok (.goto 14, 3) := dk_167 0 14 (dk_at dksX0_rewritten_4 9 rfl rfl)
theorem dX0_rewritten_106 : decode cX0_rewritten 106 = .ok (.aload_n 0, 1) := dk_42 (dk_at dksX0_rewritten_4 12 rfl rfl)
theorem dX0_rewritten_107 : decode cX0_rewritten 107 = .ok (.aload_n 3, 1) := dk_45 (dk_at dksX0_rewritten_4 13 rfl rfl)
theorem dX0_rewritten_108 : decode cX0_rewritten 108 = .ok (.getfield 204, 3) := dk_180 0 204 (dk_at dksX0_rewritten_4 14 rfl rfl)
theorem dX0_rewritten_111 : decode cX0_rewritten 111 = .ok (.iload 4, 2) := dk_21 4 (dk_at dksX0_rewritten_4 17 rfl rfl)
theorem dX0_rewritten_113 : decode cX0_rewritten 113 = .ok (.baload, 1) := dk_51 (dk_at dksX0_rewritten_4 19 rfl rfl)
theorem dX0_rewritten_114 : decode cX0_rewritten 114 = .ok (.invokevirtual 125, 3) := dk_182 0 125 (dk_at dksX0_rewritten_4 20 rfl rfl)
theorem dX0_rewritten_117 : decode cX0_rewritten 117 = .ok (.iinc 4 1, 3) := dk_132 4 1 (dk_at dksX0_rewritten_5 0 rfl rfl)
theorem dX0_rewritten_120 : decode cX0_rewritten 120 = .ok (.goto (-66), 3) := dk_167 255 190 (dk_at dksX0_rewritten_5 3 rfl rfl)
theorem dX0_rewritten_123 : decode cX0_rewritten 123 = .ok (.aload_n 0, 1) := dk_42 (dk_at dksX0_rewritten_5 6 rfl rfl)
theorem dX0_rewritten_124 : decode cX0_rewritten 124 = .ok (.aload_n 1, 1) := dk_43 (dk_at dksX0_rewritten_5 7 rfl rfl)
theorem dX0_rewritten_125 : decode cX0_rewritten 125 = .ok (.aload_n 1, 1) := dk_43 (dk_at dksX0_rewritten_5 8 rfl rfl)
theorem dX0_rewritten_126 : decode cX0_rewritten 126 = .ok (.getfield 201, 3) := dk_180 0 201 (dk_at dksX0_rewritten_5 9 rfl rfl)
theorem dX0_rewritten_129 : decode cX0_rewritten 129 = .ok (.iload_n 2, 1) := dk_28 (dk_at dksX0_rewritten_5 12 rfl rfl)
theorem dX0_rewritten_130 : decode cX0_rewritten 130 = .ok (.iaload, 1) := dk_46 (dk_at dksX0_rewritten_5 13 rfl rfl)
theorem dX0_rewritten_131 : decode cX0_rewritten 131 = .ok (.aload_n 1, 1) := dk_43 (dk_at dksX0_rewritten_5 14 rfl rfl)
theorem dX0_rewritten_132 : decode cX0_rewritten 132 = .ok (.invokevirtual 165, 3) := dk_182 0 165 (dk_at dksX0_rewritten_5 15 rfl rfl)
theorem dX0_rewritten_135 : decode cX0_rewritten 135 = .ok (.invokevirtual 400, 3) := dk_182 1 144 (dk_at dksX0_rewritten_5 18 rfl rfl)
theorem dX0_rewritten_138 : decode cX0_rewritten 138 = .ok (.new 19, 3) := dk_187 0 19 (dk_at dksX0_rewritten_5 21 rfl rfl)
theorem dX0_rewritten_141 : decode cX0_rewritten 141 = .ok (.dup, 1) := dk_89 (dk_at dksX0_rewritten_6 0 rfl rfl)
theorem dX0_rewritten_142 : decode cX0_rewritten 142 = .ok (.aload_n 0, 1) := dk_42 (dk_at dksX0_rewritten_6 1 rfl rfl)
theorem dX0_rewritten_143 : decode cX0_rewritten 143 = .ok (.getfield 25, 3) := dk_180 0 25 (dk_at dksX0_rewritten_6 2 rfl rfl)
theorem dX0_rewritten_146 : decode cX0_rewritten 146 = .ok (.aload_n 0, 1) := dk_42 (dk_at dksX0_rewritten_6 5 rfl rfl)
theorem dX0_rewritten_147 : decode cX0_rewritten 147 = .ok (.getfield 121, 3) := dk_180 0 121 (dk_at dksX0_rewritten_6 6 rfl rfl)
theorem dX0_rewritten_150 : decode cX0_rewritten 150 = .ok (.aload_n 0, 1) := dk_42 (dk_at dksX0_rewritten_6 9 rfl rfl)
theorem dX0_rewritten_151 : decode cX0_rewritten 151 = .ok (.getfield 7, 3) := dk_180 0 7 (dk_at dksX0_rewritten_6 10 rfl rfl)
theorem dX0_rewritten_154 : decode cX0_rewritten 154 = .ok (.invokespecial 129, 3) := dk_183 0 129 (dk_at dksX0_rewritten_6 13 rfl rfl)
theorem dX0_rewritten_157 : decode cX0_rewritten 157 = .ok (.areturn, 1) := dk_176 (dk_at dksX0_rewritten_6 16 rfl rfl)
abbrev cX0_instanceSize : ByteArray := prog_1_method_60_code
def yX0_instanceSize : MethodName := ⟨RX0, "instanceSize", "(LDependencyPairAnalyzer$Term;LDependencyPairAnalyzer$Term;)I"⟩
def dkwX0_instanceSize_2 : List UInt8 := [62, 132, 4, 1, 167, 255, 209, 29, 172]
abbrev dktX0_instanceSize_2 : List UInt8 := dkwX0_instanceSize_2 ++ []
def dkwX0_instanceSize_1 : List UInt8 := [44, 42, 180, 0, 99, 43, 180, 0, 204, 21, 4, 51, 16, 119, 100, 46, 182, 1, 137, 167, 0, 4, 4, 96]
abbrev dktX0_instanceSize_1 : List UInt8 := dkwX0_instanceSize_1 ++ dktX0_instanceSize_2
def dkwX0_instanceSize_0 : List UInt8 := [3, 62, 3, 54, 4, 21, 4, 43, 182, 0, 165, 162, 0, 44, 29, 43, 21, 4, 182, 0, 169, 153, 0, 25]
abbrev dktX0_instanceSize_0 : List UInt8 := dkwX0_instanceSize_0 ++ dktX0_instanceSize_1
theorem dksX0_instanceSize_0 : cX0_instanceSize.data.toList.drop 0 = dktX0_instanceSize_0 := by decide +kernel
theorem dksX0_instanceSize_1 : cX0_instanceSize.data.toList.drop 24 = dktX0_instanceSize_1 := dk_seg dksX0_instanceSize_0 24 rfl rfl
theorem dksX0_instanceSize_2 : cX0_instanceSize.data.toList.drop 48 = dktX0_instanceSize_2 := dk_seg dksX0_instanceSize_1 24 rfl rfl
theorem dX0_instanceSize_0 : decode cX0_instanceSize 0 = .ok (.iconst 0, 1) := dk_3 (dk_at dksX0_instanceSize_0 0 rfl rfl)
theorem dX0_instanceSize_1 : decode cX0_instanceSize 1 = .ok (.istore_n 3, 1) := dk_62 (dk_at dksX0_instanceSize_0 1 rfl rfl)
theorem dX0_instanceSize_2 : decode cX0_instanceSize 2 = .ok (.iconst 0, 1) := dk_3 (dk_at dksX0_instanceSize_0 2 rfl rfl)
theorem dX0_instanceSize_3 : decode cX0_instanceSize 3 = .ok (.istore 4, 2) := dk_54 4 (dk_at dksX0_instanceSize_0 3 rfl rfl)
theorem dX0_instanceSize_5 : decode cX0_instanceSize 5 = .ok (.iload 4, 2) := dk_21 4 (dk_at dksX0_instanceSize_0 5 rfl rfl)
theorem dX0_instanceSize_7 : decode cX0_instanceSize 7 = .ok (.aload_n 1, 1) := dk_43 (dk_at dksX0_instanceSize_0 7 rfl rfl)
theorem dX0_instanceSize_8 : decode cX0_instanceSize 8 = .ok (.invokevirtual 165, 3) := dk_182 0 165 (dk_at dksX0_instanceSize_0 8 rfl rfl)
theorem dX0_instanceSize_11 : decode cX0_instanceSize 11 = .ok (.if_icmp .ge 44, 3) := dk_162 0 44 (dk_at dksX0_instanceSize_0 11 rfl rfl)
theorem dX0_instanceSize_14 : decode cX0_instanceSize 14 = .ok (.iload_n 3, 1) := dk_29 (dk_at dksX0_instanceSize_0 14 rfl rfl)
theorem dX0_instanceSize_15 : decode cX0_instanceSize 15 = .ok (.aload_n 1, 1) := dk_43 (dk_at dksX0_instanceSize_0 15 rfl rfl)
theorem dX0_instanceSize_16 : decode cX0_instanceSize 16 = .ok (.iload 4, 2) := dk_21 4 (dk_at dksX0_instanceSize_0 16 rfl rfl)
theorem dX0_instanceSize_18 : decode cX0_instanceSize 18 = .ok (.invokevirtual 169, 3) := dk_182 0 169 (dk_at dksX0_instanceSize_0 18 rfl rfl)
theorem dX0_instanceSize_21 : decode cX0_instanceSize 21 = .ok (.ifCond .eq 25, 3) := dk_153 0 25 (dk_at dksX0_instanceSize_0 21 rfl rfl)
theorem dX0_instanceSize_24 : decode cX0_instanceSize 24 = .ok (.aload_n 2, 1) := dk_44 (dk_at dksX0_instanceSize_1 0 rfl rfl)
theorem dX0_instanceSize_25 : decode cX0_instanceSize 25 = .ok (.aload_n 0, 1) := dk_42 (dk_at dksX0_instanceSize_1 1 rfl rfl)
theorem dX0_instanceSize_26 : decode cX0_instanceSize 26 = .ok (.getfield 99, 3) := dk_180 0 99 (dk_at dksX0_instanceSize_1 2 rfl rfl)
theorem dX0_instanceSize_29 : decode cX0_instanceSize 29 = .ok (.aload_n 1, 1) := dk_43 (dk_at dksX0_instanceSize_1 5 rfl rfl)
theorem dX0_instanceSize_30 : decode cX0_instanceSize 30 = .ok (.getfield 204, 3) := dk_180 0 204 (dk_at dksX0_instanceSize_1 6 rfl rfl)
theorem dX0_instanceSize_33 : decode cX0_instanceSize 33 = .ok (.iload 4, 2) := dk_21 4 (dk_at dksX0_instanceSize_1 9 rfl rfl)
theorem dX0_instanceSize_35 : decode cX0_instanceSize 35 = .ok (.baload, 1) := dk_51 (dk_at dksX0_instanceSize_1 11 rfl rfl)
theorem dX0_instanceSize_36 : decode cX0_instanceSize 36 = .ok (.bipush 119, 2) := dk_16 119 (dk_at dksX0_instanceSize_1 12 rfl rfl)
theorem dX0_instanceSize_38 : decode cX0_instanceSize 38 = .ok (.isub, 1) := dk_100 (dk_at dksX0_instanceSize_1 14 rfl rfl)
theorem dX0_instanceSize_39 : decode cX0_instanceSize 39 = .ok (.iaload, 1) := dk_46 (dk_at dksX0_instanceSize_1 15 rfl rfl)
theorem dX0_instanceSize_40 : decode cX0_instanceSize 40 = .ok (.invokevirtual 393, 3) := dk_182 1 137 (dk_at dksX0_instanceSize_1 16 rfl rfl)
theorem dX0_instanceSize_43 : decode cX0_instanceSize 43 = .ok (.goto 4, 3) := dk_167 0 4 (dk_at dksX0_instanceSize_1 19 rfl rfl)
theorem dX0_instanceSize_46 : decode cX0_instanceSize 46 = .ok (.iconst 1, 1) := dk_4 (dk_at dksX0_instanceSize_1 22 rfl rfl)
theorem dX0_instanceSize_47 : decode cX0_instanceSize 47 = .ok (.iadd, 1) := dk_96 (dk_at dksX0_instanceSize_1 23 rfl rfl)
theorem dX0_instanceSize_48 : decode cX0_instanceSize 48 = .ok (.istore_n 3, 1) := dk_62 (dk_at dksX0_instanceSize_2 0 rfl rfl)
theorem dX0_instanceSize_49 : decode cX0_instanceSize 49 = .ok (.iinc 4 1, 3) := dk_132 4 1 (dk_at dksX0_instanceSize_2 1 rfl rfl)
theorem dX0_instanceSize_52 : decode cX0_instanceSize 52 = .ok (.goto (-47), 3) := dk_167 255 209 (dk_at dksX0_instanceSize_2 4 rfl rfl)
theorem dX0_instanceSize_55 : decode cX0_instanceSize 55 = .ok (.iload_n 3, 1) := dk_29 (dk_at dksX0_instanceSize_2 7 rfl rfl)
theorem dX0_instanceSize_56 : decode cX0_instanceSize 56 = .ok (.ireturn, 1) := dk_172 (dk_at dksX0_instanceSize_2 8 rfl rfl)
abbrev cX0_buildRange : ByteArray := prog_1_method_61_code
def yX0_buildRange : MethodName := ⟨RX0, "buildRange", "(LDependencyPairAnalyzer$Term;II)V"⟩
def dkwX0_buildRange_1 : List UInt8 := [29, 28, 100, 96, 181, 0, 121, 177]
abbrev dktX0_buildRange_1 : List UInt8 := dkwX0_buildRange_1 ++ []
def dkwX0_buildRange_0 : List UInt8 := [43, 180, 0, 204, 28, 42, 180, 0, 25, 42, 180, 0, 121, 29, 28, 100, 184, 0, 195, 42, 89, 180, 0, 121]
abbrev dktX0_buildRange_0 : List UInt8 := dkwX0_buildRange_0 ++ dktX0_buildRange_1
theorem dksX0_buildRange_0 : cX0_buildRange.data.toList.drop 0 = dktX0_buildRange_0 := by decide +kernel
theorem dksX0_buildRange_1 : cX0_buildRange.data.toList.drop 24 = dktX0_buildRange_1 := dk_seg dksX0_buildRange_0 24 rfl rfl
theorem dX0_buildRange_0 : decode cX0_buildRange 0 = .ok (.aload_n 1, 1) := dk_43 (dk_at dksX0_buildRange_0 0 rfl rfl)
theorem dX0_buildRange_1 : decode cX0_buildRange 1 = .ok (.getfield 204, 3) := dk_180 0 204 (dk_at dksX0_buildRange_0 1 rfl rfl)
theorem dX0_buildRange_4 : decode cX0_buildRange 4 = .ok (.iload_n 2, 1) := dk_28 (dk_at dksX0_buildRange_0 4 rfl rfl)
theorem dX0_buildRange_5 : decode cX0_buildRange 5 = .ok (.aload_n 0, 1) := dk_42 (dk_at dksX0_buildRange_0 5 rfl rfl)
theorem dX0_buildRange_6 : decode cX0_buildRange 6 = .ok (.getfield 25, 3) := dk_180 0 25 (dk_at dksX0_buildRange_0 6 rfl rfl)
theorem dX0_buildRange_9 : decode cX0_buildRange 9 = .ok (.aload_n 0, 1) := dk_42 (dk_at dksX0_buildRange_0 9 rfl rfl)
theorem dX0_buildRange_10 : decode cX0_buildRange 10 = .ok (.getfield 121, 3) := dk_180 0 121 (dk_at dksX0_buildRange_0 10 rfl rfl)
theorem dX0_buildRange_13 : decode cX0_buildRange 13 = .ok (.iload_n 3, 1) := dk_29 (dk_at dksX0_buildRange_0 13 rfl rfl)
theorem dX0_buildRange_14 : decode cX0_buildRange 14 = .ok (.iload_n 2, 1) := dk_28 (dk_at dksX0_buildRange_0 14 rfl rfl)
theorem dX0_buildRange_15 : decode cX0_buildRange 15 = .ok (.isub, 1) := dk_100 (dk_at dksX0_buildRange_0 15 rfl rfl)
theorem dX0_buildRange_16 : decode cX0_buildRange 16 = .ok (.invokestatic 195, 3) := dk_184 0 195 (dk_at dksX0_buildRange_0 16 rfl rfl)
theorem dX0_buildRange_19 : decode cX0_buildRange 19 = .ok (.aload_n 0, 1) := dk_42 (dk_at dksX0_buildRange_0 19 rfl rfl)
theorem dX0_buildRange_20 : decode cX0_buildRange 20 = .ok (.dup, 1) := dk_89 (dk_at dksX0_buildRange_0 20 rfl rfl)
theorem dX0_buildRange_21 : decode cX0_buildRange 21 = .ok (.getfield 121, 3) := dk_180 0 121 (dk_at dksX0_buildRange_0 21 rfl rfl)
theorem dX0_buildRange_24 : decode cX0_buildRange 24 = .ok (.iload_n 3, 1) := dk_29 (dk_at dksX0_buildRange_1 0 rfl rfl)
theorem dX0_buildRange_25 : decode cX0_buildRange 25 = .ok (.iload_n 2, 1) := dk_28 (dk_at dksX0_buildRange_1 1 rfl rfl)
theorem dX0_buildRange_26 : decode cX0_buildRange 26 = .ok (.isub, 1) := dk_100 (dk_at dksX0_buildRange_1 2 rfl rfl)
theorem dX0_buildRange_27 : decode cX0_buildRange 27 = .ok (.iadd, 1) := dk_96 (dk_at dksX0_buildRange_1 3 rfl rfl)
theorem dX0_buildRange_28 : decode cX0_buildRange 28 = .ok (.putfield 121, 3) := dk_181 0 121 (dk_at dksX0_buildRange_1 4 rfl rfl)
theorem dX0_buildRange_31 : decode cX0_buildRange 31 = .ok (.return_, 1) := dk_177 (dk_at dksX0_buildRange_1 7 rfl rfl)
abbrev cX0_rewriteOutermost : ByteArray := prog_1_method_79_code
def yX0_rewriteOutermost : MethodName := ⟨RX0, "rewriteOutermost", "(II)I"⟩
def dkwX0_rewriteOutermost_3 : List UInt8 := [182, 1, 186, 167, 0, 4, 1, 58, 4, 167, 255, 223, 29, 172]
abbrev dktX0_rewriteOutermost_3 : List UInt8 := dkwX0_rewriteOutermost_3 ++ []
def dkwX0_rewriteOutermost_2 : List UInt8 := [198, 0, 34, 42, 180, 0, 21, 27, 25, 4, 83, 132, 3, 1, 29, 28, 162, 0, 12, 42, 25, 4]
abbrev dktX0_rewriteOutermost_2 : List UInt8 := dkwX0_rewriteOutermost_2 ++ dktX0_rewriteOutermost_3
def dkwX0_rewriteOutermost_1 : List UInt8 := [3, 62, 28, 158, 0, 16, 42, 42, 180, 0, 21, 27, 50, 182, 1, 186, 167, 0, 4, 1, 58, 4, 25, 4]
abbrev dktX0_rewriteOutermost_1 : List UInt8 := dkwX0_rewriteOutermost_1 ++ dktX0_rewriteOutermost_2
def dkwX0_rewriteOutermost_0 : List UInt8 := [27, 184, 1, 152, 154, 0, 5, 2, 172, 28, 133, 9, 20, 1, 184, 184, 0, 134, 154, 0, 6, 16, 254, 172]
abbrev dktX0_rewriteOutermost_0 : List UInt8 := dkwX0_rewriteOutermost_0 ++ dktX0_rewriteOutermost_1
theorem dksX0_rewriteOutermost_0 : cX0_rewriteOutermost.data.toList.drop 0 = dktX0_rewriteOutermost_0 := by decide +kernel
theorem dksX0_rewriteOutermost_1 : cX0_rewriteOutermost.data.toList.drop 24 = dktX0_rewriteOutermost_1 := dk_seg dksX0_rewriteOutermost_0 24 rfl rfl
theorem dksX0_rewriteOutermost_2 : cX0_rewriteOutermost.data.toList.drop 48 = dktX0_rewriteOutermost_2 := dk_seg dksX0_rewriteOutermost_1 24 rfl rfl
theorem dksX0_rewriteOutermost_3 : cX0_rewriteOutermost.data.toList.drop 70 = dktX0_rewriteOutermost_3 := dk_seg dksX0_rewriteOutermost_2 22 rfl rfl
theorem dX0_rewriteOutermost_0 : decode cX0_rewriteOutermost 0 = .ok (.iload_n 1, 1) := dk_27 (dk_at dksX0_rewriteOutermost_0 0 rfl rfl)
theorem dX0_rewriteOutermost_1 : decode cX0_rewriteOutermost 1 = .ok (.invokestatic 408, 3) := dk_184 1 152 (dk_at dksX0_rewriteOutermost_0 1 rfl rfl)
theorem dX0_rewriteOutermost_4 : decode cX0_rewriteOutermost 4 = .ok (.ifCond .ne 5, 3) := dk_154 0 5 (dk_at dksX0_rewriteOutermost_0 4 rfl rfl)
theorem dX0_rewriteOutermost_7 : decode cX0_rewriteOutermost 7 = .ok (.iconst (-1), 1) := dk_2 (dk_at dksX0_rewriteOutermost_0 7 rfl rfl)
theorem dX0_rewriteOutermost_8 : decode cX0_rewriteOutermost 8 = .ok (.ireturn, 1) := dk_172 (dk_at dksX0_rewriteOutermost_0 8 rfl rfl)
theorem dX0_rewriteOutermost_9 : decode cX0_rewriteOutermost 9 = .ok (.iload_n 2, 1) := dk_28 (dk_at dksX0_rewriteOutermost_0 9 rfl rfl)
theorem dX0_rewriteOutermost_10 : decode cX0_rewriteOutermost 10 = .ok (.i2l, 1) := dk_133 (dk_at dksX0_rewriteOutermost_0 10 rfl rfl)
theorem dX0_rewriteOutermost_11 : decode cX0_rewriteOutermost 11 = .ok (.lconst 0, 1) := dk_9 (dk_at dksX0_rewriteOutermost_0 11 rfl rfl)
theorem dX0_rewriteOutermost_12 : decode cX0_rewriteOutermost 12 = .ok (.ldc2_w 440, 3) := dk_20 1 184 (dk_at dksX0_rewriteOutermost_0 12 rfl rfl)
theorem dX0_rewriteOutermost_15 : decode cX0_rewriteOutermost 15 = .ok (.invokestatic 134, 3) := dk_184 0 134 (dk_at dksX0_rewriteOutermost_0 15 rfl rfl)
theorem dX0_rewriteOutermost_18 : decode cX0_rewriteOutermost 18 = .ok (.ifCond .ne 6, 3) := dk_154 0 6 (dk_at dksX0_rewriteOutermost_0 18 rfl rfl)
theorem dX0_rewriteOutermost_21 : decode cX0_rewriteOutermost 21 = .ok (.bipush (-2), 2) := dk_16 254 (dk_at dksX0_rewriteOutermost_0 21 rfl rfl)
theorem dX0_rewriteOutermost_23 : decode cX0_rewriteOutermost 23 = .ok (.ireturn, 1) := dk_172 (dk_at dksX0_rewriteOutermost_0 23 rfl rfl)
theorem dX0_rewriteOutermost_24 : decode cX0_rewriteOutermost 24 = .ok (.iconst 0, 1) := dk_3 (dk_at dksX0_rewriteOutermost_1 0 rfl rfl)
theorem dX0_rewriteOutermost_25 : decode cX0_rewriteOutermost 25 = .ok (.istore_n 3, 1) := dk_62 (dk_at dksX0_rewriteOutermost_1 1 rfl rfl)
theorem dX0_rewriteOutermost_26 : decode cX0_rewriteOutermost 26 = .ok (.iload_n 2, 1) := dk_28 (dk_at dksX0_rewriteOutermost_1 2 rfl rfl)
theorem dX0_rewriteOutermost_27 : decode cX0_rewriteOutermost 27 = .ok (.ifCond .le 16, 3) := dk_158 0 16 (dk_at dksX0_rewriteOutermost_1 3 rfl rfl)
theorem dX0_rewriteOutermost_30 : decode cX0_rewriteOutermost 30 = .ok (.aload_n 0, 1) := dk_42 (dk_at dksX0_rewriteOutermost_1 6 rfl rfl)
theorem dX0_rewriteOutermost_31 : decode cX0_rewriteOutermost 31 = .ok (.aload_n 0, 1) := dk_42 (dk_at dksX0_rewriteOutermost_1 7 rfl rfl)
theorem dX0_rewriteOutermost_32 : decode cX0_rewriteOutermost 32 = .ok (.getfield 21, 3) := dk_180 0 21 (dk_at dksX0_rewriteOutermost_1 8 rfl rfl)
theorem dX0_rewriteOutermost_35 : decode cX0_rewriteOutermost 35 = .ok (.iload_n 1, 1) := dk_27 (dk_at dksX0_rewriteOutermost_1 11 rfl rfl)
theorem dX0_rewriteOutermost_36 : decode cX0_rewriteOutermost 36 = .ok (.aaload, 1) := dk_50 (dk_at dksX0_rewriteOutermost_1 12 rfl rfl)
theorem dX0_rewriteOutermost_37 : decode cX0_rewriteOutermost 37 = .ok (.invokevirtual 442, 3) := dk_182 1 186 (dk_at dksX0_rewriteOutermost_1 13 rfl rfl)
theorem dX0_rewriteOutermost_40 : decode cX0_rewriteOutermost 40 = .ok (.goto 4, 3) := dk_167 0 4 (dk_at dksX0_rewriteOutermost_1 16 rfl rfl)
theorem dX0_rewriteOutermost_43 : decode cX0_rewriteOutermost 43 = .ok (.aconst_null, 1) := dk_1 (dk_at dksX0_rewriteOutermost_1 19 rfl rfl)
theorem dX0_rewriteOutermost_44 : decode cX0_rewriteOutermost 44 = .ok (.astore 4, 2) := dk_58 4 (dk_at dksX0_rewriteOutermost_1 20 rfl rfl)
theorem dX0_rewriteOutermost_46 : decode cX0_rewriteOutermost 46 = .ok (.aload 4, 2) := dk_25 4 (dk_at dksX0_rewriteOutermost_1 22 rfl rfl)
theorem dX0_rewriteOutermost_48 : decode cX0_rewriteOutermost 48 = .ok (.ifnull 34, 3) := dk_198 0 34 (dk_at dksX0_rewriteOutermost_2 0 rfl rfl)
theorem dX0_rewriteOutermost_51 : decode cX0_rewriteOutermost 51 = .ok (.aload_n 0, 1) := dk_42 (dk_at dksX0_rewriteOutermost_2 3 rfl rfl)
theorem dX0_rewriteOutermost_52 : decode cX0_rewriteOutermost 52 = .ok (.getfield 21, 3) := dk_180 0 21 (dk_at dksX0_rewriteOutermost_2 4 rfl rfl)
theorem dX0_rewriteOutermost_55 : decode cX0_rewriteOutermost 55 = .ok (.iload_n 1, 1) := dk_27 (dk_at dksX0_rewriteOutermost_2 7 rfl rfl)
theorem dX0_rewriteOutermost_56 : decode cX0_rewriteOutermost 56 = .ok (.aload 4, 2) := dk_25 4 (dk_at dksX0_rewriteOutermost_2 8 rfl rfl)
theorem dX0_rewriteOutermost_58 : decode cX0_rewriteOutermost 58 = .ok (.aastore, 1) := dk_83 (dk_at dksX0_rewriteOutermost_2 10 rfl rfl)
theorem dX0_rewriteOutermost_59 : decode cX0_rewriteOutermost 59 = .ok (.iinc 3 1, 3) := dk_132 3 1 (dk_at dksX0_rewriteOutermost_2 11 rfl rfl)
theorem dX0_rewriteOutermost_62 : decode cX0_rewriteOutermost 62 = .ok (.iload_n 3, 1) := dk_29 (dk_at dksX0_rewriteOutermost_2 14 rfl rfl)
theorem dX0_rewriteOutermost_63 : decode cX0_rewriteOutermost 63 = .ok (.iload_n 2, 1) := dk_28 (dk_at dksX0_rewriteOutermost_2 15 rfl rfl)
theorem dX0_rewriteOutermost_64 : decode cX0_rewriteOutermost 64 = .ok (.if_icmp .ge 12, 3) := dk_162 0 12 (dk_at dksX0_rewriteOutermost_2 16 rfl rfl)
theorem dX0_rewriteOutermost_67 : decode cX0_rewriteOutermost 67 = .ok (.aload_n 0, 1) := dk_42 (dk_at dksX0_rewriteOutermost_2 19 rfl rfl)
theorem dX0_rewriteOutermost_68 : decode cX0_rewriteOutermost 68 = .ok (.aload 4, 2) := dk_25 4 (dk_at dksX0_rewriteOutermost_2 20 rfl rfl)
theorem dX0_rewriteOutermost_70 : decode cX0_rewriteOutermost 70 = .ok (.invokevirtual 442, 3) := dk_182 1 186 (dk_at dksX0_rewriteOutermost_3 0 rfl rfl)
theorem dX0_rewriteOutermost_73 : decode cX0_rewriteOutermost 73 = .ok (.goto 4, 3) := dk_167 0 4 (dk_at dksX0_rewriteOutermost_3 3 rfl rfl)
theorem dX0_rewriteOutermost_76 : decode cX0_rewriteOutermost 76 = .ok (.aconst_null, 1) := dk_1 (dk_at dksX0_rewriteOutermost_3 6 rfl rfl)
theorem dX0_rewriteOutermost_77 : decode cX0_rewriteOutermost 77 = .ok (.astore 4, 2) := dk_58 4 (dk_at dksX0_rewriteOutermost_3 7 rfl rfl)
theorem dX0_rewriteOutermost_79 : decode cX0_rewriteOutermost 79 = .ok (.goto (-33), 3) := dk_167 255 223 (dk_at dksX0_rewriteOutermost_3 9 rfl rfl)
theorem dX0_rewriteOutermost_82 : decode cX0_rewriteOutermost 82 = .ok (.iload_n 3, 1) := dk_29 (dk_at dksX0_rewriteOutermost_3 12 rfl rfl)
theorem dX0_rewriteOutermost_83 : decode cX0_rewriteOutermost 83 = .ok (.ireturn, 1) := dk_172 (dk_at dksX0_rewriteOutermost_3 13 rfl rfl)
abbrev cX0_outermostStep : ByteArray := prog_1_method_63_code
def yX0_outermostStep : MethodName := ⟨RX0, "outermostStep", "(LDependencyPairAnalyzer$Term;)LDependencyPairAnalyzer$Term;"⟩
def dkwX0_outermostStep_0 : List UInt8 := [42, 43, 182, 1, 133, 61, 28, 16, 251, 160, 0, 7, 1, 167, 0, 9, 42, 43, 28, 182, 1, 148, 176]
abbrev dktX0_outermostStep_0 : List UInt8 := dkwX0_outermostStep_0 ++ []
theorem dksX0_outermostStep_0 : cX0_outermostStep.data.toList.drop 0 = dktX0_outermostStep_0 := by decide +kernel
theorem dX0_outermostStep_0 : decode cX0_outermostStep 0 = .ok (.aload_n 0, 1) := dk_42 (dk_at dksX0_outermostStep_0 0 rfl rfl)
theorem dX0_outermostStep_1 : decode cX0_outermostStep 1 = .ok (.aload_n 1, 1) := dk_43 (dk_at dksX0_outermostStep_0 1 rfl rfl)
theorem dX0_outermostStep_2 : decode cX0_outermostStep 2 = .ok (.invokevirtual 389, 3) := dk_182 1 133 (dk_at dksX0_outermostStep_0 2 rfl rfl)
theorem dX0_outermostStep_5 : decode cX0_outermostStep 5 = .ok (.istore_n 2, 1) := dk_61 (dk_at dksX0_outermostStep_0 5 rfl rfl)
theorem dX0_outermostStep_6 : decode cX0_outermostStep 6 = .ok (.iload_n 2, 1) := dk_28 (dk_at dksX0_outermostStep_0 6 rfl rfl)
theorem dX0_outermostStep_7 : decode cX0_outermostStep 7 = .ok (.bipush (-5), 2) := dk_16 251 (dk_at dksX0_outermostStep_0 7 rfl rfl)
theorem dX0_outermostStep_9 : decode cX0_outermostStep 9 = .ok (.if_icmp .ne 7, 3) := dk_160 0 7 (dk_at dksX0_outermostStep_0 9 rfl rfl)
theorem dX0_outermostStep_12 : decode cX0_outermostStep 12 = .ok (.aconst_null, 1) := dk_1 (dk_at dksX0_outermostStep_0 12 rfl rfl)
theorem dX0_outermostStep_13 : decode cX0_outermostStep 13 = .ok (.goto 9, 3) := dk_167 0 9 (dk_at dksX0_outermostStep_0 13 rfl rfl)
theorem dX0_outermostStep_16 : decode cX0_outermostStep 16 = .ok (.aload_n 0, 1) := dk_42 (dk_at dksX0_outermostStep_0 16 rfl rfl)
theorem dX0_outermostStep_17 : decode cX0_outermostStep 17 = .ok (.aload_n 1, 1) := dk_43 (dk_at dksX0_outermostStep_0 17 rfl rfl)
theorem dX0_outermostStep_18 : decode cX0_outermostStep 18 = .ok (.iload_n 2, 1) := dk_28 (dk_at dksX0_outermostStep_0 18 rfl rfl)
theorem dX0_outermostStep_19 : decode cX0_outermostStep 19 = .ok (.invokevirtual 404, 3) := dk_182 1 148 (dk_at dksX0_outermostStep_0 19 rfl rfl)
theorem dX0_outermostStep_22 : decode cX0_outermostStep 22 = .ok (.areturn, 1) := dk_176 (dk_at dksX0_outermostStep_0 22 rfl rfl)
abbrev cX0_outermostRedex : ByteArray := prog_1_method_58_code
def yX0_outermostRedex : MethodName := ⟨RX0, "outermostRedex", "(LDependencyPairAnalyzer$Term;)I"⟩
def dkwX0_outermostRedex_1 : List UInt8 := [167, 255, 234, 16, 251, 172]
abbrev dktX0_outermostRedex_1 : List UInt8 := dkwX0_outermostRedex_1 ++ []
def dkwX0_outermostRedex_0 : List UInt8 := [3, 61, 28, 43, 182, 0, 165, 162, 0, 20, 42, 43, 28, 182, 1, 129, 153, 0, 5, 28, 172, 132, 2, 1]
abbrev dktX0_outermostRedex_0 : List UInt8 := dkwX0_outermostRedex_0 ++ dktX0_outermostRedex_1
theorem dksX0_outermostRedex_0 : cX0_outermostRedex.data.toList.drop 0 = dktX0_outermostRedex_0 := by decide +kernel
theorem dksX0_outermostRedex_1 : cX0_outermostRedex.data.toList.drop 24 = dktX0_outermostRedex_1 := dk_seg dksX0_outermostRedex_0 24 rfl rfl
theorem dX0_outermostRedex_0 : decode cX0_outermostRedex 0 = .ok (.iconst 0, 1) := dk_3 (dk_at dksX0_outermostRedex_0 0 rfl rfl)
theorem dX0_outermostRedex_1 : decode cX0_outermostRedex 1 = .ok (.istore_n 2, 1) := dk_61 (dk_at dksX0_outermostRedex_0 1 rfl rfl)
theorem dX0_outermostRedex_2 : decode cX0_outermostRedex 2 = .ok (.iload_n 2, 1) := dk_28 (dk_at dksX0_outermostRedex_0 2 rfl rfl)
theorem dX0_outermostRedex_3 : decode cX0_outermostRedex 3 = .ok (.aload_n 1, 1) := dk_43 (dk_at dksX0_outermostRedex_0 3 rfl rfl)
theorem dX0_outermostRedex_4 : decode cX0_outermostRedex 4 = .ok (.invokevirtual 165, 3) := dk_182 0 165 (dk_at dksX0_outermostRedex_0 4 rfl rfl)
theorem dX0_outermostRedex_7 : decode cX0_outermostRedex 7 = .ok (.if_icmp .ge 20, 3) := dk_162 0 20 (dk_at dksX0_outermostRedex_0 7 rfl rfl)
theorem dX0_outermostRedex_10 : decode cX0_outermostRedex 10 = .ok (.aload_n 0, 1) := dk_42 (dk_at dksX0_outermostRedex_0 10 rfl rfl)
theorem dX0_outermostRedex_11 : decode cX0_outermostRedex 11 = .ok (.aload_n 1, 1) := dk_43 (dk_at dksX0_outermostRedex_0 11 rfl rfl)
theorem dX0_outermostRedex_12 : decode cX0_outermostRedex 12 = .ok (.iload_n 2, 1) := dk_28 (dk_at dksX0_outermostRedex_0 12 rfl rfl)
theorem dX0_outermostRedex_13 : decode cX0_outermostRedex 13 = .ok (.invokevirtual 385, 3) := dk_182 1 129 (dk_at dksX0_outermostRedex_0 13 rfl rfl)
theorem dX0_outermostRedex_16 : decode cX0_outermostRedex 16 = .ok (.ifCond .eq 5, 3) := dk_153 0 5 (dk_at dksX0_outermostRedex_0 16 rfl rfl)
theorem dX0_outermostRedex_19 : decode cX0_outermostRedex 19 = .ok (.iload_n 2, 1) := dk_28 (dk_at dksX0_outermostRedex_0 19 rfl rfl)
theorem dX0_outermostRedex_20 : decode cX0_outermostRedex 20 = .ok (.ireturn, 1) := dk_172 (dk_at dksX0_outermostRedex_0 20 rfl rfl)
theorem dX0_outermostRedex_21 : decode cX0_outermostRedex 21 = .ok (.iinc 2 1, 3) := dk_132 2 1 (dk_at dksX0_outermostRedex_0 21 rfl rfl)
theorem dX0_outermostRedex_24 : decode cX0_outermostRedex 24 = .ok (.goto (-22), 3) := dk_167 255 234 (dk_at dksX0_outermostRedex_1 0 rfl rfl)
theorem dX0_outermostRedex_27 : decode cX0_outermostRedex 27 = .ok (.bipush (-5), 2) := dk_16 251 (dk_at dksX0_outermostRedex_1 3 rfl rfl)
theorem dX0_outermostRedex_29 : decode cX0_outermostRedex 29 = .ok (.ireturn, 1) := dk_172 (dk_at dksX0_outermostRedex_1 5 rfl rfl)
abbrev cX0_findLoop : ByteArray := prog_1_method_81_code
def yX0_findLoop : MethodName := ⟨RX0, "findLoop", "(II)I"⟩
def dkwX0_findLoop_3 : List UInt8 := [153, 0, 6, 21, 4, 172, 132, 4, 1, 167, 255, 211, 16, 251, 172]
abbrev dktX0_findLoop_3 : List UInt8 := dkwX0_findLoop_3 ++ []
def dkwX0_findLoop_2 : List UInt8 := [45, 83, 42, 45, 182, 1, 186, 78, 45, 199, 0, 6, 16, 251, 172, 42, 45, 21, 4, 182, 1, 194]
abbrev dktX0_findLoop_2 : List UInt8 := dkwX0_findLoop_2 ++ dktX0_findLoop_3
def dkwX0_findLoop_1 : List UInt8 := [42, 180, 0, 21, 27, 50, 78, 4, 54, 4, 21, 4, 28, 163, 0, 45, 42, 180, 0, 102, 21, 4, 4, 100]
abbrev dktX0_findLoop_1 : List UInt8 := dkwX0_findLoop_1 ++ dktX0_findLoop_2
def dkwX0_findLoop_0 : List UInt8 := [27, 184, 1, 152, 154, 0, 5, 2, 172, 28, 133, 10, 20, 1, 184, 184, 0, 134, 154, 0, 6, 16, 254, 172]
abbrev dktX0_findLoop_0 : List UInt8 := dkwX0_findLoop_0 ++ dktX0_findLoop_1
theorem dksX0_findLoop_0 : cX0_findLoop.data.toList.drop 0 = dktX0_findLoop_0 := by decide +kernel
theorem dksX0_findLoop_1 : cX0_findLoop.data.toList.drop 24 = dktX0_findLoop_1 := dk_seg dksX0_findLoop_0 24 rfl rfl
theorem dksX0_findLoop_2 : cX0_findLoop.data.toList.drop 48 = dktX0_findLoop_2 := dk_seg dksX0_findLoop_1 24 rfl rfl
theorem dksX0_findLoop_3 : cX0_findLoop.data.toList.drop 70 = dktX0_findLoop_3 := dk_seg dksX0_findLoop_2 22 rfl rfl
theorem dX0_findLoop_0 : decode cX0_findLoop 0 = .ok (.iload_n 1, 1) := dk_27 (dk_at dksX0_findLoop_0 0 rfl rfl)
theorem dX0_findLoop_1 : decode cX0_findLoop 1 = .ok (.invokestatic 408, 3) := dk_184 1 152 (dk_at dksX0_findLoop_0 1 rfl rfl)
theorem dX0_findLoop_4 : decode cX0_findLoop 4 = .ok (.ifCond .ne 5, 3) := dk_154 0 5 (dk_at dksX0_findLoop_0 4 rfl rfl)
theorem dX0_findLoop_7 : decode cX0_findLoop 7 = .ok (.iconst (-1), 1) := dk_2 (dk_at dksX0_findLoop_0 7 rfl rfl)
theorem dX0_findLoop_8 : decode cX0_findLoop 8 = .ok (.ireturn, 1) := dk_172 (dk_at dksX0_findLoop_0 8 rfl rfl)
theorem dX0_findLoop_9 : decode cX0_findLoop 9 = .ok (.iload_n 2, 1) := dk_28 (dk_at dksX0_findLoop_0 9 rfl rfl)
theorem dX0_findLoop_10 : decode cX0_findLoop 10 = .ok (.i2l, 1) := dk_133 (dk_at dksX0_findLoop_0 10 rfl rfl)
theorem dX0_findLoop_11 : decode cX0_findLoop 11 = .ok (.lconst 1, 1) := dk_10 (dk_at dksX0_findLoop_0 11 rfl rfl)
theorem dX0_findLoop_12 : decode cX0_findLoop 12 = .ok (.ldc2_w 440, 3) := dk_20 1 184 (dk_at dksX0_findLoop_0 12 rfl rfl)
theorem dX0_findLoop_15 : decode cX0_findLoop 15 = .ok (.invokestatic 134, 3) := dk_184 0 134 (dk_at dksX0_findLoop_0 15 rfl rfl)
theorem dX0_findLoop_18 : decode cX0_findLoop 18 = .ok (.ifCond .ne 6, 3) := dk_154 0 6 (dk_at dksX0_findLoop_0 18 rfl rfl)
theorem dX0_findLoop_21 : decode cX0_findLoop 21 = .ok (.bipush (-2), 2) := dk_16 254 (dk_at dksX0_findLoop_0 21 rfl rfl)
theorem dX0_findLoop_23 : decode cX0_findLoop 23 = .ok (.ireturn, 1) := dk_172 (dk_at dksX0_findLoop_0 23 rfl rfl)
theorem dX0_findLoop_24 : decode cX0_findLoop 24 = .ok (.aload_n 0, 1) := dk_42 (dk_at dksX0_findLoop_1 0 rfl rfl)
theorem dX0_findLoop_25 : decode cX0_findLoop 25 = .ok (.getfield 21, 3) := dk_180 0 21 (dk_at dksX0_findLoop_1 1 rfl rfl)
theorem dX0_findLoop_28 : decode cX0_findLoop 28 = .ok (.iload_n 1, 1) := dk_27 (dk_at dksX0_findLoop_1 4 rfl rfl)
theorem dX0_findLoop_29 : decode cX0_findLoop 29 = .ok (.aaload, 1) := dk_50 (dk_at dksX0_findLoop_1 5 rfl rfl)
theorem dX0_findLoop_30 : decode cX0_findLoop 30 = .ok (.astore_n 3, 1) := dk_78 (dk_at dksX0_findLoop_1 6 rfl rfl)
theorem dX0_findLoop_31 : decode cX0_findLoop 31 = .ok (.iconst 1, 1) := dk_4 (dk_at dksX0_findLoop_1 7 rfl rfl)
theorem dX0_findLoop_32 : decode cX0_findLoop 32 = .ok (.istore 4, 2) := dk_54 4 (dk_at dksX0_findLoop_1 8 rfl rfl)
theorem dX0_findLoop_34 : decode cX0_findLoop 34 = .ok (.iload 4, 2) := dk_21 4 (dk_at dksX0_findLoop_1 10 rfl rfl)
theorem dX0_findLoop_36 : decode cX0_findLoop 36 = .ok (.iload_n 2, 1) := dk_28 (dk_at dksX0_findLoop_1 12 rfl rfl)
theorem dX0_findLoop_37 : decode cX0_findLoop 37 = .ok (.if_icmp .gt 45, 3) := dk_163 0 45 (dk_at dksX0_findLoop_1 13 rfl rfl)
theorem dX0_findLoop_40 : decode cX0_findLoop 40 = .ok (.aload_n 0, 1) := dk_42 (dk_at dksX0_findLoop_1 16 rfl rfl)
theorem dX0_findLoop_41 : decode cX0_findLoop 41 = .ok (.getfield 102, 3) := dk_180 0 102 (dk_at dksX0_findLoop_1 17 rfl rfl)
theorem dX0_findLoop_44 : decode cX0_findLoop 44 = .ok (.iload 4, 2) := dk_21 4 (dk_at dksX0_findLoop_1 20 rfl rfl)
theorem dX0_findLoop_46 : decode cX0_findLoop 46 = .ok (.iconst 1, 1) := dk_4 (dk_at dksX0_findLoop_1 22 rfl rfl)
theorem dX0_findLoop_47 : decode cX0_findLoop 47 = .ok (.isub, 1) := dk_100 (dk_at dksX0_findLoop_1 23 rfl rfl)
theorem dX0_findLoop_48 : decode cX0_findLoop 48 = .ok (.aload_n 3, 1) := dk_45 (dk_at dksX0_findLoop_2 0 rfl rfl)
theorem dX0_findLoop_49 : decode cX0_findLoop 49 = .ok (.aastore, 1) := dk_83 (dk_at dksX0_findLoop_2 1 rfl rfl)
theorem dX0_findLoop_50 : decode cX0_findLoop 50 = .ok (.aload_n 0, 1) := dk_42 (dk_at dksX0_findLoop_2 2 rfl rfl)
theorem dX0_findLoop_51 : decode cX0_findLoop 51 = .ok (.aload_n 3, 1) := dk_45 (dk_at dksX0_findLoop_2 3 rfl rfl)
theorem dX0_findLoop_52 : decode cX0_findLoop 52 = .ok (.invokevirtual 442, 3) := dk_182 1 186 (dk_at dksX0_findLoop_2 4 rfl rfl)
theorem dX0_findLoop_55 : decode cX0_findLoop 55 = .ok (.astore_n 3, 1) := dk_78 (dk_at dksX0_findLoop_2 7 rfl rfl)
theorem dX0_findLoop_56 : decode cX0_findLoop 56 = .ok (.aload_n 3, 1) := dk_45 (dk_at dksX0_findLoop_2 8 rfl rfl)
theorem dX0_findLoop_57 : decode cX0_findLoop 57 = .ok (.ifnonnull 6, 3) := dk_199 0 6 (dk_at dksX0_findLoop_2 9 rfl rfl)
theorem dX0_findLoop_60 : decode cX0_findLoop 60 = .ok (.bipush (-5), 2) := dk_16 251 (dk_at dksX0_findLoop_2 12 rfl rfl)
theorem dX0_findLoop_62 : decode cX0_findLoop 62 = .ok (.ireturn, 1) := dk_172 (dk_at dksX0_findLoop_2 14 rfl rfl)
theorem dX0_findLoop_63 : decode cX0_findLoop 63 = .ok (.aload_n 0, 1) := dk_42 (dk_at dksX0_findLoop_2 15 rfl rfl)
theorem dX0_findLoop_64 : decode cX0_findLoop 64 = .ok (.aload_n 3, 1) := dk_45 (dk_at dksX0_findLoop_2 16 rfl rfl)
theorem dX0_findLoop_65 : decode cX0_findLoop 65 = .ok (.iload 4, 2) := dk_21 4 (dk_at dksX0_findLoop_2 17 rfl rfl)
theorem dX0_findLoop_67 : decode cX0_findLoop 67 = .ok (.invokevirtual 450, 3) := dk_182 1 194 (dk_at dksX0_findLoop_2 19 rfl rfl)
theorem dX0_findLoop_70 : decode cX0_findLoop 70 = .ok (.ifCond .eq 6, 3) := dk_153 0 6 (dk_at dksX0_findLoop_3 0 rfl rfl)
theorem dX0_findLoop_73 : decode cX0_findLoop 73 = .ok (.iload 4, 2) := dk_21 4 (dk_at dksX0_findLoop_3 3 rfl rfl)
theorem dX0_findLoop_75 : decode cX0_findLoop 75 = .ok (.ireturn, 1) := dk_172 (dk_at dksX0_findLoop_3 5 rfl rfl)
theorem dX0_findLoop_76 : decode cX0_findLoop 76 = .ok (.iinc 4 1, 3) := dk_132 4 1 (dk_at dksX0_findLoop_3 6 rfl rfl)
theorem dX0_findLoop_79 : decode cX0_findLoop 79 = .ok (.goto (-45), 3) := dk_167 255 211 (dk_at dksX0_findLoop_3 9 rfl rfl)
theorem dX0_findLoop_82 : decode cX0_findLoop 82 = .ok (.bipush (-5), 2) := dk_16 251 (dk_at dksX0_findLoop_3 12 rfl rfl)
theorem dX0_findLoop_84 : decode cX0_findLoop 84 = .ok (.ireturn, 1) := dk_172 (dk_at dksX0_findLoop_3 14 rfl rfl)
abbrev cX0_occurred : ByteArray := prog_1_method_80_code
def yX0_occurred : MethodName := ⟨RX0, "occurred", "(LDependencyPairAnalyzer$Term;I)Z"⟩
def dkwX0_occurred_1 : List UInt8 := [132, 3, 1, 167, 255, 233, 3, 172]
abbrev dktX0_occurred_1 : List UInt8 := dkwX0_occurred_1 ++ []
def dkwX0_occurred_0 : List UInt8 := [3, 62, 29, 28, 162, 0, 24, 42, 180, 0, 102, 29, 50, 43, 182, 1, 190, 153, 0, 5, 4, 172]
abbrev dktX0_occurred_0 : List UInt8 := dkwX0_occurred_0 ++ dktX0_occurred_1
theorem dksX0_occurred_0 : cX0_occurred.data.toList.drop 0 = dktX0_occurred_0 := by decide +kernel
theorem dksX0_occurred_1 : cX0_occurred.data.toList.drop 22 = dktX0_occurred_1 := dk_seg dksX0_occurred_0 22 rfl rfl
theorem dX0_occurred_0 : decode cX0_occurred 0 = .ok (.iconst 0, 1) := dk_3 (dk_at dksX0_occurred_0 0 rfl rfl)
theorem dX0_occurred_1 : decode cX0_occurred 1 = .ok (.istore_n 3, 1) := dk_62 (dk_at dksX0_occurred_0 1 rfl rfl)
theorem dX0_occurred_2 : decode cX0_occurred 2 = .ok (.iload_n 3, 1) := dk_29 (dk_at dksX0_occurred_0 2 rfl rfl)
theorem dX0_occurred_3 : decode cX0_occurred 3 = .ok (.iload_n 2, 1) := dk_28 (dk_at dksX0_occurred_0 3 rfl rfl)
theorem dX0_occurred_4 : decode cX0_occurred 4 = .ok (.if_icmp .ge 24, 3) := dk_162 0 24 (dk_at dksX0_occurred_0 4 rfl rfl)
theorem dX0_occurred_7 : decode cX0_occurred 7 = .ok (.aload_n 0, 1) := dk_42 (dk_at dksX0_occurred_0 7 rfl rfl)
theorem dX0_occurred_8 : decode cX0_occurred 8 = .ok (.getfield 102, 3) := dk_180 0 102 (dk_at dksX0_occurred_0 8 rfl rfl)
theorem dX0_occurred_11 : decode cX0_occurred 11 = .ok (.iload_n 3, 1) := dk_29 (dk_at dksX0_occurred_0 11 rfl rfl)
theorem dX0_occurred_12 : decode cX0_occurred 12 = .ok (.aaload, 1) := dk_50 (dk_at dksX0_occurred_0 12 rfl rfl)
theorem dX0_occurred_13 : decode cX0_occurred 13 = .ok (.aload_n 1, 1) := dk_43 (dk_at dksX0_occurred_0 13 rfl rfl)
theorem dX0_occurred_14 : decode cX0_occurred 14 = .ok (.invokevirtual 446, 3) := dk_182 1 190 (dk_at dksX0_occurred_0 14 rfl rfl)
theorem dX0_occurred_17 : decode cX0_occurred 17 = .ok (.ifCond .eq 5, 3) := dk_153 0 5 (dk_at dksX0_occurred_0 17 rfl rfl)
theorem dX0_occurred_20 : decode cX0_occurred 20 = .ok (.iconst 1, 1) := dk_4 (dk_at dksX0_occurred_0 20 rfl rfl)
theorem dX0_occurred_21 : decode cX0_occurred 21 = .ok (.ireturn, 1) := dk_172 (dk_at dksX0_occurred_0 21 rfl rfl)
theorem dX0_occurred_22 : decode cX0_occurred 22 = .ok (.iinc 3 1, 3) := dk_132 3 1 (dk_at dksX0_occurred_1 0 rfl rfl)
theorem dX0_occurred_25 : decode cX0_occurred 25 = .ok (.goto (-23), 3) := dk_167 255 233 (dk_at dksX0_occurred_1 3 rfl rfl)
theorem dX0_occurred_28 : decode cX0_occurred 28 = .ok (.iconst 0, 1) := dk_3 (dk_at dksX0_occurred_1 6 rfl rfl)
theorem dX0_occurred_29 : decode cX0_occurred 29 = .ok (.ireturn, 1) := dk_172 (dk_at dksX0_occurred_1 7 rfl rfl)
abbrev cX0_exploredCount : ByteArray := prog_1_method_84_code
def yX0_exploredCount : MethodName := ⟨RX0, "exploredCount", "(II)I"⟩
def dkwX0_exploredCount_1 : List UInt8 := [182, 1, 217, 172]
abbrev dktX0_exploredCount_1 : List UInt8 := dkwX0_exploredCount_1 ++ []
def dkwX0_exploredCount_0 : List UInt8 := [42, 27, 28, 182, 1, 214, 62, 29, 153, 0, 7, 29, 167, 0, 14, 42, 42, 180, 0, 21, 27, 50, 28]
abbrev dktX0_exploredCount_0 : List UInt8 := dkwX0_exploredCount_0 ++ dktX0_exploredCount_1
theorem dksX0_exploredCount_0 : cX0_exploredCount.data.toList.drop 0 = dktX0_exploredCount_0 := by decide +kernel
theorem dksX0_exploredCount_1 : cX0_exploredCount.data.toList.drop 23 = dktX0_exploredCount_1 := dk_seg dksX0_exploredCount_0 23 rfl rfl
theorem dX0_exploredCount_0 : decode cX0_exploredCount 0 = .ok (.aload_n 0, 1) := dk_42 (dk_at dksX0_exploredCount_0 0 rfl rfl)
theorem dX0_exploredCount_1 : decode cX0_exploredCount 1 = .ok (.iload_n 1, 1) := dk_27 (dk_at dksX0_exploredCount_0 1 rfl rfl)
theorem dX0_exploredCount_2 : decode cX0_exploredCount 2 = .ok (.iload_n 2, 1) := dk_28 (dk_at dksX0_exploredCount_0 2 rfl rfl)
theorem dX0_exploredCount_3 : decode cX0_exploredCount 3 = .ok (.invokevirtual 470, 3) := dk_182 1 214 (dk_at dksX0_exploredCount_0 3 rfl rfl)
theorem dX0_exploredCount_6 : decode cX0_exploredCount 6 = .ok (.istore_n 3, 1) := dk_62 (dk_at dksX0_exploredCount_0 6 rfl rfl)
theorem dX0_exploredCount_7 : decode cX0_exploredCount 7 = .ok (.iload_n 3, 1) := dk_29 (dk_at dksX0_exploredCount_0 7 rfl rfl)
theorem dX0_exploredCount_8 : decode cX0_exploredCount 8 = .ok (.ifCond .eq 7, 3) := dk_153 0 7 (dk_at dksX0_exploredCount_0 8 rfl rfl)
theorem dX0_exploredCount_11 : decode cX0_exploredCount 11 = .ok (.iload_n 3, 1) := dk_29 (dk_at dksX0_exploredCount_0 11 rfl rfl)
theorem dX0_exploredCount_12 : decode cX0_exploredCount 12 = .ok (.goto 14, 3) := dk_167 0 14 (dk_at dksX0_exploredCount_0 12 rfl rfl)
theorem dX0_exploredCount_15 : decode cX0_exploredCount 15 = .ok (.aload_n 0, 1) := dk_42 (dk_at dksX0_exploredCount_0 15 rfl rfl)
theorem dX0_exploredCount_16 : decode cX0_exploredCount 16 = .ok (.aload_n 0, 1) := dk_42 (dk_at dksX0_exploredCount_0 16 rfl rfl)
theorem dX0_exploredCount_17 : decode cX0_exploredCount 17 = .ok (.getfield 21, 3) := dk_180 0 21 (dk_at dksX0_exploredCount_0 17 rfl rfl)
theorem dX0_exploredCount_20 : decode cX0_exploredCount 20 = .ok (.iload_n 1, 1) := dk_27 (dk_at dksX0_exploredCount_0 20 rfl rfl)
theorem dX0_exploredCount_21 : decode cX0_exploredCount 21 = .ok (.aaload, 1) := dk_50 (dk_at dksX0_exploredCount_0 21 rfl rfl)
theorem dX0_exploredCount_22 : decode cX0_exploredCount 22 = .ok (.iload_n 2, 1) := dk_28 (dk_at dksX0_exploredCount_0 22 rfl rfl)
theorem dX0_exploredCount_23 : decode cX0_exploredCount 23 = .ok (.invokevirtual 473, 3) := dk_182 1 217 (dk_at dksX0_exploredCount_1 0 rfl rfl)
theorem dX0_exploredCount_26 : decode cX0_exploredCount 26 = .ok (.ireturn, 1) := dk_172 (dk_at dksX0_exploredCount_1 3 rfl rfl)
abbrev cX0_explorationError : ByteArray := prog_1_method_83_code
def yX0_explorationError : MethodName := ⟨RX0, "explorationError", "(II)I"⟩
def dkwX0_explorationError_1 : List UInt8 := [16, 254, 167, 0, 4, 3, 172]
abbrev dktX0_explorationError_1 : List UInt8 := dkwX0_explorationError_1 ++ []
def dkwX0_explorationError_0 : List UInt8 := [27, 184, 1, 152, 154, 0, 7, 2, 167, 0, 21, 28, 133, 10, 20, 1, 212, 184, 0, 134, 154, 0, 8]
abbrev dktX0_explorationError_0 : List UInt8 := dkwX0_explorationError_0 ++ dktX0_explorationError_1
theorem dksX0_explorationError_0 : cX0_explorationError.data.toList.drop 0 = dktX0_explorationError_0 := by decide +kernel
theorem dksX0_explorationError_1 : cX0_explorationError.data.toList.drop 23 = dktX0_explorationError_1 := dk_seg dksX0_explorationError_0 23 rfl rfl
theorem dX0_explorationError_0 : decode cX0_explorationError 0 = .ok (.iload_n 1, 1) := dk_27 (dk_at dksX0_explorationError_0 0 rfl rfl)
theorem dX0_explorationError_1 : decode cX0_explorationError 1 = .ok (.invokestatic 408, 3) := dk_184 1 152 (dk_at dksX0_explorationError_0 1 rfl rfl)
theorem dX0_explorationError_4 : decode cX0_explorationError 4 = .ok (.ifCond .ne 7, 3) := dk_154 0 7 (dk_at dksX0_explorationError_0 4 rfl rfl)
theorem dX0_explorationError_7 : decode cX0_explorationError 7 = .ok (.iconst (-1), 1) := dk_2 (dk_at dksX0_explorationError_0 7 rfl rfl)
theorem dX0_explorationError_8 : decode cX0_explorationError 8 = .ok (.goto 21, 3) := dk_167 0 21 (dk_at dksX0_explorationError_0 8 rfl rfl)
theorem dX0_explorationError_11 : decode cX0_explorationError 11 = .ok (.iload_n 2, 1) := dk_28 (dk_at dksX0_explorationError_0 11 rfl rfl)
theorem dX0_explorationError_12 : decode cX0_explorationError 12 = .ok (.i2l, 1) := dk_133 (dk_at dksX0_explorationError_0 12 rfl rfl)
theorem dX0_explorationError_13 : decode cX0_explorationError 13 = .ok (.lconst 1, 1) := dk_10 (dk_at dksX0_explorationError_0 13 rfl rfl)
theorem dX0_explorationError_14 : decode cX0_explorationError 14 = .ok (.ldc2_w 468, 3) := dk_20 1 212 (dk_at dksX0_explorationError_0 14 rfl rfl)
theorem dX0_explorationError_17 : decode cX0_explorationError 17 = .ok (.invokestatic 134, 3) := dk_184 0 134 (dk_at dksX0_explorationError_0 17 rfl rfl)
theorem dX0_explorationError_20 : decode cX0_explorationError 20 = .ok (.ifCond .ne 8, 3) := dk_154 0 8 (dk_at dksX0_explorationError_0 20 rfl rfl)
theorem dX0_explorationError_23 : decode cX0_explorationError 23 = .ok (.bipush (-2), 2) := dk_16 254 (dk_at dksX0_explorationError_1 0 rfl rfl)
theorem dX0_explorationError_25 : decode cX0_explorationError 25 = .ok (.goto 4, 3) := dk_167 0 4 (dk_at dksX0_explorationError_1 2 rfl rfl)
theorem dX0_explorationError_28 : decode cX0_explorationError 28 = .ok (.iconst 0, 1) := dk_3 (dk_at dksX0_explorationError_1 5 rfl rfl)
theorem dX0_explorationError_29 : decode cX0_explorationError 29 = .ok (.ireturn, 1) := dk_172 (dk_at dksX0_explorationError_1 6 rfl rfl)
abbrev cX0_explore : ByteArray := prog_1_method_82_code
def yX0_explore : MethodName := ⟨RX0, "explore", "(LDependencyPairAnalyzer$Term;I)I"⟩
def dkwX0_explore_6 : List UInt8 := [167, 255, 196, 167, 255, 156, 21, 5, 172]
abbrev dktX0_explore_6 : List UInt8 := dkwX0_explore_6 ++ []
def dkwX0_explore_5 : List UInt8 := [198, 0, 20, 25, 4, 25, 8, 182, 1, 47, 153, 0, 10, 45, 25, 8, 182, 1, 205, 87, 132, 7, 1]
abbrev dktX0_explore_5 : List UInt8 := dkwX0_explore_5 ++ dktX0_explore_6
def dkwX0_explore_4 : List UInt8 := [182, 1, 129, 153, 0, 14, 42, 25, 6, 21, 7, 182, 1, 148, 167, 0, 4, 1, 58, 8, 25, 8]
abbrev dktX0_explore_4 : List UInt8 := dkwX0_explore_4 ++ dktX0_explore_5
def dkwX0_explore_3 : List UInt8 := [83, 132, 5, 1, 3, 54, 7, 21, 7, 25, 6, 182, 0, 165, 162, 0, 56, 42, 25, 6, 21, 7]
abbrev dktX0_explore_3 : List UInt8 := dkwX0_explore_3 ++ dktX0_explore_4
def dkwX0_explore_2 : List UInt8 := [45, 182, 1, 206, 154, 0, 93, 45, 182, 1, 209, 192, 0, 19, 58, 6, 42, 180, 0, 105, 21, 5, 25, 6]
abbrev dktX0_explore_2 : List UInt8 := dkwX0_explore_2 ++ dktX0_explore_3
def dkwX0_explore_1 : List UInt8 := [58, 4, 45, 43, 182, 1, 205, 87, 25, 4, 43, 182, 1, 47, 87, 3, 54, 5, 21, 5, 28, 162, 0, 100]
abbrev dktX0_explore_1 : List UInt8 := dkwX0_explore_1 ++ dktX0_explore_2
def dkwX0_explore_0 : List UInt8 := [187, 1, 197, 89, 16, 16, 187, 1, 199, 89, 183, 1, 201, 183, 1, 202, 78, 187, 0, 73, 89, 183, 0, 75]
abbrev dktX0_explore_0 : List UInt8 := dkwX0_explore_0 ++ dktX0_explore_1
theorem dksX0_explore_0 : cX0_explore.data.toList.drop 0 = dktX0_explore_0 := by decide +kernel
theorem dksX0_explore_1 : cX0_explore.data.toList.drop 24 = dktX0_explore_1 := dk_seg dksX0_explore_0 24 rfl rfl
theorem dksX0_explore_2 : cX0_explore.data.toList.drop 48 = dktX0_explore_2 := dk_seg dksX0_explore_1 24 rfl rfl
theorem dksX0_explore_3 : cX0_explore.data.toList.drop 72 = dktX0_explore_3 := dk_seg dksX0_explore_2 24 rfl rfl
theorem dksX0_explore_4 : cX0_explore.data.toList.drop 94 = dktX0_explore_4 := dk_seg dksX0_explore_3 22 rfl rfl
theorem dksX0_explore_5 : cX0_explore.data.toList.drop 116 = dktX0_explore_5 := dk_seg dksX0_explore_4 22 rfl rfl
theorem dksX0_explore_6 : cX0_explore.data.toList.drop 139 = dktX0_explore_6 := dk_seg dksX0_explore_5 23 rfl rfl
theorem dX0_explore_0 : decode cX0_explore 0 = .ok (.new 453, 3) := dk_187 1 197 (dk_at dksX0_explore_0 0 rfl rfl)
theorem dX0_explore_3 : decode cX0_explore 3 = .ok (.dup, 1) := dk_89 (dk_at dksX0_explore_0 3 rfl rfl)
theorem dX0_explore_4 : decode cX0_explore 4 = .ok (.bipush 16, 2) := dk_16 16 (dk_at dksX0_explore_0 4 rfl rfl)
theorem dX0_explore_6 : decode cX0_explore 6 = .ok (.new 455, 3) := dk_187 1 199 (dk_at dksX0_explore_0 6 rfl rfl)
theorem dX0_explore_9 : decode cX0_explore 9 = .ok (.dup, 1) := dk_89 (dk_at dksX0_explore_0 9 rfl rfl)
theorem dX0_explore_10 : decode cX0_explore 10 = .ok (.invokespecial 457, 3) := dk_183 1 201 (dk_at dksX0_explore_0 10 rfl rfl)
theorem dX0_explore_13 : decode cX0_explore 13 = .ok (.invokespecial 458, 3) := dk_183 1 202 (dk_at dksX0_explore_0 13 rfl rfl)
theorem dX0_explore_16 : decode cX0_explore 16 = .ok (.astore_n 3, 1) := dk_78 (dk_at dksX0_explore_0 16 rfl rfl)
theorem dX0_explore_17 : decode cX0_explore 17 = .ok (.new 73, 3) := dk_187 0 73 (dk_at dksX0_explore_0 17 rfl rfl)
theorem dX0_explore_20 : decode cX0_explore 20 = .ok (.dup, 1) := dk_89 (dk_at dksX0_explore_0 20 rfl rfl)
theorem dX0_explore_21 : decode cX0_explore 21 = .ok (.invokespecial 75, 3) := dk_183 0 75 (dk_at dksX0_explore_0 21 rfl rfl)
theorem dX0_explore_24 : decode cX0_explore 24 = .ok (.astore 4, 2) := dk_58 4 (dk_at dksX0_explore_1 0 rfl rfl)
theorem dX0_explore_26 : decode cX0_explore 26 = .ok (.aload_n 3, 1) := dk_45 (dk_at dksX0_explore_1 2 rfl rfl)
theorem dX0_explore_27 : decode cX0_explore 27 = .ok (.aload_n 1, 1) := dk_43 (dk_at dksX0_explore_1 3 rfl rfl)
theorem dX0_explore_28 : decode cX0_explore 28 = .ok (.invokevirtual 461, 3) := dk_182 1 205 (dk_at dksX0_explore_1 4 rfl rfl)
theorem dX0_explore_31 : decode cX0_explore 31 = .ok (.pop, 1) := dk_87 (dk_at dksX0_explore_1 7 rfl rfl)
theorem dX0_explore_32 : decode cX0_explore 32 = .ok (.aload 4, 2) := dk_25 4 (dk_at dksX0_explore_1 8 rfl rfl)
theorem dX0_explore_34 : decode cX0_explore 34 = .ok (.aload_n 1, 1) := dk_43 (dk_at dksX0_explore_1 10 rfl rfl)
theorem dX0_explore_35 : decode cX0_explore 35 = .ok (.invokevirtual 303, 3) := dk_182 1 47 (dk_at dksX0_explore_1 11 rfl rfl)
theorem dX0_explore_38 : decode cX0_explore 38 = .ok (.pop, 1) := dk_87 (dk_at dksX0_explore_1 14 rfl rfl)
theorem dX0_explore_39 : decode cX0_explore 39 = .ok (.iconst 0, 1) := dk_3 (dk_at dksX0_explore_1 15 rfl rfl)
theorem dX0_explore_40 : decode cX0_explore 40 = .ok (.istore 5, 2) := dk_54 5 (dk_at dksX0_explore_1 16 rfl rfl)
theorem dX0_explore_42 : decode cX0_explore 42 = .ok (.iload 5, 2) := dk_21 5 (dk_at dksX0_explore_1 18 rfl rfl)
theorem dX0_explore_44 : decode cX0_explore 44 = .ok (.iload_n 2, 1) := dk_28 (dk_at dksX0_explore_1 20 rfl rfl)
theorem dX0_explore_45 : decode cX0_explore 45 = .ok (.if_icmp .ge 100, 3) := dk_162 0 100 (dk_at dksX0_explore_1 21 rfl rfl)
theorem dX0_explore_48 : decode cX0_explore 48 = .ok (.aload_n 3, 1) := dk_45 (dk_at dksX0_explore_2 0 rfl rfl)
theorem dX0_explore_49 : decode cX0_explore 49 = .ok (.invokevirtual 462, 3) := dk_182 1 206 (dk_at dksX0_explore_2 1 rfl rfl)
theorem dX0_explore_52 : decode cX0_explore 52 = .ok (.ifCond .ne 93, 3) := dk_154 0 93 (dk_at dksX0_explore_2 4 rfl rfl)
theorem dX0_explore_55 : decode cX0_explore 55 = .ok (.aload_n 3, 1) := dk_45 (dk_at dksX0_explore_2 7 rfl rfl)
theorem dX0_explore_56 : decode cX0_explore 56 = .ok (.invokevirtual 465, 3) := dk_182 1 209 (dk_at dksX0_explore_2 8 rfl rfl)
theorem dX0_explore_59 : decode cX0_explore 59 = .ok (.checkcast 19, 3) := dk_192 0 19 (dk_at dksX0_explore_2 11 rfl rfl)
theorem dX0_explore_62 : decode cX0_explore 62 = .ok (.astore 6, 2) := dk_58 6 (dk_at dksX0_explore_2 14 rfl rfl)
theorem dX0_explore_64 : decode cX0_explore 64 = .ok (.aload_n 0, 1) := dk_42 (dk_at dksX0_explore_2 16 rfl rfl)
theorem dX0_explore_65 : decode cX0_explore 65 = .ok (.getfield 105, 3) := dk_180 0 105 (dk_at dksX0_explore_2 17 rfl rfl)
theorem dX0_explore_68 : decode cX0_explore 68 = .ok (.iload 5, 2) := dk_21 5 (dk_at dksX0_explore_2 20 rfl rfl)
theorem dX0_explore_70 : decode cX0_explore 70 = .ok (.aload 6, 2) := dk_25 6 (dk_at dksX0_explore_2 22 rfl rfl)
theorem dX0_explore_72 : decode cX0_explore 72 = .ok (.aastore, 1) := dk_83 (dk_at dksX0_explore_3 0 rfl rfl)
theorem dX0_explore_73 : decode cX0_explore 73 = .ok (.iinc 5 1, 3) := dk_132 5 1 (dk_at dksX0_explore_3 1 rfl rfl)
theorem dX0_explore_76 : decode cX0_explore 76 = .ok (.iconst 0, 1) := dk_3 (dk_at dksX0_explore_3 4 rfl rfl)
theorem dX0_explore_77 : decode cX0_explore 77 = .ok (.istore 7, 2) := dk_54 7 (dk_at dksX0_explore_3 5 rfl rfl)
theorem dX0_explore_79 : decode cX0_explore 79 = .ok (.iload 7, 2) := dk_21 7 (dk_at dksX0_explore_3 7 rfl rfl)
theorem dX0_explore_81 : decode cX0_explore 81 = .ok (.aload 6, 2) := dk_25 6 (dk_at dksX0_explore_3 9 rfl rfl)
theorem dX0_explore_83 : decode cX0_explore 83 = .ok (.invokevirtual 165, 3) := dk_182 0 165 (dk_at dksX0_explore_3 11 rfl rfl)
theorem dX0_explore_86 : decode cX0_explore 86 = .ok (.if_icmp .ge 56, 3) := dk_162 0 56 (dk_at dksX0_explore_3 14 rfl rfl)
theorem dX0_explore_89 : decode cX0_explore 89 = .ok (.aload_n 0, 1) := dk_42 (dk_at dksX0_explore_3 17 rfl rfl)
theorem dX0_explore_90 : decode cX0_explore 90 = .ok (.aload 6, 2) := dk_25 6 (dk_at dksX0_explore_3 18 rfl rfl)
theorem dX0_explore_92 : decode cX0_explore 92 = .ok (.iload 7, 2) := dk_21 7 (dk_at dksX0_explore_3 20 rfl rfl)
theorem dX0_explore_94 : decode cX0_explore 94 = .ok (.invokevirtual 385, 3) := dk_182 1 129 (dk_at dksX0_explore_4 0 rfl rfl)
theorem dX0_explore_97 : decode cX0_explore 97 = .ok (.ifCond .eq 14, 3) := dk_153 0 14 (dk_at dksX0_explore_4 3 rfl rfl)
theorem dX0_explore_100 : decode cX0_explore 100 = .ok (.aload_n 0, 1) := dk_42 (dk_at dksX0_explore_4 6 rfl rfl)
theorem dX0_explore_101 : decode cX0_explore 101 = .ok (.aload 6, 2) := dk_25 6 (dk_at dksX0_explore_4 7 rfl rfl)
theorem dX0_explore_103 : decode cX0_explore 103 = .ok (.iload 7, 2) := dk_21 7 (dk_at dksX0_explore_4 9 rfl rfl)
theorem dX0_explore_105 : decode cX0_explore 105 = .ok (.invokevirtual 404, 3) := dk_182 1 148 (dk_at dksX0_explore_4 11 rfl rfl)
theorem dX0_explore_108 : decode cX0_explore 108 = .ok (.goto 4, 3) := dk_167 0 4 (dk_at dksX0_explore_4 14 rfl rfl)
theorem dX0_explore_111 : decode cX0_explore 111 = .ok (.aconst_null, 1) := dk_1 (dk_at dksX0_explore_4 17 rfl rfl)
theorem dX0_explore_112 : decode cX0_explore 112 = .ok (.astore 8, 2) := dk_58 8 (dk_at dksX0_explore_4 18 rfl rfl)
theorem dX0_explore_114 : decode cX0_explore 114 = .ok (.aload 8, 2) := dk_25 8 (dk_at dksX0_explore_4 20 rfl rfl)
theorem dX0_explore_116 : decode cX0_explore 116 = .ok (.ifnull 20, 3) := dk_198 0 20 (dk_at dksX0_explore_5 0 rfl rfl)
theorem dX0_explore_119 : decode cX0_explore 119 = .ok (.aload 4, 2) := dk_25 4 (dk_at dksX0_explore_5 3 rfl rfl)
theorem dX0_explore_121 : decode cX0_explore 121 = .ok (.aload 8, 2) := dk_25 8 (dk_at dksX0_explore_5 5 rfl rfl)
theorem dX0_explore_123 : decode cX0_explore 123 = .ok (.invokevirtual 303, 3) := dk_182 1 47 (dk_at dksX0_explore_5 7 rfl rfl)
theorem dX0_explore_126 : decode cX0_explore 126 = .ok (.ifCond .eq 10, 3) := dk_153 0 10 (dk_at dksX0_explore_5 10 rfl rfl)
theorem dX0_explore_129 : decode cX0_explore 129 = .ok (.aload_n 3, 1) := dk_45 (dk_at dksX0_explore_5 13 rfl rfl)
theorem dX0_explore_130 : decode cX0_explore 130 = .ok (.aload 8, 2) := dk_25 8 (dk_at dksX0_explore_5 14 rfl rfl)
theorem dX0_explore_132 : decode cX0_explore 132 = .ok (.invokevirtual 461, 3) := dk_182 1 205 (dk_at dksX0_explore_5 16 rfl rfl)
theorem dX0_explore_135 : decode cX0_explore 135 = .ok (.pop, 1) := dk_87 (dk_at dksX0_explore_5 19 rfl rfl)
theorem dX0_explore_136 : decode cX0_explore 136 = .ok (.iinc 7 1, 3) := dk_132 7 1 (dk_at dksX0_explore_5 20 rfl rfl)
theorem dX0_explore_139 : decode cX0_explore 139 = .ok (.goto (-60), 3) := dk_167 255 196 (dk_at dksX0_explore_6 0 rfl rfl)
theorem dX0_explore_142 : decode cX0_explore 142 = .ok (.goto (-100), 3) := dk_167 255 156 (dk_at dksX0_explore_6 3 rfl rfl)
theorem dX0_explore_145 : decode cX0_explore 145 = .ok (.iload 5, 2) := dk_21 5 (dk_at dksX0_explore_6 6 rfl rfl)
theorem dX0_explore_147 : decode cX0_explore 147 = .ok (.ireturn, 1) := dk_172 (dk_at dksX0_explore_6 8 rfl rfl)
abbrev cX0_exploredNormalForms : ByteArray := prog_1_method_85_code
def yX0_exploredNormalForms : MethodName := ⟨RX0, "exploredNormalForms", "(II)I"⟩
def dkwX0_exploredNormalForms_2 : List UInt8 := [50, 182, 1, 220, 184, 0, 252, 96, 54, 5, 132, 6, 1, 167, 255, 227, 21, 5, 172]
abbrev dktX0_exploredNormalForms_2 : List UInt8 := dkwX0_exploredNormalForms_2 ++ []
def dkwX0_exploredNormalForms_1 : List UInt8 := [54, 4, 3, 54, 5, 3, 54, 6, 21, 6, 21, 4, 162, 0, 28, 21, 5, 42, 42, 180, 0, 105, 21, 6]
abbrev dktX0_exploredNormalForms_1 : List UInt8 := dkwX0_exploredNormalForms_1 ++ dktX0_exploredNormalForms_2
def dkwX0_exploredNormalForms_0 : List UInt8 := [42, 27, 28, 182, 1, 214, 62, 29, 153, 0, 5, 29, 172, 42, 42, 180, 0, 21, 27, 50, 28, 182, 1, 217]
abbrev dktX0_exploredNormalForms_0 : List UInt8 := dkwX0_exploredNormalForms_0 ++ dktX0_exploredNormalForms_1
theorem dksX0_exploredNormalForms_0 : cX0_exploredNormalForms.data.toList.drop 0 = dktX0_exploredNormalForms_0 := by decide +kernel
theorem dksX0_exploredNormalForms_1 : cX0_exploredNormalForms.data.toList.drop 24 = dktX0_exploredNormalForms_1 := dk_seg dksX0_exploredNormalForms_0 24 rfl rfl
theorem dksX0_exploredNormalForms_2 : cX0_exploredNormalForms.data.toList.drop 48 = dktX0_exploredNormalForms_2 := dk_seg dksX0_exploredNormalForms_1 24 rfl rfl
theorem dX0_exploredNormalForms_0 : decode cX0_exploredNormalForms 0 = .ok (.aload_n 0, 1) := dk_42 (dk_at dksX0_exploredNormalForms_0 0 rfl rfl)
theorem dX0_exploredNormalForms_1 : decode cX0_exploredNormalForms 1 = .ok (.iload_n 1, 1) := dk_27 (dk_at dksX0_exploredNormalForms_0 1 rfl rfl)
theorem dX0_exploredNormalForms_2 : decode cX0_exploredNormalForms 2 = .ok (.iload_n 2, 1) := dk_28 (dk_at dksX0_exploredNormalForms_0 2 rfl rfl)
theorem dX0_exploredNormalForms_3 : decode cX0_exploredNormalForms 3 = .ok (.invokevirtual 470, 3) := dk_182 1 214 (dk_at dksX0_exploredNormalForms_0 3 rfl rfl)
theorem dX0_exploredNormalForms_6 : decode cX0_exploredNormalForms 6 = .ok (.istore_n 3, 1) := dk_62 (dk_at dksX0_exploredNormalForms_0 6 rfl rfl)
theorem dX0_exploredNormalForms_7 : decode cX0_exploredNormalForms 7 = .ok (.iload_n 3, 1) := dk_29 (dk_at dksX0_exploredNormalForms_0 7 rfl rfl)
theorem dX0_exploredNormalForms_8 : decode cX0_exploredNormalForms 8 = .ok (.ifCond .eq 5, 3) := dk_153 0 5 (dk_at dksX0_exploredNormalForms_0 8 rfl rfl)
theorem dX0_exploredNormalForms_11 : decode cX0_exploredNormalForms 11 = .ok (.iload_n 3, 1) := dk_29 (dk_at dksX0_exploredNormalForms_0 11 rfl rfl)
theorem dX0_exploredNormalForms_12 : decode cX0_exploredNormalForms 12 = .ok (.ireturn, 1) := dk_172 (dk_at dksX0_exploredNormalForms_0 12 rfl rfl)
theorem dX0_exploredNormalForms_13 : decode cX0_exploredNormalForms 13 = .ok (.aload_n 0, 1) := dk_42 (dk_at dksX0_exploredNormalForms_0 13 rfl rfl)
theorem dX0_exploredNormalForms_14 : decode cX0_exploredNormalForms 14 = .ok (.aload_n 0, 1) := dk_42 (dk_at dksX0_exploredNormalForms_0 14 rfl rfl)
theorem dX0_exploredNormalForms_15 : decode cX0_exploredNormalForms 15 = .ok (.getfield 21, 3) := dk_180 0 21 (dk_at dksX0_exploredNormalForms_0 15 rfl rfl)
theorem dX0_exploredNormalForms_18 : decode cX0_exploredNormalForms 18 = .ok (.iload_n 1, 1) := dk_27 (dk_at dksX0_exploredNormalForms_0 18 rfl rfl)
theorem dX0_exploredNormalForms_19 : decode cX0_exploredNormalForms 19 = .ok (.aaload, 1) := dk_50 (dk_at dksX0_exploredNormalForms_0 19 rfl rfl)
theorem dX0_exploredNormalForms_20 : decode cX0_exploredNormalForms 20 = .ok (.iload_n 2, 1) := dk_28 (dk_at dksX0_exploredNormalForms_0 20 rfl rfl)
theorem dX0_exploredNormalForms_21 : decode cX0_exploredNormalForms 21 = .ok (.invokevirtual 473, 3) := dk_182 1 217 (dk_at dksX0_exploredNormalForms_0 21 rfl rfl)
theorem dX0_exploredNormalForms_24 : decode cX0_exploredNormalForms 24 = .ok (.istore 4, 2) := dk_54 4 (dk_at dksX0_exploredNormalForms_1 0 rfl rfl)
theorem dX0_exploredNormalForms_26 : decode cX0_exploredNormalForms 26 = .ok (.iconst 0, 1) := dk_3 (dk_at dksX0_exploredNormalForms_1 2 rfl rfl)
theorem dX0_exploredNormalForms_27 : decode cX0_exploredNormalForms 27 = .ok (.istore 5, 2) := dk_54 5 (dk_at dksX0_exploredNormalForms_1 3 rfl rfl)
theorem dX0_exploredNormalForms_29 : decode cX0_exploredNormalForms 29 = .ok (.iconst 0, 1) := dk_3 (dk_at dksX0_exploredNormalForms_1 5 rfl rfl)
theorem dX0_exploredNormalForms_30 : decode cX0_exploredNormalForms 30 = .ok (.istore 6, 2) := dk_54 6 (dk_at dksX0_exploredNormalForms_1 6 rfl rfl)
theorem dX0_exploredNormalForms_32 : decode cX0_exploredNormalForms 32 = .ok (.iload 6, 2) := dk_21 6 (dk_at dksX0_exploredNormalForms_1 8 rfl rfl)
theorem dX0_exploredNormalForms_34 : decode cX0_exploredNormalForms 34 = .ok (.iload 4, 2) := dk_21 4 (dk_at dksX0_exploredNormalForms_1 10 rfl rfl)
theorem dX0_exploredNormalForms_36 : decode cX0_exploredNormalForms 36 = .ok (.if_icmp .ge 28, 3) := dk_162 0 28 (dk_at dksX0_exploredNormalForms_1 12 rfl rfl)
theorem dX0_exploredNormalForms_39 : decode cX0_exploredNormalForms 39 = .ok (.iload 5, 2) := dk_21 5 (dk_at dksX0_exploredNormalForms_1 15 rfl rfl)
theorem dX0_exploredNormalForms_41 : decode cX0_exploredNormalForms 41 = .ok (.aload_n 0, 1) := dk_42 (dk_at dksX0_exploredNormalForms_1 17 rfl rfl)
theorem dX0_exploredNormalForms_42 : decode cX0_exploredNormalForms 42 = .ok (.aload_n 0, 1) := dk_42 (dk_at dksX0_exploredNormalForms_1 18 rfl rfl)
theorem dX0_exploredNormalForms_43 : decode cX0_exploredNormalForms 43 = .ok (.getfield 105, 3) := dk_180 0 105 (dk_at dksX0_exploredNormalForms_1 19 rfl rfl)
theorem dX0_exploredNormalForms_46 : decode cX0_exploredNormalForms 46 = .ok (.iload 6, 2) := dk_21 6 (dk_at dksX0_exploredNormalForms_1 22 rfl rfl)
theorem dX0_exploredNormalForms_48 : decode cX0_exploredNormalForms 48 = .ok (.aaload, 1) := dk_50 (dk_at dksX0_exploredNormalForms_2 0 rfl rfl)
theorem dX0_exploredNormalForms_49 : decode cX0_exploredNormalForms 49 = .ok (.invokevirtual 476, 3) := dk_182 1 220 (dk_at dksX0_exploredNormalForms_2 1 rfl rfl)
theorem dX0_exploredNormalForms_52 : decode cX0_exploredNormalForms 52 = .ok (.invokestatic 252, 3) := dk_184 0 252 (dk_at dksX0_exploredNormalForms_2 4 rfl rfl)
theorem dX0_exploredNormalForms_55 : decode cX0_exploredNormalForms 55 = .ok (.iadd, 1) := dk_96 (dk_at dksX0_exploredNormalForms_2 7 rfl rfl)
theorem dX0_exploredNormalForms_56 : decode cX0_exploredNormalForms 56 = .ok (.istore 5, 2) := dk_54 5 (dk_at dksX0_exploredNormalForms_2 8 rfl rfl)
theorem dX0_exploredNormalForms_58 : decode cX0_exploredNormalForms 58 = .ok (.iinc 6 1, 3) := dk_132 6 1 (dk_at dksX0_exploredNormalForms_2 10 rfl rfl)
theorem dX0_exploredNormalForms_61 : decode cX0_exploredNormalForms 61 = .ok (.goto (-29), 3) := dk_167 255 227 (dk_at dksX0_exploredNormalForms_2 13 rfl rfl)
theorem dX0_exploredNormalForms_64 : decode cX0_exploredNormalForms 64 = .ok (.iload 5, 2) := dk_21 5 (dk_at dksX0_exploredNormalForms_2 16 rfl rfl)
theorem dX0_exploredNormalForms_66 : decode cX0_exploredNormalForms 66 = .ok (.ireturn, 1) := dk_172 (dk_at dksX0_exploredNormalForms_2 18 rfl rfl)
abbrev cX0_isNormalForm : ByteArray := prog_1_method_59_code
def yX0_isNormalForm : MethodName := ⟨RX0, "isNormalForm", "(LDependencyPairAnalyzer$Term;)Z"⟩
def dkwX0_isNormalForm_0 : List UInt8 := [42, 43, 182, 1, 133, 16, 251, 160, 0, 7, 4, 167, 0, 4, 3, 172]
abbrev dktX0_isNormalForm_0 : List UInt8 := dkwX0_isNormalForm_0 ++ []
theorem dksX0_isNormalForm_0 : cX0_isNormalForm.data.toList.drop 0 = dktX0_isNormalForm_0 := by decide +kernel
theorem dX0_isNormalForm_0 : decode cX0_isNormalForm 0 = .ok (.aload_n 0, 1) := dk_42 (dk_at dksX0_isNormalForm_0 0 rfl rfl)
theorem dX0_isNormalForm_1 : decode cX0_isNormalForm 1 = .ok (.aload_n 1, 1) := dk_43 (dk_at dksX0_isNormalForm_0 1 rfl rfl)
theorem dX0_isNormalForm_2 : decode cX0_isNormalForm 2 = .ok (.invokevirtual 389, 3) := dk_182 1 133 (dk_at dksX0_isNormalForm_0 2 rfl rfl)
theorem dX0_isNormalForm_5 : decode cX0_isNormalForm 5 = .ok (.bipush (-5), 2) := dk_16 251 (dk_at dksX0_isNormalForm_0 5 rfl rfl)
theorem dX0_isNormalForm_7 : decode cX0_isNormalForm 7 = .ok (.if_icmp .ne 7, 3) := dk_160 0 7 (dk_at dksX0_isNormalForm_0 7 rfl rfl)
theorem dX0_isNormalForm_10 : decode cX0_isNormalForm 10 = .ok (.iconst 1, 1) := dk_4 (dk_at dksX0_isNormalForm_0 10 rfl rfl)
theorem dX0_isNormalForm_11 : decode cX0_isNormalForm 11 = .ok (.goto 4, 3) := dk_167 0 4 (dk_at dksX0_isNormalForm_0 11 rfl rfl)
theorem dX0_isNormalForm_14 : decode cX0_isNormalForm 14 = .ok (.iconst 0, 1) := dk_3 (dk_at dksX0_isNormalForm_0 14 rfl rfl)
theorem dX0_isNormalForm_15 : decode cX0_isNormalForm 15 = .ok (.ireturn, 1) := dk_172 (dk_at dksX0_isNormalForm_0 15 rfl rfl)
abbrev cX0_lastExploredSize : ByteArray := prog_1_method_86_code
def yX0_lastExploredSize : MethodName := ⟨RX0, "lastExploredSize", "(II)I"⟩
def dkwX0_lastExploredSize_1 : List UInt8 := [27, 50, 28, 182, 1, 217, 4, 100, 50, 182, 0, 165, 172]
abbrev dktX0_lastExploredSize_1 : List UInt8 := dkwX0_lastExploredSize_1 ++ []
def dkwX0_lastExploredSize_0 : List UInt8 := [42, 27, 28, 182, 1, 214, 62, 29, 153, 0, 7, 29, 167, 0, 24, 42, 180, 0, 105, 42, 42, 180, 0, 21]
abbrev dktX0_lastExploredSize_0 : List UInt8 := dkwX0_lastExploredSize_0 ++ dktX0_lastExploredSize_1
theorem dksX0_lastExploredSize_0 : cX0_lastExploredSize.data.toList.drop 0 = dktX0_lastExploredSize_0 := by decide +kernel
theorem dksX0_lastExploredSize_1 : cX0_lastExploredSize.data.toList.drop 24 = dktX0_lastExploredSize_1 := dk_seg dksX0_lastExploredSize_0 24 rfl rfl
theorem dX0_lastExploredSize_0 : decode cX0_lastExploredSize 0 = .ok (.aload_n 0, 1) := dk_42 (dk_at dksX0_lastExploredSize_0 0 rfl rfl)
theorem dX0_lastExploredSize_1 : decode cX0_lastExploredSize 1 = .ok (.iload_n 1, 1) := dk_27 (dk_at dksX0_lastExploredSize_0 1 rfl rfl)
theorem dX0_lastExploredSize_2 : decode cX0_lastExploredSize 2 = .ok (.iload_n 2, 1) := dk_28 (dk_at dksX0_lastExploredSize_0 2 rfl rfl)
theorem dX0_lastExploredSize_3 : decode cX0_lastExploredSize 3 = .ok (.invokevirtual 470, 3) := dk_182 1 214 (dk_at dksX0_lastExploredSize_0 3 rfl rfl)
theorem dX0_lastExploredSize_6 : decode cX0_lastExploredSize 6 = .ok (.istore_n 3, 1) := dk_62 (dk_at dksX0_lastExploredSize_0 6 rfl rfl)
theorem dX0_lastExploredSize_7 : decode cX0_lastExploredSize 7 = .ok (.iload_n 3, 1) := dk_29 (dk_at dksX0_lastExploredSize_0 7 rfl rfl)
theorem dX0_lastExploredSize_8 : decode cX0_lastExploredSize 8 = .ok (.ifCond .eq 7, 3) := dk_153 0 7 (dk_at dksX0_lastExploredSize_0 8 rfl rfl)
theorem dX0_lastExploredSize_11 : decode cX0_lastExploredSize 11 = .ok (.iload_n 3, 1) := dk_29 (dk_at dksX0_lastExploredSize_0 11 rfl rfl)
theorem dX0_lastExploredSize_12 : decode cX0_lastExploredSize 12 = .ok (.goto 24, 3) := dk_167 0 24 (dk_at dksX0_lastExploredSize_0 12 rfl rfl)
theorem dX0_lastExploredSize_15 : decode cX0_lastExploredSize 15 = .ok (.aload_n 0, 1) := dk_42 (dk_at dksX0_lastExploredSize_0 15 rfl rfl)
theorem dX0_lastExploredSize_16 : decode cX0_lastExploredSize 16 = .ok (.getfield 105, 3) := dk_180 0 105 (dk_at dksX0_lastExploredSize_0 16 rfl rfl)
theorem dX0_lastExploredSize_19 : decode cX0_lastExploredSize 19 = .ok (.aload_n 0, 1) := dk_42 (dk_at dksX0_lastExploredSize_0 19 rfl rfl)
theorem dX0_lastExploredSize_20 : decode cX0_lastExploredSize 20 = .ok (.aload_n 0, 1) := dk_42 (dk_at dksX0_lastExploredSize_0 20 rfl rfl)
theorem dX0_lastExploredSize_21 : decode cX0_lastExploredSize 21 = .ok (.getfield 21, 3) := dk_180 0 21 (dk_at dksX0_lastExploredSize_0 21 rfl rfl)
theorem dX0_lastExploredSize_24 : decode cX0_lastExploredSize 24 = .ok (.iload_n 1, 1) := dk_27 (dk_at dksX0_lastExploredSize_1 0 rfl rfl)
theorem dX0_lastExploredSize_25 : decode cX0_lastExploredSize 25 = .ok (.aaload, 1) := dk_50 (dk_at dksX0_lastExploredSize_1 1 rfl rfl)
theorem dX0_lastExploredSize_26 : decode cX0_lastExploredSize 26 = .ok (.iload_n 2, 1) := dk_28 (dk_at dksX0_lastExploredSize_1 2 rfl rfl)
theorem dX0_lastExploredSize_27 : decode cX0_lastExploredSize 27 = .ok (.invokevirtual 473, 3) := dk_182 1 217 (dk_at dksX0_lastExploredSize_1 3 rfl rfl)
theorem dX0_lastExploredSize_30 : decode cX0_lastExploredSize 30 = .ok (.iconst 1, 1) := dk_4 (dk_at dksX0_lastExploredSize_1 6 rfl rfl)
theorem dX0_lastExploredSize_31 : decode cX0_lastExploredSize 31 = .ok (.isub, 1) := dk_100 (dk_at dksX0_lastExploredSize_1 7 rfl rfl)
theorem dX0_lastExploredSize_32 : decode cX0_lastExploredSize 32 = .ok (.aaload, 1) := dk_50 (dk_at dksX0_lastExploredSize_1 8 rfl rfl)
theorem dX0_lastExploredSize_33 : decode cX0_lastExploredSize 33 = .ok (.invokevirtual 165, 3) := dk_182 0 165 (dk_at dksX0_lastExploredSize_1 9 rfl rfl)
theorem dX0_lastExploredSize_36 : decode cX0_lastExploredSize 36 = .ok (.ireturn, 1) := dk_172 (dk_at dksX0_lastExploredSize_1 12 rfl rfl)
abbrev cX0_loadNormalForm : ByteArray := prog_1_method_87_code
def yX0_loadNormalForm : MethodName := ⟨RX0, "loadNormalForm", "(III)I"⟩
def dkwX0_loadNormalForm_5 : List UInt8 := [132, 7, 1, 167, 255, 186, 25, 6, 199, 0, 8, 16, 251, 167, 0, 10, 42, 25, 6, 29, 182, 1, 158, 172]
abbrev dktX0_loadNormalForm_5 : List UInt8 := dkwX0_loadNormalForm_5 ++ []
def dkwX0_loadNormalForm_4 : List UInt8 := [21, 7, 50, 182, 1, 220, 153, 0, 13, 42, 180, 0, 105, 21, 7, 50, 167, 0, 5, 25, 6, 58, 6]
abbrev dktX0_loadNormalForm_4 : List UInt8 := dkwX0_loadNormalForm_4 ++ dktX0_loadNormalForm_5
def dkwX0_loadNormalForm_3 : List UInt8 := [182, 1, 178, 156, 0, 7, 4, 167, 0, 4, 3, 54, 8, 21, 8, 153, 0, 27, 42, 42, 180, 0, 105]
abbrev dktX0_loadNormalForm_3 : List UInt8 := dkwX0_loadNormalForm_3 ++ dktX0_loadNormalForm_4
def dkwX0_loadNormalForm_2 : List UInt8 := [3, 54, 7, 21, 7, 21, 5, 162, 0, 69, 25, 6, 198, 0, 18, 42, 180, 0, 105, 21, 7, 50, 25, 6]
abbrev dktX0_loadNormalForm_2 : List UInt8 := dkwX0_loadNormalForm_2 ++ dktX0_loadNormalForm_3
def dkwX0_loadNormalForm_1 : List UInt8 := [21, 4, 153, 0, 6, 21, 4, 172, 42, 42, 180, 0, 21, 27, 50, 28, 182, 1, 217, 54, 5, 1, 58, 6]
abbrev dktX0_loadNormalForm_1 : List UInt8 := dkwX0_loadNormalForm_1 ++ dktX0_loadNormalForm_2
def dkwX0_loadNormalForm_0 : List UInt8 := [27, 184, 1, 152, 153, 0, 10, 29, 184, 1, 152, 154, 0, 5, 2, 172, 42, 27, 28, 182, 1, 214, 54, 4]
abbrev dktX0_loadNormalForm_0 : List UInt8 := dkwX0_loadNormalForm_0 ++ dktX0_loadNormalForm_1
theorem dksX0_loadNormalForm_0 : cX0_loadNormalForm.data.toList.drop 0 = dktX0_loadNormalForm_0 := by decide +kernel
theorem dksX0_loadNormalForm_1 : cX0_loadNormalForm.data.toList.drop 24 = dktX0_loadNormalForm_1 := dk_seg dksX0_loadNormalForm_0 24 rfl rfl
theorem dksX0_loadNormalForm_2 : cX0_loadNormalForm.data.toList.drop 48 = dktX0_loadNormalForm_2 := dk_seg dksX0_loadNormalForm_1 24 rfl rfl
theorem dksX0_loadNormalForm_3 : cX0_loadNormalForm.data.toList.drop 72 = dktX0_loadNormalForm_3 := dk_seg dksX0_loadNormalForm_2 24 rfl rfl
theorem dksX0_loadNormalForm_4 : cX0_loadNormalForm.data.toList.drop 95 = dktX0_loadNormalForm_4 := dk_seg dksX0_loadNormalForm_3 23 rfl rfl
theorem dksX0_loadNormalForm_5 : cX0_loadNormalForm.data.toList.drop 118 = dktX0_loadNormalForm_5 := dk_seg dksX0_loadNormalForm_4 23 rfl rfl
theorem dX0_loadNormalForm_0 : decode cX0_loadNormalForm 0 = .ok (.iload_n 1, 1) := dk_27 (dk_at dksX0_loadNormalForm_0 0 rfl rfl)
theorem dX0_loadNormalForm_1 : decode cX0_loadNormalForm 1 = .ok (.invokestatic 408, 3) := dk_184 1 152 (dk_at dksX0_loadNormalForm_0 1 rfl rfl)
theorem dX0_loadNormalForm_4 : decode cX0_loadNormalForm 4 = .ok (.ifCond .eq 10, 3) := dk_153 0 10 (dk_at dksX0_loadNormalForm_0 4 rfl rfl)
theorem dX0_loadNormalForm_7 : decode cX0_loadNormalForm 7 = .ok (.iload_n 3, 1) := dk_29 (dk_at dksX0_loadNormalForm_0 7 rfl rfl)
theorem dX0_loadNormalForm_8 : decode cX0_loadNormalForm 8 = .ok (.invokestatic 408, 3) := dk_184 1 152 (dk_at dksX0_loadNormalForm_0 8 rfl rfl)
theorem dX0_loadNormalForm_11 : decode cX0_loadNormalForm 11 = .ok (.ifCond .ne 5, 3) := dk_154 0 5 (dk_at dksX0_loadNormalForm_0 11 rfl rfl)
theorem dX0_loadNormalForm_14 : decode cX0_loadNormalForm 14 = .ok (.iconst (-1), 1) := dk_2 (dk_at dksX0_loadNormalForm_0 14 rfl rfl)
theorem dX0_loadNormalForm_15 : decode cX0_loadNormalForm 15 = .ok (.ireturn, 1) := dk_172 (dk_at dksX0_loadNormalForm_0 15 rfl rfl)
theorem dX0_loadNormalForm_16 : decode cX0_loadNormalForm 16 = .ok (.aload_n 0, 1) := dk_42 (dk_at dksX0_loadNormalForm_0 16 rfl rfl)
theorem dX0_loadNormalForm_17 : decode cX0_loadNormalForm 17 = .ok (.iload_n 1, 1) := dk_27 (dk_at dksX0_loadNormalForm_0 17 rfl rfl)
theorem dX0_loadNormalForm_18 : decode cX0_loadNormalForm 18 = .ok (.iload_n 2, 1) := dk_28 (dk_at dksX0_loadNormalForm_0 18 rfl rfl)
theorem dX0_loadNormalForm_19 : decode cX0_loadNormalForm 19 = .ok (.invokevirtual 470, 3) := dk_182 1 214 (dk_at dksX0_loadNormalForm_0 19 rfl rfl)
theorem dX0_loadNormalForm_22 : decode cX0_loadNormalForm 22 = .ok (.istore 4, 2) := dk_54 4 (dk_at dksX0_loadNormalForm_0 22 rfl rfl)
theorem dX0_loadNormalForm_24 : decode cX0_loadNormalForm 24 = .ok (.iload 4, 2) := dk_21 4 (dk_at dksX0_loadNormalForm_1 0 rfl rfl)
theorem dX0_loadNormalForm_26 : decode cX0_loadNormalForm 26 = .ok (.ifCond .eq 6, 3) := dk_153 0 6 (dk_at dksX0_loadNormalForm_1 2 rfl rfl)
theorem dX0_loadNormalForm_29 : decode cX0_loadNormalForm 29 = .ok (.iload 4, 2) := dk_21 4 (dk_at dksX0_loadNormalForm_1 5 rfl rfl)
theorem dX0_loadNormalForm_31 : decode cX0_loadNormalForm 31 = .ok (.ireturn, 1) := dk_172 (dk_at dksX0_loadNormalForm_1 7 rfl rfl)
theorem dX0_loadNormalForm_32 : decode cX0_loadNormalForm 32 = .ok (.aload_n 0, 1) := dk_42 (dk_at dksX0_loadNormalForm_1 8 rfl rfl)
theorem dX0_loadNormalForm_33 : decode cX0_loadNormalForm 33 = .ok (.aload_n 0, 1) := dk_42 (dk_at dksX0_loadNormalForm_1 9 rfl rfl)
theorem dX0_loadNormalForm_34 : decode cX0_loadNormalForm 34 = .ok (.getfield 21, 3) := dk_180 0 21 (dk_at dksX0_loadNormalForm_1 10 rfl rfl)
theorem dX0_loadNormalForm_37 : decode cX0_loadNormalForm 37 = .ok (.iload_n 1, 1) := dk_27 (dk_at dksX0_loadNormalForm_1 13 rfl rfl)
theorem dX0_loadNormalForm_38 : decode cX0_loadNormalForm 38 = .ok (.aaload, 1) := dk_50 (dk_at dksX0_loadNormalForm_1 14 rfl rfl)
theorem dX0_loadNormalForm_39 : decode cX0_loadNormalForm 39 = .ok (.iload_n 2, 1) := dk_28 (dk_at dksX0_loadNormalForm_1 15 rfl rfl)
theorem dX0_loadNormalForm_40 : decode cX0_loadNormalForm 40 = .ok (.invokevirtual 473, 3) := dk_182 1 217 (dk_at dksX0_loadNormalForm_1 16 rfl rfl)
theorem dX0_loadNormalForm_43 : decode cX0_loadNormalForm 43 = .ok (.istore 5, 2) := dk_54 5 (dk_at dksX0_loadNormalForm_1 19 rfl rfl)
theorem dX0_loadNormalForm_45 : decode cX0_loadNormalForm 45 = .ok (.aconst_null, 1) := dk_1 (dk_at dksX0_loadNormalForm_1 21 rfl rfl)
theorem dX0_loadNormalForm_46 : decode cX0_loadNormalForm 46 = .ok (.astore 6, 2) := dk_58 6 (dk_at dksX0_loadNormalForm_1 22 rfl rfl)
theorem dX0_loadNormalForm_48 : decode cX0_loadNormalForm 48 = .ok (.iconst 0, 1) := dk_3 (dk_at dksX0_loadNormalForm_2 0 rfl rfl)
theorem dX0_loadNormalForm_49 : decode cX0_loadNormalForm 49 = .ok (.istore 7, 2) := dk_54 7 (dk_at dksX0_loadNormalForm_2 1 rfl rfl)
theorem dX0_loadNormalForm_51 : decode cX0_loadNormalForm 51 = .ok (.iload 7, 2) := dk_21 7 (dk_at dksX0_loadNormalForm_2 3 rfl rfl)
theorem dX0_loadNormalForm_53 : decode cX0_loadNormalForm 53 = .ok (.iload 5, 2) := dk_21 5 (dk_at dksX0_loadNormalForm_2 5 rfl rfl)
theorem dX0_loadNormalForm_55 : decode cX0_loadNormalForm 55 = .ok (.if_icmp .ge 69, 3) := dk_162 0 69 (dk_at dksX0_loadNormalForm_2 7 rfl rfl)
theorem dX0_loadNormalForm_58 : decode cX0_loadNormalForm 58 = .ok (.aload 6, 2) := dk_25 6 (dk_at dksX0_loadNormalForm_2 10 rfl rfl)
theorem dX0_loadNormalForm_60 : decode cX0_loadNormalForm 60 = .ok (.ifnull 18, 3) := dk_198 0 18 (dk_at dksX0_loadNormalForm_2 12 rfl rfl)
theorem dX0_loadNormalForm_63 : decode cX0_loadNormalForm 63 = .ok (.aload_n 0, 1) := dk_42 (dk_at dksX0_loadNormalForm_2 15 rfl rfl)
theorem dX0_loadNormalForm_64 : decode cX0_loadNormalForm 64 = .ok (.getfield 105, 3) := dk_180 0 105 (dk_at dksX0_loadNormalForm_2 16 rfl rfl)
theorem dX0_loadNormalForm_67 : decode cX0_loadNormalForm 67 = .ok (.iload 7, 2) := dk_21 7 (dk_at dksX0_loadNormalForm_2 19 rfl rfl)
theorem dX0_loadNormalForm_69 : decode cX0_loadNormalForm 69 = .ok (.aaload, 1) := dk_50 (dk_at dksX0_loadNormalForm_2 21 rfl rfl)
theorem dX0_loadNormalForm_70 : decode cX0_loadNormalForm 70 = .ok (.aload 6, 2) := dk_25 6 (dk_at dksX0_loadNormalForm_2 22 rfl rfl)
theorem dX0_loadNormalForm_72 : decode cX0_loadNormalForm 72 = .ok (.invokevirtual 434, 3) := dk_182 1 178 (dk_at dksX0_loadNormalForm_3 0 rfl rfl)
theorem dX0_loadNormalForm_75 : decode cX0_loadNormalForm 75 = .ok (.ifCond .ge 7, 3) := dk_156 0 7 (dk_at dksX0_loadNormalForm_3 3 rfl rfl)
theorem dX0_loadNormalForm_78 : decode cX0_loadNormalForm 78 = .ok (.iconst 1, 1) := dk_4 (dk_at dksX0_loadNormalForm_3 6 rfl rfl)
theorem dX0_loadNormalForm_79 : decode cX0_loadNormalForm 79 = .ok (.goto 4, 3) := dk_167 0 4 (dk_at dksX0_loadNormalForm_3 7 rfl rfl)
theorem dX0_loadNormalForm_82 : decode cX0_loadNormalForm 82 = .ok (.iconst 0, 1) := dk_3 (dk_at dksX0_loadNormalForm_3 10 rfl rfl)
theorem dX0_loadNormalForm_83 : decode cX0_loadNormalForm 83 = .ok (.istore 8, 2) := dk_54 8 (dk_at dksX0_loadNormalForm_3 11 rfl rfl)
theorem dX0_loadNormalForm_85 : decode cX0_loadNormalForm 85 = .ok (.iload 8, 2) := dk_21 8 (dk_at dksX0_loadNormalForm_3 13 rfl rfl)
theorem dX0_loadNormalForm_87 : decode cX0_loadNormalForm 87 = .ok (.ifCond .eq 27, 3) := dk_153 0 27 (dk_at dksX0_loadNormalForm_3 15 rfl rfl)
theorem dX0_loadNormalForm_90 : decode cX0_loadNormalForm 90 = .ok (.aload_n 0, 1) := dk_42 (dk_at dksX0_loadNormalForm_3 18 rfl rfl)
theorem dX0_loadNormalForm_91 : decode cX0_loadNormalForm 91 = .ok (.aload_n 0, 1) := dk_42 (dk_at dksX0_loadNormalForm_3 19 rfl rfl)
theorem dX0_loadNormalForm_92 : decode cX0_loadNormalForm 92 = .ok (.getfield 105, 3) := dk_180 0 105 (dk_at dksX0_loadNormalForm_3 20 rfl rfl)
theorem dX0_loadNormalForm_95 : decode cX0_loadNormalForm 95 = .ok (.iload 7, 2) := dk_21 7 (dk_at dksX0_loadNormalForm_4 0 rfl rfl)
theorem dX0_loadNormalForm_97 : decode cX0_loadNormalForm 97 = .ok (.aaload, 1) := dk_50 (dk_at dksX0_loadNormalForm_4 2 rfl rfl)
theorem dX0_loadNormalForm_98 : decode cX0_loadNormalForm 98 = .ok (.invokevirtual 476, 3) := dk_182 1 220 (dk_at dksX0_loadNormalForm_4 3 rfl rfl)
theorem dX0_loadNormalForm_101 : decode cX0_loadNormalForm 101 = .ok (.ifCond .eq 13, 3) := dk_153 0 13 (dk_at dksX0_loadNormalForm_4 6 rfl rfl)
theorem dX0_loadNormalForm_104 : decode cX0_loadNormalForm 104 = .ok (.aload_n 0, 1) := dk_42 (dk_at dksX0_loadNormalForm_4 9 rfl rfl)
theorem dX0_loadNormalForm_105 : decode cX0_loadNormalForm 105 = .ok (.getfield 105, 3) := dk_180 0 105 (dk_at dksX0_loadNormalForm_4 10 rfl rfl)
theorem dX0_loadNormalForm_108 : decode cX0_loadNormalForm 108 = .ok (.iload 7, 2) := dk_21 7 (dk_at dksX0_loadNormalForm_4 13 rfl rfl)
theorem dX0_loadNormalForm_110 : decode cX0_loadNormalForm 110 = .ok (.aaload, 1) := dk_50 (dk_at dksX0_loadNormalForm_4 15 rfl rfl)
theorem dX0_loadNormalForm_111 : decode cX0_loadNormalForm 111 = .ok (.goto 5, 3) := dk_167 0 5 (dk_at dksX0_loadNormalForm_4 16 rfl rfl)
theorem dX0_loadNormalForm_114 : decode cX0_loadNormalForm 114 = .ok (.aload 6, 2) := dk_25 6 (dk_at dksX0_loadNormalForm_4 19 rfl rfl)
theorem dX0_loadNormalForm_116 : decode cX0_loadNormalForm 116 = .ok (.astore 6, 2) := dk_58 6 (dk_at dksX0_loadNormalForm_4 21 rfl rfl)
theorem dX0_loadNormalForm_118 : decode cX0_loadNormalForm 118 = .ok (.iinc 7 1, 3) := dk_132 7 1 (dk_at dksX0_loadNormalForm_5 0 rfl rfl)
theorem dX0_loadNormalForm_121 : decode cX0_loadNormalForm 121 = .ok (.goto (-70), 3) := dk_167 255 186 (dk_at dksX0_loadNormalForm_5 3 rfl rfl)
theorem dX0_loadNormalForm_124 : decode cX0_loadNormalForm 124 = .ok (.aload 6, 2) := dk_25 6 (dk_at dksX0_loadNormalForm_5 6 rfl rfl)
theorem dX0_loadNormalForm_126 : decode cX0_loadNormalForm 126 = .ok (.ifnonnull 8, 3) := dk_199 0 8 (dk_at dksX0_loadNormalForm_5 8 rfl rfl)
theorem dX0_loadNormalForm_129 : decode cX0_loadNormalForm 129 = .ok (.bipush (-5), 2) := dk_16 251 (dk_at dksX0_loadNormalForm_5 11 rfl rfl)
theorem dX0_loadNormalForm_131 : decode cX0_loadNormalForm 131 = .ok (.goto 10, 3) := dk_167 0 10 (dk_at dksX0_loadNormalForm_5 13 rfl rfl)
theorem dX0_loadNormalForm_134 : decode cX0_loadNormalForm 134 = .ok (.aload_n 0, 1) := dk_42 (dk_at dksX0_loadNormalForm_5 16 rfl rfl)
theorem dX0_loadNormalForm_135 : decode cX0_loadNormalForm 135 = .ok (.aload 6, 2) := dk_25 6 (dk_at dksX0_loadNormalForm_5 17 rfl rfl)
theorem dX0_loadNormalForm_137 : decode cX0_loadNormalForm 137 = .ok (.iload_n 3, 1) := dk_29 (dk_at dksX0_loadNormalForm_5 19 rfl rfl)
theorem dX0_loadNormalForm_138 : decode cX0_loadNormalForm 138 = .ok (.invokevirtual 414, 3) := dk_182 1 158 (dk_at dksX0_loadNormalForm_5 20 rfl rfl)
theorem dX0_loadNormalForm_141 : decode cX0_loadNormalForm 141 = .ok (.ireturn, 1) := dk_172 (dk_at dksX0_loadNormalForm_5 23 rfl rfl)
abbrev cX0_normalFormRegisterCount : ByteArray := prog_1_method_88_code
def yX0_normalFormRegisterCount : MethodName := ⟨RX0, "normalFormRegisterCount", "()I"⟩
def dkwX0_normalFormRegisterCount_1 : List UInt8 := [58, 5, 27, 42, 25, 5, 182, 1, 220, 184, 0, 252, 96, 60, 132, 4, 1, 167, 255, 229, 27, 172]
abbrev dktX0_normalFormRegisterCount_1 : List UInt8 := dkwX0_normalFormRegisterCount_1 ++ []
def dkwX0_normalFormRegisterCount_0 : List UInt8 := [3, 60, 42, 180, 0, 21, 77, 44, 190, 62, 3, 54, 4, 21, 4, 29, 162, 0, 27, 44, 21, 4, 50]
abbrev dktX0_normalFormRegisterCount_0 : List UInt8 := dkwX0_normalFormRegisterCount_0 ++ dktX0_normalFormRegisterCount_1
theorem dksX0_normalFormRegisterCount_0 : cX0_normalFormRegisterCount.data.toList.drop 0 = dktX0_normalFormRegisterCount_0 := by decide +kernel
theorem dksX0_normalFormRegisterCount_1 : cX0_normalFormRegisterCount.data.toList.drop 23 = dktX0_normalFormRegisterCount_1 := dk_seg dksX0_normalFormRegisterCount_0 23 rfl rfl
theorem dX0_normalFormRegisterCount_0 : decode cX0_normalFormRegisterCount 0 = .ok (.iconst 0, 1) := dk_3 (dk_at dksX0_normalFormRegisterCount_0 0 rfl rfl)
theorem dX0_normalFormRegisterCount_1 : decode cX0_normalFormRegisterCount 1 = .ok (.istore_n 1, 1) := dk_60 (dk_at dksX0_normalFormRegisterCount_0 1 rfl rfl)
theorem dX0_normalFormRegisterCount_2 : decode cX0_normalFormRegisterCount 2 = .ok (.aload_n 0, 1) := dk_42 (dk_at dksX0_normalFormRegisterCount_0 2 rfl rfl)
theorem dX0_normalFormRegisterCount_3 : decode cX0_normalFormRegisterCount 3 = .ok (.getfield 21, 3) := dk_180 0 21 (dk_at dksX0_normalFormRegisterCount_0 3 rfl rfl)
theorem dX0_normalFormRegisterCount_6 : decode cX0_normalFormRegisterCount 6 = .ok (.astore_n 2, 1) := dk_77 (dk_at dksX0_normalFormRegisterCount_0 6 rfl rfl)
theorem dX0_normalFormRegisterCount_7 : decode cX0_normalFormRegisterCount 7 = .ok (.aload_n 2, 1) := dk_44 (dk_at dksX0_normalFormRegisterCount_0 7 rfl rfl)
theorem dX0_normalFormRegisterCount_8 : decode cX0_normalFormRegisterCount 8 = .ok (.arraylength, 1) := dk_190 (dk_at dksX0_normalFormRegisterCount_0 8 rfl rfl)
theorem dX0_normalFormRegisterCount_9 : decode cX0_normalFormRegisterCount 9 = .ok (.istore_n 3, 1) := dk_62 (dk_at dksX0_normalFormRegisterCount_0 9 rfl rfl)
theorem dX0_normalFormRegisterCount_10 : decode cX0_normalFormRegisterCount 10 = .ok (.iconst 0, 1) := dk_3 (dk_at dksX0_normalFormRegisterCount_0 10 rfl rfl)
theorem dX0_normalFormRegisterCount_11 : decode cX0_normalFormRegisterCount 11 = .ok (.istore 4, 2) := dk_54 4 (dk_at dksX0_normalFormRegisterCount_0 11 rfl rfl)
theorem dX0_normalFormRegisterCount_13 : decode cX0_normalFormRegisterCount 13 = .ok (.iload 4, 2) := dk_21 4 (dk_at dksX0_normalFormRegisterCount_0 13 rfl rfl)
theorem dX0_normalFormRegisterCount_15 : decode cX0_normalFormRegisterCount 15 = .ok (.iload_n 3, 1) := dk_29 (dk_at dksX0_normalFormRegisterCount_0 15 rfl rfl)
theorem dX0_normalFormRegisterCount_16 : decode cX0_normalFormRegisterCount 16 = .ok (.if_icmp .ge 27, 3) := dk_162 0 27 (dk_at dksX0_normalFormRegisterCount_0 16 rfl rfl)
theorem dX0_normalFormRegisterCount_19 : decode cX0_normalFormRegisterCount 19 = .ok (.aload_n 2, 1) := dk_44 (dk_at dksX0_normalFormRegisterCount_0 19 rfl rfl)
theorem dX0_normalFormRegisterCount_20 : decode cX0_normalFormRegisterCount 20 = .ok (.iload 4, 2) := dk_21 4 (dk_at dksX0_normalFormRegisterCount_0 20 rfl rfl)
theorem dX0_normalFormRegisterCount_22 : decode cX0_normalFormRegisterCount 22 = .ok (.aaload, 1) := dk_50 (dk_at dksX0_normalFormRegisterCount_0 22 rfl rfl)
theorem dX0_normalFormRegisterCount_23 : decode cX0_normalFormRegisterCount 23 = .ok (.astore 5, 2) := dk_58 5 (dk_at dksX0_normalFormRegisterCount_1 0 rfl rfl)
theorem dX0_normalFormRegisterCount_25 : decode cX0_normalFormRegisterCount 25 = .ok (.iload_n 1, 1) := dk_27 (dk_at dksX0_normalFormRegisterCount_1 2 rfl rfl)
theorem dX0_normalFormRegisterCount_26 : decode cX0_normalFormRegisterCount 26 = .ok (.aload_n 0, 1) := dk_42 (dk_at dksX0_normalFormRegisterCount_1 3 rfl rfl)
theorem dX0_normalFormRegisterCount_27 : decode cX0_normalFormRegisterCount 27 = .ok (.aload 5, 2) := dk_25 5 (dk_at dksX0_normalFormRegisterCount_1 4 rfl rfl)
theorem dX0_normalFormRegisterCount_29 : decode cX0_normalFormRegisterCount 29 = .ok (.invokevirtual 476, 3) := dk_182 1 220 (dk_at dksX0_normalFormRegisterCount_1 6 rfl rfl)
theorem dX0_normalFormRegisterCount_32 : decode cX0_normalFormRegisterCount 32 = .ok (.invokestatic 252, 3) := dk_184 0 252 (dk_at dksX0_normalFormRegisterCount_1 9 rfl rfl)
theorem dX0_normalFormRegisterCount_35 : decode cX0_normalFormRegisterCount 35 = .ok (.iadd, 1) := dk_96 (dk_at dksX0_normalFormRegisterCount_1 12 rfl rfl)
theorem dX0_normalFormRegisterCount_36 : decode cX0_normalFormRegisterCount 36 = .ok (.istore_n 1, 1) := dk_60 (dk_at dksX0_normalFormRegisterCount_1 13 rfl rfl)
theorem dX0_normalFormRegisterCount_37 : decode cX0_normalFormRegisterCount 37 = .ok (.iinc 4 1, 3) := dk_132 4 1 (dk_at dksX0_normalFormRegisterCount_1 14 rfl rfl)
theorem dX0_normalFormRegisterCount_40 : decode cX0_normalFormRegisterCount 40 = .ok (.goto (-27), 3) := dk_167 255 229 (dk_at dksX0_normalFormRegisterCount_1 17 rfl rfl)
theorem dX0_normalFormRegisterCount_43 : decode cX0_normalFormRegisterCount 43 = .ok (.iload_n 1, 1) := dk_27 (dk_at dksX0_normalFormRegisterCount_1 20 rfl rfl)
theorem dX0_normalFormRegisterCount_44 : decode cX0_normalFormRegisterCount 44 = .ok (.ireturn, 1) := dk_172 (dk_at dksX0_normalFormRegisterCount_1 21 rfl rfl)
abbrev cX0_saveSnapshot : ByteArray := prog_1_method_89_code
def yX0_saveSnapshot : MethodName := ⟨RX0, "saveSnapshot", "()I"⟩
def dkwX0_saveSnapshot_2 : List UInt8 := [180, 0, 114, 3, 7, 184, 0, 195, 42, 180, 0, 138, 172]
abbrev dktX0_saveSnapshot_2 : List UInt8 := dkwX0_saveSnapshot_2 ++ []
def dkwX0_saveSnapshot_1 : List UInt8 := [42, 180, 0, 111, 3, 16, 6, 184, 0, 195, 42, 42, 180, 0, 138, 181, 1, 226, 42, 180, 0, 21, 3, 42]
abbrev dktX0_saveSnapshot_1 : List UInt8 := dkwX0_saveSnapshot_1 ++ dktX0_saveSnapshot_2
def dkwX0_saveSnapshot_0 : List UInt8 := [42, 4, 181, 1, 223, 42, 180, 0, 7, 3, 42, 180, 0, 108, 3, 6, 184, 0, 195, 42, 180, 0, 15, 3]
abbrev dktX0_saveSnapshot_0 : List UInt8 := dkwX0_saveSnapshot_0 ++ dktX0_saveSnapshot_1
theorem dksX0_saveSnapshot_0 : cX0_saveSnapshot.data.toList.drop 0 = dktX0_saveSnapshot_0 := by decide +kernel
theorem dksX0_saveSnapshot_1 : cX0_saveSnapshot.data.toList.drop 24 = dktX0_saveSnapshot_1 := dk_seg dksX0_saveSnapshot_0 24 rfl rfl
theorem dksX0_saveSnapshot_2 : cX0_saveSnapshot.data.toList.drop 48 = dktX0_saveSnapshot_2 := dk_seg dksX0_saveSnapshot_1 24 rfl rfl
theorem dX0_saveSnapshot_0 : decode cX0_saveSnapshot 0 = .ok (.aload_n 0, 1) := dk_42 (dk_at dksX0_saveSnapshot_0 0 rfl rfl)
theorem dX0_saveSnapshot_1 : decode cX0_saveSnapshot 1 = .ok (.iconst 1, 1) := dk_4 (dk_at dksX0_saveSnapshot_0 1 rfl rfl)
theorem dX0_saveSnapshot_2 : decode cX0_saveSnapshot 2 = .ok (.putfield 479, 3) := dk_181 1 223 (dk_at dksX0_saveSnapshot_0 2 rfl rfl)
theorem dX0_saveSnapshot_5 : decode cX0_saveSnapshot 5 = .ok (.aload_n 0, 1) := dk_42 (dk_at dksX0_saveSnapshot_0 5 rfl rfl)
theorem dX0_saveSnapshot_6 : decode cX0_saveSnapshot 6 = .ok (.getfield 7, 3) := dk_180 0 7 (dk_at dksX0_saveSnapshot_0 6 rfl rfl)
theorem dX0_saveSnapshot_9 : decode cX0_saveSnapshot 9 = .ok (.iconst 0, 1) := dk_3 (dk_at dksX0_saveSnapshot_0 9 rfl rfl)
theorem dX0_saveSnapshot_10 : decode cX0_saveSnapshot 10 = .ok (.aload_n 0, 1) := dk_42 (dk_at dksX0_saveSnapshot_0 10 rfl rfl)
theorem dX0_saveSnapshot_11 : decode cX0_saveSnapshot 11 = .ok (.getfield 108, 3) := dk_180 0 108 (dk_at dksX0_saveSnapshot_0 11 rfl rfl)
theorem dX0_saveSnapshot_14 : decode cX0_saveSnapshot 14 = .ok (.iconst 0, 1) := dk_3 (dk_at dksX0_saveSnapshot_0 14 rfl rfl)
theorem dX0_saveSnapshot_15 : decode cX0_saveSnapshot 15 = .ok (.iconst 3, 1) := dk_6 (dk_at dksX0_saveSnapshot_0 15 rfl rfl)
theorem dX0_saveSnapshot_16 : decode cX0_saveSnapshot 16 = .ok (.invokestatic 195, 3) := dk_184 0 195 (dk_at dksX0_saveSnapshot_0 16 rfl rfl)
theorem dX0_saveSnapshot_19 : decode cX0_saveSnapshot 19 = .ok (.aload_n 0, 1) := dk_42 (dk_at dksX0_saveSnapshot_0 19 rfl rfl)
theorem dX0_saveSnapshot_20 : decode cX0_saveSnapshot 20 = .ok (.getfield 15, 3) := dk_180 0 15 (dk_at dksX0_saveSnapshot_0 20 rfl rfl)
theorem dX0_saveSnapshot_23 : decode cX0_saveSnapshot 23 = .ok (.iconst 0, 1) := dk_3 (dk_at dksX0_saveSnapshot_0 23 rfl rfl)
theorem dX0_saveSnapshot_24 : decode cX0_saveSnapshot 24 = .ok (.aload_n 0, 1) := dk_42 (dk_at dksX0_saveSnapshot_1 0 rfl rfl)
theorem dX0_saveSnapshot_25 : decode cX0_saveSnapshot 25 = .ok (.getfield 111, 3) := dk_180 0 111 (dk_at dksX0_saveSnapshot_1 1 rfl rfl)
theorem dX0_saveSnapshot_28 : decode cX0_saveSnapshot 28 = .ok (.iconst 0, 1) := dk_3 (dk_at dksX0_saveSnapshot_1 4 rfl rfl)
theorem dX0_saveSnapshot_29 : decode cX0_saveSnapshot 29 = .ok (.bipush 6, 2) := dk_16 6 (dk_at dksX0_saveSnapshot_1 5 rfl rfl)
theorem dX0_saveSnapshot_31 : decode cX0_saveSnapshot 31 = .ok (.invokestatic 195, 3) := dk_184 0 195 (dk_at dksX0_saveSnapshot_1 7 rfl rfl)
theorem dX0_saveSnapshot_34 : decode cX0_saveSnapshot 34 = .ok (.aload_n 0, 1) := dk_42 (dk_at dksX0_saveSnapshot_1 10 rfl rfl)
theorem dX0_saveSnapshot_35 : decode cX0_saveSnapshot 35 = .ok (.aload_n 0, 1) := dk_42 (dk_at dksX0_saveSnapshot_1 11 rfl rfl)
theorem dX0_saveSnapshot_36 : decode cX0_saveSnapshot 36 = .ok (.getfield 138, 3) := dk_180 0 138 (dk_at dksX0_saveSnapshot_1 12 rfl rfl)
theorem dX0_saveSnapshot_39 : decode cX0_saveSnapshot 39 = .ok (.putfield 482, 3) := dk_181 1 226 (dk_at dksX0_saveSnapshot_1 15 rfl rfl)
theorem dX0_saveSnapshot_42 : decode cX0_saveSnapshot 42 = .ok (.aload_n 0, 1) := dk_42 (dk_at dksX0_saveSnapshot_1 18 rfl rfl)
theorem dX0_saveSnapshot_43 : decode cX0_saveSnapshot 43 = .ok (.getfield 21, 3) := dk_180 0 21 (dk_at dksX0_saveSnapshot_1 19 rfl rfl)
theorem dX0_saveSnapshot_46 : decode cX0_saveSnapshot 46 = .ok (.iconst 0, 1) := dk_3 (dk_at dksX0_saveSnapshot_1 22 rfl rfl)
theorem dX0_saveSnapshot_47 : decode cX0_saveSnapshot 47 = .ok (.aload_n 0, 1) := dk_42 (dk_at dksX0_saveSnapshot_1 23 rfl rfl)
theorem dX0_saveSnapshot_48 : decode cX0_saveSnapshot 48 = .ok (.getfield 114, 3) := dk_180 0 114 (dk_at dksX0_saveSnapshot_2 0 rfl rfl)
theorem dX0_saveSnapshot_51 : decode cX0_saveSnapshot 51 = .ok (.iconst 0, 1) := dk_3 (dk_at dksX0_saveSnapshot_2 3 rfl rfl)
theorem dX0_saveSnapshot_52 : decode cX0_saveSnapshot 52 = .ok (.iconst 4, 1) := dk_7 (dk_at dksX0_saveSnapshot_2 4 rfl rfl)
theorem dX0_saveSnapshot_53 : decode cX0_saveSnapshot 53 = .ok (.invokestatic 195, 3) := dk_184 0 195 (dk_at dksX0_saveSnapshot_2 5 rfl rfl)
theorem dX0_saveSnapshot_56 : decode cX0_saveSnapshot 56 = .ok (.aload_n 0, 1) := dk_42 (dk_at dksX0_saveSnapshot_2 8 rfl rfl)
theorem dX0_saveSnapshot_57 : decode cX0_saveSnapshot 57 = .ok (.getfield 138, 3) := dk_180 0 138 (dk_at dksX0_saveSnapshot_2 9 rfl rfl)
theorem dX0_saveSnapshot_60 : decode cX0_saveSnapshot 60 = .ok (.ireturn, 1) := dk_172 (dk_at dksX0_saveSnapshot_2 12 rfl rfl)
abbrev cX0_restoreSnapshot : ByteArray := prog_1_method_90_code
def yX0_restoreSnapshot : MethodName := ⟨RX0, "restoreSnapshot", "()I"⟩
def dkwX0_restoreSnapshot_2 : List UInt8 := [180, 0, 114, 3, 42, 180, 0, 21, 3, 7, 184, 0, 195, 42, 182, 0, 184, 42, 180, 0, 138, 172]
abbrev dktX0_restoreSnapshot_2 : List UInt8 := dkwX0_restoreSnapshot_2 ++ []
def dkwX0_restoreSnapshot_1 : List UInt8 := [42, 180, 0, 111, 3, 42, 180, 0, 15, 3, 16, 6, 184, 0, 195, 42, 42, 180, 1, 226, 181, 0, 138, 42]
abbrev dktX0_restoreSnapshot_1 : List UInt8 := dkwX0_restoreSnapshot_1 ++ dktX0_restoreSnapshot_2
def dkwX0_restoreSnapshot_0 : List UInt8 := [42, 180, 1, 223, 154, 0, 6, 16, 253, 172, 42, 180, 0, 108, 3, 42, 180, 0, 7, 3, 6, 184, 0, 195]
abbrev dktX0_restoreSnapshot_0 : List UInt8 := dkwX0_restoreSnapshot_0 ++ dktX0_restoreSnapshot_1
theorem dksX0_restoreSnapshot_0 : cX0_restoreSnapshot.data.toList.drop 0 = dktX0_restoreSnapshot_0 := by decide +kernel
theorem dksX0_restoreSnapshot_1 : cX0_restoreSnapshot.data.toList.drop 24 = dktX0_restoreSnapshot_1 := dk_seg dksX0_restoreSnapshot_0 24 rfl rfl
theorem dksX0_restoreSnapshot_2 : cX0_restoreSnapshot.data.toList.drop 48 = dktX0_restoreSnapshot_2 := dk_seg dksX0_restoreSnapshot_1 24 rfl rfl
theorem dX0_restoreSnapshot_0 : decode cX0_restoreSnapshot 0 = .ok (.aload_n 0, 1) := dk_42 (dk_at dksX0_restoreSnapshot_0 0 rfl rfl)
theorem dX0_restoreSnapshot_1 : decode cX0_restoreSnapshot 1 = .ok (.getfield 479, 3) := dk_180 1 223 (dk_at dksX0_restoreSnapshot_0 1 rfl rfl)
theorem dX0_restoreSnapshot_4 : decode cX0_restoreSnapshot 4 = .ok (.ifCond .ne 6, 3) := dk_154 0 6 (dk_at dksX0_restoreSnapshot_0 4 rfl rfl)
theorem dX0_restoreSnapshot_7 : decode cX0_restoreSnapshot 7 = .ok (.bipush (-3), 2) := dk_16 253 (dk_at dksX0_restoreSnapshot_0 7 rfl rfl)
theorem dX0_restoreSnapshot_9 : decode cX0_restoreSnapshot 9 = .ok (.ireturn, 1) := dk_172 (dk_at dksX0_restoreSnapshot_0 9 rfl rfl)
theorem dX0_restoreSnapshot_10 : decode cX0_restoreSnapshot 10 = .ok (.aload_n 0, 1) := dk_42 (dk_at dksX0_restoreSnapshot_0 10 rfl rfl)
theorem dX0_restoreSnapshot_11 : decode cX0_restoreSnapshot 11 = .ok (.getfield 108, 3) := dk_180 0 108 (dk_at dksX0_restoreSnapshot_0 11 rfl rfl)
theorem dX0_restoreSnapshot_14 : decode cX0_restoreSnapshot 14 = .ok (.iconst 0, 1) := dk_3 (dk_at dksX0_restoreSnapshot_0 14 rfl rfl)
theorem dX0_restoreSnapshot_15 : decode cX0_restoreSnapshot 15 = .ok (.aload_n 0, 1) := dk_42 (dk_at dksX0_restoreSnapshot_0 15 rfl rfl)
theorem dX0_restoreSnapshot_16 : decode cX0_restoreSnapshot 16 = .ok (.getfield 7, 3) := dk_180 0 7 (dk_at dksX0_restoreSnapshot_0 16 rfl rfl)
theorem dX0_restoreSnapshot_19 : decode cX0_restoreSnapshot 19 = .ok (.iconst 0, 1) := dk_3 (dk_at dksX0_restoreSnapshot_0 19 rfl rfl)
theorem dX0_restoreSnapshot_20 : decode cX0_restoreSnapshot 20 = .ok (.iconst 3, 1) := dk_6 (dk_at dksX0_restoreSnapshot_0 20 rfl rfl)
theorem dX0_restoreSnapshot_21 : decode cX0_restoreSnapshot 21 = .ok (.invokestatic 195, 3) := dk_184 0 195 (dk_at dksX0_restoreSnapshot_0 21 rfl rfl)
theorem dX0_restoreSnapshot_24 : decode cX0_restoreSnapshot 24 = .ok (.aload_n 0, 1) := dk_42 (dk_at dksX0_restoreSnapshot_1 0 rfl rfl)
theorem dX0_restoreSnapshot_25 : decode cX0_restoreSnapshot 25 = .ok (.getfield 111, 3) := dk_180 0 111 (dk_at dksX0_restoreSnapshot_1 1 rfl rfl)
theorem dX0_restoreSnapshot_28 : decode cX0_restoreSnapshot 28 = .ok (.iconst 0, 1) := dk_3 (dk_at dksX0_restoreSnapshot_1 4 rfl rfl)
theorem dX0_restoreSnapshot_29 : decode cX0_restoreSnapshot 29 = .ok (.aload_n 0, 1) := dk_42 (dk_at dksX0_restoreSnapshot_1 5 rfl rfl)
theorem dX0_restoreSnapshot_30 : decode cX0_restoreSnapshot 30 = .ok (.getfield 15, 3) := dk_180 0 15 (dk_at dksX0_restoreSnapshot_1 6 rfl rfl)
theorem dX0_restoreSnapshot_33 : decode cX0_restoreSnapshot 33 = .ok (.iconst 0, 1) := dk_3 (dk_at dksX0_restoreSnapshot_1 9 rfl rfl)
theorem dX0_restoreSnapshot_34 : decode cX0_restoreSnapshot 34 = .ok (.bipush 6, 2) := dk_16 6 (dk_at dksX0_restoreSnapshot_1 10 rfl rfl)
theorem dX0_restoreSnapshot_36 : decode cX0_restoreSnapshot 36 = .ok (.invokestatic 195, 3) := dk_184 0 195 (dk_at dksX0_restoreSnapshot_1 12 rfl rfl)
theorem dX0_restoreSnapshot_39 : decode cX0_restoreSnapshot 39 = .ok (.aload_n 0, 1) := dk_42 (dk_at dksX0_restoreSnapshot_1 15 rfl rfl)
theorem dX0_restoreSnapshot_40 : decode cX0_restoreSnapshot 40 = .ok (.aload_n 0, 1) := dk_42 (dk_at dksX0_restoreSnapshot_1 16 rfl rfl)
theorem dX0_restoreSnapshot_41 : decode cX0_restoreSnapshot 41 = .ok (.getfield 482, 3) := dk_180 1 226 (dk_at dksX0_restoreSnapshot_1 17 rfl rfl)
theorem dX0_restoreSnapshot_44 : decode cX0_restoreSnapshot 44 = .ok (.putfield 138, 3) := dk_181 0 138 (dk_at dksX0_restoreSnapshot_1 20 rfl rfl)
theorem dX0_restoreSnapshot_47 : decode cX0_restoreSnapshot 47 = .ok (.aload_n 0, 1) := dk_42 (dk_at dksX0_restoreSnapshot_1 23 rfl rfl)
theorem dX0_restoreSnapshot_48 : decode cX0_restoreSnapshot 48 = .ok (.getfield 114, 3) := dk_180 0 114 (dk_at dksX0_restoreSnapshot_2 0 rfl rfl)
theorem dX0_restoreSnapshot_51 : decode cX0_restoreSnapshot 51 = .ok (.iconst 0, 1) := dk_3 (dk_at dksX0_restoreSnapshot_2 3 rfl rfl)
theorem dX0_restoreSnapshot_52 : decode cX0_restoreSnapshot 52 = .ok (.aload_n 0, 1) := dk_42 (dk_at dksX0_restoreSnapshot_2 4 rfl rfl)
theorem dX0_restoreSnapshot_53 : decode cX0_restoreSnapshot 53 = .ok (.getfield 21, 3) := dk_180 0 21 (dk_at dksX0_restoreSnapshot_2 5 rfl rfl)
theorem dX0_restoreSnapshot_56 : decode cX0_restoreSnapshot 56 = .ok (.iconst 0, 1) := dk_3 (dk_at dksX0_restoreSnapshot_2 8 rfl rfl)
theorem dX0_restoreSnapshot_57 : decode cX0_restoreSnapshot 57 = .ok (.iconst 4, 1) := dk_7 (dk_at dksX0_restoreSnapshot_2 9 rfl rfl)
theorem dX0_restoreSnapshot_58 : decode cX0_restoreSnapshot 58 = .ok (.invokestatic 195, 3) := dk_184 0 195 (dk_at dksX0_restoreSnapshot_2 10 rfl rfl)
theorem dX0_restoreSnapshot_61 : decode cX0_restoreSnapshot 61 = .ok (.aload_n 0, 1) := dk_42 (dk_at dksX0_restoreSnapshot_2 13 rfl rfl)
theorem dX0_restoreSnapshot_62 : decode cX0_restoreSnapshot 62 = .ok (.invokevirtual 184, 3) := dk_182 0 184 (dk_at dksX0_restoreSnapshot_2 14 rfl rfl)
theorem dX0_restoreSnapshot_65 : decode cX0_restoreSnapshot 65 = .ok (.aload_n 0, 1) := dk_42 (dk_at dksX0_restoreSnapshot_2 17 rfl rfl)
theorem dX0_restoreSnapshot_66 : decode cX0_restoreSnapshot 66 = .ok (.getfield 138, 3) := dk_180 0 138 (dk_at dksX0_restoreSnapshot_2 18 rfl rfl)
theorem dX0_restoreSnapshot_69 : decode cX0_restoreSnapshot 69 = .ok (.ireturn, 1) := dk_172 (dk_at dksX0_restoreSnapshot_2 21 rfl rfl)

