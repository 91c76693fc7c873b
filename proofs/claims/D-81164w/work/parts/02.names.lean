/-! DECODE ROWS BY BYTES: one lemma an opcode; a method's code is cut into short pieces once, and a row reads its own piece alone. -/
set_option maxRecDepth 100000
/-- the code has just these bytes from pc on -/
def DkAt (code : ByteArray) (pc : Nat) (bs : List UInt8) : Prop := ∀ (j : Nat) (b : UInt8), bs[j]? = some b → code.data.toList[pc + j]? = some b
/-- the piece W has the bytes bs from its place j on -/
def dkIn (W : List UInt8) (j : Nat) (bs : List UInt8) : Bool := decide ((W.drop j).take bs.length = bs)
theorem dk_seg {l W T : List UInt8} {o o2 : Nat} (h : l.drop o = W ++ T) (n : Nat) (hn : W.length = n) (ho : o + n = o2) : l.drop o2 = T := by
  subst ho
  rw [← List.drop_drop, h, List.drop_left' hn]
theorem dk_at {code : ByteArray} {W T bs : List UInt8} {o pc : Nat} (h : code.data.toList.drop o = W ++ T) (j : Nat) (hp : o + j = pc) (hw : dkIn W j bs = true) : DkAt code pc bs := by
  subst hp
  intro i b e
  have h1 := of_decide_eq_true hw
  have h2 : i < bs.length := (List.getElem?_eq_some_iff.mp e).1
  have h3 : W[j + i]? = some b := by
    rw [← h1, List.getElem?_take, if_pos h2, List.getElem?_drop] at e
    exact e
  have h4 : j + i < W.length := (List.getElem?_eq_some_iff.mp h3).1
  have h5 : (code.data.toList.drop o)[j + i]? = some b := by
    rw [h, List.getElem?_append_left h4]
    exact h3
  rw [List.getElem?_drop, ← Nat.add_assoc] at h5
  exact h5
theorem dk_u1 {A : ByteArray} {p : Nat} {b : UInt8} (h : A.data.toList[p]? = some b) : (Reader.u1 : Reader DecodeError Nat) A p = .ok (b.toNat, p + 1) := by
  obtain ⟨h1, h2⟩ := List.getElem?_eq_some_iff.mp h
  have h3 : p < A.size := by simpa using h1
  have h4 : A[p]'h3 = b := h2
  have e : (Reader.u1 : Reader DecodeError Nat) A p = (if h : p < A.size then .ok (A[p].toNat, p + 1) else .error (HasTruncated.truncated p)) := by
    show (do if h : p < A.size then do set (p + 1); Pure.pure A[p].toNat else MonadExcept.throw (HasTruncated.truncated p) : Reader DecodeError Nat) A p = _
    by_cases hi : p < A.size
    · rw [dif_pos hi, dif_pos hi]; rfl
    · rw [dif_neg hi, dif_neg hi]; rfl
  rw [e, dif_pos h3, h4]
theorem dk_bind {α β : Type} {r : Reader DecodeError α} {f : α → Reader DecodeError β} {A : ByteArray} {p s : Nat} {a : α} (h : r A p = .ok (a, s)) : (r >>= f) A p = f a A s := by
  show (do let (a, s) ← r A p; f a A s : Except DecodeError (β × Nat)) = _
  rw [h]
  rfl
theorem dk_map {α β : Type} {r : Reader DecodeError α} {g : α → β} {A : ByteArray} {p s : Nat} {a : α} (h : r A p = .ok (a, s)) : (g <$> r) A p = .ok (g a, s) := by
  show (do let (a, s) ← r A p; .ok (g a, s) : Except DecodeError (β × Nat)) = _
  rw [h]
  rfl
theorem dk_u2 {A : ByteArray} {p : Nat} {a b : UInt8} (h : A.data.toList[p]? = some a) (h2 : A.data.toList[p + 1]? = some b) : (Reader.u2 : Reader DecodeError Nat) A p = .ok (a.toNat * 256 + b.toNat, p + 2) := by
  show (Reader.u1 >>= fun hi => Reader.u1 >>= fun lo => Pure.pure (hi * 256 + lo) : Reader DecodeError Nat) A p = _
  rw [dk_bind (dk_u1 h), dk_bind (dk_u1 h2)]
  rfl
theorem dk_of {code : ByteArray} {pc n : Nat} {i : Instr} (h : Decoder.instr pc code pc = .ok (i, pc + n)) : decode code pc = .ok (i, n) := by
  have e : decode code pc = (match Decoder.instr pc code pc with | .error x => .error x | .ok (j, s) => .ok (j, s - pc)) := by
    show (do let (j, s) ← Decoder.instr pc code pc; Pure.pure (j, s - pc) : Except DecodeError (Instr × Nat)) = _
    cases Decoder.instr pc code pc <;> rfl
  rw [e, h]
  show Except.ok (i, pc + n - pc) = _
  rw [Nat.add_sub_cancel_left]
theorem dk_1 {code : ByteArray} {pc : Nat} (h : DkAt code pc [1]) : decode code pc = .ok (.aconst_null, 1) := dk_of ((dk_bind (dk_u1 (h 0 _ rfl))).trans rfl)
theorem dk_2 {code : ByteArray} {pc : Nat} (h : DkAt code pc [2]) : decode code pc = .ok (.iconst (-1), 1) := dk_of ((dk_bind (dk_u1 (h 0 _ rfl))).trans rfl)
theorem dk_3 {code : ByteArray} {pc : Nat} (h : DkAt code pc [3]) : decode code pc = .ok (.iconst 0, 1) := dk_of ((dk_bind (dk_u1 (h 0 _ rfl))).trans rfl)
theorem dk_4 {code : ByteArray} {pc : Nat} (h : DkAt code pc [4]) : decode code pc = .ok (.iconst 1, 1) := dk_of ((dk_bind (dk_u1 (h 0 _ rfl))).trans rfl)
theorem dk_5 {code : ByteArray} {pc : Nat} (h : DkAt code pc [5]) : decode code pc = .ok (.iconst 2, 1) := dk_of ((dk_bind (dk_u1 (h 0 _ rfl))).trans rfl)
theorem dk_6 {code : ByteArray} {pc : Nat} (h : DkAt code pc [6]) : decode code pc = .ok (.iconst 3, 1) := dk_of ((dk_bind (dk_u1 (h 0 _ rfl))).trans rfl)
theorem dk_7 {code : ByteArray} {pc : Nat} (h : DkAt code pc [7]) : decode code pc = .ok (.iconst 4, 1) := dk_of ((dk_bind (dk_u1 (h 0 _ rfl))).trans rfl)
theorem dk_8 {code : ByteArray} {pc : Nat} (h : DkAt code pc [8]) : decode code pc = .ok (.iconst 5, 1) := dk_of ((dk_bind (dk_u1 (h 0 _ rfl))).trans rfl)
theorem dk_9 {code : ByteArray} {pc : Nat} (h : DkAt code pc [9]) : decode code pc = .ok (.lconst 0, 1) := dk_of ((dk_bind (dk_u1 (h 0 _ rfl))).trans rfl)
theorem dk_10 {code : ByteArray} {pc : Nat} (h : DkAt code pc [10]) : decode code pc = .ok (.lconst 1, 1) := dk_of ((dk_bind (dk_u1 (h 0 _ rfl))).trans rfl)
theorem dk_16 {code : ByteArray} {pc : Nat} (a : UInt8) (h : DkAt code pc [16, a]) : decode code pc = .ok (.bipush (Reader.signed 8 a.toNat), 2) := dk_of ((dk_bind (dk_u1 (h 0 _ rfl))).trans ((dk_bind (dk_map (dk_u1 (h 1 _ rfl)))).trans rfl))
theorem dk_17 {code : ByteArray} {pc : Nat} (a b : UInt8) (h : DkAt code pc [17, a, b]) : decode code pc = .ok (.sipush (Reader.signed 16 (a.toNat * 256 + b.toNat)), 3) := dk_of ((dk_bind (dk_u1 (h 0 _ rfl))).trans ((dk_bind (dk_map (dk_u2 (h 1 _ rfl) (h 2 _ rfl)))).trans rfl))
theorem dk_18 {code : ByteArray} {pc : Nat} (a : UInt8) (h : DkAt code pc [18, a]) : decode code pc = .ok (.ldc a.toNat, 2) := dk_of ((dk_bind (dk_u1 (h 0 _ rfl))).trans ((dk_bind (dk_u1 (h 1 _ rfl))).trans rfl))
theorem dk_19 {code : ByteArray} {pc : Nat} (a b : UInt8) (h : DkAt code pc [19, a, b]) : decode code pc = .ok (.ldc_w (a.toNat * 256 + b.toNat), 3) := dk_of ((dk_bind (dk_u1 (h 0 _ rfl))).trans ((dk_bind (dk_u2 (h 1 _ rfl) (h 2 _ rfl))).trans rfl))
theorem dk_20 {code : ByteArray} {pc : Nat} (a b : UInt8) (h : DkAt code pc [20, a, b]) : decode code pc = .ok (.ldc2_w (a.toNat * 256 + b.toNat), 3) := dk_of ((dk_bind (dk_u1 (h 0 _ rfl))).trans ((dk_bind (dk_u2 (h 1 _ rfl) (h 2 _ rfl))).trans rfl))
theorem dk_21 {code : ByteArray} {pc : Nat} (a : UInt8) (h : DkAt code pc [21, a]) : decode code pc = .ok (.iload a.toNat, 2) := dk_of ((dk_bind (dk_u1 (h 0 _ rfl))).trans ((dk_bind (dk_u1 (h 1 _ rfl))).trans rfl))
theorem dk_22 {code : ByteArray} {pc : Nat} (a : UInt8) (h : DkAt code pc [22, a]) : decode code pc = .ok (.lload a.toNat, 2) := dk_of ((dk_bind (dk_u1 (h 0 _ rfl))).trans ((dk_bind (dk_u1 (h 1 _ rfl))).trans rfl))
theorem dk_25 {code : ByteArray} {pc : Nat} (a : UInt8) (h : DkAt code pc [25, a]) : decode code pc = .ok (.aload a.toNat, 2) := dk_of ((dk_bind (dk_u1 (h 0 _ rfl))).trans ((dk_bind (dk_u1 (h 1 _ rfl))).trans rfl))
theorem dk_26 {code : ByteArray} {pc : Nat} (h : DkAt code pc [26]) : decode code pc = .ok (.iload_n 0, 1) := dk_of ((dk_bind (dk_u1 (h 0 _ rfl))).trans rfl)
theorem dk_27 {code : ByteArray} {pc : Nat} (h : DkAt code pc [27]) : decode code pc = .ok (.iload_n 1, 1) := dk_of ((dk_bind (dk_u1 (h 0 _ rfl))).trans rfl)
theorem dk_28 {code : ByteArray} {pc : Nat} (h : DkAt code pc [28]) : decode code pc = .ok (.iload_n 2, 1) := dk_of ((dk_bind (dk_u1 (h 0 _ rfl))).trans rfl)
theorem dk_29 {code : ByteArray} {pc : Nat} (h : DkAt code pc [29]) : decode code pc = .ok (.iload_n 3, 1) := dk_of ((dk_bind (dk_u1 (h 0 _ rfl))).trans rfl)
theorem dk_30 {code : ByteArray} {pc : Nat} (h : DkAt code pc [30]) : decode code pc = .ok (.lload_n 0, 1) := dk_of ((dk_bind (dk_u1 (h 0 _ rfl))).trans rfl)
theorem dk_31 {code : ByteArray} {pc : Nat} (h : DkAt code pc [31]) : decode code pc = .ok (.lload_n 1, 1) := dk_of ((dk_bind (dk_u1 (h 0 _ rfl))).trans rfl)
theorem dk_32 {code : ByteArray} {pc : Nat} (h : DkAt code pc [32]) : decode code pc = .ok (.lload_n 2, 1) := dk_of ((dk_bind (dk_u1 (h 0 _ rfl))).trans rfl)
theorem dk_33 {code : ByteArray} {pc : Nat} (h : DkAt code pc [33]) : decode code pc = .ok (.lload_n 3, 1) := dk_of ((dk_bind (dk_u1 (h 0 _ rfl))).trans rfl)
theorem dk_42 {code : ByteArray} {pc : Nat} (h : DkAt code pc [42]) : decode code pc = .ok (.aload_n 0, 1) := dk_of ((dk_bind (dk_u1 (h 0 _ rfl))).trans rfl)
theorem dk_43 {code : ByteArray} {pc : Nat} (h : DkAt code pc [43]) : decode code pc = .ok (.aload_n 1, 1) := dk_of ((dk_bind (dk_u1 (h 0 _ rfl))).trans rfl)
theorem dk_44 {code : ByteArray} {pc : Nat} (h : DkAt code pc [44]) : decode code pc = .ok (.aload_n 2, 1) := dk_of ((dk_bind (dk_u1 (h 0 _ rfl))).trans rfl)
theorem dk_45 {code : ByteArray} {pc : Nat} (h : DkAt code pc [45]) : decode code pc = .ok (.aload_n 3, 1) := dk_of ((dk_bind (dk_u1 (h 0 _ rfl))).trans rfl)
theorem dk_46 {code : ByteArray} {pc : Nat} (h : DkAt code pc [46]) : decode code pc = .ok (.iaload, 1) := dk_of ((dk_bind (dk_u1 (h 0 _ rfl))).trans rfl)
theorem dk_47 {code : ByteArray} {pc : Nat} (h : DkAt code pc [47]) : decode code pc = .ok (.laload, 1) := dk_of ((dk_bind (dk_u1 (h 0 _ rfl))).trans rfl)
theorem dk_50 {code : ByteArray} {pc : Nat} (h : DkAt code pc [50]) : decode code pc = .ok (.aaload, 1) := dk_of ((dk_bind (dk_u1 (h 0 _ rfl))).trans rfl)
theorem dk_51 {code : ByteArray} {pc : Nat} (h : DkAt code pc [51]) : decode code pc = .ok (.baload, 1) := dk_of ((dk_bind (dk_u1 (h 0 _ rfl))).trans rfl)
theorem dk_54 {code : ByteArray} {pc : Nat} (a : UInt8) (h : DkAt code pc [54, a]) : decode code pc = .ok (.istore a.toNat, 2) := dk_of ((dk_bind (dk_u1 (h 0 _ rfl))).trans ((dk_bind (dk_u1 (h 1 _ rfl))).trans rfl))
theorem dk_58 {code : ByteArray} {pc : Nat} (a : UInt8) (h : DkAt code pc [58, a]) : decode code pc = .ok (.astore a.toNat, 2) := dk_of ((dk_bind (dk_u1 (h 0 _ rfl))).trans ((dk_bind (dk_u1 (h 1 _ rfl))).trans rfl))
theorem dk_59 {code : ByteArray} {pc : Nat} (h : DkAt code pc [59]) : decode code pc = .ok (.istore_n 0, 1) := dk_of ((dk_bind (dk_u1 (h 0 _ rfl))).trans rfl)
theorem dk_60 {code : ByteArray} {pc : Nat} (h : DkAt code pc [60]) : decode code pc = .ok (.istore_n 1, 1) := dk_of ((dk_bind (dk_u1 (h 0 _ rfl))).trans rfl)
theorem dk_61 {code : ByteArray} {pc : Nat} (h : DkAt code pc [61]) : decode code pc = .ok (.istore_n 2, 1) := dk_of ((dk_bind (dk_u1 (h 0 _ rfl))).trans rfl)
theorem dk_62 {code : ByteArray} {pc : Nat} (h : DkAt code pc [62]) : decode code pc = .ok (.istore_n 3, 1) := dk_of ((dk_bind (dk_u1 (h 0 _ rfl))).trans rfl)
theorem dk_65 {code : ByteArray} {pc : Nat} (h : DkAt code pc [65]) : decode code pc = .ok (.lstore_n 2, 1) := dk_of ((dk_bind (dk_u1 (h 0 _ rfl))).trans rfl)
theorem dk_66 {code : ByteArray} {pc : Nat} (h : DkAt code pc [66]) : decode code pc = .ok (.lstore_n 3, 1) := dk_of ((dk_bind (dk_u1 (h 0 _ rfl))).trans rfl)
theorem dk_76 {code : ByteArray} {pc : Nat} (h : DkAt code pc [76]) : decode code pc = .ok (.astore_n 1, 1) := dk_of ((dk_bind (dk_u1 (h 0 _ rfl))).trans rfl)
theorem dk_77 {code : ByteArray} {pc : Nat} (h : DkAt code pc [77]) : decode code pc = .ok (.astore_n 2, 1) := dk_of ((dk_bind (dk_u1 (h 0 _ rfl))).trans rfl)
theorem dk_78 {code : ByteArray} {pc : Nat} (h : DkAt code pc [78]) : decode code pc = .ok (.astore_n 3, 1) := dk_of ((dk_bind (dk_u1 (h 0 _ rfl))).trans rfl)
theorem dk_79 {code : ByteArray} {pc : Nat} (h : DkAt code pc [79]) : decode code pc = .ok (.iastore, 1) := dk_of ((dk_bind (dk_u1 (h 0 _ rfl))).trans rfl)
theorem dk_80 {code : ByteArray} {pc : Nat} (h : DkAt code pc [80]) : decode code pc = .ok (.lastore, 1) := dk_of ((dk_bind (dk_u1 (h 0 _ rfl))).trans rfl)
theorem dk_83 {code : ByteArray} {pc : Nat} (h : DkAt code pc [83]) : decode code pc = .ok (.aastore, 1) := dk_of ((dk_bind (dk_u1 (h 0 _ rfl))).trans rfl)
theorem dk_84 {code : ByteArray} {pc : Nat} (h : DkAt code pc [84]) : decode code pc = .ok (.bastore, 1) := dk_of ((dk_bind (dk_u1 (h 0 _ rfl))).trans rfl)
theorem dk_87 {code : ByteArray} {pc : Nat} (h : DkAt code pc [87]) : decode code pc = .ok (.pop, 1) := dk_of ((dk_bind (dk_u1 (h 0 _ rfl))).trans rfl)
theorem dk_89 {code : ByteArray} {pc : Nat} (h : DkAt code pc [89]) : decode code pc = .ok (.dup, 1) := dk_of ((dk_bind (dk_u1 (h 0 _ rfl))).trans rfl)
theorem dk_90 {code : ByteArray} {pc : Nat} (h : DkAt code pc [90]) : decode code pc = .ok (.dup_x1, 1) := dk_of ((dk_bind (dk_u1 (h 0 _ rfl))).trans rfl)
theorem dk_92 {code : ByteArray} {pc : Nat} (h : DkAt code pc [92]) : decode code pc = .ok (.dup2, 1) := dk_of ((dk_bind (dk_u1 (h 0 _ rfl))).trans rfl)
theorem dk_96 {code : ByteArray} {pc : Nat} (h : DkAt code pc [96]) : decode code pc = .ok (.iadd, 1) := dk_of ((dk_bind (dk_u1 (h 0 _ rfl))).trans rfl)
theorem dk_97 {code : ByteArray} {pc : Nat} (h : DkAt code pc [97]) : decode code pc = .ok (.ladd, 1) := dk_of ((dk_bind (dk_u1 (h 0 _ rfl))).trans rfl)
theorem dk_100 {code : ByteArray} {pc : Nat} (h : DkAt code pc [100]) : decode code pc = .ok (.isub, 1) := dk_of ((dk_bind (dk_u1 (h 0 _ rfl))).trans rfl)
theorem dk_101 {code : ByteArray} {pc : Nat} (h : DkAt code pc [101]) : decode code pc = .ok (.lsub, 1) := dk_of ((dk_bind (dk_u1 (h 0 _ rfl))).trans rfl)
theorem dk_104 {code : ByteArray} {pc : Nat} (h : DkAt code pc [104]) : decode code pc = .ok (.imul, 1) := dk_of ((dk_bind (dk_u1 (h 0 _ rfl))).trans rfl)
theorem dk_105 {code : ByteArray} {pc : Nat} (h : DkAt code pc [105]) : decode code pc = .ok (.lmul, 1) := dk_of ((dk_bind (dk_u1 (h 0 _ rfl))).trans rfl)
theorem dk_108 {code : ByteArray} {pc : Nat} (h : DkAt code pc [108]) : decode code pc = .ok (.idiv, 1) := dk_of ((dk_bind (dk_u1 (h 0 _ rfl))).trans rfl)
theorem dk_109 {code : ByteArray} {pc : Nat} (h : DkAt code pc [109]) : decode code pc = .ok (.ldiv, 1) := dk_of ((dk_bind (dk_u1 (h 0 _ rfl))).trans rfl)
theorem dk_112 {code : ByteArray} {pc : Nat} (h : DkAt code pc [112]) : decode code pc = .ok (.irem, 1) := dk_of ((dk_bind (dk_u1 (h 0 _ rfl))).trans rfl)
theorem dk_116 {code : ByteArray} {pc : Nat} (h : DkAt code pc [116]) : decode code pc = .ok (.ineg, 1) := dk_of ((dk_bind (dk_u1 (h 0 _ rfl))).trans rfl)
theorem dk_120 {code : ByteArray} {pc : Nat} (h : DkAt code pc [120]) : decode code pc = .ok (.ishl, 1) := dk_of ((dk_bind (dk_u1 (h 0 _ rfl))).trans rfl)
theorem dk_121 {code : ByteArray} {pc : Nat} (h : DkAt code pc [121]) : decode code pc = .ok (.lshl, 1) := dk_of ((dk_bind (dk_u1 (h 0 _ rfl))).trans rfl)
theorem dk_122 {code : ByteArray} {pc : Nat} (h : DkAt code pc [122]) : decode code pc = .ok (.ishr, 1) := dk_of ((dk_bind (dk_u1 (h 0 _ rfl))).trans rfl)
theorem dk_123 {code : ByteArray} {pc : Nat} (h : DkAt code pc [123]) : decode code pc = .ok (.lshr, 1) := dk_of ((dk_bind (dk_u1 (h 0 _ rfl))).trans rfl)
theorem dk_124 {code : ByteArray} {pc : Nat} (h : DkAt code pc [124]) : decode code pc = .ok (.iushr, 1) := dk_of ((dk_bind (dk_u1 (h 0 _ rfl))).trans rfl)
theorem dk_125 {code : ByteArray} {pc : Nat} (h : DkAt code pc [125]) : decode code pc = .ok (.lushr, 1) := dk_of ((dk_bind (dk_u1 (h 0 _ rfl))).trans rfl)
theorem dk_126 {code : ByteArray} {pc : Nat} (h : DkAt code pc [126]) : decode code pc = .ok (.iand, 1) := dk_of ((dk_bind (dk_u1 (h 0 _ rfl))).trans rfl)
theorem dk_127 {code : ByteArray} {pc : Nat} (h : DkAt code pc [127]) : decode code pc = .ok (.land, 1) := dk_of ((dk_bind (dk_u1 (h 0 _ rfl))).trans rfl)
theorem dk_128 {code : ByteArray} {pc : Nat} (h : DkAt code pc [128]) : decode code pc = .ok (.ior, 1) := dk_of ((dk_bind (dk_u1 (h 0 _ rfl))).trans rfl)
theorem dk_129 {code : ByteArray} {pc : Nat} (h : DkAt code pc [129]) : decode code pc = .ok (.lor, 1) := dk_of ((dk_bind (dk_u1 (h 0 _ rfl))).trans rfl)
theorem dk_130 {code : ByteArray} {pc : Nat} (h : DkAt code pc [130]) : decode code pc = .ok (.ixor, 1) := dk_of ((dk_bind (dk_u1 (h 0 _ rfl))).trans rfl)
theorem dk_131 {code : ByteArray} {pc : Nat} (h : DkAt code pc [131]) : decode code pc = .ok (.lxor, 1) := dk_of ((dk_bind (dk_u1 (h 0 _ rfl))).trans rfl)
theorem dk_132 {code : ByteArray} {pc : Nat} (a b : UInt8) (h : DkAt code pc [132, a, b]) : decode code pc = .ok (.iinc a.toNat (Reader.signed 8 b.toNat), 3) := dk_of ((dk_bind (dk_u1 (h 0 _ rfl))).trans ((dk_bind (dk_u1 (h 1 _ rfl))).trans ((dk_bind (dk_map (dk_u1 (h 2 _ rfl)))).trans rfl)))
theorem dk_133 {code : ByteArray} {pc : Nat} (h : DkAt code pc [133]) : decode code pc = .ok (.i2l, 1) := dk_of ((dk_bind (dk_u1 (h 0 _ rfl))).trans rfl)
theorem dk_136 {code : ByteArray} {pc : Nat} (h : DkAt code pc [136]) : decode code pc = .ok (.l2i, 1) := dk_of ((dk_bind (dk_u1 (h 0 _ rfl))).trans rfl)
theorem dk_145 {code : ByteArray} {pc : Nat} (h : DkAt code pc [145]) : decode code pc = .ok (.i2b, 1) := dk_of ((dk_bind (dk_u1 (h 0 _ rfl))).trans rfl)
theorem dk_146 {code : ByteArray} {pc : Nat} (h : DkAt code pc [146]) : decode code pc = .ok (.i2c, 1) := dk_of ((dk_bind (dk_u1 (h 0 _ rfl))).trans rfl)
theorem dk_148 {code : ByteArray} {pc : Nat} (h : DkAt code pc [148]) : decode code pc = .ok (.lcmp, 1) := dk_of ((dk_bind (dk_u1 (h 0 _ rfl))).trans rfl)
theorem dk_153 {code : ByteArray} {pc : Nat} (a b : UInt8) (h : DkAt code pc [153, a, b]) : decode code pc = .ok (.ifCond .eq (Reader.signed 16 (a.toNat * 256 + b.toNat)), 3) := dk_of ((dk_bind (dk_u1 (h 0 _ rfl))).trans ((dk_bind (dk_map (dk_u2 (h 1 _ rfl) (h 2 _ rfl)))).trans rfl))
theorem dk_154 {code : ByteArray} {pc : Nat} (a b : UInt8) (h : DkAt code pc [154, a, b]) : decode code pc = .ok (.ifCond .ne (Reader.signed 16 (a.toNat * 256 + b.toNat)), 3) := dk_of ((dk_bind (dk_u1 (h 0 _ rfl))).trans ((dk_bind (dk_map (dk_u2 (h 1 _ rfl) (h 2 _ rfl)))).trans rfl))
theorem dk_155 {code : ByteArray} {pc : Nat} (a b : UInt8) (h : DkAt code pc [155, a, b]) : decode code pc = .ok (.ifCond .lt (Reader.signed 16 (a.toNat * 256 + b.toNat)), 3) := dk_of ((dk_bind (dk_u1 (h 0 _ rfl))).trans ((dk_bind (dk_map (dk_u2 (h 1 _ rfl) (h 2 _ rfl)))).trans rfl))
theorem dk_156 {code : ByteArray} {pc : Nat} (a b : UInt8) (h : DkAt code pc [156, a, b]) : decode code pc = .ok (.ifCond .ge (Reader.signed 16 (a.toNat * 256 + b.toNat)), 3) := dk_of ((dk_bind (dk_u1 (h 0 _ rfl))).trans ((dk_bind (dk_map (dk_u2 (h 1 _ rfl) (h 2 _ rfl)))).trans rfl))
theorem dk_157 {code : ByteArray} {pc : Nat} (a b : UInt8) (h : DkAt code pc [157, a, b]) : decode code pc = .ok (.ifCond .gt (Reader.signed 16 (a.toNat * 256 + b.toNat)), 3) := dk_of ((dk_bind (dk_u1 (h 0 _ rfl))).trans ((dk_bind (dk_map (dk_u2 (h 1 _ rfl) (h 2 _ rfl)))).trans rfl))
theorem dk_158 {code : ByteArray} {pc : Nat} (a b : UInt8) (h : DkAt code pc [158, a, b]) : decode code pc = .ok (.ifCond .le (Reader.signed 16 (a.toNat * 256 + b.toNat)), 3) := dk_of ((dk_bind (dk_u1 (h 0 _ rfl))).trans ((dk_bind (dk_map (dk_u2 (h 1 _ rfl) (h 2 _ rfl)))).trans rfl))
theorem dk_159 {code : ByteArray} {pc : Nat} (a b : UInt8) (h : DkAt code pc [159, a, b]) : decode code pc = .ok (.if_icmp .eq (Reader.signed 16 (a.toNat * 256 + b.toNat)), 3) := dk_of ((dk_bind (dk_u1 (h 0 _ rfl))).trans ((dk_bind (dk_map (dk_u2 (h 1 _ rfl) (h 2 _ rfl)))).trans rfl))
theorem dk_160 {code : ByteArray} {pc : Nat} (a b : UInt8) (h : DkAt code pc [160, a, b]) : decode code pc = .ok (.if_icmp .ne (Reader.signed 16 (a.toNat * 256 + b.toNat)), 3) := dk_of ((dk_bind (dk_u1 (h 0 _ rfl))).trans ((dk_bind (dk_map (dk_u2 (h 1 _ rfl) (h 2 _ rfl)))).trans rfl))
theorem dk_161 {code : ByteArray} {pc : Nat} (a b : UInt8) (h : DkAt code pc [161, a, b]) : decode code pc = .ok (.if_icmp .lt (Reader.signed 16 (a.toNat * 256 + b.toNat)), 3) := dk_of ((dk_bind (dk_u1 (h 0 _ rfl))).trans ((dk_bind (dk_map (dk_u2 (h 1 _ rfl) (h 2 _ rfl)))).trans rfl))
theorem dk_162 {code : ByteArray} {pc : Nat} (a b : UInt8) (h : DkAt code pc [162, a, b]) : decode code pc = .ok (.if_icmp .ge (Reader.signed 16 (a.toNat * 256 + b.toNat)), 3) := dk_of ((dk_bind (dk_u1 (h 0 _ rfl))).trans ((dk_bind (dk_map (dk_u2 (h 1 _ rfl) (h 2 _ rfl)))).trans rfl))
theorem dk_163 {code : ByteArray} {pc : Nat} (a b : UInt8) (h : DkAt code pc [163, a, b]) : decode code pc = .ok (.if_icmp .gt (Reader.signed 16 (a.toNat * 256 + b.toNat)), 3) := dk_of ((dk_bind (dk_u1 (h 0 _ rfl))).trans ((dk_bind (dk_map (dk_u2 (h 1 _ rfl) (h 2 _ rfl)))).trans rfl))
theorem dk_164 {code : ByteArray} {pc : Nat} (a b : UInt8) (h : DkAt code pc [164, a, b]) : decode code pc = .ok (.if_icmp .le (Reader.signed 16 (a.toNat * 256 + b.toNat)), 3) := dk_of ((dk_bind (dk_u1 (h 0 _ rfl))).trans ((dk_bind (dk_map (dk_u2 (h 1 _ rfl) (h 2 _ rfl)))).trans rfl))
theorem dk_167 {code : ByteArray} {pc : Nat} (a b : UInt8) (h : DkAt code pc [167, a, b]) : decode code pc = .ok (.goto (Reader.signed 16 (a.toNat * 256 + b.toNat)), 3) := dk_of ((dk_bind (dk_u1 (h 0 _ rfl))).trans ((dk_bind (dk_map (dk_u2 (h 1 _ rfl) (h 2 _ rfl)))).trans rfl))
theorem dk_172 {code : ByteArray} {pc : Nat} (h : DkAt code pc [172]) : decode code pc = .ok (.ireturn, 1) := dk_of ((dk_bind (dk_u1 (h 0 _ rfl))).trans rfl)
theorem dk_173 {code : ByteArray} {pc : Nat} (h : DkAt code pc [173]) : decode code pc = .ok (.lreturn, 1) := dk_of ((dk_bind (dk_u1 (h 0 _ rfl))).trans rfl)
theorem dk_176 {code : ByteArray} {pc : Nat} (h : DkAt code pc [176]) : decode code pc = .ok (.areturn, 1) := dk_of ((dk_bind (dk_u1 (h 0 _ rfl))).trans rfl)
theorem dk_177 {code : ByteArray} {pc : Nat} (h : DkAt code pc [177]) : decode code pc = .ok (.return_, 1) := dk_of ((dk_bind (dk_u1 (h 0 _ rfl))).trans rfl)
theorem dk_178 {code : ByteArray} {pc : Nat} (a b : UInt8) (h : DkAt code pc [178, a, b]) : decode code pc = .ok (.getstatic (a.toNat * 256 + b.toNat), 3) := dk_of ((dk_bind (dk_u1 (h 0 _ rfl))).trans ((dk_bind (dk_u2 (h 1 _ rfl) (h 2 _ rfl))).trans rfl))
theorem dk_180 {code : ByteArray} {pc : Nat} (a b : UInt8) (h : DkAt code pc [180, a, b]) : decode code pc = .ok (.getfield (a.toNat * 256 + b.toNat), 3) := dk_of ((dk_bind (dk_u1 (h 0 _ rfl))).trans ((dk_bind (dk_u2 (h 1 _ rfl) (h 2 _ rfl))).trans rfl))
theorem dk_181 {code : ByteArray} {pc : Nat} (a b : UInt8) (h : DkAt code pc [181, a, b]) : decode code pc = .ok (.putfield (a.toNat * 256 + b.toNat), 3) := dk_of ((dk_bind (dk_u1 (h 0 _ rfl))).trans ((dk_bind (dk_u2 (h 1 _ rfl) (h 2 _ rfl))).trans rfl))
theorem dk_182 {code : ByteArray} {pc : Nat} (a b : UInt8) (h : DkAt code pc [182, a, b]) : decode code pc = .ok (.invokevirtual (a.toNat * 256 + b.toNat), 3) := dk_of ((dk_bind (dk_u1 (h 0 _ rfl))).trans ((dk_bind (dk_u2 (h 1 _ rfl) (h 2 _ rfl))).trans rfl))
theorem dk_183 {code : ByteArray} {pc : Nat} (a b : UInt8) (h : DkAt code pc [183, a, b]) : decode code pc = .ok (.invokespecial (a.toNat * 256 + b.toNat), 3) := dk_of ((dk_bind (dk_u1 (h 0 _ rfl))).trans ((dk_bind (dk_u2 (h 1 _ rfl) (h 2 _ rfl))).trans rfl))
theorem dk_184 {code : ByteArray} {pc : Nat} (a b : UInt8) (h : DkAt code pc [184, a, b]) : decode code pc = .ok (.invokestatic (a.toNat * 256 + b.toNat), 3) := dk_of ((dk_bind (dk_u1 (h 0 _ rfl))).trans ((dk_bind (dk_u2 (h 1 _ rfl) (h 2 _ rfl))).trans rfl))
theorem dk_187 {code : ByteArray} {pc : Nat} (a b : UInt8) (h : DkAt code pc [187, a, b]) : decode code pc = .ok (.new (a.toNat * 256 + b.toNat), 3) := dk_of ((dk_bind (dk_u1 (h 0 _ rfl))).trans ((dk_bind (dk_u2 (h 1 _ rfl) (h 2 _ rfl))).trans rfl))
theorem dk_188_4 {code : ByteArray} {pc : Nat} (h : DkAt code pc [188, 4]) : decode code pc = .ok (.newarray .boolean, 2) := dk_of ((dk_bind (dk_u1 (h 0 _ rfl))).trans ((dk_bind (dk_u1 (h 1 _ rfl))).trans rfl))
theorem dk_188_8 {code : ByteArray} {pc : Nat} (h : DkAt code pc [188, 8]) : decode code pc = .ok (.newarray .byte, 2) := dk_of ((dk_bind (dk_u1 (h 0 _ rfl))).trans ((dk_bind (dk_u1 (h 1 _ rfl))).trans rfl))
theorem dk_188_10 {code : ByteArray} {pc : Nat} (h : DkAt code pc [188, 10]) : decode code pc = .ok (.newarray .int, 2) := dk_of ((dk_bind (dk_u1 (h 0 _ rfl))).trans ((dk_bind (dk_u1 (h 1 _ rfl))).trans rfl))
theorem dk_188_11 {code : ByteArray} {pc : Nat} (h : DkAt code pc [188, 11]) : decode code pc = .ok (.newarray .long, 2) := dk_of ((dk_bind (dk_u1 (h 0 _ rfl))).trans ((dk_bind (dk_u1 (h 1 _ rfl))).trans rfl))
theorem dk_189 {code : ByteArray} {pc : Nat} (a b : UInt8) (h : DkAt code pc [189, a, b]) : decode code pc = .ok (.anewarray (a.toNat * 256 + b.toNat), 3) := dk_of ((dk_bind (dk_u1 (h 0 _ rfl))).trans ((dk_bind (dk_u2 (h 1 _ rfl) (h 2 _ rfl))).trans rfl))
theorem dk_190 {code : ByteArray} {pc : Nat} (h : DkAt code pc [190]) : decode code pc = .ok (.arraylength, 1) := dk_of ((dk_bind (dk_u1 (h 0 _ rfl))).trans rfl)
theorem dk_191 {code : ByteArray} {pc : Nat} (h : DkAt code pc [191]) : decode code pc = .ok (.athrow, 1) := dk_of ((dk_bind (dk_u1 (h 0 _ rfl))).trans rfl)
theorem dk_192 {code : ByteArray} {pc : Nat} (a b : UInt8) (h : DkAt code pc [192, a, b]) : decode code pc = .ok (.checkcast (a.toNat * 256 + b.toNat), 3) := dk_of ((dk_bind (dk_u1 (h 0 _ rfl))).trans ((dk_bind (dk_u2 (h 1 _ rfl) (h 2 _ rfl))).trans rfl))
theorem dk_198 {code : ByteArray} {pc : Nat} (a b : UInt8) (h : DkAt code pc [198, a, b]) : decode code pc = .ok (.ifnull (Reader.signed 16 (a.toNat * 256 + b.toNat)), 3) := dk_of ((dk_bind (dk_u1 (h 0 _ rfl))).trans ((dk_bind (dk_map (dk_u2 (h 1 _ rfl) (h 2 _ rfl)))).trans rfl))
theorem dk_199 {code : ByteArray} {pc : Nat} (a b : UInt8) (h : DkAt code pc [199, a, b]) : decode code pc = .ok (.ifnonnull (Reader.signed 16 (a.toNat * 256 + b.toNat)), 3) := dk_of ((dk_bind (dk_u1 (h 0 _ rfl))).trans ((dk_bind (dk_map (dk_u2 (h 1 _ rfl) (h 2 _ rfl)))).trans rfl))

/-! java/lang/Throwable -/
set_option maxRecDepth 100000
def RJ0 : String := "java/lang/Throwable"
def TJ0 : u_T := fun k => match k with
  | 0 => ("java/lang/Throwable", "cause", "Ljava/lang/Throwable;", false)
  | 1 => ("java/lang/Throwable", "stackTrace", "[Ljava/lang/StackTraceElement;", false)
  | 2 => ("java/lang/Throwable", "suppressedExceptions", "Ljava/util/List;", false)
  | 3 => ("java/lang/Throwable", "detailMessage", "Ljava/lang/String;", false)
  | _ => ("java/lang/Throwable", "backtrace", "Ljava/lang/Object;", false)
def tyJ0 : Nat → FieldType := fun k => match k with
  | 0 => .object "java/lang/Throwable"
  | 1 => .array (.object "java/lang/StackTraceElement")
  | 2 => .object "java/util/List"
  | 3 => .object "java/lang/String"
  | _ => .object "java/lang/Object"
abbrev wsJ00 : List Cond := u_ws RJ0 TJ0 5
theorem nmJ0 : ∀ a, a < 5 → ∀ b, b < 5 → a ≠ b → (TJ0 a).2.1 ≠ (TJ0 b).2.1 := by decide +kernel
theorem tyJ0_ok : ∀ k, k < 5 → parseFieldDescriptor (TJ0 k).2.2.1 = some (tyJ0 k) := by decide +kernel
abbrev cJ0_init : ByteArray := prog_33_method_2_code
def yJ0_init : MethodName := ⟨RJ0, "<init>", "(Ljava/lang/String;)V"⟩
def dkwJ0_init_1 : List UInt8 := [182, 0, 27, 87, 42, 43, 181, 0, 31, 177]
abbrev dktJ0_init_1 : List UInt8 := dkwJ0_init_1 ++ []
def dkwJ0_init_0 : List UInt8 := [42, 183, 0, 1, 42, 42, 181, 0, 7, 42, 178, 0, 13, 181, 0, 17, 42, 178, 0, 20, 181, 0, 24, 42]
abbrev dktJ0_init_0 : List UInt8 := dkwJ0_init_0 ++ dktJ0_init_1
theorem dksJ0_init_0 : cJ0_init.data.toList.drop 0 = dktJ0_init_0 := by decide +kernel
theorem dksJ0_init_1 : cJ0_init.data.toList.drop 24 = dktJ0_init_1 := dk_seg dksJ0_init_0 24 rfl rfl
theorem dJ0_init_0 : decode cJ0_init 0 = .ok (.aload_n 0, 1) := dk_42 (dk_at dksJ0_init_0 0 rfl rfl)
theorem dJ0_init_1 : decode cJ0_init 1 = .ok (.invokespecial 1, 3) := dk_183 0 1 (dk_at dksJ0_init_0 1 rfl rfl)
theorem dJ0_init_4 : decode cJ0_init 4 = .ok (.aload_n 0, 1) := dk_42 (dk_at dksJ0_init_0 4 rfl rfl)
theorem dJ0_init_5 : decode cJ0_init 5 = .ok (.aload_n 0, 1) := dk_42 (dk_at dksJ0_init_0 5 rfl rfl)
theorem dJ0_init_6 : decode cJ0_init 6 = .ok (.putfield 7, 3) := dk_181 0 7 (dk_at dksJ0_init_0 6 rfl rfl)
theorem dJ0_init_9 : decode cJ0_init 9 = .ok (.aload_n 0, 1) := dk_42 (dk_at dksJ0_init_0 9 rfl rfl)
theorem dJ0_init_10 : decode cJ0_init 10 = .ok (.getstatic 13, 3) := dk_178 0 13 (dk_at dksJ0_init_0 10 rfl rfl)
theorem dJ0_init_13 : decode cJ0_init 13 = .ok (.putfield 17, 3) := dk_181 0 17 (dk_at dksJ0_init_0 13 rfl rfl)
theorem dJ0_init_16 : decode cJ0_init 16 = .ok (.aload_n 0, 1) := dk_42 (dk_at dksJ0_init_0 16 rfl rfl)
theorem dJ0_init_17 : decode cJ0_init 17 = .ok (.getstatic 20, 3) := dk_178 0 20 (dk_at dksJ0_init_0 17 rfl rfl)
theorem dJ0_init_20 : decode cJ0_init 20 = .ok (.putfield 24, 3) := dk_181 0 24 (dk_at dksJ0_init_0 20 rfl rfl)
theorem dJ0_init_23 : decode cJ0_init 23 = .ok (.aload_n 0, 1) := dk_42 (dk_at dksJ0_init_0 23 rfl rfl)
theorem dJ0_init_24 : decode cJ0_init 24 = .ok (.invokevirtual 27, 3) := dk_182 0 27 (dk_at dksJ0_init_1 0 rfl rfl)
theorem dJ0_init_27 : decode cJ0_init 27 = .ok (.pop, 1) := dk_87 (dk_at dksJ0_init_1 3 rfl rfl)
theorem dJ0_init_28 : decode cJ0_init 28 = .ok (.aload_n 0, 1) := dk_42 (dk_at dksJ0_init_1 4 rfl rfl)
theorem dJ0_init_29 : decode cJ0_init 29 = .ok (.aload_n 1, 1) := dk_43 (dk_at dksJ0_init_1 5 rfl rfl)
theorem dJ0_init_30 : decode cJ0_init 30 = .ok (.putfield 31, 3) := dk_181 0 31 (dk_at dksJ0_init_1 6 rfl rfl)
theorem dJ0_init_33 : decode cJ0_init 33 = .ok (.return_, 1) := dk_177 (dk_at dksJ0_init_1 9 rfl rfl)
abbrev cJ0_init_2 : ByteArray := prog_33_method_1_code
def yJ0_init_2 : MethodName := ⟨RJ0, "<init>", "()V"⟩
def dkwJ0_init_2_1 : List UInt8 := [182, 0, 27, 87, 177]
abbrev dktJ0_init_2_1 : List UInt8 := dkwJ0_init_2_1 ++ []
def dkwJ0_init_2_0 : List UInt8 := [42, 183, 0, 1, 42, 42, 181, 0, 7, 42, 178, 0, 13, 181, 0, 17, 42, 178, 0, 20, 181, 0, 24, 42]
abbrev dktJ0_init_2_0 : List UInt8 := dkwJ0_init_2_0 ++ dktJ0_init_2_1
theorem dksJ0_init_2_0 : cJ0_init_2.data.toList.drop 0 = dktJ0_init_2_0 := by decide +kernel
theorem dksJ0_init_2_1 : cJ0_init_2.data.toList.drop 24 = dktJ0_init_2_1 := dk_seg dksJ0_init_2_0 24 rfl rfl
theorem dJ0_init_2_0 : decode cJ0_init_2 0 = .ok (.aload_n 0, 1) := dk_42 (dk_at dksJ0_init_2_0 0 rfl rfl)
theorem dJ0_init_2_1 : decode cJ0_init_2 1 = .ok (.invokespecial 1, 3) := dk_183 0 1 (dk_at dksJ0_init_2_0 1 rfl rfl)
theorem dJ0_init_2_4 : decode cJ0_init_2 4 = .ok (.aload_n 0, 1) := dk_42 (dk_at dksJ0_init_2_0 4 rfl rfl)
theorem dJ0_init_2_5 : decode cJ0_init_2 5 = .ok (.aload_n 0, 1) := dk_42 (dk_at dksJ0_init_2_0 5 rfl rfl)
theorem dJ0_init_2_6 : decode cJ0_init_2 6 = .ok (.putfield 7, 3) := dk_181 0 7 (dk_at dksJ0_init_2_0 6 rfl rfl)
theorem dJ0_init_2_9 : decode cJ0_init_2 9 = .ok (.aload_n 0, 1) := dk_42 (dk_at dksJ0_init_2_0 9 rfl rfl)
theorem dJ0_init_2_10 : decode cJ0_init_2 10 = .ok (.getstatic 13, 3) := dk_178 0 13 (dk_at dksJ0_init_2_0 10 rfl rfl)
theorem dJ0_init_2_13 : decode cJ0_init_2 13 = .ok (.putfield 17, 3) := dk_181 0 17 (dk_at dksJ0_init_2_0 13 rfl rfl)
theorem dJ0_init_2_16 : decode cJ0_init_2 16 = .ok (.aload_n 0, 1) := dk_42 (dk_at dksJ0_init_2_0 16 rfl rfl)
theorem dJ0_init_2_17 : decode cJ0_init_2 17 = .ok (.getstatic 20, 3) := dk_178 0 20 (dk_at dksJ0_init_2_0 17 rfl rfl)
theorem dJ0_init_2_20 : decode cJ0_init_2 20 = .ok (.putfield 24, 3) := dk_181 0 24 (dk_at dksJ0_init_2_0 20 rfl rfl)
theorem dJ0_init_2_23 : decode cJ0_init_2 23 = .ok (.aload_n 0, 1) := dk_42 (dk_at dksJ0_init_2_0 23 rfl rfl)
theorem dJ0_init_2_24 : decode cJ0_init_2 24 = .ok (.invokevirtual 27, 3) := dk_182 0 27 (dk_at dksJ0_init_2_1 0 rfl rfl)
theorem dJ0_init_2_27 : decode cJ0_init_2 27 = .ok (.pop, 1) := dk_87 (dk_at dksJ0_init_2_1 3 rfl rfl)
theorem dJ0_init_2_28 : decode cJ0_init_2 28 = .ok (.return_, 1) := dk_177 (dk_at dksJ0_init_2_1 4 rfl rfl)
abbrev cJ0_init_3 : ByteArray := prog_33_method_5_code
def yJ0_init_3 : MethodName := ⟨RJ0, "<init>", "(Ljava/lang/String;Ljava/lang/Throwable;ZZ)V"⟩
def dkwJ0_init_3_2 : List UInt8 := [44, 181, 0, 7, 29, 154, 0, 8, 42, 1, 181, 0, 24, 177]
abbrev dktJ0_init_3_2 : List UInt8 := dkwJ0_init_3_2 ++ []
def dkwJ0_init_3_1 : List UInt8 := [21, 4, 153, 0, 11, 42, 182, 0, 27, 87, 167, 0, 8, 42, 1, 181, 0, 17, 42, 43, 181, 0, 31, 42]
abbrev dktJ0_init_3_1 : List UInt8 := dkwJ0_init_3_1 ++ dktJ0_init_3_2
def dkwJ0_init_3_0 : List UInt8 := [42, 183, 0, 1, 42, 42, 181, 0, 7, 42, 178, 0, 13, 181, 0, 17, 42, 178, 0, 20, 181, 0, 24]
abbrev dktJ0_init_3_0 : List UInt8 := dkwJ0_init_3_0 ++ dktJ0_init_3_1
theorem dksJ0_init_3_0 : cJ0_init_3.data.toList.drop 0 = dktJ0_init_3_0 := by decide +kernel
theorem dksJ0_init_3_1 : cJ0_init_3.data.toList.drop 23 = dktJ0_init_3_1 := dk_seg dksJ0_init_3_0 23 rfl rfl
theorem dksJ0_init_3_2 : cJ0_init_3.data.toList.drop 47 = dktJ0_init_3_2 := dk_seg dksJ0_init_3_1 24 rfl rfl
theorem dJ0_init_3_0 : decode cJ0_init_3 0 = .ok (.aload_n 0, 1) := dk_42 (dk_at dksJ0_init_3_0 0 rfl rfl)
theorem dJ0_init_3_1 : decode cJ0_init_3 1 = .ok (.invokespecial 1, 3) := dk_183 0 1 (dk_at dksJ0_init_3_0 1 rfl rfl)
theorem dJ0_init_3_4 : decode cJ0_init_3 4 = .ok (.aload_n 0, 1) := dk_42 (dk_at dksJ0_init_3_0 4 rfl rfl)
theorem dJ0_init_3_5 : decode cJ0_init_3 5 = .ok (.aload_n 0, 1) := dk_42 (dk_at dksJ0_init_3_0 5 rfl rfl)
theorem dJ0_init_3_6 : decode cJ0_init_3 6 = .ok (.putfield 7, 3) := dk_181 0 7 (dk_at dksJ0_init_3_0 6 rfl rfl)
theorem dJ0_init_3_9 : decode cJ0_init_3 9 = .ok (.aload_n 0, 1) := dk_42 (dk_at dksJ0_init_3_0 9 rfl rfl)
theorem dJ0_init_3_10 : decode cJ0_init_3 10 = .ok (.getstatic 13, 3) := dk_178 0 13 (dk_at dksJ0_init_3_0 10 rfl rfl)
theorem dJ0_init_3_13 : decode cJ0_init_3 13 = .ok (.putfield 17, 3) := dk_181 0 17 (dk_at dksJ0_init_3_0 13 rfl rfl)
theorem dJ0_init_3_16 : decode cJ0_init_3 16 = .ok (.aload_n 0, 1) := dk_42 (dk_at dksJ0_init_3_0 16 rfl rfl)
theorem dJ0_init_3_17 : decode cJ0_init_3 17 = .ok (.getstatic 20, 3) := dk_178 0 20 (dk_at dksJ0_init_3_0 17 rfl rfl)
theorem dJ0_init_3_20 : decode cJ0_init_3 20 = .ok (.putfield 24, 3) := dk_181 0 24 (dk_at dksJ0_init_3_0 20 rfl rfl)
theorem dJ0_init_3_23 : decode cJ0_init_3 23 = .ok (.iload 4, 2) := dk_21 4 (dk_at dksJ0_init_3_1 0 rfl rfl)
theorem dJ0_init_3_25 : decode cJ0_init_3 25 = .ok (.ifCond .eq 11, 3) := dk_153 0 11 (dk_at dksJ0_init_3_1 2 rfl rfl)
theorem dJ0_init_3_28 : decode cJ0_init_3 28 = .ok (.aload_n 0, 1) := dk_42 (dk_at dksJ0_init_3_1 5 rfl rfl)
theorem dJ0_init_3_29 : decode cJ0_init_3 29 = .ok (.invokevirtual 27, 3) := dk_182 0 27 (dk_at dksJ0_init_3_1 6 rfl rfl)
theorem dJ0_init_3_32 : decode cJ0_init_3 32 = .ok (.pop, 1) := dk_87 (dk_at dksJ0_init_3_1 9 rfl rfl)
theorem dJ0_init_3_33 : decode cJ0_init_3 33 = .ok (.goto 8, 3) := dk_167 0 8 (dk_at dksJ0_init_3_1 10 rfl rfl)
theorem dJ0_init_3_36 : decode cJ0_init_3 36 = .ok (.aload_n 0, 1) := dk_42 (dk_at dksJ0_init_3_1 13 rfl rfl)
theorem dJ0_init_3_37 : decode cJ0_init_3 37 = .ok (.aconst_null, 1) := dk_1 (dk_at dksJ0_init_3_1 14 rfl rfl)
theorem dJ0_init_3_38 : decode cJ0_init_3 38 = .ok (.putfield 17, 3) := dk_181 0 17 (dk_at dksJ0_init_3_1 15 rfl rfl)
theorem dJ0_init_3_41 : decode cJ0_init_3 41 = .ok (.aload_n 0, 1) := dk_42 (dk_at dksJ0_init_3_1 18 rfl rfl)
theorem dJ0_init_3_42 : decode cJ0_init_3 42 = .ok (.aload_n 1, 1) := dk_43 (dk_at dksJ0_init_3_1 19 rfl rfl)
theorem dJ0_init_3_43 : decode cJ0_init_3 43 = .ok (.putfield 31, 3) := dk_181 0 31 (dk_at dksJ0_init_3_1 20 rfl rfl)
theorem dJ0_init_3_46 : decode cJ0_init_3 46 = .ok (.aload_n 0, 1) := dk_42 (dk_at dksJ0_init_3_1 23 rfl rfl)
theorem dJ0_init_3_47 : decode cJ0_init_3 47 = .ok (.aload_n 2, 1) := dk_44 (dk_at dksJ0_init_3_2 0 rfl rfl)
theorem dJ0_init_3_48 : decode cJ0_init_3 48 = .ok (.putfield 7, 3) := dk_181 0 7 (dk_at dksJ0_init_3_2 1 rfl rfl)
theorem dJ0_init_3_51 : decode cJ0_init_3 51 = .ok (.iload_n 3, 1) := dk_29 (dk_at dksJ0_init_3_2 4 rfl rfl)
theorem dJ0_init_3_52 : decode cJ0_init_3 52 = .ok (.ifCond .ne 8, 3) := dk_154 0 8 (dk_at dksJ0_init_3_2 5 rfl rfl)
theorem dJ0_init_3_55 : decode cJ0_init_3 55 = .ok (.aload_n 0, 1) := dk_42 (dk_at dksJ0_init_3_2 8 rfl rfl)
theorem dJ0_init_3_56 : decode cJ0_init_3 56 = .ok (.aconst_null, 1) := dk_1 (dk_at dksJ0_init_3_2 9 rfl rfl)
theorem dJ0_init_3_57 : decode cJ0_init_3 57 = .ok (.putfield 24, 3) := dk_181 0 24 (dk_at dksJ0_init_3_2 10 rfl rfl)
theorem dJ0_init_3_60 : decode cJ0_init_3 60 = .ok (.return_, 1) := dk_177 (dk_at dksJ0_init_3_2 13 rfl rfl)
theorem q162 : (Jvm.Cond.initialized "java/lang/Throwable") ∈ lw_all := lw_g (lw_at lw_m1 6 rfl) rfl
theorem q618 : (Jvm.Cond.instanceMethod ({ cls := "java/lang/Throwable", name := "<init>", desc := "(Ljava/lang/String;)V" } : Jvm.MethodName)) ∈ lw_all := lw_g (lw_at lw_m2 222 rfl) rfl
theorem q619 : (Jvm.Cond.code ({ cls := "java/lang/Throwable", name := "<init>", desc := "(Ljava/lang/String;)V" } : Jvm.MethodName) prog_33_method_2_code (2 : Nat) (Option.none : Option Jvm.ClassFile.FieldType)) ∈ lw_all := lw_g (lw_at lw_m2 223 rfl) rfl
theorem q620 : (Jvm.Cond.methodLink "java/lang/Throwable" (1 : Nat) ({ cls := "java/lang/Object", name := "<init>", desc := "()V" } : Jvm.MethodName)) ∈ lw_all := lw_g (lw_at lw_m2 224 rfl) rfl
theorem q621 : (Jvm.Cond.fieldLink "java/lang/Throwable" (13 : Nat) "java/lang/Throwable" "UNASSIGNED_STACK" "[Ljava/lang/StackTraceElement;") ∈ lw_all := lw_g (lw_at lw_m2 225 rfl) rfl
theorem q622 : (Jvm.Cond.laysStatic "java/lang/Throwable" "UNASSIGNED_STACK" "[Ljava/lang/StackTraceElement;") ∈ lw_tbl := lw_at lw_m2 226 rfl
theorem q623 : (Jvm.Cond.fieldLink "java/lang/Throwable" (20 : Nat) "java/lang/Throwable" "SUPPRESSED_SENTINEL" "Ljava/util/List;") ∈ lw_all := lw_g (lw_at lw_m2 227 rfl) rfl
theorem q624 : (Jvm.Cond.laysStatic "java/lang/Throwable" "SUPPRESSED_SENTINEL" "Ljava/util/List;") ∈ lw_tbl := lw_at lw_m2 228 rfl
theorem q625 : (Jvm.Cond.methodLink "java/lang/Throwable" (27 : Nat) ({ cls := "java/lang/Throwable", name := "fillInStackTrace", desc := "()Ljava/lang/Throwable;" } : Jvm.MethodName)) ∈ lw_all := lw_g (lw_at lw_m2 229 rfl) rfl
theorem q626 : (Jvm.Cond.instanceMethod ({ cls := "java/lang/Throwable", name := "fillInStackTrace", desc := "()Ljava/lang/Throwable;" } : Jvm.MethodName)) ∈ lw_all := lw_g (lw_at lw_m2 230 rfl) rfl
theorem q627 : (Jvm.Cond.sameMethod "java/lang/Throwable" "java/lang/Throwable" "fillInStackTrace" "()Ljava/lang/Throwable;") ∈ lw_all := lw_g (lw_at lw_m2 231 rfl) rfl
theorem q642 : (Jvm.Cond.declares ({ cls := "java/lang/Throwable", name := "fillInStackTrace", desc := "()Ljava/lang/Throwable;" } : Jvm.MethodName)) ∈ lw_tbl := lw_at lw_m3 6 rfl
theorem q646 : (Jvm.Cond.codeSync ({ cls := "java/lang/Throwable", name := "fillInStackTrace", desc := "()Ljava/lang/Throwable;" } : Jvm.MethodName) prog_33_method_18_code (1 : Nat) (Option.some (Jvm.ClassFile.FieldType.object "java/lang/Throwable"))) ∈ lw_all := lw_g (lw_at lw_m3 10 rfl) rfl
theorem q647 : (Jvm.Cond.methodLink "java/lang/Throwable" (202 : Nat) ({ cls := "java/lang/Throwable", name := "fillInStackTrace", desc := "(I)Ljava/lang/Throwable;" } : Jvm.MethodName)) ∈ lw_all := lw_g (lw_at lw_m3 11 rfl) rfl
theorem q648 : (Jvm.Cond.privateMethod ({ cls := "java/lang/Throwable", name := "fillInStackTrace", desc := "(I)Ljava/lang/Throwable;" } : Jvm.MethodName)) ∈ lw_tbl := lw_at lw_m3 12 rfl
theorem q649 : (Jvm.Cond.instanceMethod ({ cls := "java/lang/Throwable", name := "fillInStackTrace", desc := "(I)Ljava/lang/Throwable;" } : Jvm.MethodName)) ∈ lw_all := lw_g (lw_at lw_m3 13 rfl) rfl
theorem q650 : (Jvm.Cond.instantiable "java/lang/Throwable" (6 : Nat)) ∈ lw_all := lw_g (lw_at lw_m3 14 rfl) rfl
theorem q651 : (Jvm.Cond.native ({ cls := "java/lang/Throwable", name := "fillInStackTrace", desc := "(I)Ljava/lang/Throwable;" } : Jvm.MethodName)) ∈ lw_all := lw_g (lw_at lw_m3 15 rfl) rfl
theorem q652 : (Jvm.Cond.fieldLink "java/lang/Throwable" (198 : Nat) "java/lang/Throwable" "backtrace" "Ljava/lang/Object;") ∈ lw_all := lw_g (lw_at lw_m3 16 rfl) rfl
theorem q653 : (Jvm.Cond.fieldLink "java/lang/Throwable" (31 : Nat) "java/lang/Throwable" "detailMessage" "Ljava/lang/String;") ∈ lw_all := lw_g (lw_at lw_m3 17 rfl) rfl
theorem q654 : (Jvm.Cond.fieldLink "java/lang/Throwable" (7 : Nat) "java/lang/Throwable" "cause" "Ljava/lang/Throwable;") ∈ lw_all := lw_g (lw_at lw_m3 18 rfl) rfl
theorem q655 : (Jvm.Cond.fieldLink "java/lang/Throwable" (17 : Nat) "java/lang/Throwable" "stackTrace" "[Ljava/lang/StackTraceElement;") ∈ lw_all := lw_g (lw_at lw_m3 19 rfl) rfl
theorem q656 : (Jvm.Cond.fieldLink "java/lang/Throwable" (24 : Nat) "java/lang/Throwable" "suppressedExceptions" "Ljava/util/List;") ∈ lw_all := lw_g (lw_at lw_m3 20 rfl) rfl
theorem q658 : (Jvm.Cond.soleField "java/lang/Throwable" "backtrace") ∈ lw_all := lw_g (lw_at lw_m3 22 rfl) rfl
theorem q660 : (Jvm.Cond.soleField "java/lang/Throwable" "detailMessage") ∈ lw_all := lw_g (lw_at lw_m3 24 rfl) rfl
theorem q662 : (Jvm.Cond.soleField "java/lang/Throwable" "cause") ∈ lw_all := lw_g (lw_at lw_m3 26 rfl) rfl
theorem q664 : (Jvm.Cond.soleField "java/lang/Throwable" "stackTrace") ∈ lw_all := lw_g (lw_at lw_m3 28 rfl) rfl
theorem q666 : (Jvm.Cond.soleField "java/lang/Throwable" "depth") ∈ lw_all := lw_g (lw_at lw_m3 30 rfl) rfl
theorem q668 : (Jvm.Cond.soleField "java/lang/Throwable" "suppressedExceptions") ∈ lw_all := lw_g (lw_at lw_m3 32 rfl) rfl
theorem q675 : (Jvm.Cond.declares ({ cls := "java/lang/Throwable", name := "<init>", desc := "()V" } : Jvm.MethodName)) ∈ lw_tbl := lw_at lw_m3 39 rfl
theorem q676 : (Jvm.Cond.declares ({ cls := "java/lang/Throwable", name := "<init>", desc := "(Ljava/lang/String;)V" } : Jvm.MethodName)) ∈ lw_tbl := lw_at lw_m3 40 rfl
theorem q678 : (Jvm.Cond.lays "java/lang/Throwable" "java/lang/Throwable" "cause" "Ljava/lang/Throwable;") ∈ lw_all := lw_g (lw_at lw_m3 42 rfl) rfl
theorem q679 : (Jvm.Cond.lays "java/lang/Throwable" "java/lang/Throwable" "stackTrace" "[Ljava/lang/StackTraceElement;") ∈ lw_all := lw_g (lw_at lw_m3 43 rfl) rfl
theorem q680 : (Jvm.Cond.lays "java/lang/Throwable" "java/lang/Throwable" "suppressedExceptions" "Ljava/util/List;") ∈ lw_all := lw_g (lw_at lw_m3 44 rfl) rfl
theorem q681 : (Jvm.Cond.lays "java/lang/Throwable" "java/lang/Throwable" "detailMessage" "Ljava/lang/String;") ∈ lw_all := lw_g (lw_at lw_m3 45 rfl) rfl
theorem q682 : (Jvm.Cond.lays "java/lang/Throwable" "java/lang/Throwable" "backtrace" "Ljava/lang/Object;") ∈ lw_all := lw_g (lw_at lw_m3 46 rfl) rfl
theorem q683 : (Jvm.Cond.fieldLink "java/lang/Throwable" (198 : Nat) "java/lang/Throwable" "backtrace" "Ljava/lang/Object;") ∈ lw_all := lw_g (lw_at lw_m3 47 rfl) rfl
theorem q684 : (Jvm.Cond.superclass "java/lang/Throwable" "java/lang/Object") ∈ lw_all := lw_g (lw_at lw_m3 48 rfl) rfl
theorem q685 : (Jvm.Cond.instanceMethod ({ cls := "java/lang/Throwable", name := "<init>", desc := "()V" } : Jvm.MethodName)) ∈ lw_all := lw_g (lw_at lw_m3 49 rfl) rfl
theorem q686 : (Jvm.Cond.code ({ cls := "java/lang/Throwable", name := "<init>", desc := "()V" } : Jvm.MethodName) prog_33_method_1_code (1 : Nat) (Option.none : Option Jvm.ClassFile.FieldType)) ∈ lw_all := lw_g (lw_at lw_m3 50 rfl) rfl
theorem q1112 : (Jvm.Cond.instanceMethod ({ cls := "java/lang/Throwable", name := "<init>", desc := "(Ljava/lang/String;Ljava/lang/Throwable;ZZ)V" } : Jvm.MethodName)) ∈ lw_all := lw_g (lw_at lw_m4 236 rfl) rfl
theorem q1113 : (Jvm.Cond.code ({ cls := "java/lang/Throwable", name := "<init>", desc := "(Ljava/lang/String;Ljava/lang/Throwable;ZZ)V" } : Jvm.MethodName) prog_33_method_5_code (5 : Nat) (Option.none : Option Jvm.ClassFile.FieldType)) ∈ lw_all := lw_g (lw_at lw_m4 237 rfl) rfl
theorem q2780 : (Jvm.Cond.sameMethod "java/lang/Throwable" "java/lang/Throwable" "fillInStackTrace" "(I)Ljava/lang/Throwable;") ∈ lw_all := lw_g (lw_at lw_m11 224 rfl) rfl
theorem in_J0 : ∀ w ∈ wsJ00, w ∈ lw_all := lw_in wsJ00 [678, 679, 680, 681, 682] (by decide +kernel) (by decide +kernel)

/-! java/lang/Exception -/
set_option maxRecDepth 100000
def RJ1 : String := "java/lang/Exception"
abbrev cJ1_init : ByteArray := prog_21_method_2_code
def yJ1_init : MethodName := ⟨RJ1, "<init>", "(Ljava/lang/String;)V"⟩
def dkwJ1_init_0 : List UInt8 := [42, 43, 183, 0, 7, 177]
abbrev dktJ1_init_0 : List UInt8 := dkwJ1_init_0 ++ []
theorem dksJ1_init_0 : cJ1_init.data.toList.drop 0 = dktJ1_init_0 := by decide +kernel
theorem dJ1_init_0 : decode cJ1_init 0 = .ok (.aload_n 0, 1) := dk_42 (dk_at dksJ1_init_0 0 rfl rfl)
theorem dJ1_init_1 : decode cJ1_init 1 = .ok (.aload_n 1, 1) := dk_43 (dk_at dksJ1_init_0 1 rfl rfl)
theorem dJ1_init_2 : decode cJ1_init 2 = .ok (.invokespecial 7, 3) := dk_183 0 7 (dk_at dksJ1_init_0 2 rfl rfl)
theorem dJ1_init_5 : decode cJ1_init 5 = .ok (.return_, 1) := dk_177 (dk_at dksJ1_init_0 5 rfl rfl)
abbrev cJ1_init_2 : ByteArray := prog_21_method_1_code
def yJ1_init_2 : MethodName := ⟨RJ1, "<init>", "()V"⟩
theorem dJ1_init_2_0 : decode cJ1_init_2 0 = .ok (.aload_n 0, 1) := by decide +kernel
theorem dJ1_init_2_1 : decode cJ1_init_2 1 = .ok (.invokespecial 1, 3) := by decide +kernel
theorem dJ1_init_2_4 : decode cJ1_init_2 4 = .ok (.return_, 1) := by decide +kernel
abbrev cJ1_init_3 : ByteArray := prog_21_method_5_code
def yJ1_init_3 : MethodName := ⟨RJ1, "<init>", "(Ljava/lang/String;Ljava/lang/Throwable;ZZ)V"⟩
def dkwJ1_init_3_0 : List UInt8 := [42, 43, 44, 29, 21, 4, 183, 0, 16, 177]
abbrev dktJ1_init_3_0 : List UInt8 := dkwJ1_init_3_0 ++ []
theorem dksJ1_init_3_0 : cJ1_init_3.data.toList.drop 0 = dktJ1_init_3_0 := by decide +kernel
theorem dJ1_init_3_0 : decode cJ1_init_3 0 = .ok (.aload_n 0, 1) := dk_42 (dk_at dksJ1_init_3_0 0 rfl rfl)
theorem dJ1_init_3_1 : decode cJ1_init_3 1 = .ok (.aload_n 1, 1) := dk_43 (dk_at dksJ1_init_3_0 1 rfl rfl)
theorem dJ1_init_3_2 : decode cJ1_init_3 2 = .ok (.aload_n 2, 1) := dk_44 (dk_at dksJ1_init_3_0 2 rfl rfl)
theorem dJ1_init_3_3 : decode cJ1_init_3 3 = .ok (.iload_n 3, 1) := dk_29 (dk_at dksJ1_init_3_0 3 rfl rfl)
theorem dJ1_init_3_4 : decode cJ1_init_3 4 = .ok (.iload 4, 2) := dk_21 4 (dk_at dksJ1_init_3_0 4 rfl rfl)
theorem dJ1_init_3_6 : decode cJ1_init_3 6 = .ok (.invokespecial 16, 3) := dk_183 0 16 (dk_at dksJ1_init_3_0 6 rfl rfl)
theorem dJ1_init_3_9 : decode cJ1_init_3 9 = .ok (.return_, 1) := dk_177 (dk_at dksJ1_init_3_0 9 rfl rfl)
theorem q163 : (Jvm.Cond.initialized "java/lang/Exception") ∈ lw_all := lw_g (lw_at lw_m1 7 rfl) rfl
theorem q615 : (Jvm.Cond.instanceMethod ({ cls := "java/lang/Exception", name := "<init>", desc := "(Ljava/lang/String;)V" } : Jvm.MethodName)) ∈ lw_all := lw_g (lw_at lw_m2 219 rfl) rfl
theorem q616 : (Jvm.Cond.code ({ cls := "java/lang/Exception", name := "<init>", desc := "(Ljava/lang/String;)V" } : Jvm.MethodName) prog_21_method_2_code (2 : Nat) (Option.none : Option Jvm.ClassFile.FieldType)) ∈ lw_all := lw_g (lw_at lw_m2 220 rfl) rfl
theorem q617 : (Jvm.Cond.methodLink "java/lang/Exception" (7 : Nat) ({ cls := "java/lang/Throwable", name := "<init>", desc := "(Ljava/lang/String;)V" } : Jvm.MethodName)) ∈ lw_all := lw_g (lw_at lw_m2 221 rfl) rfl
theorem q645 : (Jvm.Cond.superclass "java/lang/Exception" "java/lang/Throwable") ∈ lw_all := lw_g (lw_at lw_m3 9 rfl) rfl
theorem q673 : (Jvm.Cond.declares ({ cls := "java/lang/Exception", name := "<init>", desc := "()V" } : Jvm.MethodName)) ∈ lw_tbl := lw_at lw_m3 37 rfl
theorem q674 : (Jvm.Cond.declares ({ cls := "java/lang/Exception", name := "<init>", desc := "(Ljava/lang/String;)V" } : Jvm.MethodName)) ∈ lw_tbl := lw_at lw_m3 38 rfl
theorem q711 : (Jvm.Cond.instanceMethod ({ cls := "java/lang/Exception", name := "<init>", desc := "()V" } : Jvm.MethodName)) ∈ lw_all := lw_g (lw_at lw_m3 75 rfl) rfl
theorem q712 : (Jvm.Cond.code ({ cls := "java/lang/Exception", name := "<init>", desc := "()V" } : Jvm.MethodName) prog_21_method_1_code (1 : Nat) (Option.none : Option Jvm.ClassFile.FieldType)) ∈ lw_all := lw_g (lw_at lw_m3 76 rfl) rfl
theorem q713 : (Jvm.Cond.methodLink "java/lang/Exception" (1 : Nat) ({ cls := "java/lang/Throwable", name := "<init>", desc := "()V" } : Jvm.MethodName)) ∈ lw_all := lw_g (lw_at lw_m3 77 rfl) rfl
theorem q1109 : (Jvm.Cond.instanceMethod ({ cls := "java/lang/Exception", name := "<init>", desc := "(Ljava/lang/String;Ljava/lang/Throwable;ZZ)V" } : Jvm.MethodName)) ∈ lw_all := lw_g (lw_at lw_m4 233 rfl) rfl
theorem q1110 : (Jvm.Cond.code ({ cls := "java/lang/Exception", name := "<init>", desc := "(Ljava/lang/String;Ljava/lang/Throwable;ZZ)V" } : Jvm.MethodName) prog_21_method_5_code (5 : Nat) (Option.none : Option Jvm.ClassFile.FieldType)) ∈ lw_all := lw_g (lw_at lw_m4 234 rfl) rfl
theorem q1111 : (Jvm.Cond.methodLink "java/lang/Exception" (16 : Nat) ({ cls := "java/lang/Throwable", name := "<init>", desc := "(Ljava/lang/String;Ljava/lang/Throwable;ZZ)V" } : Jvm.MethodName)) ∈ lw_all := lw_g (lw_at lw_m4 235 rfl) rfl

/-! java/lang/RuntimeException -/
set_option maxRecDepth 100000
def RJ2 : String := "java/lang/RuntimeException"
abbrev cJ2_init : ByteArray := prog_28_method_2_code
def yJ2_init : MethodName := ⟨RJ2, "<init>", "(Ljava/lang/String;)V"⟩
def dkwJ2_init_0 : List UInt8 := [42, 43, 183, 0, 7, 177]
abbrev dktJ2_init_0 : List UInt8 := dkwJ2_init_0 ++ []
theorem dksJ2_init_0 : cJ2_init.data.toList.drop 0 = dktJ2_init_0 := by decide +kernel
theorem dJ2_init_0 : decode cJ2_init 0 = .ok (.aload_n 0, 1) := dk_42 (dk_at dksJ2_init_0 0 rfl rfl)
theorem dJ2_init_1 : decode cJ2_init 1 = .ok (.aload_n 1, 1) := dk_43 (dk_at dksJ2_init_0 1 rfl rfl)
theorem dJ2_init_2 : decode cJ2_init 2 = .ok (.invokespecial 7, 3) := dk_183 0 7 (dk_at dksJ2_init_0 2 rfl rfl)
theorem dJ2_init_5 : decode cJ2_init 5 = .ok (.return_, 1) := dk_177 (dk_at dksJ2_init_0 5 rfl rfl)
abbrev cJ2_init_2 : ByteArray := prog_28_method_1_code
def yJ2_init_2 : MethodName := ⟨RJ2, "<init>", "()V"⟩
theorem dJ2_init_2_0 : decode cJ2_init_2 0 = .ok (.aload_n 0, 1) := by decide +kernel
theorem dJ2_init_2_1 : decode cJ2_init_2 1 = .ok (.invokespecial 1, 3) := by decide +kernel
theorem dJ2_init_2_4 : decode cJ2_init_2 4 = .ok (.return_, 1) := by decide +kernel
theorem q164 : (Jvm.Cond.initialized "java/lang/RuntimeException") ∈ lw_all := lw_g (lw_at lw_m1 8 rfl) rfl
theorem q612 : (Jvm.Cond.instanceMethod ({ cls := "java/lang/RuntimeException", name := "<init>", desc := "(Ljava/lang/String;)V" } : Jvm.MethodName)) ∈ lw_all := lw_g (lw_at lw_m2 216 rfl) rfl
theorem q613 : (Jvm.Cond.code ({ cls := "java/lang/RuntimeException", name := "<init>", desc := "(Ljava/lang/String;)V" } : Jvm.MethodName) prog_28_method_2_code (2 : Nat) (Option.none : Option Jvm.ClassFile.FieldType)) ∈ lw_all := lw_g (lw_at lw_m2 217 rfl) rfl
theorem q614 : (Jvm.Cond.methodLink "java/lang/RuntimeException" (7 : Nat) ({ cls := "java/lang/Exception", name := "<init>", desc := "(Ljava/lang/String;)V" } : Jvm.MethodName)) ∈ lw_all := lw_g (lw_at lw_m2 218 rfl) rfl
theorem q641 : (Jvm.Cond.sameMethod "java/lang/RuntimeException" "java/lang/Throwable" "fillInStackTrace" "()Ljava/lang/Throwable;") ∈ lw_all := lw_g (lw_at lw_m3 5 rfl) rfl
theorem q644 : (Jvm.Cond.superclass "java/lang/RuntimeException" "java/lang/Exception") ∈ lw_all := lw_g (lw_at lw_m3 8 rfl) rfl
theorem q671 : (Jvm.Cond.declares ({ cls := "java/lang/RuntimeException", name := "<init>", desc := "()V" } : Jvm.MethodName)) ∈ lw_tbl := lw_at lw_m3 35 rfl
theorem q672 : (Jvm.Cond.declares ({ cls := "java/lang/RuntimeException", name := "<init>", desc := "(Ljava/lang/String;)V" } : Jvm.MethodName)) ∈ lw_tbl := lw_at lw_m3 36 rfl
theorem q708 : (Jvm.Cond.instanceMethod ({ cls := "java/lang/RuntimeException", name := "<init>", desc := "()V" } : Jvm.MethodName)) ∈ lw_all := lw_g (lw_at lw_m3 72 rfl) rfl
theorem q709 : (Jvm.Cond.code ({ cls := "java/lang/RuntimeException", name := "<init>", desc := "()V" } : Jvm.MethodName) prog_28_method_1_code (1 : Nat) (Option.none : Option Jvm.ClassFile.FieldType)) ∈ lw_all := lw_g (lw_at lw_m3 73 rfl) rfl
theorem q710 : (Jvm.Cond.methodLink "java/lang/RuntimeException" (1 : Nat) ({ cls := "java/lang/Exception", name := "<init>", desc := "()V" } : Jvm.MethodName)) ∈ lw_all := lw_g (lw_at lw_m3 74 rfl) rfl
theorem q728 : (Jvm.Cond.castable "java/lang/RuntimeException" "java/lang/Throwable") ∈ lw_tbl := lw_at lw_m3 92 rfl

/-! java/lang/NegativeArraySizeException -/
set_option maxRecDepth 100000
def RJ3 : String := "java/lang/NegativeArraySizeException"
def TJ3 : u_T := fun k => match k with
  | 0 => ("java/lang/Throwable", "backtrace", "Ljava/lang/Object;", false)
  | 1 => ("java/lang/Throwable", "detailMessage", "Ljava/lang/String;", false)
  | 2 => ("java/lang/Throwable", "cause", "Ljava/lang/Throwable;", false)
  | 3 => ("java/lang/Throwable", "stackTrace", "[Ljava/lang/StackTraceElement;", false)
  | 4 => ("java/lang/Throwable", "depth", "I", false)
  | _ => ("java/lang/Throwable", "suppressedExceptions", "Ljava/util/List;", false)
def tyJ3 : Nat → FieldType := fun k => match k with
  | 0 => .object "java/lang/Object"
  | 1 => .object "java/lang/String"
  | 2 => .object "java/lang/Throwable"
  | 3 => .array (.object "java/lang/StackTraceElement")
  | 4 => .int
  | _ => .object "java/util/List"
abbrev wsJ30 : List Cond := u_ws RJ3 TJ3 6
theorem nmJ3 : ∀ a, a < 6 → ∀ b, b < 6 → a ≠ b → (TJ3 a).2.1 ≠ (TJ3 b).2.1 := by decide +kernel
theorem tyJ3_ok : ∀ k, k < 6 → parseFieldDescriptor (TJ3 k).2.2.1 = some (tyJ3 k) := by decide +kernel
abbrev cJ3_init : ByteArray := prog_26_method_2_code
def yJ3_init : MethodName := ⟨RJ3, "<init>", "(Ljava/lang/String;)V"⟩
def dkwJ3_init_0 : List UInt8 := [42, 43, 183, 0, 7, 177]
abbrev dktJ3_init_0 : List UInt8 := dkwJ3_init_0 ++ []
theorem dksJ3_init_0 : cJ3_init.data.toList.drop 0 = dktJ3_init_0 := by decide +kernel
theorem dJ3_init_0 : decode cJ3_init 0 = .ok (.aload_n 0, 1) := dk_42 (dk_at dksJ3_init_0 0 rfl rfl)
theorem dJ3_init_1 : decode cJ3_init 1 = .ok (.aload_n 1, 1) := dk_43 (dk_at dksJ3_init_0 1 rfl rfl)
theorem dJ3_init_2 : decode cJ3_init 2 = .ok (.invokespecial 7, 3) := dk_183 0 7 (dk_at dksJ3_init_0 2 rfl rfl)
theorem dJ3_init_5 : decode cJ3_init 5 = .ok (.return_, 1) := dk_177 (dk_at dksJ3_init_0 5 rfl rfl)
theorem q165 : (Jvm.Cond.initialized "java/lang/NegativeArraySizeException") ∈ lw_all := lw_g (lw_at lw_m1 9 rfl) rfl
theorem q608 : (Jvm.Cond.instantiable "java/lang/NegativeArraySizeException" (6 : Nat)) ∈ lw_all := lw_g (lw_at lw_m2 212 rfl) rfl
theorem q609 : (Jvm.Cond.instanceMethod ({ cls := "java/lang/NegativeArraySizeException", name := "<init>", desc := "(Ljava/lang/String;)V" } : Jvm.MethodName)) ∈ lw_all := lw_g (lw_at lw_m2 213 rfl) rfl
theorem q610 : (Jvm.Cond.code ({ cls := "java/lang/NegativeArraySizeException", name := "<init>", desc := "(Ljava/lang/String;)V" } : Jvm.MethodName) prog_26_method_2_code (2 : Nat) (Option.none : Option Jvm.ClassFile.FieldType)) ∈ lw_all := lw_g (lw_at lw_m2 214 rfl) rfl
theorem q611 : (Jvm.Cond.methodLink "java/lang/NegativeArraySizeException" (7 : Nat) ({ cls := "java/lang/RuntimeException", name := "<init>", desc := "(Ljava/lang/String;)V" } : Jvm.MethodName)) ∈ lw_all := lw_g (lw_at lw_m2 215 rfl) rfl
theorem q631 : (Jvm.Cond.selects "java/lang/NegativeArraySizeException" ({ cls := "java/lang/Throwable", name := "fillInStackTrace", desc := "()Ljava/lang/Throwable;" } : Jvm.MethodName) ({ cls := "java/lang/Throwable", name := "fillInStackTrace", desc := "()Ljava/lang/Throwable;" } : Jvm.MethodName)) ∈ lw_all := lw_g (lw_at lw_m2 235 rfl) rfl
theorem q657 : (Jvm.Cond.lays "java/lang/NegativeArraySizeException" "java/lang/Throwable" "backtrace" "Ljava/lang/Object;") ∈ lw_all := lw_g (lw_at lw_m3 21 rfl) rfl
theorem q659 : (Jvm.Cond.lays "java/lang/NegativeArraySizeException" "java/lang/Throwable" "detailMessage" "Ljava/lang/String;") ∈ lw_all := lw_g (lw_at lw_m3 23 rfl) rfl
theorem q661 : (Jvm.Cond.lays "java/lang/NegativeArraySizeException" "java/lang/Throwable" "cause" "Ljava/lang/Throwable;") ∈ lw_all := lw_g (lw_at lw_m3 25 rfl) rfl
theorem q663 : (Jvm.Cond.lays "java/lang/NegativeArraySizeException" "java/lang/Throwable" "stackTrace" "[Ljava/lang/StackTraceElement;") ∈ lw_all := lw_g (lw_at lw_m3 27 rfl) rfl
theorem q665 : (Jvm.Cond.lays "java/lang/NegativeArraySizeException" "java/lang/Throwable" "depth" "I") ∈ lw_all := lw_g (lw_at lw_m3 29 rfl) rfl
theorem q667 : (Jvm.Cond.lays "java/lang/NegativeArraySizeException" "java/lang/Throwable" "suppressedExceptions" "Ljava/util/List;") ∈ lw_all := lw_g (lw_at lw_m3 31 rfl) rfl
theorem q669 : (Jvm.Cond.superclass "java/lang/NegativeArraySizeException" "java/lang/RuntimeException") ∈ lw_all := lw_g (lw_at lw_m3 33 rfl) rfl
theorem q670 : (Jvm.Cond.castable "java/lang/NegativeArraySizeException" "java/lang/NegativeArraySizeException") ∈ lw_tbl := lw_at lw_m3 34 rfl
theorem q677 : (Jvm.Cond.selects "java/lang/NegativeArraySizeException" ({ cls := "java/lang/Throwable", name := "fillInStackTrace", desc := "(I)Ljava/lang/Throwable;" } : Jvm.MethodName) ({ cls := "java/lang/Throwable", name := "fillInStackTrace", desc := "(I)Ljava/lang/Throwable;" } : Jvm.MethodName)) ∈ lw_all := lw_g (lw_at lw_m3 41 rfl) rfl
theorem in_J3 : ∀ w ∈ wsJ30, w ∈ lw_all := lw_in wsJ30 [657, 659, 661, 663, 665, 667] (by decide +kernel) (by decide +kernel)

/-! java/lang/String -/
set_option maxRecDepth 100000
def RJ4 : String := "java/lang/String"
def TJ4 : u_T := fun k => match k with
  | 0 => ("java/lang/String", "value", "[B", true)
  | _ => ("java/lang/String", "coder", "B", true)
def tyJ4 : Nat → FieldType := fun k => match k with
  | 0 => .array .byte
  | _ => .byte
abbrev wsJ40 : List Cond := u_ws RJ4 TJ4 2
theorem nmJ4 : ∀ a, a < 2 → ∀ b, b < 2 → a ≠ b → (TJ4 a).2.1 ≠ (TJ4 b).2.1 := by decide +kernel
theorem tyJ4_ok : ∀ k, k < 2 → parseFieldDescriptor (TJ4 k).2.2.1 = some (tyJ4 k) := by decide +kernel
abbrev cJ4_length : ByteArray := prog_29_method_54_code
def yJ4_length : MethodName := ⟨RJ4, "length", "()I"⟩
def dkwJ4_length_0 : List UInt8 := [42, 180, 0, 9, 190, 42, 182, 1, 79, 122, 172]
abbrev dktJ4_length_0 : List UInt8 := dkwJ4_length_0 ++ []
theorem dksJ4_length_0 : cJ4_length.data.toList.drop 0 = dktJ4_length_0 := by decide +kernel
theorem dJ4_length_0 : decode cJ4_length 0 = .ok (.aload_n 0, 1) := dk_42 (dk_at dksJ4_length_0 0 rfl rfl)
theorem dJ4_length_1 : decode cJ4_length 1 = .ok (.getfield 9, 3) := dk_180 0 9 (dk_at dksJ4_length_0 1 rfl rfl)
theorem dJ4_length_4 : decode cJ4_length 4 = .ok (.arraylength, 1) := dk_190 (dk_at dksJ4_length_0 4 rfl rfl)
theorem dJ4_length_5 : decode cJ4_length 5 = .ok (.aload_n 0, 1) := dk_42 (dk_at dksJ4_length_0 5 rfl rfl)
theorem dJ4_length_6 : decode cJ4_length 6 = .ok (.invokevirtual 335, 3) := dk_182 1 79 (dk_at dksJ4_length_0 6 rfl rfl)
theorem dJ4_length_9 : decode cJ4_length 9 = .ok (.ishr, 1) := dk_122 (dk_at dksJ4_length_0 9 rfl rfl)
theorem dJ4_length_10 : decode cJ4_length 10 = .ok (.ireturn, 1) := dk_172 (dk_at dksJ4_length_0 10 rfl rfl)
abbrev cJ4_coder : ByteArray := prog_29_method_152_code
def yJ4_coder : MethodName := ⟨RJ4, "coder", "()B"⟩
def dkwJ4_coder_0 : List UInt8 := [178, 0, 38, 153, 0, 10, 42, 180, 0, 15, 167, 0, 4, 4, 172]
abbrev dktJ4_coder_0 : List UInt8 := dkwJ4_coder_0 ++ []
theorem dksJ4_coder_0 : cJ4_coder.data.toList.drop 0 = dktJ4_coder_0 := by decide +kernel
theorem dJ4_coder_0 : decode cJ4_coder 0 = .ok (.getstatic 38, 3) := dk_178 0 38 (dk_at dksJ4_coder_0 0 rfl rfl)
theorem dJ4_coder_3 : decode cJ4_coder 3 = .ok (.ifCond .eq 10, 3) := dk_153 0 10 (dk_at dksJ4_coder_0 3 rfl rfl)
theorem dJ4_coder_6 : decode cJ4_coder 6 = .ok (.aload_n 0, 1) := dk_42 (dk_at dksJ4_coder_0 6 rfl rfl)
theorem dJ4_coder_7 : decode cJ4_coder 7 = .ok (.getfield 15, 3) := dk_180 0 15 (dk_at dksJ4_coder_0 7 rfl rfl)
theorem dJ4_coder_10 : decode cJ4_coder 10 = .ok (.goto 4, 3) := dk_167 0 4 (dk_at dksJ4_coder_0 10 rfl rfl)
theorem dJ4_coder_13 : decode cJ4_coder 13 = .ok (.iconst 1, 1) := dk_4 (dk_at dksJ4_coder_0 13 rfl rfl)
theorem dJ4_coder_14 : decode cJ4_coder 14 = .ok (.ireturn, 1) := dk_172 (dk_at dksJ4_coder_0 14 rfl rfl)
abbrev cJ4_charAt : ByteArray := prog_29_method_56_code
def yJ4_charAt : MethodName := ⟨RJ4, "charAt", "(I)C"⟩
def dkwJ4_charAt_1 : List UInt8 := [172]
abbrev dktJ4_charAt_1 : List UInt8 := dkwJ4_charAt_1 ++ []
def dkwJ4_charAt_0 : List UInt8 := [42, 182, 1, 236, 153, 0, 12, 42, 180, 0, 9, 27, 184, 1, 239, 172, 42, 180, 0, 9, 27, 184, 1, 242]
abbrev dktJ4_charAt_0 : List UInt8 := dkwJ4_charAt_0 ++ dktJ4_charAt_1
theorem dksJ4_charAt_0 : cJ4_charAt.data.toList.drop 0 = dktJ4_charAt_0 := by decide +kernel
theorem dksJ4_charAt_1 : cJ4_charAt.data.toList.drop 24 = dktJ4_charAt_1 := dk_seg dksJ4_charAt_0 24 rfl rfl
theorem dJ4_charAt_0 : decode cJ4_charAt 0 = .ok (.aload_n 0, 1) := dk_42 (dk_at dksJ4_charAt_0 0 rfl rfl)
theorem dJ4_charAt_1 : decode cJ4_charAt 1 = .ok (.invokevirtual 492, 3) := dk_182 1 236 (dk_at dksJ4_charAt_0 1 rfl rfl)
theorem dJ4_charAt_4 : decode cJ4_charAt 4 = .ok (.ifCond .eq 12, 3) := dk_153 0 12 (dk_at dksJ4_charAt_0 4 rfl rfl)
theorem dJ4_charAt_7 : decode cJ4_charAt 7 = .ok (.aload_n 0, 1) := dk_42 (dk_at dksJ4_charAt_0 7 rfl rfl)
theorem dJ4_charAt_8 : decode cJ4_charAt 8 = .ok (.getfield 9, 3) := dk_180 0 9 (dk_at dksJ4_charAt_0 8 rfl rfl)
theorem dJ4_charAt_11 : decode cJ4_charAt 11 = .ok (.iload_n 1, 1) := dk_27 (dk_at dksJ4_charAt_0 11 rfl rfl)
theorem dJ4_charAt_12 : decode cJ4_charAt 12 = .ok (.invokestatic 495, 3) := dk_184 1 239 (dk_at dksJ4_charAt_0 12 rfl rfl)
theorem dJ4_charAt_15 : decode cJ4_charAt 15 = .ok (.ireturn, 1) := dk_172 (dk_at dksJ4_charAt_0 15 rfl rfl)
theorem dJ4_charAt_16 : decode cJ4_charAt 16 = .ok (.aload_n 0, 1) := dk_42 (dk_at dksJ4_charAt_0 16 rfl rfl)
theorem dJ4_charAt_17 : decode cJ4_charAt 17 = .ok (.getfield 9, 3) := dk_180 0 9 (dk_at dksJ4_charAt_0 17 rfl rfl)
theorem dJ4_charAt_20 : decode cJ4_charAt 20 = .ok (.iload_n 1, 1) := dk_27 (dk_at dksJ4_charAt_0 20 rfl rfl)
theorem dJ4_charAt_21 : decode cJ4_charAt 21 = .ok (.invokestatic 498, 3) := dk_184 1 242 (dk_at dksJ4_charAt_0 21 rfl rfl)
theorem dJ4_charAt_24 : decode cJ4_charAt 24 = .ok (.ireturn, 1) := dk_172 (dk_at dksJ4_charAt_1 0 rfl rfl)
abbrev cJ4_isLatin1 : ByteArray := prog_29_method_154_code
def yJ4_isLatin1 : MethodName := ⟨RJ4, "isLatin1", "()Z"⟩
def dkwJ4_isLatin1_0 : List UInt8 := [178, 0, 38, 153, 0, 14, 42, 180, 0, 15, 154, 0, 7, 4, 167, 0, 4, 3, 172]
abbrev dktJ4_isLatin1_0 : List UInt8 := dkwJ4_isLatin1_0 ++ []
theorem dksJ4_isLatin1_0 : cJ4_isLatin1.data.toList.drop 0 = dktJ4_isLatin1_0 := by decide +kernel
theorem dJ4_isLatin1_0 : decode cJ4_isLatin1 0 = .ok (.getstatic 38, 3) := dk_178 0 38 (dk_at dksJ4_isLatin1_0 0 rfl rfl)
theorem dJ4_isLatin1_3 : decode cJ4_isLatin1 3 = .ok (.ifCond .eq 14, 3) := dk_153 0 14 (dk_at dksJ4_isLatin1_0 3 rfl rfl)
theorem dJ4_isLatin1_6 : decode cJ4_isLatin1 6 = .ok (.aload_n 0, 1) := dk_42 (dk_at dksJ4_isLatin1_0 6 rfl rfl)
theorem dJ4_isLatin1_7 : decode cJ4_isLatin1 7 = .ok (.getfield 15, 3) := dk_180 0 15 (dk_at dksJ4_isLatin1_0 7 rfl rfl)
theorem dJ4_isLatin1_10 : decode cJ4_isLatin1 10 = .ok (.ifCond .ne 7, 3) := dk_154 0 7 (dk_at dksJ4_isLatin1_0 10 rfl rfl)
theorem dJ4_isLatin1_13 : decode cJ4_isLatin1 13 = .ok (.iconst 1, 1) := dk_4 (dk_at dksJ4_isLatin1_0 13 rfl rfl)
theorem dJ4_isLatin1_14 : decode cJ4_isLatin1 14 = .ok (.goto 4, 3) := dk_167 0 4 (dk_at dksJ4_isLatin1_0 14 rfl rfl)
theorem dJ4_isLatin1_17 : decode cJ4_isLatin1 17 = .ok (.iconst 0, 1) := dk_3 (dk_at dksJ4_isLatin1_0 17 rfl rfl)
theorem dJ4_isLatin1_18 : decode cJ4_isLatin1 18 = .ok (.ireturn, 1) := dk_172 (dk_at dksJ4_isLatin1_0 18 rfl rfl)
abbrev cJ4_checkIndex : ByteArray := prog_29_method_155_code
def yJ4_checkIndex : MethodName := ⟨RJ4, "checkIndex", "(II)V"⟩
def dkwJ4_checkIndex_0 : List UInt8 := [26, 27, 178, 4, 29, 184, 4, 35, 87, 177]
abbrev dktJ4_checkIndex_0 : List UInt8 := dkwJ4_checkIndex_0 ++ []
theorem dksJ4_checkIndex_0 : cJ4_checkIndex.data.toList.drop 0 = dktJ4_checkIndex_0 := by decide +kernel
theorem dJ4_checkIndex_0 : decode cJ4_checkIndex 0 = .ok (.iload_n 0, 1) := dk_26 (dk_at dksJ4_checkIndex_0 0 rfl rfl)
theorem dJ4_checkIndex_1 : decode cJ4_checkIndex 1 = .ok (.iload_n 1, 1) := dk_27 (dk_at dksJ4_checkIndex_0 1 rfl rfl)
theorem dJ4_checkIndex_2 : decode cJ4_checkIndex 2 = .ok (.getstatic 1053, 3) := dk_178 4 29 (dk_at dksJ4_checkIndex_0 2 rfl rfl)
theorem dJ4_checkIndex_5 : decode cJ4_checkIndex 5 = .ok (.invokestatic 1059, 3) := dk_184 4 35 (dk_at dksJ4_checkIndex_0 5 rfl rfl)
theorem dJ4_checkIndex_8 : decode cJ4_checkIndex 8 = .ok (.pop, 1) := dk_87 (dk_at dksJ4_checkIndex_0 8 rfl rfl)
theorem dJ4_checkIndex_9 : decode cJ4_checkIndex 9 = .ok (.return_, 1) := dk_177 (dk_at dksJ4_checkIndex_0 9 rfl rfl)
theorem q166 : (Jvm.Cond.initialized "java/lang/String") ∈ lw_all := lw_g (lw_at lw_m1 10 rfl) rfl
theorem q687 : (Jvm.Cond.instantiable "java/lang/String" (4 : Nat)) ∈ lw_all := lw_g (lw_at lw_m3 51 rfl) rfl
theorem q688 : (Jvm.Cond.laysFinal "java/lang/String" "java/lang/String" "value" "[B") ∈ lw_all := lw_g (lw_at lw_m3 52 rfl) rfl
theorem q689 : (Jvm.Cond.soleField "java/lang/String" "value") ∈ lw_all := lw_g (lw_at lw_m3 53 rfl) rfl
theorem q690 : (Jvm.Cond.laysFinal "java/lang/String" "java/lang/String" "coder" "B") ∈ lw_all := lw_g (lw_at lw_m3 54 rfl) rfl
theorem q691 : (Jvm.Cond.soleField "java/lang/String" "coder") ∈ lw_all := lw_g (lw_at lw_m3 55 rfl) rfl
theorem q1317 : (Jvm.Cond.instanceMethod ({ cls := "java/lang/String", name := "length", desc := "()I" } : Jvm.MethodName)) ∈ lw_all := lw_g (lw_at lw_m5 201 rfl) rfl
theorem q1318 : (Jvm.Cond.selects "java/lang/String" ({ cls := "java/lang/String", name := "length", desc := "()I" } : Jvm.MethodName) ({ cls := "java/lang/String", name := "length", desc := "()I" } : Jvm.MethodName)) ∈ lw_all := lw_g (lw_at lw_m5 202 rfl) rfl
theorem q1319 : (Jvm.Cond.code ({ cls := "java/lang/String", name := "length", desc := "()I" } : Jvm.MethodName) prog_29_method_54_code (1 : Nat) (Option.some Jvm.ClassFile.FieldType.int)) ∈ lw_all := lw_g (lw_at lw_m5 203 rfl) rfl
theorem q1320 : (Jvm.Cond.methodLink "java/lang/String" (335 : Nat) ({ cls := "java/lang/String", name := "coder", desc := "()B" } : Jvm.MethodName)) ∈ lw_all := lw_g (lw_at lw_m5 204 rfl) rfl
theorem q1321 : (Jvm.Cond.instanceMethod ({ cls := "java/lang/String", name := "coder", desc := "()B" } : Jvm.MethodName)) ∈ lw_all := lw_g (lw_at lw_m5 205 rfl) rfl
theorem q1322 : (Jvm.Cond.selects "java/lang/String" ({ cls := "java/lang/String", name := "coder", desc := "()B" } : Jvm.MethodName) ({ cls := "java/lang/String", name := "coder", desc := "()B" } : Jvm.MethodName)) ∈ lw_all := lw_g (lw_at lw_m5 206 rfl) rfl
theorem q1323 : (Jvm.Cond.code ({ cls := "java/lang/String", name := "coder", desc := "()B" } : Jvm.MethodName) prog_29_method_152_code (1 : Nat) (Option.some Jvm.ClassFile.FieldType.byte)) ∈ lw_all := lw_g (lw_at lw_m5 207 rfl) rfl
theorem q1324 : (Jvm.Cond.fieldLink "java/lang/String" (38 : Nat) "java/lang/String" "COMPACT_STRINGS" "Z") ∈ lw_all := lw_g (lw_at lw_m5 208 rfl) rfl
theorem q1325 : (Jvm.Cond.laysStatic "java/lang/String" "COMPACT_STRINGS" "Z") ∈ lw_tbl := lw_at lw_m5 209 rfl
theorem q1327 : (Jvm.Cond.instanceMethod ({ cls := "java/lang/String", name := "charAt", desc := "(I)C" } : Jvm.MethodName)) ∈ lw_all := lw_g (lw_at lw_m5 211 rfl) rfl
theorem q1328 : (Jvm.Cond.selects "java/lang/String" ({ cls := "java/lang/String", name := "charAt", desc := "(I)C" } : Jvm.MethodName) ({ cls := "java/lang/String", name := "charAt", desc := "(I)C" } : Jvm.MethodName)) ∈ lw_all := lw_g (lw_at lw_m5 212 rfl) rfl
theorem q1329 : (Jvm.Cond.code ({ cls := "java/lang/String", name := "charAt", desc := "(I)C" } : Jvm.MethodName) prog_29_method_56_code (2 : Nat) (Option.some Jvm.ClassFile.FieldType.char)) ∈ lw_all := lw_g (lw_at lw_m5 213 rfl) rfl
theorem q1330 : (Jvm.Cond.methodLink "java/lang/String" (492 : Nat) ({ cls := "java/lang/String", name := "isLatin1", desc := "()Z" } : Jvm.MethodName)) ∈ lw_all := lw_g (lw_at lw_m5 214 rfl) rfl
theorem q1331 : (Jvm.Cond.instanceMethod ({ cls := "java/lang/String", name := "isLatin1", desc := "()Z" } : Jvm.MethodName)) ∈ lw_all := lw_g (lw_at lw_m5 215 rfl) rfl
theorem q1332 : (Jvm.Cond.selects "java/lang/String" ({ cls := "java/lang/String", name := "isLatin1", desc := "()Z" } : Jvm.MethodName) ({ cls := "java/lang/String", name := "isLatin1", desc := "()Z" } : Jvm.MethodName)) ∈ lw_all := lw_g (lw_at lw_m5 216 rfl) rfl
theorem q1333 : (Jvm.Cond.code ({ cls := "java/lang/String", name := "isLatin1", desc := "()Z" } : Jvm.MethodName) prog_29_method_154_code (1 : Nat) (Option.some Jvm.ClassFile.FieldType.boolean)) ∈ lw_all := lw_g (lw_at lw_m5 217 rfl) rfl
theorem q1334 : (Jvm.Cond.methodLink "java/lang/String" (495 : Nat) ({ cls := "java/lang/StringLatin1", name := "charAt", desc := "([BI)C" } : Jvm.MethodName)) ∈ lw_all := lw_g (lw_at lw_m5 218 rfl) rfl
theorem q1338 : (Jvm.Cond.static ({ cls := "java/lang/String", name := "checkIndex", desc := "(II)V" } : Jvm.MethodName)) ∈ lw_all := lw_g (lw_at lw_m5 222 rfl) rfl
theorem q1339 : (Jvm.Cond.code ({ cls := "java/lang/String", name := "checkIndex", desc := "(II)V" } : Jvm.MethodName) prog_29_method_155_code (2 : Nat) (Option.none : Option Jvm.ClassFile.FieldType)) ∈ lw_all := lw_g (lw_at lw_m5 223 rfl) rfl
theorem q1340 : (Jvm.Cond.fieldLink "java/lang/String" (1053 : Nat) "jdk/internal/util/Preconditions" "SIOOBE_FORMATTER" "Ljava/util/function/BiFunction;") ∈ lw_all := lw_g (lw_at lw_m5 224 rfl) rfl
theorem q1342 : (Jvm.Cond.methodLink "java/lang/String" (1059 : Nat) ({ cls := "jdk/internal/util/Preconditions", name := "checkIndex", desc := "(IILjava/util/function/BiFunction;)I" } : Jvm.MethodName)) ∈ lw_all := lw_g (lw_at lw_m5 226 rfl) rfl
theorem q1345 : (Jvm.Cond.methodLink "java/lang/String" (498 : Nat) ({ cls := "java/lang/StringUTF16", name := "charAt", desc := "([BI)C" } : Jvm.MethodName)) ∈ lw_all := lw_g (lw_at lw_m5 229 rfl) rfl
theorem q2794 : (Jvm.Cond.fieldLink "java/lang/String" (9 : Nat) "java/lang/String" "value" "[B") ∈ lw_all := lw_g (lw_at lw_m11 238 rfl) rfl
theorem q2795 : (Jvm.Cond.fieldLink "java/lang/String" (15 : Nat) "java/lang/String" "coder" "B") ∈ lw_all := lw_g (lw_at lw_m11 239 rfl) rfl
theorem in_J4 : ∀ w ∈ wsJ40, w ∈ lw_all := lw_in wsJ40 [688, 690] (by decide +kernel) (by decide +kernel)

/-! java/lang/NullPointerException -/
set_option maxRecDepth 100000
def RJ5 : String := "java/lang/NullPointerException"
def TJ5 : u_T := fun k => match k with
  | 0 => ("java/lang/Throwable", "backtrace", "Ljava/lang/Object;", false)
  | 1 => ("java/lang/Throwable", "detailMessage", "Ljava/lang/String;", false)
  | 2 => ("java/lang/Throwable", "cause", "Ljava/lang/Throwable;", false)
  | 3 => ("java/lang/Throwable", "stackTrace", "[Ljava/lang/StackTraceElement;", false)
  | 4 => ("java/lang/Throwable", "depth", "I", false)
  | 5 => ("java/lang/Throwable", "suppressedExceptions", "Ljava/util/List;", false)
  | 6 => ("java/lang/NullPointerException", "extendedMessageState", "I", false)
  | _ => ("java/lang/NullPointerException", "extendedMessage", "Ljava/lang/String;", false)
def tyJ5 : Nat → FieldType := fun k => match k with
  | 0 => .object "java/lang/Object"
  | 1 => .object "java/lang/String"
  | 2 => .object "java/lang/Throwable"
  | 3 => .array (.object "java/lang/StackTraceElement")
  | 4 => .int
  | 5 => .object "java/util/List"
  | 6 => .int
  | _ => .object "java/lang/String"
abbrev wsJ50 : List Cond := u_ws RJ5 TJ5 8
theorem nmJ5 : ∀ a, a < 8 → ∀ b, b < 8 → a ≠ b → (TJ5 a).2.1 ≠ (TJ5 b).2.1 := by decide +kernel
theorem tyJ5_ok : ∀ k, k < 8 → parseFieldDescriptor (TJ5 k).2.2.1 = some (tyJ5 k) := by decide +kernel
abbrev cJ5_init : ByteArray := prog_27_method_1_code
def yJ5_init : MethodName := ⟨RJ5, "<init>", "()V"⟩
theorem dJ5_init_0 : decode cJ5_init 0 = .ok (.aload_n 0, 1) := by decide +kernel
theorem dJ5_init_1 : decode cJ5_init 1 = .ok (.invokespecial 1, 3) := by decide +kernel
theorem dJ5_init_4 : decode cJ5_init 4 = .ok (.return_, 1) := by decide +kernel
theorem q167 : (Jvm.Cond.initialized "java/lang/NullPointerException") ∈ lw_all := lw_g (lw_at lw_m1 11 rfl) rfl
theorem q632 : (Jvm.Cond.selects "java/lang/NullPointerException" ({ cls := "java/lang/Throwable", name := "fillInStackTrace", desc := "()Ljava/lang/Throwable;" } : Jvm.MethodName) ({ cls := "java/lang/NullPointerException", name := "fillInStackTrace", desc := "()Ljava/lang/Throwable;" } : Jvm.MethodName)) ∈ lw_all := lw_g (lw_at lw_m2 236 rfl) rfl
theorem q633 : (Jvm.Cond.instanceMethod ({ cls := "java/lang/NullPointerException", name := "fillInStackTrace", desc := "()Ljava/lang/Throwable;" } : Jvm.MethodName)) ∈ lw_all := lw_g (lw_at lw_m2 237 rfl) rfl
theorem q634 : (Jvm.Cond.codeSync ({ cls := "java/lang/NullPointerException", name := "fillInStackTrace", desc := "()Ljava/lang/Throwable;" } : Jvm.MethodName) prog_27_method_3_code (1 : Nat) (Option.some (Jvm.ClassFile.FieldType.object "java/lang/Throwable"))) ∈ lw_all := lw_g (lw_at lw_m2 238 rfl) rfl
theorem q635 : (Jvm.Cond.methodLink "java/lang/NullPointerException" (16 : Nat) ({ cls := "java/lang/NullPointerException", name := "getExtendedNPEMessage", desc := "()Ljava/lang/String;" } : Jvm.MethodName)) ∈ lw_all := lw_g (lw_at lw_m2 239 rfl) rfl
theorem q636 : (Jvm.Cond.privateMethod ({ cls := "java/lang/NullPointerException", name := "getExtendedNPEMessage", desc := "()Ljava/lang/String;" } : Jvm.MethodName)) ∈ lw_tbl := lw_at lw_m3 0 rfl
theorem q637 : (Jvm.Cond.instanceMethod ({ cls := "java/lang/NullPointerException", name := "getExtendedNPEMessage", desc := "()Ljava/lang/String;" } : Jvm.MethodName)) ∈ lw_all := lw_g (lw_at lw_m3 1 rfl) rfl
theorem q638 : (Jvm.Cond.instantiable "java/lang/NullPointerException" (8 : Nat)) ∈ lw_all := lw_g (lw_at lw_m3 2 rfl) rfl
theorem q639 : (Jvm.Cond.native ({ cls := "java/lang/NullPointerException", name := "getExtendedNPEMessage", desc := "()Ljava/lang/String;" } : Jvm.MethodName)) ∈ lw_all := lw_g (lw_at lw_m3 3 rfl) rfl
theorem q640 : (Jvm.Cond.methodLink "java/lang/NullPointerException" (24 : Nat) ({ cls := "java/lang/RuntimeException", name := "fillInStackTrace", desc := "()Ljava/lang/Throwable;" } : Jvm.MethodName)) ∈ lw_all := lw_g (lw_at lw_m3 4 rfl) rfl
theorem q643 : (Jvm.Cond.superclass "java/lang/NullPointerException" "java/lang/RuntimeException") ∈ lw_all := lw_g (lw_at lw_m3 7 rfl) rfl
theorem q705 : (Jvm.Cond.instanceMethod ({ cls := "java/lang/NullPointerException", name := "<init>", desc := "()V" } : Jvm.MethodName)) ∈ lw_all := lw_g (lw_at lw_m3 69 rfl) rfl
theorem q706 : (Jvm.Cond.code ({ cls := "java/lang/NullPointerException", name := "<init>", desc := "()V" } : Jvm.MethodName) prog_27_method_1_code (1 : Nat) (Option.none : Option Jvm.ClassFile.FieldType)) ∈ lw_all := lw_g (lw_at lw_m3 70 rfl) rfl
theorem q707 : (Jvm.Cond.methodLink "java/lang/NullPointerException" (1 : Nat) ({ cls := "java/lang/RuntimeException", name := "<init>", desc := "()V" } : Jvm.MethodName)) ∈ lw_all := lw_g (lw_at lw_m3 71 rfl) rfl
theorem q714 : (Jvm.Cond.fieldLink "java/lang/NullPointerException" (10 : Nat) "java/lang/NullPointerException" "extendedMessageState" "I") ∈ lw_all := lw_g (lw_at lw_m3 78 rfl) rfl
theorem q715 : (Jvm.Cond.fieldLink "java/lang/NullPointerException" (20 : Nat) "java/lang/NullPointerException" "extendedMessage" "Ljava/lang/String;") ∈ lw_all := lw_g (lw_at lw_m3 79 rfl) rfl
theorem q716 : (Jvm.Cond.lays "java/lang/NullPointerException" "java/lang/NullPointerException" "extendedMessageState" "I") ∈ lw_all := lw_g (lw_at lw_m3 80 rfl) rfl
theorem q717 : (Jvm.Cond.soleField "java/lang/NullPointerException" "extendedMessageState") ∈ lw_all := lw_g (lw_at lw_m3 81 rfl) rfl
theorem q718 : (Jvm.Cond.lays "java/lang/NullPointerException" "java/lang/NullPointerException" "extendedMessage" "Ljava/lang/String;") ∈ lw_all := lw_g (lw_at lw_m3 82 rfl) rfl
theorem q719 : (Jvm.Cond.soleField "java/lang/NullPointerException" "extendedMessage") ∈ lw_all := lw_g (lw_at lw_m3 83 rfl) rfl
theorem q720 : (Jvm.Cond.lays "java/lang/NullPointerException" "java/lang/Throwable" "backtrace" "Ljava/lang/Object;") ∈ lw_all := lw_g (lw_at lw_m3 84 rfl) rfl
theorem q721 : (Jvm.Cond.lays "java/lang/NullPointerException" "java/lang/Throwable" "detailMessage" "Ljava/lang/String;") ∈ lw_all := lw_g (lw_at lw_m3 85 rfl) rfl
theorem q722 : (Jvm.Cond.lays "java/lang/NullPointerException" "java/lang/Throwable" "cause" "Ljava/lang/Throwable;") ∈ lw_all := lw_g (lw_at lw_m3 86 rfl) rfl
theorem q723 : (Jvm.Cond.lays "java/lang/NullPointerException" "java/lang/Throwable" "stackTrace" "[Ljava/lang/StackTraceElement;") ∈ lw_all := lw_g (lw_at lw_m3 87 rfl) rfl
theorem q724 : (Jvm.Cond.lays "java/lang/NullPointerException" "java/lang/Throwable" "depth" "I") ∈ lw_all := lw_g (lw_at lw_m3 88 rfl) rfl
theorem q725 : (Jvm.Cond.lays "java/lang/NullPointerException" "java/lang/Throwable" "suppressedExceptions" "Ljava/util/List;") ∈ lw_all := lw_g (lw_at lw_m3 89 rfl) rfl
theorem q726 : (Jvm.Cond.castable "java/lang/NullPointerException" "java/lang/NullPointerException") ∈ lw_tbl := lw_at lw_m3 90 rfl
theorem q727 : (Jvm.Cond.selects "java/lang/NullPointerException" ({ cls := "java/lang/Throwable", name := "fillInStackTrace", desc := "(I)Ljava/lang/Throwable;" } : Jvm.MethodName) ({ cls := "java/lang/Throwable", name := "fillInStackTrace", desc := "(I)Ljava/lang/Throwable;" } : Jvm.MethodName)) ∈ lw_all := lw_g (lw_at lw_m3 91 rfl) rfl
theorem in_J5 : ∀ w ∈ wsJ50, w ∈ lw_all := lw_in wsJ50 [720, 721, 722, 723, 724, 725, 716, 718] (by decide +kernel) (by decide +kernel)

/-! java/lang/IndexOutOfBoundsException -/
set_option maxRecDepth 100000
def RJ6 : String := "java/lang/IndexOutOfBoundsException"
abbrev cJ6_init : ByteArray := prog_22_method_2_code
def yJ6_init : MethodName := ⟨RJ6, "<init>", "(Ljava/lang/String;)V"⟩
def dkwJ6_init_0 : List UInt8 := [42, 43, 183, 0, 7, 177]
abbrev dktJ6_init_0 : List UInt8 := dkwJ6_init_0 ++ []
theorem dksJ6_init_0 : cJ6_init.data.toList.drop 0 = dktJ6_init_0 := by decide +kernel
theorem dJ6_init_0 : decode cJ6_init 0 = .ok (.aload_n 0, 1) := dk_42 (dk_at dksJ6_init_0 0 rfl rfl)
theorem dJ6_init_1 : decode cJ6_init 1 = .ok (.aload_n 1, 1) := dk_43 (dk_at dksJ6_init_0 1 rfl rfl)
theorem dJ6_init_2 : decode cJ6_init 2 = .ok (.invokespecial 7, 3) := dk_183 0 7 (dk_at dksJ6_init_0 2 rfl rfl)
theorem dJ6_init_5 : decode cJ6_init 5 = .ok (.return_, 1) := dk_177 (dk_at dksJ6_init_0 5 rfl rfl)
theorem q168 : (Jvm.Cond.initialized "java/lang/IndexOutOfBoundsException") ∈ lw_all := lw_g (lw_at lw_m1 12 rfl) rfl
theorem q734 : (Jvm.Cond.instanceMethod ({ cls := "java/lang/IndexOutOfBoundsException", name := "<init>", desc := "(Ljava/lang/String;)V" } : Jvm.MethodName)) ∈ lw_all := lw_g (lw_at lw_m3 98 rfl) rfl
theorem q735 : (Jvm.Cond.code ({ cls := "java/lang/IndexOutOfBoundsException", name := "<init>", desc := "(Ljava/lang/String;)V" } : Jvm.MethodName) prog_22_method_2_code (2 : Nat) (Option.none : Option Jvm.ClassFile.FieldType)) ∈ lw_all := lw_g (lw_at lw_m3 99 rfl) rfl
theorem q736 : (Jvm.Cond.methodLink "java/lang/IndexOutOfBoundsException" (7 : Nat) ({ cls := "java/lang/RuntimeException", name := "<init>", desc := "(Ljava/lang/String;)V" } : Jvm.MethodName)) ∈ lw_all := lw_g (lw_at lw_m3 100 rfl) rfl
theorem q745 : (Jvm.Cond.declares ({ cls := "java/lang/IndexOutOfBoundsException", name := "<init>", desc := "()V" } : Jvm.MethodName)) ∈ lw_tbl := lw_at lw_m3 109 rfl
theorem q746 : (Jvm.Cond.declares ({ cls := "java/lang/IndexOutOfBoundsException", name := "<init>", desc := "(Ljava/lang/String;)V" } : Jvm.MethodName)) ∈ lw_tbl := lw_at lw_m3 110 rfl

/-! java/lang/ArrayIndexOutOfBoundsException -/
set_option maxRecDepth 100000
def RJ7 : String := "java/lang/ArrayIndexOutOfBoundsException"
def TJ7 : u_T := fun k => match k with
  | 0 => ("java/lang/Throwable", "backtrace", "Ljava/lang/Object;", false)
  | 1 => ("java/lang/Throwable", "detailMessage", "Ljava/lang/String;", false)
  | 2 => ("java/lang/Throwable", "cause", "Ljava/lang/Throwable;", false)
  | 3 => ("java/lang/Throwable", "stackTrace", "[Ljava/lang/StackTraceElement;", false)
  | 4 => ("java/lang/Throwable", "depth", "I", false)
  | _ => ("java/lang/Throwable", "suppressedExceptions", "Ljava/util/List;", false)
def tyJ7 : Nat → FieldType := fun k => match k with
  | 0 => .object "java/lang/Object"
  | 1 => .object "java/lang/String"
  | 2 => .object "java/lang/Throwable"
  | 3 => .array (.object "java/lang/StackTraceElement")
  | 4 => .int
  | _ => .object "java/util/List"
abbrev wsJ70 : List Cond := u_ws RJ7 TJ7 6
theorem nmJ7 : ∀ a, a < 6 → ∀ b, b < 6 → a ≠ b → (TJ7 a).2.1 ≠ (TJ7 b).2.1 := by decide +kernel
theorem tyJ7_ok : ∀ k, k < 6 → parseFieldDescriptor (TJ7 k).2.2.1 = some (tyJ7 k) := by decide +kernel
abbrev cJ7_init : ByteArray := prog_19_method_2_code
def yJ7_init : MethodName := ⟨RJ7, "<init>", "(Ljava/lang/String;)V"⟩
def dkwJ7_init_0 : List UInt8 := [42, 43, 183, 0, 7, 177]
abbrev dktJ7_init_0 : List UInt8 := dkwJ7_init_0 ++ []
theorem dksJ7_init_0 : cJ7_init.data.toList.drop 0 = dktJ7_init_0 := by decide +kernel
theorem dJ7_init_0 : decode cJ7_init 0 = .ok (.aload_n 0, 1) := dk_42 (dk_at dksJ7_init_0 0 rfl rfl)
theorem dJ7_init_1 : decode cJ7_init 1 = .ok (.aload_n 1, 1) := dk_43 (dk_at dksJ7_init_0 1 rfl rfl)
theorem dJ7_init_2 : decode cJ7_init 2 = .ok (.invokespecial 7, 3) := dk_183 0 7 (dk_at dksJ7_init_0 2 rfl rfl)
theorem dJ7_init_5 : decode cJ7_init 5 = .ok (.return_, 1) := dk_177 (dk_at dksJ7_init_0 5 rfl rfl)
theorem q169 : (Jvm.Cond.initialized "java/lang/ArrayIndexOutOfBoundsException") ∈ lw_all := lw_g (lw_at lw_m1 13 rfl) rfl
theorem q629 : (Jvm.Cond.selects "java/lang/ArrayIndexOutOfBoundsException" ({ cls := "java/lang/Throwable", name := "fillInStackTrace", desc := "()Ljava/lang/Throwable;" } : Jvm.MethodName) ({ cls := "java/lang/Throwable", name := "fillInStackTrace", desc := "()Ljava/lang/Throwable;" } : Jvm.MethodName)) ∈ lw_all := lw_g (lw_at lw_m2 233 rfl) rfl
theorem q730 : (Jvm.Cond.instantiable "java/lang/ArrayIndexOutOfBoundsException" (6 : Nat)) ∈ lw_all := lw_g (lw_at lw_m3 94 rfl) rfl
theorem q731 : (Jvm.Cond.instanceMethod ({ cls := "java/lang/ArrayIndexOutOfBoundsException", name := "<init>", desc := "(Ljava/lang/String;)V" } : Jvm.MethodName)) ∈ lw_all := lw_g (lw_at lw_m3 95 rfl) rfl
theorem q732 : (Jvm.Cond.code ({ cls := "java/lang/ArrayIndexOutOfBoundsException", name := "<init>", desc := "(Ljava/lang/String;)V" } : Jvm.MethodName) prog_19_method_2_code (2 : Nat) (Option.none : Option Jvm.ClassFile.FieldType)) ∈ lw_all := lw_g (lw_at lw_m3 96 rfl) rfl
theorem q733 : (Jvm.Cond.methodLink "java/lang/ArrayIndexOutOfBoundsException" (7 : Nat) ({ cls := "java/lang/IndexOutOfBoundsException", name := "<init>", desc := "(Ljava/lang/String;)V" } : Jvm.MethodName)) ∈ lw_all := lw_g (lw_at lw_m3 97 rfl) rfl
theorem q737 : (Jvm.Cond.lays "java/lang/ArrayIndexOutOfBoundsException" "java/lang/Throwable" "backtrace" "Ljava/lang/Object;") ∈ lw_all := lw_g (lw_at lw_m3 101 rfl) rfl
theorem q738 : (Jvm.Cond.lays "java/lang/ArrayIndexOutOfBoundsException" "java/lang/Throwable" "detailMessage" "Ljava/lang/String;") ∈ lw_all := lw_g (lw_at lw_m3 102 rfl) rfl
theorem q739 : (Jvm.Cond.lays "java/lang/ArrayIndexOutOfBoundsException" "java/lang/Throwable" "cause" "Ljava/lang/Throwable;") ∈ lw_all := lw_g (lw_at lw_m3 103 rfl) rfl
theorem q740 : (Jvm.Cond.lays "java/lang/ArrayIndexOutOfBoundsException" "java/lang/Throwable" "stackTrace" "[Ljava/lang/StackTraceElement;") ∈ lw_all := lw_g (lw_at lw_m3 104 rfl) rfl
theorem q741 : (Jvm.Cond.lays "java/lang/ArrayIndexOutOfBoundsException" "java/lang/Throwable" "depth" "I") ∈ lw_all := lw_g (lw_at lw_m3 105 rfl) rfl
theorem q742 : (Jvm.Cond.lays "java/lang/ArrayIndexOutOfBoundsException" "java/lang/Throwable" "suppressedExceptions" "Ljava/util/List;") ∈ lw_all := lw_g (lw_at lw_m3 106 rfl) rfl
theorem q743 : (Jvm.Cond.superclass "java/lang/ArrayIndexOutOfBoundsException" "java/lang/IndexOutOfBoundsException") ∈ lw_all := lw_g (lw_at lw_m3 107 rfl) rfl
theorem q744 : (Jvm.Cond.castable "java/lang/ArrayIndexOutOfBoundsException" "java/lang/ArrayIndexOutOfBoundsException") ∈ lw_tbl := lw_at lw_m3 108 rfl
theorem q747 : (Jvm.Cond.selects "java/lang/ArrayIndexOutOfBoundsException" ({ cls := "java/lang/Throwable", name := "fillInStackTrace", desc := "(I)Ljava/lang/Throwable;" } : Jvm.MethodName) ({ cls := "java/lang/Throwable", name := "fillInStackTrace", desc := "(I)Ljava/lang/Throwable;" } : Jvm.MethodName)) ∈ lw_all := lw_g (lw_at lw_m3 111 rfl) rfl
theorem in_J7 : ∀ w ∈ wsJ70, w ∈ lw_all := lw_in wsJ70 [737, 738, 739, 740, 741, 742] (by decide +kernel) (by decide +kernel)

/-! java/lang/Math -/
set_option maxRecDepth 100000
def RJ8 : String := "java/lang/Math"
abbrev cJ8_min : ByteArray := prog_25_method_69_code
def yJ8_min : MethodName := ⟨RJ8, "min", "(II)I"⟩
def dkwJ8_min_0 : List UInt8 := [26, 27, 163, 0, 7, 26, 167, 0, 4, 27, 172]
abbrev dktJ8_min_0 : List UInt8 := dkwJ8_min_0 ++ []
theorem dksJ8_min_0 : cJ8_min.data.toList.drop 0 = dktJ8_min_0 := by decide +kernel
theorem dJ8_min_0 : decode cJ8_min 0 = .ok (.iload_n 0, 1) := dk_26 (dk_at dksJ8_min_0 0 rfl rfl)
theorem dJ8_min_1 : decode cJ8_min 1 = .ok (.iload_n 1, 1) := dk_27 (dk_at dksJ8_min_0 1 rfl rfl)
theorem dJ8_min_2 : decode cJ8_min 2 = .ok (.if_icmp .gt 7, 3) := dk_163 0 7 (dk_at dksJ8_min_0 2 rfl rfl)
theorem dJ8_min_5 : decode cJ8_min 5 = .ok (.iload_n 0, 1) := dk_26 (dk_at dksJ8_min_0 5 rfl rfl)
theorem dJ8_min_6 : decode cJ8_min 6 = .ok (.goto 4, 3) := dk_167 0 4 (dk_at dksJ8_min_0 6 rfl rfl)
theorem dJ8_min_9 : decode cJ8_min 9 = .ok (.iload_n 1, 1) := dk_27 (dk_at dksJ8_min_0 9 rfl rfl)
theorem dJ8_min_10 : decode cJ8_min 10 = .ok (.ireturn, 1) := dk_172 (dk_at dksJ8_min_0 10 rfl rfl)
abbrev cJ8_abs : ByteArray := prog_25_method_59_code
def yJ8_abs : MethodName := ⟨RJ8, "abs", "(I)I"⟩
def dkwJ8_abs_0 : List UInt8 := [26, 156, 0, 8, 26, 116, 167, 0, 4, 26, 172]
abbrev dktJ8_abs_0 : List UInt8 := dkwJ8_abs_0 ++ []
theorem dksJ8_abs_0 : cJ8_abs.data.toList.drop 0 = dktJ8_abs_0 := by decide +kernel
theorem dJ8_abs_0 : decode cJ8_abs 0 = .ok (.iload_n 0, 1) := dk_26 (dk_at dksJ8_abs_0 0 rfl rfl)
theorem dJ8_abs_1 : decode cJ8_abs 1 = .ok (.ifCond .ge 8, 3) := dk_156 0 8 (dk_at dksJ8_abs_0 1 rfl rfl)
theorem dJ8_abs_4 : decode cJ8_abs 4 = .ok (.iload_n 0, 1) := dk_26 (dk_at dksJ8_abs_0 4 rfl rfl)
theorem dJ8_abs_5 : decode cJ8_abs 5 = .ok (.ineg, 1) := dk_116 (dk_at dksJ8_abs_0 5 rfl rfl)
theorem dJ8_abs_6 : decode cJ8_abs 6 = .ok (.goto 4, 3) := dk_167 0 4 (dk_at dksJ8_abs_0 6 rfl rfl)
theorem dJ8_abs_9 : decode cJ8_abs 9 = .ok (.iload_n 0, 1) := dk_26 (dk_at dksJ8_abs_0 9 rfl rfl)
theorem dJ8_abs_10 : decode cJ8_abs 10 = .ok (.ireturn, 1) := dk_172 (dk_at dksJ8_abs_0 10 rfl rfl)
abbrev cJ8_max : ByteArray := prog_25_method_66_code
def yJ8_max : MethodName := ⟨RJ8, "max", "(JJ)J"⟩
def dkwJ8_max_0 : List UInt8 := [30, 32, 148, 155, 0, 7, 30, 167, 0, 4, 32, 173]
abbrev dktJ8_max_0 : List UInt8 := dkwJ8_max_0 ++ []
theorem dksJ8_max_0 : cJ8_max.data.toList.drop 0 = dktJ8_max_0 := by decide +kernel
theorem dJ8_max_0 : decode cJ8_max 0 = .ok (.lload_n 0, 1) := dk_30 (dk_at dksJ8_max_0 0 rfl rfl)
theorem dJ8_max_1 : decode cJ8_max 1 = .ok (.lload_n 2, 1) := dk_32 (dk_at dksJ8_max_0 1 rfl rfl)
theorem dJ8_max_2 : decode cJ8_max 2 = .ok (.lcmp, 1) := dk_148 (dk_at dksJ8_max_0 2 rfl rfl)
theorem dJ8_max_3 : decode cJ8_max 3 = .ok (.ifCond .lt 7, 3) := dk_155 0 7 (dk_at dksJ8_max_0 3 rfl rfl)
theorem dJ8_max_6 : decode cJ8_max 6 = .ok (.lload_n 0, 1) := dk_30 (dk_at dksJ8_max_0 6 rfl rfl)
theorem dJ8_max_7 : decode cJ8_max 7 = .ok (.goto 4, 3) := dk_167 0 4 (dk_at dksJ8_max_0 7 rfl rfl)
theorem dJ8_max_10 : decode cJ8_max 10 = .ok (.lload_n 2, 1) := dk_32 (dk_at dksJ8_max_0 10 rfl rfl)
theorem dJ8_max_11 : decode cJ8_max 11 = .ok (.lreturn, 1) := dk_173 (dk_at dksJ8_max_0 11 rfl rfl)
abbrev cJ8_max_2 : ByteArray := prog_25_method_65_code
def yJ8_max_2 : MethodName := ⟨RJ8, "max", "(II)I"⟩
def dkwJ8_max_2_0 : List UInt8 := [26, 27, 161, 0, 7, 26, 167, 0, 4, 27, 172]
abbrev dktJ8_max_2_0 : List UInt8 := dkwJ8_max_2_0 ++ []
theorem dksJ8_max_2_0 : cJ8_max_2.data.toList.drop 0 = dktJ8_max_2_0 := by decide +kernel
theorem dJ8_max_2_0 : decode cJ8_max_2 0 = .ok (.iload_n 0, 1) := dk_26 (dk_at dksJ8_max_2_0 0 rfl rfl)
theorem dJ8_max_2_1 : decode cJ8_max_2 1 = .ok (.iload_n 1, 1) := dk_27 (dk_at dksJ8_max_2_0 1 rfl rfl)
theorem dJ8_max_2_2 : decode cJ8_max_2 2 = .ok (.if_icmp .lt 7, 3) := dk_161 0 7 (dk_at dksJ8_max_2_0 2 rfl rfl)
theorem dJ8_max_2_5 : decode cJ8_max_2 5 = .ok (.iload_n 0, 1) := dk_26 (dk_at dksJ8_max_2_0 5 rfl rfl)
theorem dJ8_max_2_6 : decode cJ8_max_2 6 = .ok (.goto 4, 3) := dk_167 0 4 (dk_at dksJ8_max_2_0 6 rfl rfl)
theorem dJ8_max_2_9 : decode cJ8_max_2 9 = .ok (.iload_n 1, 1) := dk_27 (dk_at dksJ8_max_2_0 9 rfl rfl)
theorem dJ8_max_2_10 : decode cJ8_max_2 10 = .ok (.ireturn, 1) := dk_172 (dk_at dksJ8_max_2_0 10 rfl rfl)
theorem q171 : (Jvm.Cond.initialized "java/lang/Math") ∈ lw_all := lw_g (lw_at lw_m1 15 rfl) rfl
theorem q778 : (Jvm.Cond.static ({ cls := "java/lang/Math", name := "min", desc := "(II)I" } : Jvm.MethodName)) ∈ lw_all := lw_g (lw_at lw_m3 142 rfl) rfl
theorem q779 : (Jvm.Cond.code ({ cls := "java/lang/Math", name := "min", desc := "(II)I" } : Jvm.MethodName) prog_25_method_69_code (2 : Nat) (Option.some Jvm.ClassFile.FieldType.int)) ∈ lw_all := lw_g (lw_at lw_m3 143 rfl) rfl
theorem q806 : (Jvm.Cond.static ({ cls := "java/lang/Math", name := "abs", desc := "(I)I" } : Jvm.MethodName)) ∈ lw_all := lw_g (lw_at lw_m3 170 rfl) rfl
theorem q807 : (Jvm.Cond.code ({ cls := "java/lang/Math", name := "abs", desc := "(I)I" } : Jvm.MethodName) prog_25_method_59_code (1 : Nat) (Option.some Jvm.ClassFile.FieldType.int)) ∈ lw_all := lw_g (lw_at lw_m3 171 rfl) rfl
theorem q1664 : (Jvm.Cond.static ({ cls := "java/lang/Math", name := "max", desc := "(JJ)J" } : Jvm.MethodName)) ∈ lw_all := lw_g (lw_at lw_m7 68 rfl) rfl
theorem q1665 : (Jvm.Cond.code ({ cls := "java/lang/Math", name := "max", desc := "(JJ)J" } : Jvm.MethodName) prog_25_method_66_code (4 : Nat) (Option.some Jvm.ClassFile.FieldType.long)) ∈ lw_all := lw_g (lw_at lw_m7 69 rfl) rfl
theorem q1667 : (Jvm.Cond.static ({ cls := "java/lang/Math", name := "max", desc := "(II)I" } : Jvm.MethodName)) ∈ lw_all := lw_g (lw_at lw_m7 71 rfl) rfl
theorem q1668 : (Jvm.Cond.code ({ cls := "java/lang/Math", name := "max", desc := "(II)I" } : Jvm.MethodName) prog_25_method_65_code (2 : Nat) (Option.some Jvm.ClassFile.FieldType.int)) ∈ lw_all := lw_g (lw_at lw_m7 72 rfl) rfl

/-! java/lang/ClassCastException -/
set_option maxRecDepth 100000
def RJ9 : String := "java/lang/ClassCastException"
def TJ9 : u_T := fun k => match k with
  | 0 => ("java/lang/Throwable", "backtrace", "Ljava/lang/Object;", false)
  | 1 => ("java/lang/Throwable", "detailMessage", "Ljava/lang/String;", false)
  | 2 => ("java/lang/Throwable", "cause", "Ljava/lang/Throwable;", false)
  | 3 => ("java/lang/Throwable", "stackTrace", "[Ljava/lang/StackTraceElement;", false)
  | 4 => ("java/lang/Throwable", "depth", "I", false)
  | _ => ("java/lang/Throwable", "suppressedExceptions", "Ljava/util/List;", false)
def tyJ9 : Nat → FieldType := fun k => match k with
  | 0 => .object "java/lang/Object"
  | 1 => .object "java/lang/String"
  | 2 => .object "java/lang/Throwable"
  | 3 => .array (.object "java/lang/StackTraceElement")
  | 4 => .int
  | _ => .object "java/util/List"
abbrev wsJ90 : List Cond := u_ws RJ9 TJ9 6
theorem nmJ9 : ∀ a, a < 6 → ∀ b, b < 6 → a ≠ b → (TJ9 a).2.1 ≠ (TJ9 b).2.1 := by decide +kernel
theorem tyJ9_ok : ∀ k, k < 6 → parseFieldDescriptor (TJ9 k).2.2.1 = some (tyJ9 k) := by decide +kernel
abbrev cJ9_init : ByteArray := prog_20_method_2_code
def yJ9_init : MethodName := ⟨RJ9, "<init>", "(Ljava/lang/String;)V"⟩
def dkwJ9_init_0 : List UInt8 := [42, 43, 183, 0, 7, 177]
abbrev dktJ9_init_0 : List UInt8 := dkwJ9_init_0 ++ []
theorem dksJ9_init_0 : cJ9_init.data.toList.drop 0 = dktJ9_init_0 := by decide +kernel
theorem dJ9_init_0 : decode cJ9_init 0 = .ok (.aload_n 0, 1) := dk_42 (dk_at dksJ9_init_0 0 rfl rfl)
theorem dJ9_init_1 : decode cJ9_init 1 = .ok (.aload_n 1, 1) := dk_43 (dk_at dksJ9_init_0 1 rfl rfl)
theorem dJ9_init_2 : decode cJ9_init 2 = .ok (.invokespecial 7, 3) := dk_183 0 7 (dk_at dksJ9_init_0 2 rfl rfl)
theorem dJ9_init_5 : decode cJ9_init 5 = .ok (.return_, 1) := dk_177 (dk_at dksJ9_init_0 5 rfl rfl)
theorem q181 : (Jvm.Cond.initialized "java/lang/ClassCastException") ∈ lw_all := lw_g (lw_at lw_m1 25 rfl) rfl
theorem q630 : (Jvm.Cond.selects "java/lang/ClassCastException" ({ cls := "java/lang/Throwable", name := "fillInStackTrace", desc := "()Ljava/lang/Throwable;" } : Jvm.MethodName) ({ cls := "java/lang/Throwable", name := "fillInStackTrace", desc := "()Ljava/lang/Throwable;" } : Jvm.MethodName)) ∈ lw_all := lw_g (lw_at lw_m2 234 rfl) rfl
theorem q1166 : (Jvm.Cond.instantiable "java/lang/ClassCastException" (6 : Nat)) ∈ lw_all := lw_g (lw_at lw_m5 50 rfl) rfl
theorem q1167 : (Jvm.Cond.instanceMethod ({ cls := "java/lang/ClassCastException", name := "<init>", desc := "(Ljava/lang/String;)V" } : Jvm.MethodName)) ∈ lw_all := lw_g (lw_at lw_m5 51 rfl) rfl
theorem q1168 : (Jvm.Cond.code ({ cls := "java/lang/ClassCastException", name := "<init>", desc := "(Ljava/lang/String;)V" } : Jvm.MethodName) prog_20_method_2_code (2 : Nat) (Option.none : Option Jvm.ClassFile.FieldType)) ∈ lw_all := lw_g (lw_at lw_m5 52 rfl) rfl
theorem q1169 : (Jvm.Cond.methodLink "java/lang/ClassCastException" (7 : Nat) ({ cls := "java/lang/RuntimeException", name := "<init>", desc := "(Ljava/lang/String;)V" } : Jvm.MethodName)) ∈ lw_all := lw_g (lw_at lw_m5 53 rfl) rfl
theorem q1170 : (Jvm.Cond.lays "java/lang/ClassCastException" "java/lang/Throwable" "backtrace" "Ljava/lang/Object;") ∈ lw_all := lw_g (lw_at lw_m5 54 rfl) rfl
theorem q1171 : (Jvm.Cond.lays "java/lang/ClassCastException" "java/lang/Throwable" "detailMessage" "Ljava/lang/String;") ∈ lw_all := lw_g (lw_at lw_m5 55 rfl) rfl
theorem q1172 : (Jvm.Cond.lays "java/lang/ClassCastException" "java/lang/Throwable" "cause" "Ljava/lang/Throwable;") ∈ lw_all := lw_g (lw_at lw_m5 56 rfl) rfl
theorem q1173 : (Jvm.Cond.lays "java/lang/ClassCastException" "java/lang/Throwable" "stackTrace" "[Ljava/lang/StackTraceElement;") ∈ lw_all := lw_g (lw_at lw_m5 57 rfl) rfl
theorem q1174 : (Jvm.Cond.lays "java/lang/ClassCastException" "java/lang/Throwable" "depth" "I") ∈ lw_all := lw_g (lw_at lw_m5 58 rfl) rfl
theorem q1175 : (Jvm.Cond.lays "java/lang/ClassCastException" "java/lang/Throwable" "suppressedExceptions" "Ljava/util/List;") ∈ lw_all := lw_g (lw_at lw_m5 59 rfl) rfl
theorem q1176 : (Jvm.Cond.superclass "java/lang/ClassCastException" "java/lang/RuntimeException") ∈ lw_all := lw_g (lw_at lw_m5 60 rfl) rfl
theorem q1177 : (Jvm.Cond.castable "java/lang/ClassCastException" "java/lang/ClassCastException") ∈ lw_tbl := lw_at lw_m5 61 rfl
theorem q1178 : (Jvm.Cond.selects "java/lang/ClassCastException" ({ cls := "java/lang/Throwable", name := "fillInStackTrace", desc := "(I)Ljava/lang/Throwable;" } : Jvm.MethodName) ({ cls := "java/lang/Throwable", name := "fillInStackTrace", desc := "(I)Ljava/lang/Throwable;" } : Jvm.MethodName)) ∈ lw_all := lw_g (lw_at lw_m5 62 rfl) rfl
theorem in_J9 : ∀ w ∈ wsJ90, w ∈ lw_all := lw_in wsJ90 [1170, 1171, 1172, 1173, 1174, 1175] (by decide +kernel) (by decide +kernel)

/-! java/lang/StringLatin1 -/
set_option maxRecDepth 100000
def RJ10 : String := "java/lang/StringLatin1"
abbrev cJ10_charAt : ByteArray := prog_30_method_2_code
def yJ10_charAt : MethodName := ⟨RJ10, "charAt", "([BI)C"⟩
def dkwJ10_charAt_0 : List UInt8 := [27, 42, 190, 184, 0, 9, 42, 27, 51, 17, 0, 255, 126, 146, 172]
abbrev dktJ10_charAt_0 : List UInt8 := dkwJ10_charAt_0 ++ []
theorem dksJ10_charAt_0 : cJ10_charAt.data.toList.drop 0 = dktJ10_charAt_0 := by decide +kernel
theorem dJ10_charAt_0 : decode cJ10_charAt 0 = .ok (.iload_n 1, 1) := dk_27 (dk_at dksJ10_charAt_0 0 rfl rfl)
theorem dJ10_charAt_1 : decode cJ10_charAt 1 = .ok (.aload_n 0, 1) := dk_42 (dk_at dksJ10_charAt_0 1 rfl rfl)
theorem dJ10_charAt_2 : decode cJ10_charAt 2 = .ok (.arraylength, 1) := dk_190 (dk_at dksJ10_charAt_0 2 rfl rfl)
theorem dJ10_charAt_3 : decode cJ10_charAt 3 = .ok (.invokestatic 9, 3) := dk_184 0 9 (dk_at dksJ10_charAt_0 3 rfl rfl)
theorem dJ10_charAt_6 : decode cJ10_charAt 6 = .ok (.aload_n 0, 1) := dk_42 (dk_at dksJ10_charAt_0 6 rfl rfl)
theorem dJ10_charAt_7 : decode cJ10_charAt 7 = .ok (.iload_n 1, 1) := dk_27 (dk_at dksJ10_charAt_0 7 rfl rfl)
theorem dJ10_charAt_8 : decode cJ10_charAt 8 = .ok (.baload, 1) := dk_51 (dk_at dksJ10_charAt_0 8 rfl rfl)
theorem dJ10_charAt_9 : decode cJ10_charAt 9 = .ok (.sipush 255, 3) := dk_17 0 255 (dk_at dksJ10_charAt_0 9 rfl rfl)
theorem dJ10_charAt_12 : decode cJ10_charAt 12 = .ok (.iand, 1) := dk_126 (dk_at dksJ10_charAt_0 12 rfl rfl)
theorem dJ10_charAt_13 : decode cJ10_charAt 13 = .ok (.i2c, 1) := dk_146 (dk_at dksJ10_charAt_0 13 rfl rfl)
theorem dJ10_charAt_14 : decode cJ10_charAt 14 = .ok (.ireturn, 1) := dk_172 (dk_at dksJ10_charAt_0 14 rfl rfl)
theorem q182 : (Jvm.Cond.initialized "java/lang/StringLatin1") ∈ lw_all := lw_g (lw_at lw_m1 26 rfl) rfl
theorem q1335 : (Jvm.Cond.static ({ cls := "java/lang/StringLatin1", name := "charAt", desc := "([BI)C" } : Jvm.MethodName)) ∈ lw_all := lw_g (lw_at lw_m5 219 rfl) rfl
theorem q1336 : (Jvm.Cond.code ({ cls := "java/lang/StringLatin1", name := "charAt", desc := "([BI)C" } : Jvm.MethodName) prog_30_method_2_code (2 : Nat) (Option.some Jvm.ClassFile.FieldType.char)) ∈ lw_all := lw_g (lw_at lw_m5 220 rfl) rfl
theorem q1337 : (Jvm.Cond.methodLink "java/lang/StringLatin1" (9 : Nat) ({ cls := "java/lang/String", name := "checkIndex", desc := "(II)V" } : Jvm.MethodName)) ∈ lw_all := lw_g (lw_at lw_m5 221 rfl) rfl

/-! jdk/internal/util/Preconditions -/
set_option maxRecDepth 100000
def RJ11 : String := "jdk/internal/util/Preconditions"
abbrev cJ11_checkIndex : ByteArray := prog_34_method_11_code
def yJ11_checkIndex : MethodName := ⟨RJ11, "checkIndex", "(IILjava/util/function/BiFunction;)I"⟩
def dkwJ11_checkIndex_0 : List UInt8 := [26, 155, 0, 8, 26, 27, 161, 0, 10, 44, 26, 27, 184, 0, 95, 191, 26, 172]
abbrev dktJ11_checkIndex_0 : List UInt8 := dkwJ11_checkIndex_0 ++ []
theorem dksJ11_checkIndex_0 : cJ11_checkIndex.data.toList.drop 0 = dktJ11_checkIndex_0 := by decide +kernel
theorem dJ11_checkIndex_0 : decode cJ11_checkIndex 0 = .ok (.iload_n 0, 1) := dk_26 (dk_at dksJ11_checkIndex_0 0 rfl rfl)
theorem dJ11_checkIndex_1 : decode cJ11_checkIndex 1 = .ok (.ifCond .lt 8, 3) := dk_155 0 8 (dk_at dksJ11_checkIndex_0 1 rfl rfl)
theorem dJ11_checkIndex_4 : decode cJ11_checkIndex 4 = .ok (.iload_n 0, 1) := dk_26 (dk_at dksJ11_checkIndex_0 4 rfl rfl)
theorem dJ11_checkIndex_5 : decode cJ11_checkIndex 5 = .ok (.iload_n 1, 1) := dk_27 (dk_at dksJ11_checkIndex_0 5 rfl rfl)
theorem dJ11_checkIndex_6 : decode cJ11_checkIndex 6 = .ok (.if_icmp .lt 10, 3) := dk_161 0 10 (dk_at dksJ11_checkIndex_0 6 rfl rfl)
theorem dJ11_checkIndex_9 : decode cJ11_checkIndex 9 = .ok (.aload_n 2, 1) := dk_44 (dk_at dksJ11_checkIndex_0 9 rfl rfl)
theorem dJ11_checkIndex_10 : decode cJ11_checkIndex 10 = .ok (.iload_n 0, 1) := dk_26 (dk_at dksJ11_checkIndex_0 10 rfl rfl)
theorem dJ11_checkIndex_11 : decode cJ11_checkIndex 11 = .ok (.iload_n 1, 1) := dk_27 (dk_at dksJ11_checkIndex_0 11 rfl rfl)
theorem dJ11_checkIndex_12 : decode cJ11_checkIndex 12 = .ok (.invokestatic 95, 3) := dk_184 0 95 (dk_at dksJ11_checkIndex_0 12 rfl rfl)
theorem dJ11_checkIndex_15 : decode cJ11_checkIndex 15 = .ok (.athrow, 1) := dk_191 (dk_at dksJ11_checkIndex_0 15 rfl rfl)
theorem dJ11_checkIndex_16 : decode cJ11_checkIndex 16 = .ok (.iload_n 0, 1) := dk_26 (dk_at dksJ11_checkIndex_0 16 rfl rfl)
theorem dJ11_checkIndex_17 : decode cJ11_checkIndex 17 = .ok (.ireturn, 1) := dk_172 (dk_at dksJ11_checkIndex_0 17 rfl rfl)
theorem q183 : (Jvm.Cond.initialized "jdk/internal/util/Preconditions") ∈ lw_all := lw_g (lw_at lw_m1 27 rfl) rfl
theorem q1341 : (Jvm.Cond.laysStatic "jdk/internal/util/Preconditions" "SIOOBE_FORMATTER" "Ljava/util/function/BiFunction;") ∈ lw_tbl := lw_at lw_m5 225 rfl
theorem q1343 : (Jvm.Cond.static ({ cls := "jdk/internal/util/Preconditions", name := "checkIndex", desc := "(IILjava/util/function/BiFunction;)I" } : Jvm.MethodName)) ∈ lw_all := lw_g (lw_at lw_m5 227 rfl) rfl
theorem q1344 : (Jvm.Cond.code ({ cls := "jdk/internal/util/Preconditions", name := "checkIndex", desc := "(IILjava/util/function/BiFunction;)I" } : Jvm.MethodName) prog_34_method_11_code (3 : Nat) (Option.some Jvm.ClassFile.FieldType.int)) ∈ lw_all := lw_g (lw_at lw_m5 228 rfl) rfl

/-! java/lang/StringUTF16 -/
set_option maxRecDepth 100000
def RJ12 : String := "java/lang/StringUTF16"
abbrev cJ12_charAt : ByteArray := prog_31_method_83_code
def yJ12_charAt : MethodName := ⟨RJ12, "charAt", "([BI)C"⟩
def dkwJ12_charAt_0 : List UInt8 := [27, 42, 184, 0, 67, 42, 27, 184, 0, 71, 172]
abbrev dktJ12_charAt_0 : List UInt8 := dkwJ12_charAt_0 ++ []
theorem dksJ12_charAt_0 : cJ12_charAt.data.toList.drop 0 = dktJ12_charAt_0 := by decide +kernel
theorem dJ12_charAt_0 : decode cJ12_charAt 0 = .ok (.iload_n 1, 1) := dk_27 (dk_at dksJ12_charAt_0 0 rfl rfl)
theorem dJ12_charAt_1 : decode cJ12_charAt 1 = .ok (.aload_n 0, 1) := dk_42 (dk_at dksJ12_charAt_0 1 rfl rfl)
theorem dJ12_charAt_2 : decode cJ12_charAt 2 = .ok (.invokestatic 67, 3) := dk_184 0 67 (dk_at dksJ12_charAt_0 2 rfl rfl)
theorem dJ12_charAt_5 : decode cJ12_charAt 5 = .ok (.aload_n 0, 1) := dk_42 (dk_at dksJ12_charAt_0 5 rfl rfl)
theorem dJ12_charAt_6 : decode cJ12_charAt 6 = .ok (.iload_n 1, 1) := dk_27 (dk_at dksJ12_charAt_0 6 rfl rfl)
theorem dJ12_charAt_7 : decode cJ12_charAt 7 = .ok (.invokestatic 71, 3) := dk_184 0 71 (dk_at dksJ12_charAt_0 7 rfl rfl)
theorem dJ12_charAt_10 : decode cJ12_charAt 10 = .ok (.ireturn, 1) := dk_172 (dk_at dksJ12_charAt_0 10 rfl rfl)
abbrev cJ12_checkIndex : ByteArray := prog_31_method_91_code
def yJ12_checkIndex : MethodName := ⟨RJ12, "checkIndex", "(I[B)V"⟩
def dkwJ12_checkIndex_0 : List UInt8 := [26, 43, 184, 0, 48, 184, 1, 158, 177]
abbrev dktJ12_checkIndex_0 : List UInt8 := dkwJ12_checkIndex_0 ++ []
theorem dksJ12_checkIndex_0 : cJ12_checkIndex.data.toList.drop 0 = dktJ12_checkIndex_0 := by decide +kernel
theorem dJ12_checkIndex_0 : decode cJ12_checkIndex 0 = .ok (.iload_n 0, 1) := dk_26 (dk_at dksJ12_checkIndex_0 0 rfl rfl)
theorem dJ12_checkIndex_1 : decode cJ12_checkIndex 1 = .ok (.aload_n 1, 1) := dk_43 (dk_at dksJ12_checkIndex_0 1 rfl rfl)
theorem dJ12_checkIndex_2 : decode cJ12_checkIndex 2 = .ok (.invokestatic 48, 3) := dk_184 0 48 (dk_at dksJ12_checkIndex_0 2 rfl rfl)
theorem dJ12_checkIndex_5 : decode cJ12_checkIndex 5 = .ok (.invokestatic 414, 3) := dk_184 1 158 (dk_at dksJ12_checkIndex_0 5 rfl rfl)
theorem dJ12_checkIndex_8 : decode cJ12_checkIndex 8 = .ok (.return_, 1) := dk_177 (dk_at dksJ12_checkIndex_0 8 rfl rfl)
abbrev cJ12_length : ByteArray := prog_31_method_6_code
def yJ12_length : MethodName := ⟨RJ12, "length", "([B)I"⟩
def dkwJ12_length_0 : List UInt8 := [42, 190, 4, 122, 172]
abbrev dktJ12_length_0 : List UInt8 := dkwJ12_length_0 ++ []
theorem dksJ12_length_0 : cJ12_length.data.toList.drop 0 = dktJ12_length_0 := by decide +kernel
theorem dJ12_length_0 : decode cJ12_length 0 = .ok (.aload_n 0, 1) := dk_42 (dk_at dksJ12_length_0 0 rfl rfl)
theorem dJ12_length_1 : decode cJ12_length 1 = .ok (.arraylength, 1) := dk_190 (dk_at dksJ12_length_0 1 rfl rfl)
theorem dJ12_length_2 : decode cJ12_length 2 = .ok (.iconst 1, 1) := dk_4 (dk_at dksJ12_length_0 2 rfl rfl)
theorem dJ12_length_3 : decode cJ12_length 3 = .ok (.ishr, 1) := dk_122 (dk_at dksJ12_length_0 3 rfl rfl)
theorem dJ12_length_4 : decode cJ12_length 4 = .ok (.ireturn, 1) := dk_172 (dk_at dksJ12_length_0 4 rfl rfl)
abbrev cJ12_getChar : ByteArray := prog_31_method_5_code
def yJ12_getChar : MethodName := ⟨RJ12, "getChar", "([BI)C"⟩
def dkwJ12_getChar_2 : List UInt8 := [51, 17, 0, 255, 126, 178, 0, 63, 120, 128, 146, 172]
abbrev dktJ12_getChar_2 : List UInt8 := dkwJ12_getChar_2 ++ []
def dkwJ12_getChar_1 : List UInt8 := [183, 0, 56, 191, 27, 4, 120, 60, 42, 27, 132, 1, 1, 51, 17, 0, 255, 126, 178, 0, 59, 120, 42, 27]
abbrev dktJ12_getChar_1 : List UInt8 := dkwJ12_getChar_1 ++ dktJ12_getChar_2
def dkwJ12_getChar_0 : List UInt8 := [178, 0, 44, 154, 0, 25, 27, 155, 0, 11, 27, 42, 184, 0, 48, 161, 0, 13, 187, 0, 52, 89, 18, 54]
abbrev dktJ12_getChar_0 : List UInt8 := dkwJ12_getChar_0 ++ dktJ12_getChar_1
theorem dksJ12_getChar_0 : cJ12_getChar.data.toList.drop 0 = dktJ12_getChar_0 := by decide +kernel
theorem dksJ12_getChar_1 : cJ12_getChar.data.toList.drop 24 = dktJ12_getChar_1 := dk_seg dksJ12_getChar_0 24 rfl rfl
theorem dksJ12_getChar_2 : cJ12_getChar.data.toList.drop 48 = dktJ12_getChar_2 := dk_seg dksJ12_getChar_1 24 rfl rfl
theorem dJ12_getChar_0 : decode cJ12_getChar 0 = .ok (.getstatic 44, 3) := dk_178 0 44 (dk_at dksJ12_getChar_0 0 rfl rfl)
theorem dJ12_getChar_3 : decode cJ12_getChar 3 = .ok (.ifCond .ne 25, 3) := dk_154 0 25 (dk_at dksJ12_getChar_0 3 rfl rfl)
theorem dJ12_getChar_6 : decode cJ12_getChar 6 = .ok (.iload_n 1, 1) := dk_27 (dk_at dksJ12_getChar_0 6 rfl rfl)
theorem dJ12_getChar_7 : decode cJ12_getChar 7 = .ok (.ifCond .lt 11, 3) := dk_155 0 11 (dk_at dksJ12_getChar_0 7 rfl rfl)
theorem dJ12_getChar_10 : decode cJ12_getChar 10 = .ok (.iload_n 1, 1) := dk_27 (dk_at dksJ12_getChar_0 10 rfl rfl)
theorem dJ12_getChar_11 : decode cJ12_getChar 11 = .ok (.aload_n 0, 1) := dk_42 (dk_at dksJ12_getChar_0 11 rfl rfl)
theorem dJ12_getChar_12 : decode cJ12_getChar 12 = .ok (.invokestatic 48, 3) := dk_184 0 48 (dk_at dksJ12_getChar_0 12 rfl rfl)
theorem dJ12_getChar_15 : decode cJ12_getChar 15 = .ok (.if_icmp .lt 13, 3) := dk_161 0 13 (dk_at dksJ12_getChar_0 15 rfl rfl)
theorem dJ12_getChar_18 : decode cJ12_getChar 18 = .ok (.new 52, 3) := dk_187 0 52 (dk_at dksJ12_getChar_0 18 rfl rfl)
theorem dJ12_getChar_21 : decode cJ12_getChar 21 = .ok (.dup, 1) := dk_89 (dk_at dksJ12_getChar_0 21 rfl rfl)
theorem dJ12_getChar_22 : decode cJ12_getChar 22 = .ok (.ldc 54, 2) := dk_18 54 (dk_at dksJ12_getChar_0 22 rfl rfl)
theorem dJ12_getChar_24 : decode cJ12_getChar 24 = .ok (.invokespecial 56, 3) := dk_183 0 56 (dk_at dksJ12_getChar_1 0 rfl rfl)
theorem dJ12_getChar_27 : decode cJ12_getChar 27 = .ok (.athrow, 1) := dk_191 (dk_at dksJ12_getChar_1 3 rfl rfl)
theorem dJ12_getChar_28 : decode cJ12_getChar 28 = .ok (.iload_n 1, 1) := dk_27 (dk_at dksJ12_getChar_1 4 rfl rfl)
theorem dJ12_getChar_29 : decode cJ12_getChar 29 = .ok (.iconst 1, 1) := dk_4 (dk_at dksJ12_getChar_1 5 rfl rfl)
theorem dJ12_getChar_30 : decode cJ12_getChar 30 = .ok (.ishl, 1) := dk_120 (dk_at dksJ12_getChar_1 6 rfl rfl)
theorem dJ12_getChar_31 : decode cJ12_getChar 31 = .ok (.istore_n 1, 1) := dk_60 (dk_at dksJ12_getChar_1 7 rfl rfl)
theorem dJ12_getChar_32 : decode cJ12_getChar 32 = .ok (.aload_n 0, 1) := dk_42 (dk_at dksJ12_getChar_1 8 rfl rfl)
theorem dJ12_getChar_33 : decode cJ12_getChar 33 = .ok (.iload_n 1, 1) := dk_27 (dk_at dksJ12_getChar_1 9 rfl rfl)
theorem dJ12_getChar_34 : decode cJ12_getChar 34 = .ok (.iinc 1 1, 3) := dk_132 1 1 (dk_at dksJ12_getChar_1 10 rfl rfl)
theorem dJ12_getChar_37 : decode cJ12_getChar 37 = .ok (.baload, 1) := dk_51 (dk_at dksJ12_getChar_1 13 rfl rfl)
theorem dJ12_getChar_38 : decode cJ12_getChar 38 = .ok (.sipush 255, 3) := dk_17 0 255 (dk_at dksJ12_getChar_1 14 rfl rfl)
theorem dJ12_getChar_41 : decode cJ12_getChar 41 = .ok (.iand, 1) := dk_126 (dk_at dksJ12_getChar_1 17 rfl rfl)
theorem dJ12_getChar_42 : decode cJ12_getChar 42 = .ok (.getstatic 59, 3) := dk_178 0 59 (dk_at dksJ12_getChar_1 18 rfl rfl)
theorem dJ12_getChar_45 : decode cJ12_getChar 45 = .ok (.ishl, 1) := dk_120 (dk_at dksJ12_getChar_1 21 rfl rfl)
theorem dJ12_getChar_46 : decode cJ12_getChar 46 = .ok (.aload_n 0, 1) := dk_42 (dk_at dksJ12_getChar_1 22 rfl rfl)
theorem dJ12_getChar_47 : decode cJ12_getChar 47 = .ok (.iload_n 1, 1) := dk_27 (dk_at dksJ12_getChar_1 23 rfl rfl)
theorem dJ12_getChar_48 : decode cJ12_getChar 48 = .ok (.baload, 1) := dk_51 (dk_at dksJ12_getChar_2 0 rfl rfl)
theorem dJ12_getChar_49 : decode cJ12_getChar 49 = .ok (.sipush 255, 3) := dk_17 0 255 (dk_at dksJ12_getChar_2 1 rfl rfl)
theorem dJ12_getChar_52 : decode cJ12_getChar 52 = .ok (.iand, 1) := dk_126 (dk_at dksJ12_getChar_2 4 rfl rfl)
theorem dJ12_getChar_53 : decode cJ12_getChar 53 = .ok (.getstatic 63, 3) := dk_178 0 63 (dk_at dksJ12_getChar_2 5 rfl rfl)
theorem dJ12_getChar_56 : decode cJ12_getChar 56 = .ok (.ishl, 1) := dk_120 (dk_at dksJ12_getChar_2 8 rfl rfl)
theorem dJ12_getChar_57 : decode cJ12_getChar 57 = .ok (.ior, 1) := dk_128 (dk_at dksJ12_getChar_2 9 rfl rfl)
theorem dJ12_getChar_58 : decode cJ12_getChar 58 = .ok (.i2c, 1) := dk_146 (dk_at dksJ12_getChar_2 10 rfl rfl)
theorem dJ12_getChar_59 : decode cJ12_getChar 59 = .ok (.ireturn, 1) := dk_172 (dk_at dksJ12_getChar_2 11 rfl rfl)
theorem q184 : (Jvm.Cond.initialized "java/lang/StringUTF16") ∈ lw_all := lw_g (lw_at lw_m1 28 rfl) rfl
theorem q1346 : (Jvm.Cond.static ({ cls := "java/lang/StringUTF16", name := "charAt", desc := "([BI)C" } : Jvm.MethodName)) ∈ lw_all := lw_g (lw_at lw_m5 230 rfl) rfl
theorem q1347 : (Jvm.Cond.code ({ cls := "java/lang/StringUTF16", name := "charAt", desc := "([BI)C" } : Jvm.MethodName) prog_31_method_83_code (2 : Nat) (Option.some Jvm.ClassFile.FieldType.char)) ∈ lw_all := lw_g (lw_at lw_m5 231 rfl) rfl
theorem q1348 : (Jvm.Cond.methodLink "java/lang/StringUTF16" (67 : Nat) ({ cls := "java/lang/StringUTF16", name := "checkIndex", desc := "(I[B)V" } : Jvm.MethodName)) ∈ lw_all := lw_g (lw_at lw_m5 232 rfl) rfl
theorem q1349 : (Jvm.Cond.static ({ cls := "java/lang/StringUTF16", name := "checkIndex", desc := "(I[B)V" } : Jvm.MethodName)) ∈ lw_all := lw_g (lw_at lw_m5 233 rfl) rfl
theorem q1350 : (Jvm.Cond.code ({ cls := "java/lang/StringUTF16", name := "checkIndex", desc := "(I[B)V" } : Jvm.MethodName) prog_31_method_91_code (2 : Nat) (Option.none : Option Jvm.ClassFile.FieldType)) ∈ lw_all := lw_g (lw_at lw_m5 234 rfl) rfl
theorem q1351 : (Jvm.Cond.methodLink "java/lang/StringUTF16" (48 : Nat) ({ cls := "java/lang/StringUTF16", name := "length", desc := "([B)I" } : Jvm.MethodName)) ∈ lw_all := lw_g (lw_at lw_m5 235 rfl) rfl
theorem q1352 : (Jvm.Cond.static ({ cls := "java/lang/StringUTF16", name := "length", desc := "([B)I" } : Jvm.MethodName)) ∈ lw_all := lw_g (lw_at lw_m5 236 rfl) rfl
theorem q1353 : (Jvm.Cond.code ({ cls := "java/lang/StringUTF16", name := "length", desc := "([B)I" } : Jvm.MethodName) prog_31_method_6_code (1 : Nat) (Option.some Jvm.ClassFile.FieldType.int)) ∈ lw_all := lw_g (lw_at lw_m5 237 rfl) rfl
theorem q1354 : (Jvm.Cond.methodLink "java/lang/StringUTF16" (414 : Nat) ({ cls := "java/lang/String", name := "checkIndex", desc := "(II)V" } : Jvm.MethodName)) ∈ lw_all := lw_g (lw_at lw_m5 238 rfl) rfl
theorem q1355 : (Jvm.Cond.methodLink "java/lang/StringUTF16" (71 : Nat) ({ cls := "java/lang/StringUTF16", name := "getChar", desc := "([BI)C" } : Jvm.MethodName)) ∈ lw_all := lw_g (lw_at lw_m5 239 rfl) rfl
theorem q1356 : (Jvm.Cond.static ({ cls := "java/lang/StringUTF16", name := "getChar", desc := "([BI)C" } : Jvm.MethodName)) ∈ lw_all := lw_g (lw_at lw_m6 0 rfl) rfl
theorem q1357 : (Jvm.Cond.code ({ cls := "java/lang/StringUTF16", name := "getChar", desc := "([BI)C" } : Jvm.MethodName) prog_31_method_5_code (2 : Nat) (Option.some Jvm.ClassFile.FieldType.char)) ∈ lw_all := lw_g (lw_at lw_m6 1 rfl) rfl
theorem q1358 : (Jvm.Cond.fieldLink "java/lang/StringUTF16" (44 : Nat) "java/lang/StringUTF16" "$assertionsDisabled" "Z") ∈ lw_all := lw_g (lw_at lw_m6 2 rfl) rfl
theorem q1359 : (Jvm.Cond.laysStatic "java/lang/StringUTF16" "$assertionsDisabled" "Z") ∈ lw_tbl := lw_at lw_m6 3 rfl
theorem q1360 : (Jvm.Cond.fieldLink "java/lang/StringUTF16" (59 : Nat) "java/lang/StringUTF16" "HI_BYTE_SHIFT" "I") ∈ lw_all := lw_g (lw_at lw_m6 4 rfl) rfl
theorem q1361 : (Jvm.Cond.laysStatic "java/lang/StringUTF16" "HI_BYTE_SHIFT" "I") ∈ lw_tbl := lw_at lw_m6 5 rfl
theorem q1362 : (Jvm.Cond.fieldLink "java/lang/StringUTF16" (63 : Nat) "java/lang/StringUTF16" "LO_BYTE_SHIFT" "I") ∈ lw_all := lw_g (lw_at lw_m6 6 rfl) rfl
theorem q1363 : (Jvm.Cond.laysStatic "java/lang/StringUTF16" "LO_BYTE_SHIFT" "I") ∈ lw_tbl := lw_at lw_m6 7 rfl

/-! java/lang/Long -/
set_option maxRecDepth 100000
def RJ13 : String := "java/lang/Long"
abbrev cJ13_numberOfTrailingZeros : ByteArray := prog_24_method_49_code
def yJ13_numberOfTrailingZeros : MethodName := ⟨RJ13, "numberOfTrailingZeros", "(J)I"⟩
def dkwJ13_numberOfTrailingZeros_1 : List UInt8 := [184, 1, 55, 172]
abbrev dktJ13_numberOfTrailingZeros_1 : List UInt8 := dkwJ13_numberOfTrailingZeros_1 ++ []
def dkwJ13_numberOfTrailingZeros_0 : List UInt8 := [30, 136, 61, 28, 154, 0, 17, 16, 32, 30, 16, 32, 125, 136, 184, 1, 55, 96, 167, 0, 7, 28]
abbrev dktJ13_numberOfTrailingZeros_0 : List UInt8 := dkwJ13_numberOfTrailingZeros_0 ++ dktJ13_numberOfTrailingZeros_1
theorem dksJ13_numberOfTrailingZeros_0 : cJ13_numberOfTrailingZeros.data.toList.drop 0 = dktJ13_numberOfTrailingZeros_0 := by decide +kernel
theorem dksJ13_numberOfTrailingZeros_1 : cJ13_numberOfTrailingZeros.data.toList.drop 22 = dktJ13_numberOfTrailingZeros_1 := dk_seg dksJ13_numberOfTrailingZeros_0 22 rfl rfl
theorem dJ13_numberOfTrailingZeros_0 : decode cJ13_numberOfTrailingZeros 0 = .ok (.lload_n 0, 1) := dk_30 (dk_at dksJ13_numberOfTrailingZeros_0 0 rfl rfl)
theorem dJ13_numberOfTrailingZeros_1 : decode cJ13_numberOfTrailingZeros 1 = .ok (.l2i, 1) := dk_136 (dk_at dksJ13_numberOfTrailingZeros_0 1 rfl rfl)
theorem dJ13_numberOfTrailingZeros_2 : decode cJ13_numberOfTrailingZeros 2 = .ok (.istore_n 2, 1) := dk_61 (dk_at dksJ13_numberOfTrailingZeros_0 2 rfl rfl)
theorem dJ13_numberOfTrailingZeros_3 : decode cJ13_numberOfTrailingZeros 3 = .ok (.iload_n 2, 1) := dk_28 (dk_at dksJ13_numberOfTrailingZeros_0 3 rfl rfl)
theorem dJ13_numberOfTrailingZeros_4 : decode cJ13_numberOfTrailingZeros 4 = .ok (.ifCond .ne 17, 3) := dk_154 0 17 (dk_at dksJ13_numberOfTrailingZeros_0 4 rfl rfl)
theorem dJ13_numberOfTrailingZeros_7 : decode cJ13_numberOfTrailingZeros 7 = .ok (.bipush 32, 2) := dk_16 32 (dk_at dksJ13_numberOfTrailingZeros_0 7 rfl rfl)
theorem dJ13_numberOfTrailingZeros_9 : decode cJ13_numberOfTrailingZeros 9 = .ok (.lload_n 0, 1) := dk_30 (dk_at dksJ13_numberOfTrailingZeros_0 9 rfl rfl)
theorem dJ13_numberOfTrailingZeros_10 : decode cJ13_numberOfTrailingZeros 10 = .ok (.bipush 32, 2) := dk_16 32 (dk_at dksJ13_numberOfTrailingZeros_0 10 rfl rfl)
theorem dJ13_numberOfTrailingZeros_12 : decode cJ13_numberOfTrailingZeros 12 = .ok (.lushr, 1) := dk_125 (dk_at dksJ13_numberOfTrailingZeros_0 12 rfl rfl)
theorem dJ13_numberOfTrailingZeros_13 : decode cJ13_numberOfTrailingZeros 13 = .ok (.l2i, 1) := dk_136 (dk_at dksJ13_numberOfTrailingZeros_0 13 rfl rfl)
theorem dJ13_numberOfTrailingZeros_14 : decode cJ13_numberOfTrailingZeros 14 = .ok (.invokestatic 311, 3) := dk_184 1 55 (dk_at dksJ13_numberOfTrailingZeros_0 14 rfl rfl)
theorem dJ13_numberOfTrailingZeros_17 : decode cJ13_numberOfTrailingZeros 17 = .ok (.iadd, 1) := dk_96 (dk_at dksJ13_numberOfTrailingZeros_0 17 rfl rfl)
theorem dJ13_numberOfTrailingZeros_18 : decode cJ13_numberOfTrailingZeros 18 = .ok (.goto 7, 3) := dk_167 0 7 (dk_at dksJ13_numberOfTrailingZeros_0 18 rfl rfl)
theorem dJ13_numberOfTrailingZeros_21 : decode cJ13_numberOfTrailingZeros 21 = .ok (.iload_n 2, 1) := dk_28 (dk_at dksJ13_numberOfTrailingZeros_0 21 rfl rfl)
theorem dJ13_numberOfTrailingZeros_22 : decode cJ13_numberOfTrailingZeros 22 = .ok (.invokestatic 311, 3) := dk_184 1 55 (dk_at dksJ13_numberOfTrailingZeros_1 0 rfl rfl)
theorem dJ13_numberOfTrailingZeros_25 : decode cJ13_numberOfTrailingZeros 25 = .ok (.ireturn, 1) := dk_172 (dk_at dksJ13_numberOfTrailingZeros_1 3 rfl rfl)
theorem q185 : (Jvm.Cond.initialized "java/lang/Long") ∈ lw_all := lw_g (lw_at lw_m1 29 rfl) rfl
theorem q1569 : (Jvm.Cond.static ({ cls := "java/lang/Long", name := "numberOfTrailingZeros", desc := "(J)I" } : Jvm.MethodName)) ∈ lw_all := lw_g (lw_at lw_m6 213 rfl) rfl
theorem q1570 : (Jvm.Cond.code ({ cls := "java/lang/Long", name := "numberOfTrailingZeros", desc := "(J)I" } : Jvm.MethodName) prog_24_method_49_code (3 : Nat) (Option.some Jvm.ClassFile.FieldType.int)) ∈ lw_all := lw_g (lw_at lw_m6 214 rfl) rfl
theorem q1571 : (Jvm.Cond.methodLink "java/lang/Long" (311 : Nat) ({ cls := "java/lang/Integer", name := "numberOfTrailingZeros", desc := "(I)I" } : Jvm.MethodName)) ∈ lw_all := lw_g (lw_at lw_m6 215 rfl) rfl

/-! java/lang/Integer -/
set_option maxRecDepth 100000
def RJ14 : String := "java/lang/Integer"
abbrev cJ14_numberOfTrailingZeros : ByteArray := prog_23_method_48_code
def yJ14_numberOfTrailingZeros : MethodName := ⟨RJ14, "numberOfTrailingZeros", "(I)I"⟩
def dkwJ14_numberOfTrailingZeros_3 : List UInt8 := [5, 124, 59, 27, 26, 4, 124, 96, 172]
abbrev dktJ14_numberOfTrailingZeros_3 : List UInt8 := dkwJ14_numberOfTrailingZeros_3 ++ []
def dkwJ14_numberOfTrailingZeros_2 : List UInt8 := [124, 59, 26, 16, 16, 164, 0, 10, 132, 1, 4, 26, 7, 124, 59, 26, 7, 164, 0, 10, 132, 1, 2, 26]
abbrev dktJ14_numberOfTrailingZeros_2 : List UInt8 := dkwJ14_numberOfTrailingZeros_2 ++ dktJ14_numberOfTrailingZeros_3
def dkwJ14_numberOfTrailingZeros_1 : List UInt8 := [164, 0, 11, 132, 1, 16, 26, 16, 16, 124, 59, 26, 17, 1, 0, 164, 0, 11, 132, 1, 8, 26, 16, 8]
abbrev dktJ14_numberOfTrailingZeros_1 : List UInt8 := dkwJ14_numberOfTrailingZeros_1 ++ dktJ14_numberOfTrailingZeros_2
def dkwJ14_numberOfTrailingZeros_0 : List UInt8 := [26, 2, 130, 26, 4, 100, 126, 59, 26, 157, 0, 8, 26, 16, 32, 126, 172, 4, 60, 26, 19, 1, 8]
abbrev dktJ14_numberOfTrailingZeros_0 : List UInt8 := dkwJ14_numberOfTrailingZeros_0 ++ dktJ14_numberOfTrailingZeros_1
theorem dksJ14_numberOfTrailingZeros_0 : cJ14_numberOfTrailingZeros.data.toList.drop 0 = dktJ14_numberOfTrailingZeros_0 := by decide +kernel
theorem dksJ14_numberOfTrailingZeros_1 : cJ14_numberOfTrailingZeros.data.toList.drop 23 = dktJ14_numberOfTrailingZeros_1 := dk_seg dksJ14_numberOfTrailingZeros_0 23 rfl rfl
theorem dksJ14_numberOfTrailingZeros_2 : cJ14_numberOfTrailingZeros.data.toList.drop 47 = dktJ14_numberOfTrailingZeros_2 := dk_seg dksJ14_numberOfTrailingZeros_1 24 rfl rfl
theorem dksJ14_numberOfTrailingZeros_3 : cJ14_numberOfTrailingZeros.data.toList.drop 71 = dktJ14_numberOfTrailingZeros_3 := dk_seg dksJ14_numberOfTrailingZeros_2 24 rfl rfl
theorem dJ14_numberOfTrailingZeros_0 : decode cJ14_numberOfTrailingZeros 0 = .ok (.iload_n 0, 1) := dk_26 (dk_at dksJ14_numberOfTrailingZeros_0 0 rfl rfl)
theorem dJ14_numberOfTrailingZeros_1 : decode cJ14_numberOfTrailingZeros 1 = .ok (.iconst (-1), 1) := dk_2 (dk_at dksJ14_numberOfTrailingZeros_0 1 rfl rfl)
theorem dJ14_numberOfTrailingZeros_2 : decode cJ14_numberOfTrailingZeros 2 = .ok (.ixor, 1) := dk_130 (dk_at dksJ14_numberOfTrailingZeros_0 2 rfl rfl)
theorem dJ14_numberOfTrailingZeros_3 : decode cJ14_numberOfTrailingZeros 3 = .ok (.iload_n 0, 1) := dk_26 (dk_at dksJ14_numberOfTrailingZeros_0 3 rfl rfl)
theorem dJ14_numberOfTrailingZeros_4 : decode cJ14_numberOfTrailingZeros 4 = .ok (.iconst 1, 1) := dk_4 (dk_at dksJ14_numberOfTrailingZeros_0 4 rfl rfl)
theorem dJ14_numberOfTrailingZeros_5 : decode cJ14_numberOfTrailingZeros 5 = .ok (.isub, 1) := dk_100 (dk_at dksJ14_numberOfTrailingZeros_0 5 rfl rfl)
theorem dJ14_numberOfTrailingZeros_6 : decode cJ14_numberOfTrailingZeros 6 = .ok (.iand, 1) := dk_126 (dk_at dksJ14_numberOfTrailingZeros_0 6 rfl rfl)
theorem dJ14_numberOfTrailingZeros_7 : decode cJ14_numberOfTrailingZeros 7 = .ok (.istore_n 0, 1) := dk_59 (dk_at dksJ14_numberOfTrailingZeros_0 7 rfl rfl)
theorem dJ14_numberOfTrailingZeros_8 : decode cJ14_numberOfTrailingZeros 8 = .ok (.iload_n 0, 1) := dk_26 (dk_at dksJ14_numberOfTrailingZeros_0 8 rfl rfl)
theorem dJ14_numberOfTrailingZeros_9 : decode cJ14_numberOfTrailingZeros 9 = .ok (.ifCond .gt 8, 3) := dk_157 0 8 (dk_at dksJ14_numberOfTrailingZeros_0 9 rfl rfl)
theorem dJ14_numberOfTrailingZeros_12 : decode cJ14_numberOfTrailingZeros 12 = .ok (.iload_n 0, 1) := dk_26 (dk_at dksJ14_numberOfTrailingZeros_0 12 rfl rfl)
theorem dJ14_numberOfTrailingZeros_13 : decode cJ14_numberOfTrailingZeros 13 = .ok (.bipush 32, 2) := dk_16 32 (dk_at dksJ14_numberOfTrailingZeros_0 13 rfl rfl)
theorem dJ14_numberOfTrailingZeros_15 : decode cJ14_numberOfTrailingZeros 15 = .ok (.iand, 1) := dk_126 (dk_at dksJ14_numberOfTrailingZeros_0 15 rfl rfl)
theorem dJ14_numberOfTrailingZeros_16 : decode cJ14_numberOfTrailingZeros 16 = .ok (.ireturn, 1) := dk_172 (dk_at dksJ14_numberOfTrailingZeros_0 16 rfl rfl)
theorem dJ14_numberOfTrailingZeros_17 : decode cJ14_numberOfTrailingZeros 17 = .ok (.iconst 1, 1) := dk_4 (dk_at dksJ14_numberOfTrailingZeros_0 17 rfl rfl)
theorem dJ14_numberOfTrailingZeros_18 : decode cJ14_numberOfTrailingZeros 18 = .ok (.istore_n 1, 1) := dk_60 (dk_at dksJ14_numberOfTrailingZeros_0 18 rfl rfl)
theorem dJ14_numberOfTrailingZeros_19 : decode cJ14_numberOfTrailingZeros 19 = .ok (.iload_n 0, 1) := dk_26 (dk_at dksJ14_numberOfTrailingZeros_0 19 rfl rfl)
theorem dJ14_numberOfTrailingZeros_20 : decode cJ14_numberOfTrailingZeros 20 = .ok (.ldc_w 264, 3) := dk_19 1 8 (dk_at dksJ14_numberOfTrailingZeros_0 20 rfl rfl)
theorem dJ14_numberOfTrailingZeros_23 : decode cJ14_numberOfTrailingZeros 23 = .ok (.if_icmp .le 11, 3) := dk_164 0 11 (dk_at dksJ14_numberOfTrailingZeros_1 0 rfl rfl)
theorem dJ14_numberOfTrailingZeros_26 : decode cJ14_numberOfTrailingZeros 26 = .ok (.iinc 1 16, 3) := dk_132 1 16 (dk_at dksJ14_numberOfTrailingZeros_1 3 rfl rfl)
theorem dJ14_numberOfTrailingZeros_29 : decode cJ14_numberOfTrailingZeros 29 = .ok (.iload_n 0, 1) := dk_26 (dk_at dksJ14_numberOfTrailingZeros_1 6 rfl rfl)
theorem dJ14_numberOfTrailingZeros_30 : decode cJ14_numberOfTrailingZeros 30 = .ok (.bipush 16, 2) := dk_16 16 (dk_at dksJ14_numberOfTrailingZeros_1 7 rfl rfl)
theorem dJ14_numberOfTrailingZeros_32 : decode cJ14_numberOfTrailingZeros 32 = .ok (.iushr, 1) := dk_124 (dk_at dksJ14_numberOfTrailingZeros_1 9 rfl rfl)
theorem dJ14_numberOfTrailingZeros_33 : decode cJ14_numberOfTrailingZeros 33 = .ok (.istore_n 0, 1) := dk_59 (dk_at dksJ14_numberOfTrailingZeros_1 10 rfl rfl)
theorem dJ14_numberOfTrailingZeros_34 : decode cJ14_numberOfTrailingZeros 34 = .ok (.iload_n 0, 1) := dk_26 (dk_at dksJ14_numberOfTrailingZeros_1 11 rfl rfl)
theorem dJ14_numberOfTrailingZeros_35 : decode cJ14_numberOfTrailingZeros 35 = .ok (.sipush 256, 3) := dk_17 1 0 (dk_at dksJ14_numberOfTrailingZeros_1 12 rfl rfl)
theorem dJ14_numberOfTrailingZeros_38 : decode cJ14_numberOfTrailingZeros 38 = .ok (.if_icmp .le 11, 3) := dk_164 0 11 (dk_at dksJ14_numberOfTrailingZeros_1 15 rfl rfl)
theorem dJ14_numberOfTrailingZeros_41 : decode cJ14_numberOfTrailingZeros 41 = .ok (.iinc 1 8, 3) := dk_132 1 8 (dk_at dksJ14_numberOfTrailingZeros_1 18 rfl rfl)
theorem dJ14_numberOfTrailingZeros_44 : decode cJ14_numberOfTrailingZeros 44 = .ok (.iload_n 0, 1) := dk_26 (dk_at dksJ14_numberOfTrailingZeros_1 21 rfl rfl)
theorem dJ14_numberOfTrailingZeros_45 : decode cJ14_numberOfTrailingZeros 45 = .ok (.bipush 8, 2) := dk_16 8 (dk_at dksJ14_numberOfTrailingZeros_1 22 rfl rfl)
theorem dJ14_numberOfTrailingZeros_47 : decode cJ14_numberOfTrailingZeros 47 = .ok (.iushr, 1) := dk_124 (dk_at dksJ14_numberOfTrailingZeros_2 0 rfl rfl)
theorem dJ14_numberOfTrailingZeros_48 : decode cJ14_numberOfTrailingZeros 48 = .ok (.istore_n 0, 1) := dk_59 (dk_at dksJ14_numberOfTrailingZeros_2 1 rfl rfl)
theorem dJ14_numberOfTrailingZeros_49 : decode cJ14_numberOfTrailingZeros 49 = .ok (.iload_n 0, 1) := dk_26 (dk_at dksJ14_numberOfTrailingZeros_2 2 rfl rfl)
theorem dJ14_numberOfTrailingZeros_50 : decode cJ14_numberOfTrailingZeros 50 = .ok (.bipush 16, 2) := dk_16 16 (dk_at dksJ14_numberOfTrailingZeros_2 3 rfl rfl)
theorem dJ14_numberOfTrailingZeros_52 : decode cJ14_numberOfTrailingZeros 52 = .ok (.if_icmp .le 10, 3) := dk_164 0 10 (dk_at dksJ14_numberOfTrailingZeros_2 5 rfl rfl)
theorem dJ14_numberOfTrailingZeros_55 : decode cJ14_numberOfTrailingZeros 55 = .ok (.iinc 1 4, 3) := dk_132 1 4 (dk_at dksJ14_numberOfTrailingZeros_2 8 rfl rfl)
theorem dJ14_numberOfTrailingZeros_58 : decode cJ14_numberOfTrailingZeros 58 = .ok (.iload_n 0, 1) := dk_26 (dk_at dksJ14_numberOfTrailingZeros_2 11 rfl rfl)
theorem dJ14_numberOfTrailingZeros_59 : decode cJ14_numberOfTrailingZeros 59 = .ok (.iconst 4, 1) := dk_7 (dk_at dksJ14_numberOfTrailingZeros_2 12 rfl rfl)
theorem dJ14_numberOfTrailingZeros_60 : decode cJ14_numberOfTrailingZeros 60 = .ok (.iushr, 1) := dk_124 (dk_at dksJ14_numberOfTrailingZeros_2 13 rfl rfl)
theorem dJ14_numberOfTrailingZeros_61 : decode cJ14_numberOfTrailingZeros 61 = .ok (.istore_n 0, 1) := dk_59 (dk_at dksJ14_numberOfTrailingZeros_2 14 rfl rfl)
theorem dJ14_numberOfTrailingZeros_62 : decode cJ14_numberOfTrailingZeros 62 = .ok (.iload_n 0, 1) := dk_26 (dk_at dksJ14_numberOfTrailingZeros_2 15 rfl rfl)
theorem dJ14_numberOfTrailingZeros_63 : decode cJ14_numberOfTrailingZeros 63 = .ok (.iconst 4, 1) := dk_7 (dk_at dksJ14_numberOfTrailingZeros_2 16 rfl rfl)
theorem dJ14_numberOfTrailingZeros_64 : decode cJ14_numberOfTrailingZeros 64 = .ok (.if_icmp .le 10, 3) := dk_164 0 10 (dk_at dksJ14_numberOfTrailingZeros_2 17 rfl rfl)
theorem dJ14_numberOfTrailingZeros_67 : decode cJ14_numberOfTrailingZeros 67 = .ok (.iinc 1 2, 3) := dk_132 1 2 (dk_at dksJ14_numberOfTrailingZeros_2 20 rfl rfl)
theorem dJ14_numberOfTrailingZeros_70 : decode cJ14_numberOfTrailingZeros 70 = .ok (.iload_n 0, 1) := dk_26 (dk_at dksJ14_numberOfTrailingZeros_2 23 rfl rfl)
theorem dJ14_numberOfTrailingZeros_71 : decode cJ14_numberOfTrailingZeros 71 = .ok (.iconst 2, 1) := dk_5 (dk_at dksJ14_numberOfTrailingZeros_3 0 rfl rfl)
theorem dJ14_numberOfTrailingZeros_72 : decode cJ14_numberOfTrailingZeros 72 = .ok (.iushr, 1) := dk_124 (dk_at dksJ14_numberOfTrailingZeros_3 1 rfl rfl)
theorem dJ14_numberOfTrailingZeros_73 : decode cJ14_numberOfTrailingZeros 73 = .ok (.istore_n 0, 1) := dk_59 (dk_at dksJ14_numberOfTrailingZeros_3 2 rfl rfl)
theorem dJ14_numberOfTrailingZeros_74 : decode cJ14_numberOfTrailingZeros 74 = .ok (.iload_n 1, 1) := dk_27 (dk_at dksJ14_numberOfTrailingZeros_3 3 rfl rfl)
theorem dJ14_numberOfTrailingZeros_75 : decode cJ14_numberOfTrailingZeros 75 = .ok (.iload_n 0, 1) := dk_26 (dk_at dksJ14_numberOfTrailingZeros_3 4 rfl rfl)
theorem dJ14_numberOfTrailingZeros_76 : decode cJ14_numberOfTrailingZeros 76 = .ok (.iconst 1, 1) := dk_4 (dk_at dksJ14_numberOfTrailingZeros_3 5 rfl rfl)
theorem dJ14_numberOfTrailingZeros_77 : decode cJ14_numberOfTrailingZeros 77 = .ok (.iushr, 1) := dk_124 (dk_at dksJ14_numberOfTrailingZeros_3 6 rfl rfl)
theorem dJ14_numberOfTrailingZeros_78 : decode cJ14_numberOfTrailingZeros 78 = .ok (.iadd, 1) := dk_96 (dk_at dksJ14_numberOfTrailingZeros_3 7 rfl rfl)
theorem dJ14_numberOfTrailingZeros_79 : decode cJ14_numberOfTrailingZeros 79 = .ok (.ireturn, 1) := dk_172 (dk_at dksJ14_numberOfTrailingZeros_3 8 rfl rfl)
abbrev cJ14_bitCount : ByteArray := prog_23_method_49_code
def yJ14_bitCount : MethodName := ⟨RJ14, "bitCount", "(I)I"⟩
def dkwJ14_bitCount_2 : List UInt8 := [26, 16, 63, 126, 172]
abbrev dktJ14_bitCount_2 : List UInt8 := dkwJ14_bitCount_2 ++ []
def dkwJ14_bitCount_1 : List UInt8 := [26, 26, 7, 124, 96, 19, 1, 11, 126, 59, 26, 26, 16, 8, 124, 96, 59, 26, 26, 16, 16, 124, 96, 59]
abbrev dktJ14_bitCount_1 : List UInt8 := dkwJ14_bitCount_1 ++ dktJ14_bitCount_2
def dkwJ14_bitCount_0 : List UInt8 := [26, 26, 4, 124, 19, 1, 9, 126, 100, 59, 26, 19, 1, 10, 126, 26, 5, 124, 19, 1, 10, 126, 96, 59]
abbrev dktJ14_bitCount_0 : List UInt8 := dkwJ14_bitCount_0 ++ dktJ14_bitCount_1
theorem dksJ14_bitCount_0 : cJ14_bitCount.data.toList.drop 0 = dktJ14_bitCount_0 := by decide +kernel
theorem dksJ14_bitCount_1 : cJ14_bitCount.data.toList.drop 24 = dktJ14_bitCount_1 := dk_seg dksJ14_bitCount_0 24 rfl rfl
theorem dksJ14_bitCount_2 : cJ14_bitCount.data.toList.drop 48 = dktJ14_bitCount_2 := dk_seg dksJ14_bitCount_1 24 rfl rfl
theorem dJ14_bitCount_0 : decode cJ14_bitCount 0 = .ok (.iload_n 0, 1) := dk_26 (dk_at dksJ14_bitCount_0 0 rfl rfl)
theorem dJ14_bitCount_1 : decode cJ14_bitCount 1 = .ok (.iload_n 0, 1) := dk_26 (dk_at dksJ14_bitCount_0 1 rfl rfl)
theorem dJ14_bitCount_2 : decode cJ14_bitCount 2 = .ok (.iconst 1, 1) := dk_4 (dk_at dksJ14_bitCount_0 2 rfl rfl)
theorem dJ14_bitCount_3 : decode cJ14_bitCount 3 = .ok (.iushr, 1) := dk_124 (dk_at dksJ14_bitCount_0 3 rfl rfl)
theorem dJ14_bitCount_4 : decode cJ14_bitCount 4 = .ok (.ldc_w 265, 3) := dk_19 1 9 (dk_at dksJ14_bitCount_0 4 rfl rfl)
theorem dJ14_bitCount_7 : decode cJ14_bitCount 7 = .ok (.iand, 1) := dk_126 (dk_at dksJ14_bitCount_0 7 rfl rfl)
theorem dJ14_bitCount_8 : decode cJ14_bitCount 8 = .ok (.isub, 1) := dk_100 (dk_at dksJ14_bitCount_0 8 rfl rfl)
theorem dJ14_bitCount_9 : decode cJ14_bitCount 9 = .ok (.istore_n 0, 1) := dk_59 (dk_at dksJ14_bitCount_0 9 rfl rfl)
theorem dJ14_bitCount_10 : decode cJ14_bitCount 10 = .ok (.iload_n 0, 1) := dk_26 (dk_at dksJ14_bitCount_0 10 rfl rfl)
theorem dJ14_bitCount_11 : decode cJ14_bitCount 11 = .ok (.ldc_w 266, 3) := dk_19 1 10 (dk_at dksJ14_bitCount_0 11 rfl rfl)
theorem dJ14_bitCount_14 : decode cJ14_bitCount 14 = .ok (.iand, 1) := dk_126 (dk_at dksJ14_bitCount_0 14 rfl rfl)
theorem dJ14_bitCount_15 : decode cJ14_bitCount 15 = .ok (.iload_n 0, 1) := dk_26 (dk_at dksJ14_bitCount_0 15 rfl rfl)
theorem dJ14_bitCount_16 : decode cJ14_bitCount 16 = .ok (.iconst 2, 1) := dk_5 (dk_at dksJ14_bitCount_0 16 rfl rfl)
theorem dJ14_bitCount_17 : decode cJ14_bitCount 17 = .ok (.iushr, 1) := dk_124 (dk_at dksJ14_bitCount_0 17 rfl rfl)
theorem dJ14_bitCount_18 : decode cJ14_bitCount 18 = .ok (.ldc_w 266, 3) := dk_19 1 10 (dk_at dksJ14_bitCount_0 18 rfl rfl)
theorem dJ14_bitCount_21 : decode cJ14_bitCount 21 = .ok (.iand, 1) := dk_126 (dk_at dksJ14_bitCount_0 21 rfl rfl)
theorem dJ14_bitCount_22 : decode cJ14_bitCount 22 = .ok (.iadd, 1) := dk_96 (dk_at dksJ14_bitCount_0 22 rfl rfl)
theorem dJ14_bitCount_23 : decode cJ14_bitCount 23 = .ok (.istore_n 0, 1) := dk_59 (dk_at dksJ14_bitCount_0 23 rfl rfl)
theorem dJ14_bitCount_24 : decode cJ14_bitCount 24 = .ok (.iload_n 0, 1) := dk_26 (dk_at dksJ14_bitCount_1 0 rfl rfl)
theorem dJ14_bitCount_25 : decode cJ14_bitCount 25 = .ok (.iload_n 0, 1) := dk_26 (dk_at dksJ14_bitCount_1 1 rfl rfl)
theorem dJ14_bitCount_26 : decode cJ14_bitCount 26 = .ok (.iconst 4, 1) := dk_7 (dk_at dksJ14_bitCount_1 2 rfl rfl)
theorem dJ14_bitCount_27 : decode cJ14_bitCount 27 = .ok (.iushr, 1) := dk_124 (dk_at dksJ14_bitCount_1 3 rfl rfl)
theorem dJ14_bitCount_28 : decode cJ14_bitCount 28 = .ok (.iadd, 1) := dk_96 (dk_at dksJ14_bitCount_1 4 rfl rfl)
theorem dJ14_bitCount_29 : decode cJ14_bitCount 29 = .ok (.ldc_w 267, 3) := dk_19 1 11 (dk_at dksJ14_bitCount_1 5 rfl rfl)
theorem dJ14_bitCount_32 : decode cJ14_bitCount 32 = .ok (.iand, 1) := dk_126 (dk_at dksJ14_bitCount_1 8 rfl rfl)
theorem dJ14_bitCount_33 : decode cJ14_bitCount 33 = .ok (.istore_n 0, 1) := dk_59 (dk_at dksJ14_bitCount_1 9 rfl rfl)
theorem dJ14_bitCount_34 : decode cJ14_bitCount 34 = .ok (.iload_n 0, 1) := dk_26 (dk_at dksJ14_bitCount_1 10 rfl rfl)
theorem dJ14_bitCount_35 : decode cJ14_bitCount 35 = .ok (.iload_n 0, 1) := dk_26 (dk_at dksJ14_bitCount_1 11 rfl rfl)
theorem dJ14_bitCount_36 : decode cJ14_bitCount 36 = .ok (.bipush 8, 2) := dk_16 8 (dk_at dksJ14_bitCount_1 12 rfl rfl)
theorem dJ14_bitCount_38 : decode cJ14_bitCount 38 = .ok (.iushr, 1) := dk_124 (dk_at dksJ14_bitCount_1 14 rfl rfl)
theorem dJ14_bitCount_39 : decode cJ14_bitCount 39 = .ok (.iadd, 1) := dk_96 (dk_at dksJ14_bitCount_1 15 rfl rfl)
theorem dJ14_bitCount_40 : decode cJ14_bitCount 40 = .ok (.istore_n 0, 1) := dk_59 (dk_at dksJ14_bitCount_1 16 rfl rfl)
theorem dJ14_bitCount_41 : decode cJ14_bitCount 41 = .ok (.iload_n 0, 1) := dk_26 (dk_at dksJ14_bitCount_1 17 rfl rfl)
theorem dJ14_bitCount_42 : decode cJ14_bitCount 42 = .ok (.iload_n 0, 1) := dk_26 (dk_at dksJ14_bitCount_1 18 rfl rfl)
theorem dJ14_bitCount_43 : decode cJ14_bitCount 43 = .ok (.bipush 16, 2) := dk_16 16 (dk_at dksJ14_bitCount_1 19 rfl rfl)
theorem dJ14_bitCount_45 : decode cJ14_bitCount 45 = .ok (.iushr, 1) := dk_124 (dk_at dksJ14_bitCount_1 21 rfl rfl)
theorem dJ14_bitCount_46 : decode cJ14_bitCount 46 = .ok (.iadd, 1) := dk_96 (dk_at dksJ14_bitCount_1 22 rfl rfl)
theorem dJ14_bitCount_47 : decode cJ14_bitCount 47 = .ok (.istore_n 0, 1) := dk_59 (dk_at dksJ14_bitCount_1 23 rfl rfl)
theorem dJ14_bitCount_48 : decode cJ14_bitCount 48 = .ok (.iload_n 0, 1) := dk_26 (dk_at dksJ14_bitCount_2 0 rfl rfl)
theorem dJ14_bitCount_49 : decode cJ14_bitCount 49 = .ok (.bipush 63, 2) := dk_16 63 (dk_at dksJ14_bitCount_2 1 rfl rfl)
theorem dJ14_bitCount_51 : decode cJ14_bitCount 51 = .ok (.iand, 1) := dk_126 (dk_at dksJ14_bitCount_2 3 rfl rfl)
theorem dJ14_bitCount_52 : decode cJ14_bitCount 52 = .ok (.ireturn, 1) := dk_172 (dk_at dksJ14_bitCount_2 4 rfl rfl)
theorem q186 : (Jvm.Cond.initialized "java/lang/Integer") ∈ lw_all := lw_g (lw_at lw_m1 30 rfl) rfl
theorem q1572 : (Jvm.Cond.static ({ cls := "java/lang/Integer", name := "numberOfTrailingZeros", desc := "(I)I" } : Jvm.MethodName)) ∈ lw_all := lw_g (lw_at lw_m6 216 rfl) rfl
theorem q1573 : (Jvm.Cond.code ({ cls := "java/lang/Integer", name := "numberOfTrailingZeros", desc := "(I)I" } : Jvm.MethodName) prog_23_method_48_code (2 : Nat) (Option.some Jvm.ClassFile.FieldType.int)) ∈ lw_all := lw_g (lw_at lw_m6 217 rfl) rfl
theorem q1574 : (Jvm.Cond.constant "java/lang/Integer" (264 : Nat) (65536 : Int32)) ∈ lw_all := lw_g (lw_at lw_m6 218 rfl) rfl
theorem q1764 : (Jvm.Cond.static ({ cls := "java/lang/Integer", name := "bitCount", desc := "(I)I" } : Jvm.MethodName)) ∈ lw_all := lw_g (lw_at lw_m7 168 rfl) rfl
theorem q1765 : (Jvm.Cond.code ({ cls := "java/lang/Integer", name := "bitCount", desc := "(I)I" } : Jvm.MethodName) prog_23_method_49_code (1 : Nat) (Option.some Jvm.ClassFile.FieldType.int)) ∈ lw_all := lw_g (lw_at lw_m7 169 rfl) rfl
theorem q1766 : (Jvm.Cond.constant "java/lang/Integer" (265 : Nat) (1431655765 : Int32)) ∈ lw_all := lw_g (lw_at lw_m7 170 rfl) rfl
theorem q1767 : (Jvm.Cond.constant "java/lang/Integer" (266 : Nat) (858993459 : Int32)) ∈ lw_all := lw_g (lw_at lw_m7 171 rfl) rfl
theorem q1768 : (Jvm.Cond.constant "java/lang/Integer" (267 : Nat) (252645135 : Int32)) ∈ lw_all := lw_g (lw_at lw_m7 172 rfl) rfl

/-! java/lang/Object -/
set_option maxRecDepth 100000
def RJ15 : String := "java/lang/Object"
abbrev cJ15_init : ByteArray := object_method_1_code
def yJ15_init : MethodName := ⟨RJ15, "<init>", "()V"⟩
theorem dJ15_init_0 : decode cJ15_init 0 = .ok (.return_, 1) := by decide +kernel
theorem q193 : (Jvm.Cond.instanceMethod ({ cls := "java/lang/Object", name := "<init>", desc := "()V" } : Jvm.MethodName)) ∈ lw_all := lw_g (lw_at lw_m1 37 rfl) rfl
theorem q194 : (Jvm.Cond.code ({ cls := "java/lang/Object", name := "<init>", desc := "()V" } : Jvm.MethodName) object_method_1_code (1 : Nat) (Option.none : Option Jvm.ClassFile.FieldType)) ∈ lw_all := lw_g (lw_at lw_m1 38 rfl) rfl

/-! ClauseCourt$Truth -/
set_option maxRecDepth 100000
def RX2 : String := "ClauseCourt$Truth"
def TX2 : u_T := fun k => match k with
  | 0 => ("ClauseCourt$Truth", "of", "[B", true)
  | 1 => ("ClauseCourt$Truth", "names", "I", false)
  | 2 => ("ClauseCourt$Truth", "rules", "I", false)
  | _ => ("ClauseCourt$Truth", "isThere", "Z", false)
def tyX2 : Nat → FieldType := fun k => match k with
  | 0 => .array .byte
  | 1 => .int
  | 2 => .int
  | _ => .boolean
abbrev wsX20 : List Cond := u_ws RX2 TX2 4
theorem nmX2 : ∀ a, a < 4 → ∀ b, b < 4 → a ≠ b → (TX2 a).2.1 ≠ (TX2 b).2.1 := by decide +kernel
theorem tyX2_ok : ∀ k, k < 4 → parseFieldDescriptor (TX2 k).2.2.1 = some (tyX2 k) := by decide +kernel
abbrev cX2_init : ByteArray := prog_15_method_1_code
def yX2_init : MethodName := ⟨RX2, "<init>", "()V"⟩
def dkwX2_init_0 : List UInt8 := [42, 183, 0, 3, 42, 17, 1, 45, 188, 8, 181, 0, 9, 177]
abbrev dktX2_init_0 : List UInt8 := dkwX2_init_0 ++ []
theorem dksX2_init_0 : cX2_init.data.toList.drop 0 = dktX2_init_0 := by decide +kernel
theorem dX2_init_0 : decode cX2_init 0 = .ok (.aload_n 0, 1) := dk_42 (dk_at dksX2_init_0 0 rfl rfl)
theorem dX2_init_1 : decode cX2_init 1 = .ok (.invokespecial 3, 3) := dk_183 0 3 (dk_at dksX2_init_0 1 rfl rfl)
theorem dX2_init_4 : decode cX2_init 4 = .ok (.aload_n 0, 1) := dk_42 (dk_at dksX2_init_0 4 rfl rfl)
theorem dX2_init_5 : decode cX2_init 5 = .ok (.sipush 301, 3) := dk_17 1 45 (dk_at dksX2_init_0 5 rfl rfl)
theorem dX2_init_8 : decode cX2_init 8 = .ok (.newarray .byte, 2) := dk_188_8 (dk_at dksX2_init_0 8 rfl rfl)
theorem dX2_init_10 : decode cX2_init 10 = .ok (.putfield 9, 3) := dk_181 0 9 (dk_at dksX2_init_0 10 rfl rfl)
theorem dX2_init_13 : decode cX2_init 13 = .ok (.return_, 1) := dk_177 (dk_at dksX2_init_0 13 rfl rfl)
abbrev cX2_isTrue : ByteArray := prog_15_method_2_code
def yX2_isTrue : MethodName := ⟨RX2, "isTrue", "(I)Z"⟩
def dkwX2_isTrue_1 : List UInt8 := [167, 0, 4, 3, 172]
abbrev dktX2_isTrue_1 : List UInt8 := dkwX2_isTrue_1 ++ []
def dkwX2_isTrue_0 : List UInt8 := [42, 180, 0, 9, 27, 184, 0, 15, 51, 27, 158, 0, 7, 4, 167, 0, 4, 3, 160, 0, 7, 4]
abbrev dktX2_isTrue_0 : List UInt8 := dkwX2_isTrue_0 ++ dktX2_isTrue_1
theorem dksX2_isTrue_0 : cX2_isTrue.data.toList.drop 0 = dktX2_isTrue_0 := by decide +kernel
theorem dksX2_isTrue_1 : cX2_isTrue.data.toList.drop 22 = dktX2_isTrue_1 := dk_seg dksX2_isTrue_0 22 rfl rfl
theorem dX2_isTrue_0 : decode cX2_isTrue 0 = .ok (.aload_n 0, 1) := dk_42 (dk_at dksX2_isTrue_0 0 rfl rfl)
theorem dX2_isTrue_1 : decode cX2_isTrue 1 = .ok (.getfield 9, 3) := dk_180 0 9 (dk_at dksX2_isTrue_0 1 rfl rfl)
theorem dX2_isTrue_4 : decode cX2_isTrue 4 = .ok (.iload_n 1, 1) := dk_27 (dk_at dksX2_isTrue_0 4 rfl rfl)
theorem dX2_isTrue_5 : decode cX2_isTrue 5 = .ok (.invokestatic 15, 3) := dk_184 0 15 (dk_at dksX2_isTrue_0 5 rfl rfl)
theorem dX2_isTrue_8 : decode cX2_isTrue 8 = .ok (.baload, 1) := dk_51 (dk_at dksX2_isTrue_0 8 rfl rfl)
theorem dX2_isTrue_9 : decode cX2_isTrue 9 = .ok (.iload_n 1, 1) := dk_27 (dk_at dksX2_isTrue_0 9 rfl rfl)
theorem dX2_isTrue_10 : decode cX2_isTrue 10 = .ok (.ifCond .le 7, 3) := dk_158 0 7 (dk_at dksX2_isTrue_0 10 rfl rfl)
theorem dX2_isTrue_13 : decode cX2_isTrue 13 = .ok (.iconst 1, 1) := dk_4 (dk_at dksX2_isTrue_0 13 rfl rfl)
theorem dX2_isTrue_14 : decode cX2_isTrue 14 = .ok (.goto 4, 3) := dk_167 0 4 (dk_at dksX2_isTrue_0 14 rfl rfl)
theorem dX2_isTrue_17 : decode cX2_isTrue 17 = .ok (.iconst 0, 1) := dk_3 (dk_at dksX2_isTrue_0 17 rfl rfl)
theorem dX2_isTrue_18 : decode cX2_isTrue 18 = .ok (.if_icmp .ne 7, 3) := dk_160 0 7 (dk_at dksX2_isTrue_0 18 rfl rfl)
theorem dX2_isTrue_21 : decode cX2_isTrue 21 = .ok (.iconst 1, 1) := dk_4 (dk_at dksX2_isTrue_0 21 rfl rfl)
theorem dX2_isTrue_22 : decode cX2_isTrue 22 = .ok (.goto 4, 3) := dk_167 0 4 (dk_at dksX2_isTrue_1 0 rfl rfl)
theorem dX2_isTrue_25 : decode cX2_isTrue 25 = .ok (.iconst 0, 1) := dk_3 (dk_at dksX2_isTrue_1 3 rfl rfl)
theorem dX2_isTrue_26 : decode cX2_isTrue 26 = .ok (.ireturn, 1) := dk_172 (dk_at dksX2_isTrue_1 4 rfl rfl)
theorem q159 : (Jvm.Cond.initialized "ClauseCourt$Truth") ∈ lw_all := lw_g (lw_at lw_m1 3 rfl) rfl
theorem q417 : (Jvm.Cond.instantiable "ClauseCourt$Truth" (4 : Nat)) ∈ lw_all := lw_g (lw_at lw_m2 21 rfl) rfl
theorem q419 : (Jvm.Cond.instanceMethod ({ cls := "ClauseCourt$Truth", name := "<init>", desc := "()V" } : Jvm.MethodName)) ∈ lw_all := lw_g (lw_at lw_m2 23 rfl) rfl
theorem q420 : (Jvm.Cond.code ({ cls := "ClauseCourt$Truth", name := "<init>", desc := "()V" } : Jvm.MethodName) prog_15_method_1_code (1 : Nat) (Option.none : Option Jvm.ClassFile.FieldType)) ∈ lw_all := lw_g (lw_at lw_m2 24 rfl) rfl
theorem q421 : (Jvm.Cond.methodLink "ClauseCourt$Truth" (3 : Nat) ({ cls := "java/lang/Object", name := "<init>", desc := "()V" } : Jvm.MethodName)) ∈ lw_all := lw_g (lw_at lw_m2 25 rfl) rfl
theorem q422 : (Jvm.Cond.fieldLink "ClauseCourt$Truth" (9 : Nat) "ClauseCourt$Truth" "of" "[B") ∈ lw_all := lw_g (lw_at lw_m2 26 rfl) rfl
theorem q427 : (Jvm.Cond.laysFinal "ClauseCourt$Truth" "ClauseCourt$Truth" "of" "[B") ∈ lw_all := lw_g (lw_at lw_m2 31 rfl) rfl
theorem q428 : (Jvm.Cond.soleField "ClauseCourt$Truth" "of") ∈ lw_all := lw_g (lw_at lw_m2 32 rfl) rfl
theorem q429 : (Jvm.Cond.lays "ClauseCourt$Truth" "ClauseCourt$Truth" "names" "I") ∈ lw_all := lw_g (lw_at lw_m2 33 rfl) rfl
theorem q430 : (Jvm.Cond.soleField "ClauseCourt$Truth" "names") ∈ lw_all := lw_g (lw_at lw_m2 34 rfl) rfl
theorem q431 : (Jvm.Cond.lays "ClauseCourt$Truth" "ClauseCourt$Truth" "rules" "I") ∈ lw_all := lw_g (lw_at lw_m2 35 rfl) rfl
theorem q432 : (Jvm.Cond.soleField "ClauseCourt$Truth" "rules") ∈ lw_all := lw_g (lw_at lw_m2 36 rfl) rfl
theorem q433 : (Jvm.Cond.lays "ClauseCourt$Truth" "ClauseCourt$Truth" "isThere" "Z") ∈ lw_all := lw_g (lw_at lw_m2 37 rfl) rfl
theorem q434 : (Jvm.Cond.soleField "ClauseCourt$Truth" "isThere") ∈ lw_all := lw_g (lw_at lw_m2 38 rfl) rfl
theorem q435 : (Jvm.Cond.superclass "ClauseCourt$Truth" "java/lang/Object") ∈ lw_all := lw_g (lw_at lw_m2 39 rfl) rfl
theorem q1214 : (Jvm.Cond.instanceMethod ({ cls := "ClauseCourt$Truth", name := "isTrue", desc := "(I)Z" } : Jvm.MethodName)) ∈ lw_all := lw_g (lw_at lw_m5 98 rfl) rfl
theorem q1215 : (Jvm.Cond.selects "ClauseCourt$Truth" ({ cls := "ClauseCourt$Truth", name := "isTrue", desc := "(I)Z" } : Jvm.MethodName) ({ cls := "ClauseCourt$Truth", name := "isTrue", desc := "(I)Z" } : Jvm.MethodName)) ∈ lw_all := lw_g (lw_at lw_m5 99 rfl) rfl
theorem q1216 : (Jvm.Cond.code ({ cls := "ClauseCourt$Truth", name := "isTrue", desc := "(I)Z" } : Jvm.MethodName) prog_15_method_2_code (2 : Nat) (Option.some Jvm.ClassFile.FieldType.boolean)) ∈ lw_all := lw_g (lw_at lw_m5 100 rfl) rfl
theorem q1217 : (Jvm.Cond.methodLink "ClauseCourt$Truth" (15 : Nat) ({ cls := "java/lang/Math", name := "abs", desc := "(I)I" } : Jvm.MethodName)) ∈ lw_all := lw_g (lw_at lw_m5 101 rfl) rfl
theorem in_X2 : ∀ w ∈ wsX20, w ∈ lw_all := lw_in wsX20 [427, 429, 431, 433] (by decide +kernel) (by decide +kernel)

/-! ClauseCourt$Name -/
set_option maxRecDepth 100000
def RX4 : String := "ClauseCourt$Name"
def TX4 : u_T := fun k => match k with
  | 0 => ("ClauseCourt$Name", "number", "I", true)
  | 1 => ("ClauseCourt$Name", "told", "I", false)
  | _ => ("ClauseCourt$Name", "isCounted", "Z", false)
def tyX4 : Nat → FieldType := fun k => match k with
  | 0 => .int
  | 1 => .int
  | _ => .boolean
abbrev wsX40 : List Cond := u_ws RX4 TX4 3
theorem nmX4 : ∀ a, a < 3 → ∀ b, b < 3 → a ≠ b → (TX4 a).2.1 ≠ (TX4 b).2.1 := by decide +kernel
theorem tyX4_ok : ∀ k, k < 3 → parseFieldDescriptor (TX4 k).2.2.1 = some (tyX4 k) := by decide +kernel
abbrev cX4_init : ByteArray := prog_8_method_1_code
def yX4_init : MethodName := ⟨RX4, "<init>", "(I)V"⟩
def dkwX4_init_0 : List UInt8 := [42, 183, 0, 1, 42, 27, 181, 0, 7, 177]
abbrev dktX4_init_0 : List UInt8 := dkwX4_init_0 ++ []
theorem dksX4_init_0 : cX4_init.data.toList.drop 0 = dktX4_init_0 := by decide +kernel
theorem dX4_init_0 : decode cX4_init 0 = .ok (.aload_n 0, 1) := dk_42 (dk_at dksX4_init_0 0 rfl rfl)
theorem dX4_init_1 : decode cX4_init 1 = .ok (.invokespecial 1, 3) := dk_183 0 1 (dk_at dksX4_init_0 1 rfl rfl)
theorem dX4_init_4 : decode cX4_init 4 = .ok (.aload_n 0, 1) := dk_42 (dk_at dksX4_init_0 4 rfl rfl)
theorem dX4_init_5 : decode cX4_init 5 = .ok (.iload_n 1, 1) := dk_27 (dk_at dksX4_init_0 5 rfl rfl)
theorem dX4_init_6 : decode cX4_init 6 = .ok (.putfield 7, 3) := dk_181 0 7 (dk_at dksX4_init_0 6 rfl rfl)
theorem dX4_init_9 : decode cX4_init 9 = .ok (.return_, 1) := dk_177 (dk_at dksX4_init_0 9 rfl rfl)
theorem q161 : (Jvm.Cond.initialized "ClauseCourt$Name") ∈ lw_all := lw_g (lw_at lw_m1 5 rfl) rfl
theorem q586 : (Jvm.Cond.instantiable "ClauseCourt$Name" (3 : Nat)) ∈ lw_all := lw_g (lw_at lw_m2 190 rfl) rfl
theorem q588 : (Jvm.Cond.instanceMethod ({ cls := "ClauseCourt$Name", name := "<init>", desc := "(I)V" } : Jvm.MethodName)) ∈ lw_all := lw_g (lw_at lw_m2 192 rfl) rfl
theorem q589 : (Jvm.Cond.code ({ cls := "ClauseCourt$Name", name := "<init>", desc := "(I)V" } : Jvm.MethodName) prog_8_method_1_code (2 : Nat) (Option.none : Option Jvm.ClassFile.FieldType)) ∈ lw_all := lw_g (lw_at lw_m2 193 rfl) rfl
theorem q590 : (Jvm.Cond.methodLink "ClauseCourt$Name" (1 : Nat) ({ cls := "java/lang/Object", name := "<init>", desc := "()V" } : Jvm.MethodName)) ∈ lw_all := lw_g (lw_at lw_m2 194 rfl) rfl
theorem q591 : (Jvm.Cond.fieldLink "ClauseCourt$Name" (7 : Nat) "ClauseCourt$Name" "number" "I") ∈ lw_all := lw_g (lw_at lw_m2 195 rfl) rfl
theorem q596 : (Jvm.Cond.laysFinal "ClauseCourt$Name" "ClauseCourt$Name" "number" "I") ∈ lw_all := lw_g (lw_at lw_m2 200 rfl) rfl
theorem q597 : (Jvm.Cond.soleField "ClauseCourt$Name" "number") ∈ lw_all := lw_g (lw_at lw_m2 201 rfl) rfl
theorem q598 : (Jvm.Cond.lays "ClauseCourt$Name" "ClauseCourt$Name" "told" "I") ∈ lw_all := lw_g (lw_at lw_m2 202 rfl) rfl
theorem q599 : (Jvm.Cond.soleField "ClauseCourt$Name" "told") ∈ lw_all := lw_g (lw_at lw_m2 203 rfl) rfl
theorem q600 : (Jvm.Cond.lays "ClauseCourt$Name" "ClauseCourt$Name" "isCounted" "Z") ∈ lw_all := lw_g (lw_at lw_m2 204 rfl) rfl
theorem q601 : (Jvm.Cond.soleField "ClauseCourt$Name" "isCounted") ∈ lw_all := lw_g (lw_at lw_m2 205 rfl) rfl
theorem q602 : (Jvm.Cond.superclass "ClauseCourt$Name" "java/lang/Object") ∈ lw_all := lw_g (lw_at lw_m2 206 rfl) rfl
theorem in_X4 : ∀ w ∈ wsX40, w ∈ lw_all := lw_in wsX40 [596, 598, 600] (by decide +kernel) (by decide +kernel)

/-! ClauseCourt$Rule -/
set_option maxRecDepth 100000
def RX5 : String := "ClauseCourt$Rule"
abbrev cX5_init : ByteArray := prog_13_method_1_code
def yX5_init : MethodName := ⟨RX5, "<init>", "(LClauseCourt;I[I)V"⟩
def dkwX5_init_0 : List UInt8 := [42, 43, 181, 0, 3, 42, 183, 0, 9, 42, 28, 181, 0, 15, 42, 45, 181, 0, 19, 177]
abbrev dktX5_init_0 : List UInt8 := dkwX5_init_0 ++ []
theorem dksX5_init_0 : cX5_init.data.toList.drop 0 = dktX5_init_0 := by decide +kernel
theorem dX5_init_0 : decode cX5_init 0 = .ok (.aload_n 0, 1) := dk_42 (dk_at dksX5_init_0 0 rfl rfl)
theorem dX5_init_1 : decode cX5_init 1 = .ok (.aload_n 1, 1) := dk_43 (dk_at dksX5_init_0 1 rfl rfl)
theorem dX5_init_2 : decode cX5_init 2 = .ok (.putfield 3, 3) := dk_181 0 3 (dk_at dksX5_init_0 2 rfl rfl)
theorem dX5_init_5 : decode cX5_init 5 = .ok (.aload_n 0, 1) := dk_42 (dk_at dksX5_init_0 5 rfl rfl)
theorem dX5_init_6 : decode cX5_init 6 = .ok (.invokespecial 9, 3) := dk_183 0 9 (dk_at dksX5_init_0 6 rfl rfl)
theorem dX5_init_9 : decode cX5_init 9 = .ok (.aload_n 0, 1) := dk_42 (dk_at dksX5_init_0 9 rfl rfl)
theorem dX5_init_10 : decode cX5_init 10 = .ok (.iload_n 2, 1) := dk_28 (dk_at dksX5_init_0 10 rfl rfl)
theorem dX5_init_11 : decode cX5_init 11 = .ok (.putfield 15, 3) := dk_181 0 15 (dk_at dksX5_init_0 11 rfl rfl)
theorem dX5_init_14 : decode cX5_init 14 = .ok (.aload_n 0, 1) := dk_42 (dk_at dksX5_init_0 14 rfl rfl)
theorem dX5_init_15 : decode cX5_init 15 = .ok (.aload_n 3, 1) := dk_45 (dk_at dksX5_init_0 15 rfl rfl)
theorem dX5_init_16 : decode cX5_init 16 = .ok (.putfield 19, 3) := dk_181 0 19 (dk_at dksX5_init_0 16 rfl rfl)
theorem dX5_init_19 : decode cX5_init 19 = .ok (.return_, 1) := dk_177 (dk_at dksX5_init_0 19 rfl rfl)
abbrev cX5_trues : ByteArray := prog_13_method_11_code
def yX5_trues : MethodName := ⟨RX5, "trues", "(LClauseCourt$Truth;)I"⟩
def dkwX5_trues_2 : List UInt8 := [167, 255, 223, 28, 172]
abbrev dktX5_trues_2 : List UInt8 := dkwX5_trues_2 ++ []
def dkwX5_trues_1 : List UInt8 := [46, 54, 6, 28, 43, 21, 6, 182, 0, 30, 153, 0, 7, 4, 167, 0, 4, 3, 96, 61, 132, 5, 1]
abbrev dktX5_trues_1 : List UInt8 := dkwX5_trues_1 ++ dktX5_trues_2
def dkwX5_trues_0 : List UInt8 := [3, 61, 42, 180, 0, 19, 78, 45, 190, 54, 4, 3, 54, 5, 21, 5, 21, 4, 162, 0, 32, 45, 21, 5]
abbrev dktX5_trues_0 : List UInt8 := dkwX5_trues_0 ++ dktX5_trues_1
theorem dksX5_trues_0 : cX5_trues.data.toList.drop 0 = dktX5_trues_0 := by decide +kernel
theorem dksX5_trues_1 : cX5_trues.data.toList.drop 24 = dktX5_trues_1 := dk_seg dksX5_trues_0 24 rfl rfl
theorem dksX5_trues_2 : cX5_trues.data.toList.drop 47 = dktX5_trues_2 := dk_seg dksX5_trues_1 23 rfl rfl
theorem dX5_trues_0 : decode cX5_trues 0 = .ok (.iconst 0, 1) := dk_3 (dk_at dksX5_trues_0 0 rfl rfl)
theorem dX5_trues_1 : decode cX5_trues 1 = .ok (.istore_n 2, 1) := dk_61 (dk_at dksX5_trues_0 1 rfl rfl)
theorem dX5_trues_2 : decode cX5_trues 2 = .ok (.aload_n 0, 1) := dk_42 (dk_at dksX5_trues_0 2 rfl rfl)
theorem dX5_trues_3 : decode cX5_trues 3 = .ok (.getfield 19, 3) := dk_180 0 19 (dk_at dksX5_trues_0 3 rfl rfl)
theorem dX5_trues_6 : decode cX5_trues 6 = .ok (.astore_n 3, 1) := dk_78 (dk_at dksX5_trues_0 6 rfl rfl)
theorem dX5_trues_7 : decode cX5_trues 7 = .ok (.aload_n 3, 1) := dk_45 (dk_at dksX5_trues_0 7 rfl rfl)
theorem dX5_trues_8 : decode cX5_trues 8 = .ok (.arraylength, 1) := dk_190 (dk_at dksX5_trues_0 8 rfl rfl)
theorem dX5_trues_9 : decode cX5_trues 9 = .ok (.istore 4, 2) := dk_54 4 (dk_at dksX5_trues_0 9 rfl rfl)
theorem dX5_trues_11 : decode cX5_trues 11 = .ok (.iconst 0, 1) := dk_3 (dk_at dksX5_trues_0 11 rfl rfl)
theorem dX5_trues_12 : decode cX5_trues 12 = .ok (.istore 5, 2) := dk_54 5 (dk_at dksX5_trues_0 12 rfl rfl)
theorem dX5_trues_14 : decode cX5_trues 14 = .ok (.iload 5, 2) := dk_21 5 (dk_at dksX5_trues_0 14 rfl rfl)
theorem dX5_trues_16 : decode cX5_trues 16 = .ok (.iload 4, 2) := dk_21 4 (dk_at dksX5_trues_0 16 rfl rfl)
theorem dX5_trues_18 : decode cX5_trues 18 = .ok (.if_icmp .ge 32, 3) := dk_162 0 32 (dk_at dksX5_trues_0 18 rfl rfl)
theorem dX5_trues_21 : decode cX5_trues 21 = .ok (.aload_n 3, 1) := dk_45 (dk_at dksX5_trues_0 21 rfl rfl)
theorem dX5_trues_22 : decode cX5_trues 22 = .ok (.iload 5, 2) := dk_21 5 (dk_at dksX5_trues_0 22 rfl rfl)
theorem dX5_trues_24 : decode cX5_trues 24 = .ok (.iaload, 1) := dk_46 (dk_at dksX5_trues_1 0 rfl rfl)
theorem dX5_trues_25 : decode cX5_trues 25 = .ok (.istore 6, 2) := dk_54 6 (dk_at dksX5_trues_1 1 rfl rfl)
theorem dX5_trues_27 : decode cX5_trues 27 = .ok (.iload_n 2, 1) := dk_28 (dk_at dksX5_trues_1 3 rfl rfl)
theorem dX5_trues_28 : decode cX5_trues 28 = .ok (.aload_n 1, 1) := dk_43 (dk_at dksX5_trues_1 4 rfl rfl)
theorem dX5_trues_29 : decode cX5_trues 29 = .ok (.iload 6, 2) := dk_21 6 (dk_at dksX5_trues_1 5 rfl rfl)
theorem dX5_trues_31 : decode cX5_trues 31 = .ok (.invokevirtual 30, 3) := dk_182 0 30 (dk_at dksX5_trues_1 7 rfl rfl)
theorem dX5_trues_34 : decode cX5_trues 34 = .ok (.ifCond .eq 7, 3) := dk_153 0 7 (dk_at dksX5_trues_1 10 rfl rfl)
theorem dX5_trues_37 : decode cX5_trues 37 = .ok (.iconst 1, 1) := dk_4 (dk_at dksX5_trues_1 13 rfl rfl)
theorem dX5_trues_38 : decode cX5_trues 38 = .ok (.goto 4, 3) := dk_167 0 4 (dk_at dksX5_trues_1 14 rfl rfl)
theorem dX5_trues_41 : decode cX5_trues 41 = .ok (.iconst 0, 1) := dk_3 (dk_at dksX5_trues_1 17 rfl rfl)
theorem dX5_trues_42 : decode cX5_trues 42 = .ok (.iadd, 1) := dk_96 (dk_at dksX5_trues_1 18 rfl rfl)
theorem dX5_trues_43 : decode cX5_trues 43 = .ok (.istore_n 2, 1) := dk_61 (dk_at dksX5_trues_1 19 rfl rfl)
theorem dX5_trues_44 : decode cX5_trues 44 = .ok (.iinc 5 1, 3) := dk_132 5 1 (dk_at dksX5_trues_1 20 rfl rfl)
theorem dX5_trues_47 : decode cX5_trues 47 = .ok (.goto (-33), 3) := dk_167 255 223 (dk_at dksX5_trues_2 0 rfl rfl)
theorem dX5_trues_50 : decode cX5_trues 50 = .ok (.iload_n 2, 1) := dk_28 (dk_at dksX5_trues_2 3 rfl rfl)
theorem dX5_trues_51 : decode cX5_trues 51 = .ok (.ireturn, 1) := dk_172 (dk_at dksX5_trues_2 4 rfl rfl)
abbrev cX5_least : ByteArray := prog_13_method_5_code
def yX5_least : MethodName := ⟨RX5, "least", "()I"⟩
def dkwX5_least_0 : List UInt8 := [42, 180, 0, 3, 16, 51, 182, 0, 23, 3, 172]
abbrev dktX5_least_0 : List UInt8 := dkwX5_least_0 ++ []
theorem dksX5_least_0 : cX5_least.data.toList.drop 0 = dktX5_least_0 := by decide +kernel
theorem dX5_least_0 : decode cX5_least 0 = .ok (.aload_n 0, 1) := dk_42 (dk_at dksX5_least_0 0 rfl rfl)
theorem dX5_least_1 : decode cX5_least 1 = .ok (.getfield 3, 3) := dk_180 0 3 (dk_at dksX5_least_0 1 rfl rfl)
theorem dX5_least_4 : decode cX5_least 4 = .ok (.bipush 51, 2) := dk_16 51 (dk_at dksX5_least_0 4 rfl rfl)
theorem dX5_least_6 : decode cX5_least 6 = .ok (.invokevirtual 23, 3) := dk_182 0 23 (dk_at dksX5_least_0 6 rfl rfl)
theorem dX5_least_9 : decode cX5_least 9 = .ok (.iconst 0, 1) := dk_3 (dk_at dksX5_least_0 9 rfl rfl)
theorem dX5_least_10 : decode cX5_least 10 = .ok (.ireturn, 1) := dk_172 (dk_at dksX5_least_0 10 rfl rfl)
abbrev cX5_most : ByteArray := prog_13_method_6_code
def yX5_most : MethodName := ⟨RX5, "most", "()I"⟩
def dkwX5_most_0 : List UInt8 := [42, 180, 0, 3, 16, 52, 182, 0, 23, 42, 180, 0, 19, 190, 172]
abbrev dktX5_most_0 : List UInt8 := dkwX5_most_0 ++ []
theorem dksX5_most_0 : cX5_most.data.toList.drop 0 = dktX5_most_0 := by decide +kernel
theorem dX5_most_0 : decode cX5_most 0 = .ok (.aload_n 0, 1) := dk_42 (dk_at dksX5_most_0 0 rfl rfl)
theorem dX5_most_1 : decode cX5_most 1 = .ok (.getfield 3, 3) := dk_180 0 3 (dk_at dksX5_most_0 1 rfl rfl)
theorem dX5_most_4 : decode cX5_most 4 = .ok (.bipush 52, 2) := dk_16 52 (dk_at dksX5_most_0 4 rfl rfl)
theorem dX5_most_6 : decode cX5_most 6 = .ok (.invokevirtual 23, 3) := dk_182 0 23 (dk_at dksX5_most_0 6 rfl rfl)
theorem dX5_most_9 : decode cX5_most 9 = .ok (.aload_n 0, 1) := dk_42 (dk_at dksX5_most_0 9 rfl rfl)
theorem dX5_most_10 : decode cX5_most 10 = .ok (.getfield 19, 3) := dk_180 0 19 (dk_at dksX5_most_0 10 rfl rfl)
theorem dX5_most_13 : decode cX5_most 13 = .ok (.arraylength, 1) := dk_190 (dk_at dksX5_most_0 13 rfl rfl)
theorem dX5_most_14 : decode cX5_most 14 = .ok (.ireturn, 1) := dk_172 (dk_at dksX5_most_0 14 rfl rfl)
abbrev cX5_laid : ByteArray := prog_13_method_7_code
def yX5_laid : MethodName := ⟨RX5, "laid", "()I"⟩
def dkwX5_laid_0 : List UInt8 := [42, 180, 0, 3, 16, 53, 182, 0, 23, 42, 180, 0, 27, 172]
abbrev dktX5_laid_0 : List UInt8 := dkwX5_laid_0 ++ []
theorem dksX5_laid_0 : cX5_laid.data.toList.drop 0 = dktX5_laid_0 := by decide +kernel
theorem dX5_laid_0 : decode cX5_laid 0 = .ok (.aload_n 0, 1) := dk_42 (dk_at dksX5_laid_0 0 rfl rfl)
theorem dX5_laid_1 : decode cX5_laid 1 = .ok (.getfield 3, 3) := dk_180 0 3 (dk_at dksX5_laid_0 1 rfl rfl)
theorem dX5_laid_4 : decode cX5_laid 4 = .ok (.bipush 53, 2) := dk_16 53 (dk_at dksX5_laid_0 4 rfl rfl)
theorem dX5_laid_6 : decode cX5_laid 6 = .ok (.invokevirtual 23, 3) := dk_182 0 23 (dk_at dksX5_laid_0 6 rfl rfl)
theorem dX5_laid_9 : decode cX5_laid 9 = .ok (.aload_n 0, 1) := dk_42 (dk_at dksX5_laid_0 9 rfl rfl)
theorem dX5_laid_10 : decode cX5_laid 10 = .ok (.getfield 27, 3) := dk_180 0 27 (dk_at dksX5_laid_0 10 rfl rfl)
theorem dX5_laid_13 : decode cX5_laid 13 = .ok (.ireturn, 1) := dk_172 (dk_at dksX5_laid_0 13 rfl rfl)
abbrev cX5_sayList : ByteArray := prog_13_method_12_code
def yX5_sayList : MethodName := ⟨RX5, "sayList", "()V"⟩
def dkwX5_sayList_0 : List UInt8 := [42, 76, 43, 185, 0, 36, 1, 0, 177]
abbrev dktX5_sayList_0 : List UInt8 := dkwX5_sayList_0 ++ []
theorem dksX5_sayList_0 : cX5_sayList.data.toList.drop 0 = dktX5_sayList_0 := by decide +kernel
theorem dX5_sayList_0 : decode cX5_sayList 0 = .ok (.aload_n 0, 1) := dk_42 (dk_at dksX5_sayList_0 0 rfl rfl)
theorem dX5_sayList_1 : decode cX5_sayList 1 = .ok (.astore_n 1, 1) := dk_76 (dk_at dksX5_sayList_0 1 rfl rfl)
theorem dX5_sayList_2 : decode cX5_sayList 2 = .ok (.aload_n 1, 1) := dk_43 (dk_at dksX5_sayList_0 2 rfl rfl)
theorem dX5_sayList_3 : decode cX5_sayList 3 = .ok (.invokeinterface 36 1, 5) := by decide +kernel
theorem dX5_sayList_8 : decode cX5_sayList 8 = .ok (.return_, 1) := dk_177 (dk_at dksX5_sayList_0 8 rfl rfl)
abbrev cX5_court : ByteArray := prog_13_method_8_code
def yX5_court : MethodName := ⟨RX5, "court", "()LClauseCourt;"⟩
theorem dX5_court_0 : decode cX5_court 0 = .ok (.aload_n 0, 1) := by decide +kernel
theorem dX5_court_1 : decode cX5_court 1 = .ok (.getfield 3, 3) := by decide +kernel
theorem dX5_court_4 : decode cX5_court 4 = .ok (.areturn, 1) := by decide +kernel
abbrev cX5_size : ByteArray := prog_13_method_9_code
def yX5_size : MethodName := ⟨RX5, "size", "()I"⟩
def dkwX5_size_0 : List UInt8 := [42, 180, 0, 19, 190, 172]
abbrev dktX5_size_0 : List UInt8 := dkwX5_size_0 ++ []
theorem dksX5_size_0 : cX5_size.data.toList.drop 0 = dktX5_size_0 := by decide +kernel
theorem dX5_size_0 : decode cX5_size 0 = .ok (.aload_n 0, 1) := dk_42 (dk_at dksX5_size_0 0 rfl rfl)
theorem dX5_size_1 : decode cX5_size 1 = .ok (.getfield 19, 3) := dk_180 0 19 (dk_at dksX5_size_0 1 rfl rfl)
theorem dX5_size_4 : decode cX5_size 4 = .ok (.arraylength, 1) := dk_190 (dk_at dksX5_size_0 4 rfl rfl)
theorem dX5_size_5 : decode cX5_size 5 = .ok (.ireturn, 1) := dk_172 (dk_at dksX5_size_0 5 rfl rfl)
abbrev cX5_at : ByteArray := prog_13_method_10_code
def yX5_at : MethodName := ⟨RX5, "at", "(I)I"⟩
def dkwX5_at_0 : List UInt8 := [42, 180, 0, 19, 27, 46, 172]
abbrev dktX5_at_0 : List UInt8 := dkwX5_at_0 ++ []
theorem dksX5_at_0 : cX5_at.data.toList.drop 0 = dktX5_at_0 := by decide +kernel
theorem dX5_at_0 : decode cX5_at 0 = .ok (.aload_n 0, 1) := dk_42 (dk_at dksX5_at_0 0 rfl rfl)
theorem dX5_at_1 : decode cX5_at 1 = .ok (.getfield 19, 3) := dk_180 0 19 (dk_at dksX5_at_0 1 rfl rfl)
theorem dX5_at_4 : decode cX5_at 4 = .ok (.iload_n 1, 1) := dk_27 (dk_at dksX5_at_0 4 rfl rfl)
theorem dX5_at_5 : decode cX5_at 5 = .ok (.iaload, 1) := dk_46 (dk_at dksX5_at_0 5 rfl rfl)
theorem dX5_at_6 : decode cX5_at 6 = .ok (.ireturn, 1) := dk_172 (dk_at dksX5_at_0 6 rfl rfl)
theorem q172 : (Jvm.Cond.initialized "ClauseCourt$Rule") ∈ lw_all := lw_g (lw_at lw_m1 16 rfl) rfl
theorem q814 : (Jvm.Cond.instanceMethod ({ cls := "ClauseCourt$Rule", name := "<init>", desc := "(LClauseCourt;I[I)V" } : Jvm.MethodName)) ∈ lw_all := lw_g (lw_at lw_m3 178 rfl) rfl
theorem q815 : (Jvm.Cond.code ({ cls := "ClauseCourt$Rule", name := "<init>", desc := "(LClauseCourt;I[I)V" } : Jvm.MethodName) prog_13_method_1_code (4 : Nat) (Option.none : Option Jvm.ClassFile.FieldType)) ∈ lw_all := lw_g (lw_at lw_m3 179 rfl) rfl
theorem q816 : (Jvm.Cond.methodLink "ClauseCourt$Rule" (9 : Nat) ({ cls := "java/lang/Object", name := "<init>", desc := "()V" } : Jvm.MethodName)) ∈ lw_all := lw_g (lw_at lw_m3 180 rfl) rfl
theorem q818 : (Jvm.Cond.fieldLink "ClauseCourt$Rule" (15 : Nat) "ClauseCourt$Rule" "kind" "I") ∈ lw_all := lw_g (lw_at lw_m3 182 rfl) rfl
theorem q820 : (Jvm.Cond.fieldLink "ClauseCourt$Rule" (19 : Nat) "ClauseCourt$Rule" "items" "[I") ∈ lw_all := lw_g (lw_at lw_m3 184 rfl) rfl
theorem q831 : (Jvm.Cond.fieldLink "ClauseCourt$Rule" (27 : Nat) "ClauseCourt$Rule" "many" "I") ∈ lw_all := lw_g (lw_at lw_m3 195 rfl) rfl
theorem q833 : (Jvm.Cond.fieldLink "ClauseCourt$Rule" (3 : Nat) "ClauseCourt$Rule" "this$0" "LClauseCourt;") ∈ lw_all := lw_g (lw_at lw_m3 197 rfl) rfl
theorem q837 : (Jvm.Cond.soleField "ClauseCourt$Rule" "kind") ∈ lw_all := lw_g (lw_at lw_m3 201 rfl) rfl
theorem q839 : (Jvm.Cond.soleField "ClauseCourt$Rule" "items") ∈ lw_all := lw_g (lw_at lw_m3 203 rfl) rfl
theorem q841 : (Jvm.Cond.soleField "ClauseCourt$Rule" "first") ∈ lw_all := lw_g (lw_at lw_m3 205 rfl) rfl
theorem q843 : (Jvm.Cond.soleField "ClauseCourt$Rule" "many") ∈ lw_all := lw_g (lw_at lw_m3 207 rfl) rfl
theorem q845 : (Jvm.Cond.soleField "ClauseCourt$Rule" "this$0") ∈ lw_all := lw_g (lw_at lw_m3 209 rfl) rfl
theorem q909 : (Jvm.Cond.declares ({ cls := "ClauseCourt$Rule", name := "lay", desc := "()V" } : Jvm.MethodName)) ∈ lw_tbl := lw_at lw_m4 33 rfl
theorem q910 : (Jvm.Cond.sameMethod "ClauseCourt$Rule" "ClauseCourt$Rule" "lay" "()V") ∈ lw_all := lw_g (lw_at lw_m4 34 rfl) rfl
theorem q1197 : (Jvm.Cond.declares ({ cls := "ClauseCourt$Rule", name := "holds", desc := "(LClauseCourt$Truth;)Z" } : Jvm.MethodName)) ∈ lw_tbl := lw_at lw_m5 81 rfl
theorem q1198 : (Jvm.Cond.sameMethod "ClauseCourt$Rule" "ClauseCourt$Rule" "holds" "(LClauseCourt$Truth;)Z") ∈ lw_all := lw_g (lw_at lw_m5 82 rfl) rfl
theorem q1208 : (Jvm.Cond.declares ({ cls := "ClauseCourt$Rule", name := "trues", desc := "(LClauseCourt$Truth;)I" } : Jvm.MethodName)) ∈ lw_tbl := lw_at lw_m5 92 rfl
theorem q1211 : (Jvm.Cond.instanceMethod ({ cls := "ClauseCourt$Rule", name := "trues", desc := "(LClauseCourt$Truth;)I" } : Jvm.MethodName)) ∈ lw_all := lw_g (lw_at lw_m5 95 rfl) rfl
theorem q1212 : (Jvm.Cond.code ({ cls := "ClauseCourt$Rule", name := "trues", desc := "(LClauseCourt$Truth;)I" } : Jvm.MethodName) prog_13_method_11_code (7 : Nat) (Option.some Jvm.ClassFile.FieldType.int)) ∈ lw_all := lw_g (lw_at lw_m5 96 rfl) rfl
theorem q1213 : (Jvm.Cond.methodLink "ClauseCourt$Rule" (30 : Nat) ({ cls := "ClauseCourt$Truth", name := "isTrue", desc := "(I)Z" } : Jvm.MethodName)) ∈ lw_all := lw_g (lw_at lw_m5 97 rfl) rfl
theorem q1253 : (Jvm.Cond.instanceMethod ({ cls := "ClauseCourt$Rule", name := "least", desc := "()I" } : Jvm.MethodName)) ∈ lw_all := lw_g (lw_at lw_m5 137 rfl) rfl
theorem q1254 : (Jvm.Cond.sameMethod "ClauseCourt$Rule" "ClauseCourt$Rule" "least" "()I") ∈ lw_all := lw_g (lw_at lw_m5 138 rfl) rfl
theorem q1271 : (Jvm.Cond.code ({ cls := "ClauseCourt$Rule", name := "least", desc := "()I" } : Jvm.MethodName) prog_13_method_5_code (1 : Nat) (Option.some Jvm.ClassFile.FieldType.int)) ∈ lw_all := lw_g (lw_at lw_m5 155 rfl) rfl
theorem q1272 : (Jvm.Cond.methodLinkNest "ClauseCourt$Rule" (23 : Nat) ({ cls := "ClauseCourt", name := "body", desc := "(I)V" } : Jvm.MethodName) "ClauseCourt") ∈ lw_tbl := lw_at lw_m5 156 rfl
theorem q1274 : (Jvm.Cond.instanceMethod ({ cls := "ClauseCourt$Rule", name := "most", desc := "()I" } : Jvm.MethodName)) ∈ lw_all := lw_g (lw_at lw_m5 158 rfl) rfl
theorem q1275 : (Jvm.Cond.sameMethod "ClauseCourt$Rule" "ClauseCourt$Rule" "most" "()I") ∈ lw_all := lw_g (lw_at lw_m5 159 rfl) rfl
theorem q1281 : (Jvm.Cond.declares ({ cls := "ClauseCourt$Rule", name := "most", desc := "()I" } : Jvm.MethodName)) ∈ lw_tbl := lw_at lw_m5 165 rfl
theorem q1291 : (Jvm.Cond.code ({ cls := "ClauseCourt$Rule", name := "most", desc := "()I" } : Jvm.MethodName) prog_13_method_6_code (1 : Nat) (Option.some Jvm.ClassFile.FieldType.int)) ∈ lw_all := lw_g (lw_at lw_m5 175 rfl) rfl
theorem q1293 : (Jvm.Cond.instanceMethod ({ cls := "ClauseCourt$Rule", name := "laid", desc := "()I" } : Jvm.MethodName)) ∈ lw_all := lw_g (lw_at lw_m5 177 rfl) rfl
theorem q1294 : (Jvm.Cond.sameMethod "ClauseCourt$Rule" "ClauseCourt$Rule" "laid" "()I") ∈ lw_all := lw_g (lw_at lw_m5 178 rfl) rfl
theorem q1300 : (Jvm.Cond.code ({ cls := "ClauseCourt$Rule", name := "laid", desc := "()I" } : Jvm.MethodName) prog_13_method_7_code (1 : Nat) (Option.some Jvm.ClassFile.FieldType.int)) ∈ lw_all := lw_g (lw_at lw_m5 184 rfl) rfl
theorem q1306 : (Jvm.Cond.declares ({ cls := "ClauseCourt$Rule", name := "print", desc := "()V" } : Jvm.MethodName)) ∈ lw_tbl := lw_at lw_m5 190 rfl
theorem q1307 : (Jvm.Cond.sameMethod "ClauseCourt$Rule" "ClauseCourt$Rule" "print" "()V") ∈ lw_all := lw_g (lw_at lw_m5 191 rfl) rfl
theorem q1374 : (Jvm.Cond.declares ({ cls := "ClauseCourt$Rule", name := "sayList", desc := "()V" } : Jvm.MethodName)) ∈ lw_tbl := lw_at lw_m6 18 rfl
theorem q1377 : (Jvm.Cond.instanceMethod ({ cls := "ClauseCourt$Rule", name := "sayList", desc := "()V" } : Jvm.MethodName)) ∈ lw_all := lw_g (lw_at lw_m6 21 rfl) rfl
theorem q1378 : (Jvm.Cond.code ({ cls := "ClauseCourt$Rule", name := "sayList", desc := "()V" } : Jvm.MethodName) prog_13_method_12_code (2 : Nat) (Option.none : Option Jvm.ClassFile.FieldType)) ∈ lw_all := lw_g (lw_at lw_m6 22 rfl) rfl
theorem q1379 : (Jvm.Cond.interfaceEntry "ClauseCourt$Rule" (36 : Nat)) ∈ lw_tbl := lw_at lw_m6 23 rfl
theorem q1380 : (Jvm.Cond.methodLink "ClauseCourt$Rule" (36 : Nat) ({ cls := "ClauseCourt$Prints", name := "list", desc := "()V" } : Jvm.MethodName)) ∈ lw_all := lw_g (lw_at lw_m6 24 rfl) rfl
theorem q1394 : (Jvm.Cond.instanceMethod ({ cls := "ClauseCourt$Rule", name := "court", desc := "()LClauseCourt;" } : Jvm.MethodName)) ∈ lw_all := lw_g (lw_at lw_m6 38 rfl) rfl
theorem q1395 : (Jvm.Cond.publicMethod ({ cls := "ClauseCourt$Rule", name := "court", desc := "()LClauseCourt;" } : Jvm.MethodName)) ∈ lw_tbl := lw_at lw_m6 39 rfl
theorem q1396 : (Jvm.Cond.code ({ cls := "ClauseCourt$Rule", name := "court", desc := "()LClauseCourt;" } : Jvm.MethodName) prog_13_method_8_code (1 : Nat) (Option.some (Jvm.ClassFile.FieldType.object "ClauseCourt"))) ∈ lw_all := lw_g (lw_at lw_m6 40 rfl) rfl
theorem q1417 : (Jvm.Cond.instanceMethod ({ cls := "ClauseCourt$Rule", name := "size", desc := "()I" } : Jvm.MethodName)) ∈ lw_all := lw_g (lw_at lw_m6 61 rfl) rfl
theorem q1418 : (Jvm.Cond.publicMethod ({ cls := "ClauseCourt$Rule", name := "size", desc := "()I" } : Jvm.MethodName)) ∈ lw_tbl := lw_at lw_m6 62 rfl
theorem q1419 : (Jvm.Cond.code ({ cls := "ClauseCourt$Rule", name := "size", desc := "()I" } : Jvm.MethodName) prog_13_method_9_code (1 : Nat) (Option.some Jvm.ClassFile.FieldType.int)) ∈ lw_all := lw_g (lw_at lw_m6 63 rfl) rfl
theorem q1434 : (Jvm.Cond.instanceMethod ({ cls := "ClauseCourt$Rule", name := "at", desc := "(I)I" } : Jvm.MethodName)) ∈ lw_all := lw_g (lw_at lw_m6 78 rfl) rfl
theorem q1435 : (Jvm.Cond.publicMethod ({ cls := "ClauseCourt$Rule", name := "at", desc := "(I)I" } : Jvm.MethodName)) ∈ lw_tbl := lw_at lw_m6 79 rfl
theorem q1436 : (Jvm.Cond.code ({ cls := "ClauseCourt$Rule", name := "at", desc := "(I)I" } : Jvm.MethodName) prog_13_method_10_code (2 : Nat) (Option.some Jvm.ClassFile.FieldType.int)) ∈ lw_all := lw_g (lw_at lw_m6 80 rfl) rfl

/-! ClauseCourt$Clause -/
set_option maxRecDepth 100000
def RX6 : String := "ClauseCourt$Clause"
def TX6 : u_T := fun k => match k with
  | 0 => ("ClauseCourt$Rule", "kind", "I", true)
  | 1 => ("ClauseCourt$Rule", "items", "[I", true)
  | 2 => ("ClauseCourt$Rule", "first", "I", false)
  | 3 => ("ClauseCourt$Rule", "many", "I", false)
  | 4 => ("ClauseCourt$Rule", "this$0", "LClauseCourt;", true)
  | _ => ("ClauseCourt$Clause", "this$0", "LClauseCourt;", true)
def tyX6 : Nat → FieldType := fun k => match k with
  | 0 => .int
  | 1 => .array .int
  | 2 => .int
  | 3 => .int
  | 4 => .object "ClauseCourt"
  | _ => .object "ClauseCourt"
abbrev wsX60 : List Cond := u_ws RX6 TX6 6
-- two fields of one name: no nmX6
theorem tyX6_ok : ∀ k, k < 6 → parseFieldDescriptor (TX6 k).2.2.1 = some (tyX6 k) := by decide +kernel
abbrev cX6_init : ByteArray := prog_3_method_1_code
def yX6_init : MethodName := ⟨RX6, "<init>", "(LClauseCourt;I[I)V"⟩
def dkwX6_init_0 : List UInt8 := [42, 43, 181, 0, 3, 42, 43, 28, 45, 183, 0, 9, 177]
abbrev dktX6_init_0 : List UInt8 := dkwX6_init_0 ++ []
theorem dksX6_init_0 : cX6_init.data.toList.drop 0 = dktX6_init_0 := by decide +kernel
theorem dX6_init_0 : decode cX6_init 0 = .ok (.aload_n 0, 1) := dk_42 (dk_at dksX6_init_0 0 rfl rfl)
theorem dX6_init_1 : decode cX6_init 1 = .ok (.aload_n 1, 1) := dk_43 (dk_at dksX6_init_0 1 rfl rfl)
theorem dX6_init_2 : decode cX6_init 2 = .ok (.putfield 3, 3) := dk_181 0 3 (dk_at dksX6_init_0 2 rfl rfl)
theorem dX6_init_5 : decode cX6_init 5 = .ok (.aload_n 0, 1) := dk_42 (dk_at dksX6_init_0 5 rfl rfl)
theorem dX6_init_6 : decode cX6_init 6 = .ok (.aload_n 1, 1) := dk_43 (dk_at dksX6_init_0 6 rfl rfl)
theorem dX6_init_7 : decode cX6_init 7 = .ok (.iload_n 2, 1) := dk_28 (dk_at dksX6_init_0 7 rfl rfl)
theorem dX6_init_8 : decode cX6_init 8 = .ok (.aload_n 3, 1) := dk_45 (dk_at dksX6_init_0 8 rfl rfl)
theorem dX6_init_9 : decode cX6_init 9 = .ok (.invokespecial 9, 3) := dk_183 0 9 (dk_at dksX6_init_0 9 rfl rfl)
theorem dX6_init_12 : decode cX6_init 12 = .ok (.return_, 1) := dk_177 (dk_at dksX6_init_0 12 rfl rfl)
abbrev cX6_lay : ByteArray := prog_3_method_5_code
def yX6_lay : MethodName := ⟨RX6, "lay", "()V"⟩
def dkwX6_lay_1 : List UInt8 := [21, 4, 182, 0, 41, 132, 3, 1, 167, 255, 234, 42, 180, 0, 3, 182, 0, 44, 177]
abbrev dktX6_lay_1 : List UInt8 := dkwX6_lay_1 ++ []
def dkwX6_lay_0 : List UInt8 := [42, 180, 0, 37, 76, 43, 190, 61, 3, 62, 29, 28, 162, 0, 23, 43, 29, 46, 54, 4, 42, 180, 0, 3]
abbrev dktX6_lay_0 : List UInt8 := dkwX6_lay_0 ++ dktX6_lay_1
theorem dksX6_lay_0 : cX6_lay.data.toList.drop 0 = dktX6_lay_0 := by decide +kernel
theorem dksX6_lay_1 : cX6_lay.data.toList.drop 24 = dktX6_lay_1 := dk_seg dksX6_lay_0 24 rfl rfl
theorem dX6_lay_0 : decode cX6_lay 0 = .ok (.aload_n 0, 1) := dk_42 (dk_at dksX6_lay_0 0 rfl rfl)
theorem dX6_lay_1 : decode cX6_lay 1 = .ok (.getfield 37, 3) := dk_180 0 37 (dk_at dksX6_lay_0 1 rfl rfl)
theorem dX6_lay_4 : decode cX6_lay 4 = .ok (.astore_n 1, 1) := dk_76 (dk_at dksX6_lay_0 4 rfl rfl)
theorem dX6_lay_5 : decode cX6_lay 5 = .ok (.aload_n 1, 1) := dk_43 (dk_at dksX6_lay_0 5 rfl rfl)
theorem dX6_lay_6 : decode cX6_lay 6 = .ok (.arraylength, 1) := dk_190 (dk_at dksX6_lay_0 6 rfl rfl)
theorem dX6_lay_7 : decode cX6_lay 7 = .ok (.istore_n 2, 1) := dk_61 (dk_at dksX6_lay_0 7 rfl rfl)
theorem dX6_lay_8 : decode cX6_lay 8 = .ok (.iconst 0, 1) := dk_3 (dk_at dksX6_lay_0 8 rfl rfl)
theorem dX6_lay_9 : decode cX6_lay 9 = .ok (.istore_n 3, 1) := dk_62 (dk_at dksX6_lay_0 9 rfl rfl)
theorem dX6_lay_10 : decode cX6_lay 10 = .ok (.iload_n 3, 1) := dk_29 (dk_at dksX6_lay_0 10 rfl rfl)
theorem dX6_lay_11 : decode cX6_lay 11 = .ok (.iload_n 2, 1) := dk_28 (dk_at dksX6_lay_0 11 rfl rfl)
theorem dX6_lay_12 : decode cX6_lay 12 = .ok (.if_icmp .ge 23, 3) := dk_162 0 23 (dk_at dksX6_lay_0 12 rfl rfl)
theorem dX6_lay_15 : decode cX6_lay 15 = .ok (.aload_n 1, 1) := dk_43 (dk_at dksX6_lay_0 15 rfl rfl)
theorem dX6_lay_16 : decode cX6_lay 16 = .ok (.iload_n 3, 1) := dk_29 (dk_at dksX6_lay_0 16 rfl rfl)
theorem dX6_lay_17 : decode cX6_lay 17 = .ok (.iaload, 1) := dk_46 (dk_at dksX6_lay_0 17 rfl rfl)
theorem dX6_lay_18 : decode cX6_lay 18 = .ok (.istore 4, 2) := dk_54 4 (dk_at dksX6_lay_0 18 rfl rfl)
theorem dX6_lay_20 : decode cX6_lay 20 = .ok (.aload_n 0, 1) := dk_42 (dk_at dksX6_lay_0 20 rfl rfl)
theorem dX6_lay_21 : decode cX6_lay 21 = .ok (.getfield 3, 3) := dk_180 0 3 (dk_at dksX6_lay_0 21 rfl rfl)
theorem dX6_lay_24 : decode cX6_lay 24 = .ok (.iload 4, 2) := dk_21 4 (dk_at dksX6_lay_1 0 rfl rfl)
theorem dX6_lay_26 : decode cX6_lay 26 = .ok (.invokevirtual 41, 3) := dk_182 0 41 (dk_at dksX6_lay_1 2 rfl rfl)
theorem dX6_lay_29 : decode cX6_lay 29 = .ok (.iinc 3 1, 3) := dk_132 3 1 (dk_at dksX6_lay_1 5 rfl rfl)
theorem dX6_lay_32 : decode cX6_lay 32 = .ok (.goto (-22), 3) := dk_167 255 234 (dk_at dksX6_lay_1 8 rfl rfl)
theorem dX6_lay_35 : decode cX6_lay 35 = .ok (.aload_n 0, 1) := dk_42 (dk_at dksX6_lay_1 11 rfl rfl)
theorem dX6_lay_36 : decode cX6_lay 36 = .ok (.getfield 3, 3) := dk_180 0 3 (dk_at dksX6_lay_1 12 rfl rfl)
theorem dX6_lay_39 : decode cX6_lay 39 = .ok (.invokevirtual 44, 3) := dk_182 0 44 (dk_at dksX6_lay_1 15 rfl rfl)
theorem dX6_lay_42 : decode cX6_lay 42 = .ok (.return_, 1) := dk_177 (dk_at dksX6_lay_1 18 rfl rfl)
abbrev cX6_holds : ByteArray := prog_3_method_2_code
def yX6_holds : MethodName := ⟨RX6, "holds", "(LClauseCourt$Truth;)Z"⟩
def dkwX6_holds_0 : List UInt8 := [42, 180, 0, 3, 3, 182, 0, 15, 42, 43, 182, 0, 19, 158, 0, 7, 4, 167, 0, 4, 3, 172]
abbrev dktX6_holds_0 : List UInt8 := dkwX6_holds_0 ++ []
theorem dksX6_holds_0 : cX6_holds.data.toList.drop 0 = dktX6_holds_0 := by decide +kernel
theorem dX6_holds_0 : decode cX6_holds 0 = .ok (.aload_n 0, 1) := dk_42 (dk_at dksX6_holds_0 0 rfl rfl)
theorem dX6_holds_1 : decode cX6_holds 1 = .ok (.getfield 3, 3) := dk_180 0 3 (dk_at dksX6_holds_0 1 rfl rfl)
theorem dX6_holds_4 : decode cX6_holds 4 = .ok (.iconst 0, 1) := dk_3 (dk_at dksX6_holds_0 4 rfl rfl)
theorem dX6_holds_5 : decode cX6_holds 5 = .ok (.invokevirtual 15, 3) := dk_182 0 15 (dk_at dksX6_holds_0 5 rfl rfl)
theorem dX6_holds_8 : decode cX6_holds 8 = .ok (.aload_n 0, 1) := dk_42 (dk_at dksX6_holds_0 8 rfl rfl)
theorem dX6_holds_9 : decode cX6_holds 9 = .ok (.aload_n 1, 1) := dk_43 (dk_at dksX6_holds_0 9 rfl rfl)
theorem dX6_holds_10 : decode cX6_holds 10 = .ok (.invokevirtual 19, 3) := dk_182 0 19 (dk_at dksX6_holds_0 10 rfl rfl)
theorem dX6_holds_13 : decode cX6_holds 13 = .ok (.ifCond .le 7, 3) := dk_158 0 7 (dk_at dksX6_holds_0 13 rfl rfl)
theorem dX6_holds_16 : decode cX6_holds 16 = .ok (.iconst 1, 1) := dk_4 (dk_at dksX6_holds_0 16 rfl rfl)
theorem dX6_holds_17 : decode cX6_holds 17 = .ok (.goto 4, 3) := dk_167 0 4 (dk_at dksX6_holds_0 17 rfl rfl)
theorem dX6_holds_20 : decode cX6_holds 20 = .ok (.iconst 0, 1) := dk_3 (dk_at dksX6_holds_0 20 rfl rfl)
theorem dX6_holds_21 : decode cX6_holds 21 = .ok (.ireturn, 1) := dk_172 (dk_at dksX6_holds_0 21 rfl rfl)
abbrev cX6_least : ByteArray := prog_3_method_3_code
def yX6_least : MethodName := ⟨RX6, "least", "()I"⟩
def dkwX6_least_0 : List UInt8 := [42, 180, 0, 3, 4, 182, 0, 15, 42, 183, 0, 23, 4, 96, 172]
abbrev dktX6_least_0 : List UInt8 := dkwX6_least_0 ++ []
theorem dksX6_least_0 : cX6_least.data.toList.drop 0 = dktX6_least_0 := by decide +kernel
theorem dX6_least_0 : decode cX6_least 0 = .ok (.aload_n 0, 1) := dk_42 (dk_at dksX6_least_0 0 rfl rfl)
theorem dX6_least_1 : decode cX6_least 1 = .ok (.getfield 3, 3) := dk_180 0 3 (dk_at dksX6_least_0 1 rfl rfl)
theorem dX6_least_4 : decode cX6_least 4 = .ok (.iconst 1, 1) := dk_4 (dk_at dksX6_least_0 4 rfl rfl)
theorem dX6_least_5 : decode cX6_least 5 = .ok (.invokevirtual 15, 3) := dk_182 0 15 (dk_at dksX6_least_0 5 rfl rfl)
theorem dX6_least_8 : decode cX6_least 8 = .ok (.aload_n 0, 1) := dk_42 (dk_at dksX6_least_0 8 rfl rfl)
theorem dX6_least_9 : decode cX6_least 9 = .ok (.invokespecial 23, 3) := dk_183 0 23 (dk_at dksX6_least_0 9 rfl rfl)
theorem dX6_least_12 : decode cX6_least 12 = .ok (.iconst 1, 1) := dk_4 (dk_at dksX6_least_0 12 rfl rfl)
theorem dX6_least_13 : decode cX6_least 13 = .ok (.iadd, 1) := dk_96 (dk_at dksX6_least_0 13 rfl rfl)
theorem dX6_least_14 : decode cX6_least 14 = .ok (.ireturn, 1) := dk_172 (dk_at dksX6_least_0 14 rfl rfl)
abbrev cX6_print : ByteArray := prog_3_method_4_code
def yX6_print : MethodName := ⟨RX6, "print", "()V"⟩
def dkwX6_print_0 : List UInt8 := [42, 180, 0, 3, 7, 182, 0, 15, 42, 180, 0, 3, 18, 27, 182, 0, 29, 42, 182, 0, 33, 177]
abbrev dktX6_print_0 : List UInt8 := dkwX6_print_0 ++ []
theorem dksX6_print_0 : cX6_print.data.toList.drop 0 = dktX6_print_0 := by decide +kernel
theorem dX6_print_0 : decode cX6_print 0 = .ok (.aload_n 0, 1) := dk_42 (dk_at dksX6_print_0 0 rfl rfl)
theorem dX6_print_1 : decode cX6_print 1 = .ok (.getfield 3, 3) := dk_180 0 3 (dk_at dksX6_print_0 1 rfl rfl)
theorem dX6_print_4 : decode cX6_print 4 = .ok (.iconst 4, 1) := dk_7 (dk_at dksX6_print_0 4 rfl rfl)
theorem dX6_print_5 : decode cX6_print 5 = .ok (.invokevirtual 15, 3) := dk_182 0 15 (dk_at dksX6_print_0 5 rfl rfl)
theorem dX6_print_8 : decode cX6_print 8 = .ok (.aload_n 0, 1) := dk_42 (dk_at dksX6_print_0 8 rfl rfl)
theorem dX6_print_9 : decode cX6_print 9 = .ok (.getfield 3, 3) := dk_180 0 3 (dk_at dksX6_print_0 9 rfl rfl)
theorem dX6_print_12 : decode cX6_print 12 = .ok (.ldc 27, 2) := dk_18 27 (dk_at dksX6_print_0 12 rfl rfl)
theorem dX6_print_14 : decode cX6_print 14 = .ok (.invokevirtual 29, 3) := dk_182 0 29 (dk_at dksX6_print_0 14 rfl rfl)
theorem dX6_print_17 : decode cX6_print 17 = .ok (.aload_n 0, 1) := dk_42 (dk_at dksX6_print_0 17 rfl rfl)
theorem dX6_print_18 : decode cX6_print 18 = .ok (.invokevirtual 33, 3) := dk_182 0 33 (dk_at dksX6_print_0 18 rfl rfl)
theorem dX6_print_21 : decode cX6_print 21 = .ok (.return_, 1) := dk_177 (dk_at dksX6_print_0 21 rfl rfl)
theorem q173 : (Jvm.Cond.initialized "ClauseCourt$Clause") ∈ lw_all := lw_g (lw_at lw_m1 17 rfl) rfl
theorem q809 : (Jvm.Cond.instantiable "ClauseCourt$Clause" (6 : Nat)) ∈ lw_all := lw_g (lw_at lw_m3 173 rfl) rfl
theorem q811 : (Jvm.Cond.instanceMethod ({ cls := "ClauseCourt$Clause", name := "<init>", desc := "(LClauseCourt;I[I)V" } : Jvm.MethodName)) ∈ lw_all := lw_g (lw_at lw_m3 175 rfl) rfl
theorem q812 : (Jvm.Cond.code ({ cls := "ClauseCourt$Clause", name := "<init>", desc := "(LClauseCourt;I[I)V" } : Jvm.MethodName) prog_3_method_1_code (4 : Nat) (Option.none : Option Jvm.ClassFile.FieldType)) ∈ lw_all := lw_g (lw_at lw_m3 176 rfl) rfl
theorem q813 : (Jvm.Cond.methodLink "ClauseCourt$Clause" (9 : Nat) ({ cls := "ClauseCourt$Rule", name := "<init>", desc := "(LClauseCourt;I[I)V" } : Jvm.MethodName)) ∈ lw_all := lw_g (lw_at lw_m3 177 rfl) rfl
theorem q817 : (Jvm.Cond.fieldLink "ClauseCourt$Clause" (3 : Nat) "ClauseCourt$Clause" "this$0" "LClauseCourt;") ∈ lw_all := lw_g (lw_at lw_m3 181 rfl) rfl
theorem q821 : (Jvm.Cond.fieldLink "ClauseCourt$Clause" (37 : Nat) "ClauseCourt$Clause" "items" "[I") ∈ lw_all := lw_g (lw_at lw_m3 185 rfl) rfl
theorem q822 : (Jvm.Cond.sameField "ClauseCourt$Clause" "ClauseCourt$Rule" "items" "[I") ∈ lw_all := lw_g (lw_at lw_m3 186 rfl) rfl
theorem q834 : (Jvm.Cond.laysFinal "ClauseCourt$Clause" "ClauseCourt$Clause" "this$0" "LClauseCourt;") ∈ lw_all := lw_g (lw_at lw_m3 198 rfl) rfl
theorem q835 : (Jvm.Cond.soleField "ClauseCourt$Clause" "this$0") ∈ lw_all := lw_g (lw_at lw_m3 199 rfl) rfl
theorem q836 : (Jvm.Cond.laysFinal "ClauseCourt$Clause" "ClauseCourt$Rule" "kind" "I") ∈ lw_all := lw_g (lw_at lw_m3 200 rfl) rfl
theorem q838 : (Jvm.Cond.laysFinal "ClauseCourt$Clause" "ClauseCourt$Rule" "items" "[I") ∈ lw_all := lw_g (lw_at lw_m3 202 rfl) rfl
theorem q840 : (Jvm.Cond.lays "ClauseCourt$Clause" "ClauseCourt$Rule" "first" "I") ∈ lw_all := lw_g (lw_at lw_m3 204 rfl) rfl
theorem q842 : (Jvm.Cond.lays "ClauseCourt$Clause" "ClauseCourt$Rule" "many" "I") ∈ lw_all := lw_g (lw_at lw_m3 206 rfl) rfl
theorem q844 : (Jvm.Cond.laysFinal "ClauseCourt$Clause" "ClauseCourt$Rule" "this$0" "LClauseCourt;") ∈ lw_all := lw_g (lw_at lw_m3 208 rfl) rfl
theorem q846 : (Jvm.Cond.superclass "ClauseCourt$Clause" "ClauseCourt$Rule") ∈ lw_all := lw_g (lw_at lw_m3 210 rfl) rfl
theorem q957 : (Jvm.Cond.selects "ClauseCourt$Clause" ({ cls := "ClauseCourt$Rule", name := "lay", desc := "()V" } : Jvm.MethodName) ({ cls := "ClauseCourt$Clause", name := "lay", desc := "()V" } : Jvm.MethodName)) ∈ lw_all := lw_g (lw_at lw_m4 81 rfl) rfl
theorem q958 : (Jvm.Cond.instanceMethod ({ cls := "ClauseCourt$Clause", name := "lay", desc := "()V" } : Jvm.MethodName)) ∈ lw_all := lw_g (lw_at lw_m4 82 rfl) rfl
theorem q959 : (Jvm.Cond.code ({ cls := "ClauseCourt$Clause", name := "lay", desc := "()V" } : Jvm.MethodName) prog_3_method_5_code (5 : Nat) (Option.none : Option Jvm.ClassFile.FieldType)) ∈ lw_all := lw_g (lw_at lw_m4 83 rfl) rfl
theorem q960 : (Jvm.Cond.methodLinkNest "ClauseCourt$Clause" (41 : Nat) ({ cls := "ClauseCourt", name := "also", desc := "(I)V" } : Jvm.MethodName) "ClauseCourt") ∈ lw_tbl := lw_at lw_m4 84 rfl
theorem q961 : (Jvm.Cond.methodLinkNest "ClauseCourt$Clause" (44 : Nat) ({ cls := "ClauseCourt", name := "endRow", desc := "()V" } : Jvm.MethodName) "ClauseCourt") ∈ lw_tbl := lw_at lw_m4 85 rfl
theorem q1218 : (Jvm.Cond.selects "ClauseCourt$Clause" ({ cls := "ClauseCourt$Rule", name := "holds", desc := "(LClauseCourt$Truth;)Z" } : Jvm.MethodName) ({ cls := "ClauseCourt$Clause", name := "holds", desc := "(LClauseCourt$Truth;)Z" } : Jvm.MethodName)) ∈ lw_all := lw_g (lw_at lw_m5 102 rfl) rfl
theorem q1219 : (Jvm.Cond.instanceMethod ({ cls := "ClauseCourt$Clause", name := "holds", desc := "(LClauseCourt$Truth;)Z" } : Jvm.MethodName)) ∈ lw_all := lw_g (lw_at lw_m5 103 rfl) rfl
theorem q1220 : (Jvm.Cond.code ({ cls := "ClauseCourt$Clause", name := "holds", desc := "(LClauseCourt$Truth;)Z" } : Jvm.MethodName) prog_3_method_2_code (2 : Nat) (Option.some Jvm.ClassFile.FieldType.boolean)) ∈ lw_all := lw_g (lw_at lw_m5 104 rfl) rfl
theorem q1221 : (Jvm.Cond.methodLinkNest "ClauseCourt$Clause" (15 : Nat) ({ cls := "ClauseCourt", name := "body", desc := "(I)V" } : Jvm.MethodName) "ClauseCourt") ∈ lw_tbl := lw_at lw_m5 105 rfl
theorem q1222 : (Jvm.Cond.methodLink "ClauseCourt$Clause" (19 : Nat) ({ cls := "ClauseCourt$Clause", name := "trues", desc := "(LClauseCourt$Truth;)I" } : Jvm.MethodName)) ∈ lw_all := lw_g (lw_at lw_m5 106 rfl) rfl
theorem q1223 : (Jvm.Cond.sameMethod "ClauseCourt$Clause" "ClauseCourt$Rule" "trues" "(LClauseCourt$Truth;)I") ∈ lw_all := lw_g (lw_at lw_m5 107 rfl) rfl
theorem q1225 : (Jvm.Cond.selects "ClauseCourt$Clause" ({ cls := "ClauseCourt$Clause", name := "trues", desc := "(LClauseCourt$Truth;)I" } : Jvm.MethodName) ({ cls := "ClauseCourt$Rule", name := "trues", desc := "(LClauseCourt$Truth;)I" } : Jvm.MethodName)) ∈ lw_all := lw_g (lw_at lw_m5 109 rfl) rfl
theorem q1259 : (Jvm.Cond.instanceMethod ({ cls := "ClauseCourt$Clause", name := "least", desc := "()I" } : Jvm.MethodName)) ∈ lw_all := lw_g (lw_at lw_m5 143 rfl) rfl
theorem q1260 : (Jvm.Cond.code ({ cls := "ClauseCourt$Clause", name := "least", desc := "()I" } : Jvm.MethodName) prog_3_method_3_code (1 : Nat) (Option.some Jvm.ClassFile.FieldType.int)) ∈ lw_all := lw_g (lw_at lw_m5 144 rfl) rfl
theorem q1261 : (Jvm.Cond.methodLink "ClauseCourt$Clause" (23 : Nat) ({ cls := "ClauseCourt$Rule", name := "least", desc := "()I" } : Jvm.MethodName)) ∈ lw_all := lw_g (lw_at lw_m5 145 rfl) rfl
theorem q1262 : (Jvm.Cond.selects "ClauseCourt$Clause" ({ cls := "ClauseCourt$Rule", name := "least", desc := "()I" } : Jvm.MethodName) ({ cls := "ClauseCourt$Clause", name := "least", desc := "()I" } : Jvm.MethodName)) ∈ lw_all := lw_g (lw_at lw_m5 146 rfl) rfl
theorem q1280 : (Jvm.Cond.sameMethod "ClauseCourt$Clause" "ClauseCourt$Rule" "most" "()I") ∈ lw_all := lw_g (lw_at lw_m5 164 rfl) rfl
theorem q1282 : (Jvm.Cond.selects "ClauseCourt$Clause" ({ cls := "ClauseCourt$Rule", name := "most", desc := "()I" } : Jvm.MethodName) ({ cls := "ClauseCourt$Rule", name := "most", desc := "()I" } : Jvm.MethodName)) ∈ lw_all := lw_g (lw_at lw_m5 166 rfl) rfl
theorem q1296 : (Jvm.Cond.selects "ClauseCourt$Clause" ({ cls := "ClauseCourt$Rule", name := "laid", desc := "()I" } : Jvm.MethodName) ({ cls := "ClauseCourt$Rule", name := "laid", desc := "()I" } : Jvm.MethodName)) ∈ lw_all := lw_g (lw_at lw_m5 180 rfl) rfl
theorem q1397 : (Jvm.Cond.castable "ClauseCourt$Clause" "ClauseCourt$Prints") ∈ lw_tbl := lw_at lw_m6 41 rfl
theorem q1398 : (Jvm.Cond.selects "ClauseCourt$Clause" ({ cls := "ClauseCourt$Prints", name := "court", desc := "()LClauseCourt;" } : Jvm.MethodName) ({ cls := "ClauseCourt$Rule", name := "court", desc := "()LClauseCourt;" } : Jvm.MethodName)) ∈ lw_all := lw_g (lw_at lw_m6 42 rfl) rfl
theorem q1399 : (Jvm.Cond.unhidden "ClauseCourt$Clause" "court" "()LClauseCourt;") ∈ lw_tbl := lw_at lw_m6 43 rfl
theorem q1420 : (Jvm.Cond.selects "ClauseCourt$Clause" ({ cls := "ClauseCourt$Prints", name := "size", desc := "()I" } : Jvm.MethodName) ({ cls := "ClauseCourt$Rule", name := "size", desc := "()I" } : Jvm.MethodName)) ∈ lw_all := lw_g (lw_at lw_m6 64 rfl) rfl
theorem q1421 : (Jvm.Cond.unhidden "ClauseCourt$Clause" "size" "()I") ∈ lw_tbl := lw_at lw_m6 65 rfl
theorem q1437 : (Jvm.Cond.selects "ClauseCourt$Clause" ({ cls := "ClauseCourt$Prints", name := "at", desc := "(I)I" } : Jvm.MethodName) ({ cls := "ClauseCourt$Rule", name := "at", desc := "(I)I" } : Jvm.MethodName)) ∈ lw_all := lw_g (lw_at lw_m6 81 rfl) rfl
theorem q1438 : (Jvm.Cond.unhidden "ClauseCourt$Clause" "at" "(I)I") ∈ lw_tbl := lw_at lw_m6 82 rfl
theorem q1446 : (Jvm.Cond.unhidden "ClauseCourt$Clause" "list" "()V") ∈ lw_tbl := lw_at lw_m6 90 rfl
theorem q1450 : (Jvm.Cond.selects "ClauseCourt$Clause" ({ cls := "ClauseCourt$Rule", name := "print", desc := "()V" } : Jvm.MethodName) ({ cls := "ClauseCourt$Clause", name := "print", desc := "()V" } : Jvm.MethodName)) ∈ lw_all := lw_g (lw_at lw_m6 94 rfl) rfl
theorem q1451 : (Jvm.Cond.instanceMethod ({ cls := "ClauseCourt$Clause", name := "print", desc := "()V" } : Jvm.MethodName)) ∈ lw_all := lw_g (lw_at lw_m6 95 rfl) rfl
theorem q1452 : (Jvm.Cond.code ({ cls := "ClauseCourt$Clause", name := "print", desc := "()V" } : Jvm.MethodName) prog_3_method_4_code (1 : Nat) (Option.none : Option Jvm.ClassFile.FieldType)) ∈ lw_all := lw_g (lw_at lw_m6 96 rfl) rfl
theorem q1453 : (Jvm.Cond.stringRef "ClauseCourt$Clause" (27 : Nat) "some") ∈ lw_tbl := lw_at lw_m6 97 rfl
theorem q1454 : (Jvm.Cond.methodLinkNest "ClauseCourt$Clause" (29 : Nat) ({ cls := "ClauseCourt", name := "say", desc := "(Ljava/lang/String;)V" } : Jvm.MethodName) "ClauseCourt") ∈ lw_tbl := lw_at lw_m6 98 rfl
theorem q1455 : (Jvm.Cond.methodLink "ClauseCourt$Clause" (33 : Nat) ({ cls := "ClauseCourt$Clause", name := "sayList", desc := "()V" } : Jvm.MethodName)) ∈ lw_all := lw_g (lw_at lw_m6 99 rfl) rfl
theorem q1456 : (Jvm.Cond.sameMethod "ClauseCourt$Clause" "ClauseCourt$Rule" "sayList" "()V") ∈ lw_all := lw_g (lw_at lw_m6 100 rfl) rfl
theorem q1458 : (Jvm.Cond.selects "ClauseCourt$Clause" ({ cls := "ClauseCourt$Clause", name := "sayList", desc := "()V" } : Jvm.MethodName) ({ cls := "ClauseCourt$Rule", name := "sayList", desc := "()V" } : Jvm.MethodName)) ∈ lw_all := lw_g (lw_at lw_m6 102 rfl) rfl
theorem q2783 : (Jvm.Cond.sameMethod "ClauseCourt$Clause" "ClauseCourt$Clause" "least" "()I") ∈ lw_all := lw_g (lw_at lw_m11 227 rfl) rfl
theorem q2789 : (Jvm.Cond.castable "ClauseCourt$Clause" "ClauseCourt$Rule") ∈ lw_tbl := lw_at lw_m11 233 rfl
theorem in_X6 : ∀ w ∈ wsX60, w ∈ lw_all := lw_in wsX60 [836, 838, 840, 842, 844, 834] (by decide +kernel) (by decide +kernel)

/-! ClauseCourt$AtMost -/
set_option maxRecDepth 100000
def RX7 : String := "ClauseCourt$AtMost"
def TX7 : u_T := fun k => match k with
  | 0 => ("ClauseCourt$Rule", "kind", "I", true)
  | 1 => ("ClauseCourt$Rule", "items", "[I", true)
  | 2 => ("ClauseCourt$Rule", "first", "I", false)
  | 3 => ("ClauseCourt$Rule", "many", "I", false)
  | 4 => ("ClauseCourt$Rule", "this$0", "LClauseCourt;", true)
  | 5 => ("ClauseCourt$Clause", "this$0", "LClauseCourt;", true)
  | 6 => ("ClauseCourt$AtMost", "k", "I", true)
  | _ => ("ClauseCourt$AtMost", "this$0", "LClauseCourt;", true)
def tyX7 : Nat → FieldType := fun k => match k with
  | 0 => .int
  | 1 => .array .int
  | 2 => .int
  | 3 => .int
  | 4 => .object "ClauseCourt"
  | 5 => .object "ClauseCourt"
  | 6 => .int
  | _ => .object "ClauseCourt"
abbrev wsX70 : List Cond := u_ws RX7 TX7 8
-- two fields of one name: no nmX7
theorem tyX7_ok : ∀ k, k < 8 → parseFieldDescriptor (TX7 k).2.2.1 = some (tyX7 k) := by decide +kernel
abbrev cX7_init : ByteArray := prog_2_method_1_code
def yX7_init : MethodName := ⟨RX7, "<init>", "(LClauseCourt;I[II)V"⟩
def dkwX7_init_0 : List UInt8 := [42, 43, 181, 0, 3, 42, 43, 28, 45, 183, 0, 9, 42, 21, 4, 181, 0, 15, 177]
abbrev dktX7_init_0 : List UInt8 := dkwX7_init_0 ++ []
theorem dksX7_init_0 : cX7_init.data.toList.drop 0 = dktX7_init_0 := by decide +kernel
theorem dX7_init_0 : decode cX7_init 0 = .ok (.aload_n 0, 1) := dk_42 (dk_at dksX7_init_0 0 rfl rfl)
theorem dX7_init_1 : decode cX7_init 1 = .ok (.aload_n 1, 1) := dk_43 (dk_at dksX7_init_0 1 rfl rfl)
theorem dX7_init_2 : decode cX7_init 2 = .ok (.putfield 3, 3) := dk_181 0 3 (dk_at dksX7_init_0 2 rfl rfl)
theorem dX7_init_5 : decode cX7_init 5 = .ok (.aload_n 0, 1) := dk_42 (dk_at dksX7_init_0 5 rfl rfl)
theorem dX7_init_6 : decode cX7_init 6 = .ok (.aload_n 1, 1) := dk_43 (dk_at dksX7_init_0 6 rfl rfl)
theorem dX7_init_7 : decode cX7_init 7 = .ok (.iload_n 2, 1) := dk_28 (dk_at dksX7_init_0 7 rfl rfl)
theorem dX7_init_8 : decode cX7_init 8 = .ok (.aload_n 3, 1) := dk_45 (dk_at dksX7_init_0 8 rfl rfl)
theorem dX7_init_9 : decode cX7_init 9 = .ok (.invokespecial 9, 3) := dk_183 0 9 (dk_at dksX7_init_0 9 rfl rfl)
theorem dX7_init_12 : decode cX7_init 12 = .ok (.aload_n 0, 1) := dk_42 (dk_at dksX7_init_0 12 rfl rfl)
theorem dX7_init_13 : decode cX7_init 13 = .ok (.iload 4, 2) := dk_21 4 (dk_at dksX7_init_0 13 rfl rfl)
theorem dX7_init_15 : decode cX7_init 15 = .ok (.putfield 15, 3) := dk_181 0 15 (dk_at dksX7_init_0 15 rfl rfl)
theorem dX7_init_18 : decode cX7_init 18 = .ok (.return_, 1) := dk_177 (dk_at dksX7_init_0 18 rfl rfl)
abbrev cX7_lay : ByteArray := prog_2_method_9_code
def yX7_lay : MethodName := ⟨RX7, "lay", "()V"⟩
def dkwX7_lay_0 : List UInt8 := [42, 182, 0, 77, 87, 177]
abbrev dktX7_lay_0 : List UInt8 := dkwX7_lay_0 ++ []
theorem dksX7_lay_0 : cX7_lay.data.toList.drop 0 = dktX7_lay_0 := by decide +kernel
theorem dX7_lay_0 : decode cX7_lay 0 = .ok (.aload_n 0, 1) := dk_42 (dk_at dksX7_lay_0 0 rfl rfl)
theorem dX7_lay_1 : decode cX7_lay 1 = .ok (.invokevirtual 77, 3) := dk_182 0 77 (dk_at dksX7_lay_0 1 rfl rfl)
theorem dX7_lay_4 : decode cX7_lay 4 = .ok (.pop, 1) := dk_87 (dk_at dksX7_lay_0 4 rfl rfl)
theorem dX7_lay_5 : decode cX7_lay 5 = .ok (.return_, 1) := dk_177 (dk_at dksX7_lay_0 5 rfl rfl)
abbrev cX7_layMost : ByteArray := prog_2_method_8_code
def yX7_layMost : MethodName := ⟨RX7, "layMost", "()[I"⟩
def dkwX7_layMost_1 : List UInt8 := [180, 0, 15, 4, 96, 46, 116, 182, 0, 75, 43, 176]
abbrev dktX7_layMost_1 : List UInt8 := dkwX7_layMost_1 ++ []
def dkwX7_layMost_0 : List UInt8 := [42, 182, 0, 71, 76, 42, 180, 0, 53, 190, 42, 180, 0, 15, 164, 0, 19, 42, 180, 0, 3, 43, 42]
abbrev dktX7_layMost_0 : List UInt8 := dkwX7_layMost_0 ++ dktX7_layMost_1
theorem dksX7_layMost_0 : cX7_layMost.data.toList.drop 0 = dktX7_layMost_0 := by decide +kernel
theorem dksX7_layMost_1 : cX7_layMost.data.toList.drop 23 = dktX7_layMost_1 := dk_seg dksX7_layMost_0 23 rfl rfl
theorem dX7_layMost_0 : decode cX7_layMost 0 = .ok (.aload_n 0, 1) := dk_42 (dk_at dksX7_layMost_0 0 rfl rfl)
theorem dX7_layMost_1 : decode cX7_layMost 1 = .ok (.invokevirtual 71, 3) := dk_182 0 71 (dk_at dksX7_layMost_0 1 rfl rfl)
theorem dX7_layMost_4 : decode cX7_layMost 4 = .ok (.astore_n 1, 1) := dk_76 (dk_at dksX7_layMost_0 4 rfl rfl)
theorem dX7_layMost_5 : decode cX7_layMost 5 = .ok (.aload_n 0, 1) := dk_42 (dk_at dksX7_layMost_0 5 rfl rfl)
theorem dX7_layMost_6 : decode cX7_layMost 6 = .ok (.getfield 53, 3) := dk_180 0 53 (dk_at dksX7_layMost_0 6 rfl rfl)
theorem dX7_layMost_9 : decode cX7_layMost 9 = .ok (.arraylength, 1) := dk_190 (dk_at dksX7_layMost_0 9 rfl rfl)
theorem dX7_layMost_10 : decode cX7_layMost 10 = .ok (.aload_n 0, 1) := dk_42 (dk_at dksX7_layMost_0 10 rfl rfl)
theorem dX7_layMost_11 : decode cX7_layMost 11 = .ok (.getfield 15, 3) := dk_180 0 15 (dk_at dksX7_layMost_0 11 rfl rfl)
theorem dX7_layMost_14 : decode cX7_layMost 14 = .ok (.if_icmp .le 19, 3) := dk_164 0 19 (dk_at dksX7_layMost_0 14 rfl rfl)
theorem dX7_layMost_17 : decode cX7_layMost 17 = .ok (.aload_n 0, 1) := dk_42 (dk_at dksX7_layMost_0 17 rfl rfl)
theorem dX7_layMost_18 : decode cX7_layMost 18 = .ok (.getfield 3, 3) := dk_180 0 3 (dk_at dksX7_layMost_0 18 rfl rfl)
theorem dX7_layMost_21 : decode cX7_layMost 21 = .ok (.aload_n 1, 1) := dk_43 (dk_at dksX7_layMost_0 21 rfl rfl)
theorem dX7_layMost_22 : decode cX7_layMost 22 = .ok (.aload_n 0, 1) := dk_42 (dk_at dksX7_layMost_0 22 rfl rfl)
theorem dX7_layMost_23 : decode cX7_layMost 23 = .ok (.getfield 15, 3) := dk_180 0 15 (dk_at dksX7_layMost_1 0 rfl rfl)
theorem dX7_layMost_26 : decode cX7_layMost 26 = .ok (.iconst 1, 1) := dk_4 (dk_at dksX7_layMost_1 3 rfl rfl)
theorem dX7_layMost_27 : decode cX7_layMost 27 = .ok (.iadd, 1) := dk_96 (dk_at dksX7_layMost_1 4 rfl rfl)
theorem dX7_layMost_28 : decode cX7_layMost 28 = .ok (.iaload, 1) := dk_46 (dk_at dksX7_layMost_1 5 rfl rfl)
theorem dX7_layMost_29 : decode cX7_layMost 29 = .ok (.ineg, 1) := dk_116 (dk_at dksX7_layMost_1 6 rfl rfl)
theorem dX7_layMost_30 : decode cX7_layMost 30 = .ok (.invokevirtual 75, 3) := dk_182 0 75 (dk_at dksX7_layMost_1 7 rfl rfl)
theorem dX7_layMost_33 : decode cX7_layMost 33 = .ok (.aload_n 1, 1) := dk_43 (dk_at dksX7_layMost_1 10 rfl rfl)
theorem dX7_layMost_34 : decode cX7_layMost 34 = .ok (.areturn, 1) := dk_176 (dk_at dksX7_layMost_1 11 rfl rfl)
abbrev cX7_counters : ByteArray := prog_2_method_6_code
def yX7_counters : MethodName := ⟨RX7, "counters", "()[I"⟩
def dkwX7_counters_5 : List UInt8 := [132, 2, 1, 167, 255, 149, 43, 176]
abbrev dktX7_counters_5 : List UInt8 := dkwX7_counters_5 ++ []
def dkwX7_counters_4 : List UInt8 := [21, 5, 4, 100, 46, 167, 0, 4, 3, 182, 0, 57, 79, 132, 5, 1, 167, 255, 189, 25, 4, 76]
abbrev dktX7_counters_4 : List UInt8 := dkwX7_counters_4 ++ dktX7_counters_5
def dkwX7_counters_3 : List UInt8 := [42, 29, 21, 5, 28, 162, 0, 10, 43, 21, 5, 46, 167, 0, 4, 3, 21, 5, 4, 164, 0, 12, 43]
abbrev dktX7_counters_3 : List UInt8 := dkwX7_counters_3 ++ dktX7_counters_4
def dkwX7_counters_2 : List UInt8 := [180, 0, 15, 4, 96, 184, 0, 34, 163, 0, 58, 25, 4, 21, 5, 28, 4, 160, 0, 7, 29, 167, 0, 38]
abbrev dktX7_counters_2 : List UInt8 := dkwX7_counters_2 ++ dktX7_counters_3
def dkwX7_counters_1 : List UInt8 := [28, 4, 100, 46, 62, 42, 180, 0, 15, 5, 96, 188, 10, 58, 4, 4, 54, 5, 21, 5, 28, 42]
abbrev dktX7_counters_1 : List UInt8 := dkwX7_counters_1 ++ dktX7_counters_2
def dkwX7_counters_0 : List UInt8 := [42, 180, 0, 15, 5, 96, 188, 10, 76, 4, 61, 28, 42, 180, 0, 53, 190, 163, 0, 104, 42, 180, 0, 53]
abbrev dktX7_counters_0 : List UInt8 := dkwX7_counters_0 ++ dktX7_counters_1
theorem dksX7_counters_0 : cX7_counters.data.toList.drop 0 = dktX7_counters_0 := by decide +kernel
theorem dksX7_counters_1 : cX7_counters.data.toList.drop 24 = dktX7_counters_1 := dk_seg dksX7_counters_0 24 rfl rfl
theorem dksX7_counters_2 : cX7_counters.data.toList.drop 46 = dktX7_counters_2 := dk_seg dksX7_counters_1 22 rfl rfl
theorem dksX7_counters_3 : cX7_counters.data.toList.drop 70 = dktX7_counters_3 := dk_seg dksX7_counters_2 24 rfl rfl
theorem dksX7_counters_4 : cX7_counters.data.toList.drop 93 = dktX7_counters_4 := dk_seg dksX7_counters_3 23 rfl rfl
theorem dksX7_counters_5 : cX7_counters.data.toList.drop 115 = dktX7_counters_5 := dk_seg dksX7_counters_4 22 rfl rfl
theorem dX7_counters_0 : decode cX7_counters 0 = .ok (.aload_n 0, 1) := dk_42 (dk_at dksX7_counters_0 0 rfl rfl)
theorem dX7_counters_1 : decode cX7_counters 1 = .ok (.getfield 15, 3) := dk_180 0 15 (dk_at dksX7_counters_0 1 rfl rfl)
theorem dX7_counters_4 : decode cX7_counters 4 = .ok (.iconst 2, 1) := dk_5 (dk_at dksX7_counters_0 4 rfl rfl)
theorem dX7_counters_5 : decode cX7_counters 5 = .ok (.iadd, 1) := dk_96 (dk_at dksX7_counters_0 5 rfl rfl)
theorem dX7_counters_6 : decode cX7_counters 6 = .ok (.newarray .int, 2) := dk_188_10 (dk_at dksX7_counters_0 6 rfl rfl)
theorem dX7_counters_8 : decode cX7_counters 8 = .ok (.astore_n 1, 1) := dk_76 (dk_at dksX7_counters_0 8 rfl rfl)
theorem dX7_counters_9 : decode cX7_counters 9 = .ok (.iconst 1, 1) := dk_4 (dk_at dksX7_counters_0 9 rfl rfl)
theorem dX7_counters_10 : decode cX7_counters 10 = .ok (.istore_n 2, 1) := dk_61 (dk_at dksX7_counters_0 10 rfl rfl)
theorem dX7_counters_11 : decode cX7_counters 11 = .ok (.iload_n 2, 1) := dk_28 (dk_at dksX7_counters_0 11 rfl rfl)
theorem dX7_counters_12 : decode cX7_counters 12 = .ok (.aload_n 0, 1) := dk_42 (dk_at dksX7_counters_0 12 rfl rfl)
theorem dX7_counters_13 : decode cX7_counters 13 = .ok (.getfield 53, 3) := dk_180 0 53 (dk_at dksX7_counters_0 13 rfl rfl)
theorem dX7_counters_16 : decode cX7_counters 16 = .ok (.arraylength, 1) := dk_190 (dk_at dksX7_counters_0 16 rfl rfl)
theorem dX7_counters_17 : decode cX7_counters 17 = .ok (.if_icmp .gt 104, 3) := dk_163 0 104 (dk_at dksX7_counters_0 17 rfl rfl)
theorem dX7_counters_20 : decode cX7_counters 20 = .ok (.aload_n 0, 1) := dk_42 (dk_at dksX7_counters_0 20 rfl rfl)
theorem dX7_counters_21 : decode cX7_counters 21 = .ok (.getfield 53, 3) := dk_180 0 53 (dk_at dksX7_counters_0 21 rfl rfl)
theorem dX7_counters_24 : decode cX7_counters 24 = .ok (.iload_n 2, 1) := dk_28 (dk_at dksX7_counters_1 0 rfl rfl)
theorem dX7_counters_25 : decode cX7_counters 25 = .ok (.iconst 1, 1) := dk_4 (dk_at dksX7_counters_1 1 rfl rfl)
theorem dX7_counters_26 : decode cX7_counters 26 = .ok (.isub, 1) := dk_100 (dk_at dksX7_counters_1 2 rfl rfl)
theorem dX7_counters_27 : decode cX7_counters 27 = .ok (.iaload, 1) := dk_46 (dk_at dksX7_counters_1 3 rfl rfl)
theorem dX7_counters_28 : decode cX7_counters 28 = .ok (.istore_n 3, 1) := dk_62 (dk_at dksX7_counters_1 4 rfl rfl)
theorem dX7_counters_29 : decode cX7_counters 29 = .ok (.aload_n 0, 1) := dk_42 (dk_at dksX7_counters_1 5 rfl rfl)
theorem dX7_counters_30 : decode cX7_counters 30 = .ok (.getfield 15, 3) := dk_180 0 15 (dk_at dksX7_counters_1 6 rfl rfl)
theorem dX7_counters_33 : decode cX7_counters 33 = .ok (.iconst 2, 1) := dk_5 (dk_at dksX7_counters_1 9 rfl rfl)
theorem dX7_counters_34 : decode cX7_counters 34 = .ok (.iadd, 1) := dk_96 (dk_at dksX7_counters_1 10 rfl rfl)
theorem dX7_counters_35 : decode cX7_counters 35 = .ok (.newarray .int, 2) := dk_188_10 (dk_at dksX7_counters_1 11 rfl rfl)
theorem dX7_counters_37 : decode cX7_counters 37 = .ok (.astore 4, 2) := dk_58 4 (dk_at dksX7_counters_1 13 rfl rfl)
theorem dX7_counters_39 : decode cX7_counters 39 = .ok (.iconst 1, 1) := dk_4 (dk_at dksX7_counters_1 15 rfl rfl)
theorem dX7_counters_40 : decode cX7_counters 40 = .ok (.istore 5, 2) := dk_54 5 (dk_at dksX7_counters_1 16 rfl rfl)
theorem dX7_counters_42 : decode cX7_counters 42 = .ok (.iload 5, 2) := dk_21 5 (dk_at dksX7_counters_1 18 rfl rfl)
theorem dX7_counters_44 : decode cX7_counters 44 = .ok (.iload_n 2, 1) := dk_28 (dk_at dksX7_counters_1 20 rfl rfl)
theorem dX7_counters_45 : decode cX7_counters 45 = .ok (.aload_n 0, 1) := dk_42 (dk_at dksX7_counters_1 21 rfl rfl)
theorem dX7_counters_46 : decode cX7_counters 46 = .ok (.getfield 15, 3) := dk_180 0 15 (dk_at dksX7_counters_2 0 rfl rfl)
theorem dX7_counters_49 : decode cX7_counters 49 = .ok (.iconst 1, 1) := dk_4 (dk_at dksX7_counters_2 3 rfl rfl)
theorem dX7_counters_50 : decode cX7_counters 50 = .ok (.iadd, 1) := dk_96 (dk_at dksX7_counters_2 4 rfl rfl)
theorem dX7_counters_51 : decode cX7_counters 51 = .ok (.invokestatic 34, 3) := dk_184 0 34 (dk_at dksX7_counters_2 5 rfl rfl)
theorem dX7_counters_54 : decode cX7_counters 54 = .ok (.if_icmp .gt 58, 3) := dk_163 0 58 (dk_at dksX7_counters_2 8 rfl rfl)
theorem dX7_counters_57 : decode cX7_counters 57 = .ok (.aload 4, 2) := dk_25 4 (dk_at dksX7_counters_2 11 rfl rfl)
theorem dX7_counters_59 : decode cX7_counters 59 = .ok (.iload 5, 2) := dk_21 5 (dk_at dksX7_counters_2 13 rfl rfl)
theorem dX7_counters_61 : decode cX7_counters 61 = .ok (.iload_n 2, 1) := dk_28 (dk_at dksX7_counters_2 15 rfl rfl)
theorem dX7_counters_62 : decode cX7_counters 62 = .ok (.iconst 1, 1) := dk_4 (dk_at dksX7_counters_2 16 rfl rfl)
theorem dX7_counters_63 : decode cX7_counters 63 = .ok (.if_icmp .ne 7, 3) := dk_160 0 7 (dk_at dksX7_counters_2 17 rfl rfl)
theorem dX7_counters_66 : decode cX7_counters 66 = .ok (.iload_n 3, 1) := dk_29 (dk_at dksX7_counters_2 20 rfl rfl)
theorem dX7_counters_67 : decode cX7_counters 67 = .ok (.goto 38, 3) := dk_167 0 38 (dk_at dksX7_counters_2 21 rfl rfl)
theorem dX7_counters_70 : decode cX7_counters 70 = .ok (.aload_n 0, 1) := dk_42 (dk_at dksX7_counters_3 0 rfl rfl)
theorem dX7_counters_71 : decode cX7_counters 71 = .ok (.iload_n 3, 1) := dk_29 (dk_at dksX7_counters_3 1 rfl rfl)
theorem dX7_counters_72 : decode cX7_counters 72 = .ok (.iload 5, 2) := dk_21 5 (dk_at dksX7_counters_3 2 rfl rfl)
theorem dX7_counters_74 : decode cX7_counters 74 = .ok (.iload_n 2, 1) := dk_28 (dk_at dksX7_counters_3 4 rfl rfl)
theorem dX7_counters_75 : decode cX7_counters 75 = .ok (.if_icmp .ge 10, 3) := dk_162 0 10 (dk_at dksX7_counters_3 5 rfl rfl)
theorem dX7_counters_78 : decode cX7_counters 78 = .ok (.aload_n 1, 1) := dk_43 (dk_at dksX7_counters_3 8 rfl rfl)
theorem dX7_counters_79 : decode cX7_counters 79 = .ok (.iload 5, 2) := dk_21 5 (dk_at dksX7_counters_3 9 rfl rfl)
theorem dX7_counters_81 : decode cX7_counters 81 = .ok (.iaload, 1) := dk_46 (dk_at dksX7_counters_3 11 rfl rfl)
theorem dX7_counters_82 : decode cX7_counters 82 = .ok (.goto 4, 3) := dk_167 0 4 (dk_at dksX7_counters_3 12 rfl rfl)
theorem dX7_counters_85 : decode cX7_counters 85 = .ok (.iconst 0, 1) := dk_3 (dk_at dksX7_counters_3 15 rfl rfl)
theorem dX7_counters_86 : decode cX7_counters 86 = .ok (.iload 5, 2) := dk_21 5 (dk_at dksX7_counters_3 16 rfl rfl)
theorem dX7_counters_88 : decode cX7_counters 88 = .ok (.iconst 1, 1) := dk_4 (dk_at dksX7_counters_3 18 rfl rfl)
theorem dX7_counters_89 : decode cX7_counters 89 = .ok (.if_icmp .le 12, 3) := dk_164 0 12 (dk_at dksX7_counters_3 19 rfl rfl)
theorem dX7_counters_92 : decode cX7_counters 92 = .ok (.aload_n 1, 1) := dk_43 (dk_at dksX7_counters_3 22 rfl rfl)
theorem dX7_counters_93 : decode cX7_counters 93 = .ok (.iload 5, 2) := dk_21 5 (dk_at dksX7_counters_4 0 rfl rfl)
theorem dX7_counters_95 : decode cX7_counters 95 = .ok (.iconst 1, 1) := dk_4 (dk_at dksX7_counters_4 2 rfl rfl)
theorem dX7_counters_96 : decode cX7_counters 96 = .ok (.isub, 1) := dk_100 (dk_at dksX7_counters_4 3 rfl rfl)
theorem dX7_counters_97 : decode cX7_counters 97 = .ok (.iaload, 1) := dk_46 (dk_at dksX7_counters_4 4 rfl rfl)
theorem dX7_counters_98 : decode cX7_counters 98 = .ok (.goto 4, 3) := dk_167 0 4 (dk_at dksX7_counters_4 5 rfl rfl)
theorem dX7_counters_101 : decode cX7_counters 101 = .ok (.iconst 0, 1) := dk_3 (dk_at dksX7_counters_4 8 rfl rfl)
theorem dX7_counters_102 : decode cX7_counters 102 = .ok (.invokevirtual 57, 3) := dk_182 0 57 (dk_at dksX7_counters_4 9 rfl rfl)
theorem dX7_counters_105 : decode cX7_counters 105 = .ok (.iastore, 1) := dk_79 (dk_at dksX7_counters_4 12 rfl rfl)
theorem dX7_counters_106 : decode cX7_counters 106 = .ok (.iinc 5 1, 3) := dk_132 5 1 (dk_at dksX7_counters_4 13 rfl rfl)
theorem dX7_counters_109 : decode cX7_counters 109 = .ok (.goto (-67), 3) := dk_167 255 189 (dk_at dksX7_counters_4 16 rfl rfl)
theorem dX7_counters_112 : decode cX7_counters 112 = .ok (.aload 4, 2) := dk_25 4 (dk_at dksX7_counters_4 19 rfl rfl)
theorem dX7_counters_114 : decode cX7_counters 114 = .ok (.astore_n 1, 1) := dk_76 (dk_at dksX7_counters_4 21 rfl rfl)
theorem dX7_counters_115 : decode cX7_counters 115 = .ok (.iinc 2 1, 3) := dk_132 2 1 (dk_at dksX7_counters_5 0 rfl rfl)
theorem dX7_counters_118 : decode cX7_counters 118 = .ok (.goto (-107), 3) := dk_167 255 149 (dk_at dksX7_counters_5 3 rfl rfl)
theorem dX7_counters_121 : decode cX7_counters 121 = .ok (.aload_n 1, 1) := dk_43 (dk_at dksX7_counters_5 6 rfl rfl)
theorem dX7_counters_122 : decode cX7_counters 122 = .ok (.areturn, 1) := dk_176 (dk_at dksX7_counters_5 7 rfl rfl)
abbrev cX7_counter : ByteArray := prog_2_method_7_code
def yX7_counter : MethodName := ⟨RX7, "counter", "(III)I"⟩
def dkwX7_counter_5 : List UInt8 := [21, 4, 116, 182, 0, 64, 21, 4, 172]
abbrev dktX7_counter_5 : List UInt8 := dkwX7_counter_5 ++ []
def dkwX7_counter_4 : List UInt8 := [180, 0, 3, 28, 29, 21, 4, 116, 182, 0, 68, 167, 0, 18, 29, 153, 0, 14, 42, 180, 0, 3, 29]
abbrev dktX7_counter_4 : List UInt8 := dkwX7_counter_4 ++ dktX7_counter_5
def dkwX7_counter_3 : List UInt8 := [167, 0, 14, 42, 180, 0, 3, 27, 21, 4, 116, 182, 0, 64, 29, 153, 0, 22, 28, 153, 0, 18, 42]
abbrev dktX7_counter_3 : List UInt8 := dkwX7_counter_3 ++ dktX7_counter_4
def dkwX7_counter_2 : List UInt8 := [27, 116, 21, 4, 182, 0, 64, 28, 153, 0, 18, 42, 180, 0, 3, 28, 27, 21, 4, 116, 182, 0, 68]
abbrev dktX7_counter_2 : List UInt8 := dkwX7_counter_2 ++ dktX7_counter_3
def dkwX7_counter_1 : List UInt8 := [29, 153, 0, 19, 42, 180, 0, 3, 27, 116, 29, 116, 21, 4, 182, 0, 68, 167, 0, 14, 42, 180, 0, 3]
abbrev dktX7_counter_1 : List UInt8 := dkwX7_counter_1 ++ dktX7_counter_2
def dkwX7_counter_0 : List UInt8 := [42, 180, 0, 3, 182, 0, 61, 54, 4, 28, 153, 0, 14, 42, 180, 0, 3, 28, 116, 21, 4, 182, 0, 64]
abbrev dktX7_counter_0 : List UInt8 := dkwX7_counter_0 ++ dktX7_counter_1
theorem dksX7_counter_0 : cX7_counter.data.toList.drop 0 = dktX7_counter_0 := by decide +kernel
theorem dksX7_counter_1 : cX7_counter.data.toList.drop 24 = dktX7_counter_1 := dk_seg dksX7_counter_0 24 rfl rfl
theorem dksX7_counter_2 : cX7_counter.data.toList.drop 48 = dktX7_counter_2 := dk_seg dksX7_counter_1 24 rfl rfl
theorem dksX7_counter_3 : cX7_counter.data.toList.drop 71 = dktX7_counter_3 := dk_seg dksX7_counter_2 23 rfl rfl
theorem dksX7_counter_4 : cX7_counter.data.toList.drop 94 = dktX7_counter_4 := dk_seg dksX7_counter_3 23 rfl rfl
theorem dksX7_counter_5 : cX7_counter.data.toList.drop 117 = dktX7_counter_5 := dk_seg dksX7_counter_4 23 rfl rfl
theorem dX7_counter_0 : decode cX7_counter 0 = .ok (.aload_n 0, 1) := dk_42 (dk_at dksX7_counter_0 0 rfl rfl)
theorem dX7_counter_1 : decode cX7_counter 1 = .ok (.getfield 3, 3) := dk_180 0 3 (dk_at dksX7_counter_0 1 rfl rfl)
theorem dX7_counter_4 : decode cX7_counter 4 = .ok (.invokevirtual 61, 3) := dk_182 0 61 (dk_at dksX7_counter_0 4 rfl rfl)
theorem dX7_counter_7 : decode cX7_counter 7 = .ok (.istore 4, 2) := dk_54 4 (dk_at dksX7_counter_0 7 rfl rfl)
theorem dX7_counter_9 : decode cX7_counter 9 = .ok (.iload_n 2, 1) := dk_28 (dk_at dksX7_counter_0 9 rfl rfl)
theorem dX7_counter_10 : decode cX7_counter 10 = .ok (.ifCond .eq 14, 3) := dk_153 0 14 (dk_at dksX7_counter_0 10 rfl rfl)
theorem dX7_counter_13 : decode cX7_counter 13 = .ok (.aload_n 0, 1) := dk_42 (dk_at dksX7_counter_0 13 rfl rfl)
theorem dX7_counter_14 : decode cX7_counter 14 = .ok (.getfield 3, 3) := dk_180 0 3 (dk_at dksX7_counter_0 14 rfl rfl)
theorem dX7_counter_17 : decode cX7_counter 17 = .ok (.iload_n 2, 1) := dk_28 (dk_at dksX7_counter_0 17 rfl rfl)
theorem dX7_counter_18 : decode cX7_counter 18 = .ok (.ineg, 1) := dk_116 (dk_at dksX7_counter_0 18 rfl rfl)
theorem dX7_counter_19 : decode cX7_counter 19 = .ok (.iload 4, 2) := dk_21 4 (dk_at dksX7_counter_0 19 rfl rfl)
theorem dX7_counter_21 : decode cX7_counter 21 = .ok (.invokevirtual 64, 3) := dk_182 0 64 (dk_at dksX7_counter_0 21 rfl rfl)
theorem dX7_counter_24 : decode cX7_counter 24 = .ok (.iload_n 3, 1) := dk_29 (dk_at dksX7_counter_1 0 rfl rfl)
theorem dX7_counter_25 : decode cX7_counter 25 = .ok (.ifCond .eq 19, 3) := dk_153 0 19 (dk_at dksX7_counter_1 1 rfl rfl)
theorem dX7_counter_28 : decode cX7_counter 28 = .ok (.aload_n 0, 1) := dk_42 (dk_at dksX7_counter_1 4 rfl rfl)
theorem dX7_counter_29 : decode cX7_counter 29 = .ok (.getfield 3, 3) := dk_180 0 3 (dk_at dksX7_counter_1 5 rfl rfl)
theorem dX7_counter_32 : decode cX7_counter 32 = .ok (.iload_n 1, 1) := dk_27 (dk_at dksX7_counter_1 8 rfl rfl)
theorem dX7_counter_33 : decode cX7_counter 33 = .ok (.ineg, 1) := dk_116 (dk_at dksX7_counter_1 9 rfl rfl)
theorem dX7_counter_34 : decode cX7_counter 34 = .ok (.iload_n 3, 1) := dk_29 (dk_at dksX7_counter_1 10 rfl rfl)
theorem dX7_counter_35 : decode cX7_counter 35 = .ok (.ineg, 1) := dk_116 (dk_at dksX7_counter_1 11 rfl rfl)
theorem dX7_counter_36 : decode cX7_counter 36 = .ok (.iload 4, 2) := dk_21 4 (dk_at dksX7_counter_1 12 rfl rfl)
theorem dX7_counter_38 : decode cX7_counter 38 = .ok (.invokevirtual 68, 3) := dk_182 0 68 (dk_at dksX7_counter_1 14 rfl rfl)
theorem dX7_counter_41 : decode cX7_counter 41 = .ok (.goto 14, 3) := dk_167 0 14 (dk_at dksX7_counter_1 17 rfl rfl)
theorem dX7_counter_44 : decode cX7_counter 44 = .ok (.aload_n 0, 1) := dk_42 (dk_at dksX7_counter_1 20 rfl rfl)
theorem dX7_counter_45 : decode cX7_counter 45 = .ok (.getfield 3, 3) := dk_180 0 3 (dk_at dksX7_counter_1 21 rfl rfl)
theorem dX7_counter_48 : decode cX7_counter 48 = .ok (.iload_n 1, 1) := dk_27 (dk_at dksX7_counter_2 0 rfl rfl)
theorem dX7_counter_49 : decode cX7_counter 49 = .ok (.ineg, 1) := dk_116 (dk_at dksX7_counter_2 1 rfl rfl)
theorem dX7_counter_50 : decode cX7_counter 50 = .ok (.iload 4, 2) := dk_21 4 (dk_at dksX7_counter_2 2 rfl rfl)
theorem dX7_counter_52 : decode cX7_counter 52 = .ok (.invokevirtual 64, 3) := dk_182 0 64 (dk_at dksX7_counter_2 4 rfl rfl)
theorem dX7_counter_55 : decode cX7_counter 55 = .ok (.iload_n 2, 1) := dk_28 (dk_at dksX7_counter_2 7 rfl rfl)
theorem dX7_counter_56 : decode cX7_counter 56 = .ok (.ifCond .eq 18, 3) := dk_153 0 18 (dk_at dksX7_counter_2 8 rfl rfl)
theorem dX7_counter_59 : decode cX7_counter 59 = .ok (.aload_n 0, 1) := dk_42 (dk_at dksX7_counter_2 11 rfl rfl)
theorem dX7_counter_60 : decode cX7_counter 60 = .ok (.getfield 3, 3) := dk_180 0 3 (dk_at dksX7_counter_2 12 rfl rfl)
theorem dX7_counter_63 : decode cX7_counter 63 = .ok (.iload_n 2, 1) := dk_28 (dk_at dksX7_counter_2 15 rfl rfl)
theorem dX7_counter_64 : decode cX7_counter 64 = .ok (.iload_n 1, 1) := dk_27 (dk_at dksX7_counter_2 16 rfl rfl)
theorem dX7_counter_65 : decode cX7_counter 65 = .ok (.iload 4, 2) := dk_21 4 (dk_at dksX7_counter_2 17 rfl rfl)
theorem dX7_counter_67 : decode cX7_counter 67 = .ok (.ineg, 1) := dk_116 (dk_at dksX7_counter_2 19 rfl rfl)
theorem dX7_counter_68 : decode cX7_counter 68 = .ok (.invokevirtual 68, 3) := dk_182 0 68 (dk_at dksX7_counter_2 20 rfl rfl)
theorem dX7_counter_71 : decode cX7_counter 71 = .ok (.goto 14, 3) := dk_167 0 14 (dk_at dksX7_counter_3 0 rfl rfl)
theorem dX7_counter_74 : decode cX7_counter 74 = .ok (.aload_n 0, 1) := dk_42 (dk_at dksX7_counter_3 3 rfl rfl)
theorem dX7_counter_75 : decode cX7_counter 75 = .ok (.getfield 3, 3) := dk_180 0 3 (dk_at dksX7_counter_3 4 rfl rfl)
theorem dX7_counter_78 : decode cX7_counter 78 = .ok (.iload_n 1, 1) := dk_27 (dk_at dksX7_counter_3 7 rfl rfl)
theorem dX7_counter_79 : decode cX7_counter 79 = .ok (.iload 4, 2) := dk_21 4 (dk_at dksX7_counter_3 8 rfl rfl)
theorem dX7_counter_81 : decode cX7_counter 81 = .ok (.ineg, 1) := dk_116 (dk_at dksX7_counter_3 10 rfl rfl)
theorem dX7_counter_82 : decode cX7_counter 82 = .ok (.invokevirtual 64, 3) := dk_182 0 64 (dk_at dksX7_counter_3 11 rfl rfl)
theorem dX7_counter_85 : decode cX7_counter 85 = .ok (.iload_n 3, 1) := dk_29 (dk_at dksX7_counter_3 14 rfl rfl)
theorem dX7_counter_86 : decode cX7_counter 86 = .ok (.ifCond .eq 22, 3) := dk_153 0 22 (dk_at dksX7_counter_3 15 rfl rfl)
theorem dX7_counter_89 : decode cX7_counter 89 = .ok (.iload_n 2, 1) := dk_28 (dk_at dksX7_counter_3 18 rfl rfl)
theorem dX7_counter_90 : decode cX7_counter 90 = .ok (.ifCond .eq 18, 3) := dk_153 0 18 (dk_at dksX7_counter_3 19 rfl rfl)
theorem dX7_counter_93 : decode cX7_counter 93 = .ok (.aload_n 0, 1) := dk_42 (dk_at dksX7_counter_3 22 rfl rfl)
theorem dX7_counter_94 : decode cX7_counter 94 = .ok (.getfield 3, 3) := dk_180 0 3 (dk_at dksX7_counter_4 0 rfl rfl)
theorem dX7_counter_97 : decode cX7_counter 97 = .ok (.iload_n 2, 1) := dk_28 (dk_at dksX7_counter_4 3 rfl rfl)
theorem dX7_counter_98 : decode cX7_counter 98 = .ok (.iload_n 3, 1) := dk_29 (dk_at dksX7_counter_4 4 rfl rfl)
theorem dX7_counter_99 : decode cX7_counter 99 = .ok (.iload 4, 2) := dk_21 4 (dk_at dksX7_counter_4 5 rfl rfl)
theorem dX7_counter_101 : decode cX7_counter 101 = .ok (.ineg, 1) := dk_116 (dk_at dksX7_counter_4 7 rfl rfl)
theorem dX7_counter_102 : decode cX7_counter 102 = .ok (.invokevirtual 68, 3) := dk_182 0 68 (dk_at dksX7_counter_4 8 rfl rfl)
theorem dX7_counter_105 : decode cX7_counter 105 = .ok (.goto 18, 3) := dk_167 0 18 (dk_at dksX7_counter_4 11 rfl rfl)
theorem dX7_counter_108 : decode cX7_counter 108 = .ok (.iload_n 3, 1) := dk_29 (dk_at dksX7_counter_4 14 rfl rfl)
theorem dX7_counter_109 : decode cX7_counter 109 = .ok (.ifCond .eq 14, 3) := dk_153 0 14 (dk_at dksX7_counter_4 15 rfl rfl)
theorem dX7_counter_112 : decode cX7_counter 112 = .ok (.aload_n 0, 1) := dk_42 (dk_at dksX7_counter_4 18 rfl rfl)
theorem dX7_counter_113 : decode cX7_counter 113 = .ok (.getfield 3, 3) := dk_180 0 3 (dk_at dksX7_counter_4 19 rfl rfl)
theorem dX7_counter_116 : decode cX7_counter 116 = .ok (.iload_n 3, 1) := dk_29 (dk_at dksX7_counter_4 22 rfl rfl)
theorem dX7_counter_117 : decode cX7_counter 117 = .ok (.iload 4, 2) := dk_21 4 (dk_at dksX7_counter_5 0 rfl rfl)
theorem dX7_counter_119 : decode cX7_counter 119 = .ok (.ineg, 1) := dk_116 (dk_at dksX7_counter_5 2 rfl rfl)
theorem dX7_counter_120 : decode cX7_counter 120 = .ok (.invokevirtual 64, 3) := dk_182 0 64 (dk_at dksX7_counter_5 3 rfl rfl)
theorem dX7_counter_123 : decode cX7_counter 123 = .ok (.iload 4, 2) := dk_21 4 (dk_at dksX7_counter_5 6 rfl rfl)
theorem dX7_counter_125 : decode cX7_counter 125 = .ok (.ireturn, 1) := dk_172 (dk_at dksX7_counter_5 8 rfl rfl)
abbrev cX7_holds : ByteArray := prog_2_method_2_code
def yX7_holds : MethodName := ⟨RX7, "holds", "(LClauseCourt$Truth;)Z"⟩
def dkwX7_holds_1 : List UInt8 := [167, 0, 4, 3, 172]
abbrev dktX7_holds_1 : List UInt8 := dkwX7_holds_1 ++ []
def dkwX7_holds_0 : List UInt8 := [42, 180, 0, 3, 16, 10, 182, 0, 19, 42, 43, 182, 0, 23, 42, 180, 0, 15, 163, 0, 7, 4]
abbrev dktX7_holds_0 : List UInt8 := dkwX7_holds_0 ++ dktX7_holds_1
theorem dksX7_holds_0 : cX7_holds.data.toList.drop 0 = dktX7_holds_0 := by decide +kernel
theorem dksX7_holds_1 : cX7_holds.data.toList.drop 22 = dktX7_holds_1 := dk_seg dksX7_holds_0 22 rfl rfl
theorem dX7_holds_0 : decode cX7_holds 0 = .ok (.aload_n 0, 1) := dk_42 (dk_at dksX7_holds_0 0 rfl rfl)
theorem dX7_holds_1 : decode cX7_holds 1 = .ok (.getfield 3, 3) := dk_180 0 3 (dk_at dksX7_holds_0 1 rfl rfl)
theorem dX7_holds_4 : decode cX7_holds 4 = .ok (.bipush 10, 2) := dk_16 10 (dk_at dksX7_holds_0 4 rfl rfl)
theorem dX7_holds_6 : decode cX7_holds 6 = .ok (.invokevirtual 19, 3) := dk_182 0 19 (dk_at dksX7_holds_0 6 rfl rfl)
theorem dX7_holds_9 : decode cX7_holds 9 = .ok (.aload_n 0, 1) := dk_42 (dk_at dksX7_holds_0 9 rfl rfl)
theorem dX7_holds_10 : decode cX7_holds 10 = .ok (.aload_n 1, 1) := dk_43 (dk_at dksX7_holds_0 10 rfl rfl)
theorem dX7_holds_11 : decode cX7_holds 11 = .ok (.invokevirtual 23, 3) := dk_182 0 23 (dk_at dksX7_holds_0 11 rfl rfl)
theorem dX7_holds_14 : decode cX7_holds 14 = .ok (.aload_n 0, 1) := dk_42 (dk_at dksX7_holds_0 14 rfl rfl)
theorem dX7_holds_15 : decode cX7_holds 15 = .ok (.getfield 15, 3) := dk_180 0 15 (dk_at dksX7_holds_0 15 rfl rfl)
theorem dX7_holds_18 : decode cX7_holds 18 = .ok (.if_icmp .gt 7, 3) := dk_163 0 7 (dk_at dksX7_holds_0 18 rfl rfl)
theorem dX7_holds_21 : decode cX7_holds 21 = .ok (.iconst 1, 1) := dk_4 (dk_at dksX7_holds_0 21 rfl rfl)
theorem dX7_holds_22 : decode cX7_holds 22 = .ok (.goto 4, 3) := dk_167 0 4 (dk_at dksX7_holds_1 0 rfl rfl)
theorem dX7_holds_25 : decode cX7_holds 25 = .ok (.iconst 0, 1) := dk_3 (dk_at dksX7_holds_1 3 rfl rfl)
theorem dX7_holds_26 : decode cX7_holds 26 = .ok (.ireturn, 1) := dk_172 (dk_at dksX7_holds_1 4 rfl rfl)
abbrev cX7_least : ByteArray := prog_2_method_3_code
def yX7_least : MethodName := ⟨RX7, "least", "()I"⟩
def dkwX7_least_0 : List UInt8 := [42, 180, 0, 3, 16, 11, 182, 0, 19, 42, 183, 0, 27, 4, 100, 172]
abbrev dktX7_least_0 : List UInt8 := dkwX7_least_0 ++ []
theorem dksX7_least_0 : cX7_least.data.toList.drop 0 = dktX7_least_0 := by decide +kernel
theorem dX7_least_0 : decode cX7_least 0 = .ok (.aload_n 0, 1) := dk_42 (dk_at dksX7_least_0 0 rfl rfl)
theorem dX7_least_1 : decode cX7_least 1 = .ok (.getfield 3, 3) := dk_180 0 3 (dk_at dksX7_least_0 1 rfl rfl)
theorem dX7_least_4 : decode cX7_least 4 = .ok (.bipush 11, 2) := dk_16 11 (dk_at dksX7_least_0 4 rfl rfl)
theorem dX7_least_6 : decode cX7_least 6 = .ok (.invokevirtual 19, 3) := dk_182 0 19 (dk_at dksX7_least_0 6 rfl rfl)
theorem dX7_least_9 : decode cX7_least 9 = .ok (.aload_n 0, 1) := dk_42 (dk_at dksX7_least_0 9 rfl rfl)
theorem dX7_least_10 : decode cX7_least 10 = .ok (.invokespecial 27, 3) := dk_183 0 27 (dk_at dksX7_least_0 10 rfl rfl)
theorem dX7_least_13 : decode cX7_least 13 = .ok (.iconst 1, 1) := dk_4 (dk_at dksX7_least_0 13 rfl rfl)
theorem dX7_least_14 : decode cX7_least 14 = .ok (.isub, 1) := dk_100 (dk_at dksX7_least_0 14 rfl rfl)
theorem dX7_least_15 : decode cX7_least 15 = .ok (.ireturn, 1) := dk_172 (dk_at dksX7_least_0 15 rfl rfl)
abbrev cX7_most : ByteArray := prog_2_method_4_code
def yX7_most : MethodName := ⟨RX7, "most", "()I"⟩
def dkwX7_most_0 : List UInt8 := [42, 180, 0, 3, 16, 12, 182, 0, 19, 42, 180, 0, 15, 42, 183, 0, 31, 184, 0, 34, 172]
abbrev dktX7_most_0 : List UInt8 := dkwX7_most_0 ++ []
theorem dksX7_most_0 : cX7_most.data.toList.drop 0 = dktX7_most_0 := by decide +kernel
theorem dX7_most_0 : decode cX7_most 0 = .ok (.aload_n 0, 1) := dk_42 (dk_at dksX7_most_0 0 rfl rfl)
theorem dX7_most_1 : decode cX7_most 1 = .ok (.getfield 3, 3) := dk_180 0 3 (dk_at dksX7_most_0 1 rfl rfl)
theorem dX7_most_4 : decode cX7_most 4 = .ok (.bipush 12, 2) := dk_16 12 (dk_at dksX7_most_0 4 rfl rfl)
theorem dX7_most_6 : decode cX7_most 6 = .ok (.invokevirtual 19, 3) := dk_182 0 19 (dk_at dksX7_most_0 6 rfl rfl)
theorem dX7_most_9 : decode cX7_most 9 = .ok (.aload_n 0, 1) := dk_42 (dk_at dksX7_most_0 9 rfl rfl)
theorem dX7_most_10 : decode cX7_most 10 = .ok (.getfield 15, 3) := dk_180 0 15 (dk_at dksX7_most_0 10 rfl rfl)
theorem dX7_most_13 : decode cX7_most 13 = .ok (.aload_n 0, 1) := dk_42 (dk_at dksX7_most_0 13 rfl rfl)
theorem dX7_most_14 : decode cX7_most 14 = .ok (.invokespecial 31, 3) := dk_183 0 31 (dk_at dksX7_most_0 14 rfl rfl)
theorem dX7_most_17 : decode cX7_most 17 = .ok (.invokestatic 34, 3) := dk_184 0 34 (dk_at dksX7_most_0 17 rfl rfl)
theorem dX7_most_20 : decode cX7_most 20 = .ok (.ireturn, 1) := dk_172 (dk_at dksX7_most_0 20 rfl rfl)
abbrev cX7_print : ByteArray := prog_2_method_5_code
def yX7_print : MethodName := ⟨RX7, "print", "()V"⟩
def dkwX7_print_1 : List UInt8 := [180, 0, 15, 182, 0, 46, 42, 182, 0, 49, 177]
abbrev dktX7_print_1 : List UInt8 := dkwX7_print_1 ++ []
def dkwX7_print_0 : List UInt8 := [42, 180, 0, 3, 16, 14, 182, 0, 19, 42, 180, 0, 3, 18, 40, 182, 0, 42, 42, 180, 0, 3, 42]
abbrev dktX7_print_0 : List UInt8 := dkwX7_print_0 ++ dktX7_print_1
theorem dksX7_print_0 : cX7_print.data.toList.drop 0 = dktX7_print_0 := by decide +kernel
theorem dksX7_print_1 : cX7_print.data.toList.drop 23 = dktX7_print_1 := dk_seg dksX7_print_0 23 rfl rfl
theorem dX7_print_0 : decode cX7_print 0 = .ok (.aload_n 0, 1) := dk_42 (dk_at dksX7_print_0 0 rfl rfl)
theorem dX7_print_1 : decode cX7_print 1 = .ok (.getfield 3, 3) := dk_180 0 3 (dk_at dksX7_print_0 1 rfl rfl)
theorem dX7_print_4 : decode cX7_print 4 = .ok (.bipush 14, 2) := dk_16 14 (dk_at dksX7_print_0 4 rfl rfl)
theorem dX7_print_6 : decode cX7_print 6 = .ok (.invokevirtual 19, 3) := dk_182 0 19 (dk_at dksX7_print_0 6 rfl rfl)
theorem dX7_print_9 : decode cX7_print 9 = .ok (.aload_n 0, 1) := dk_42 (dk_at dksX7_print_0 9 rfl rfl)
theorem dX7_print_10 : decode cX7_print 10 = .ok (.getfield 3, 3) := dk_180 0 3 (dk_at dksX7_print_0 10 rfl rfl)
theorem dX7_print_13 : decode cX7_print 13 = .ok (.ldc 40, 2) := dk_18 40 (dk_at dksX7_print_0 13 rfl rfl)
theorem dX7_print_15 : decode cX7_print 15 = .ok (.invokevirtual 42, 3) := dk_182 0 42 (dk_at dksX7_print_0 15 rfl rfl)
theorem dX7_print_18 : decode cX7_print 18 = .ok (.aload_n 0, 1) := dk_42 (dk_at dksX7_print_0 18 rfl rfl)
theorem dX7_print_19 : decode cX7_print 19 = .ok (.getfield 3, 3) := dk_180 0 3 (dk_at dksX7_print_0 19 rfl rfl)
theorem dX7_print_22 : decode cX7_print 22 = .ok (.aload_n 0, 1) := dk_42 (dk_at dksX7_print_0 22 rfl rfl)
theorem dX7_print_23 : decode cX7_print 23 = .ok (.getfield 15, 3) := dk_180 0 15 (dk_at dksX7_print_1 0 rfl rfl)
theorem dX7_print_26 : decode cX7_print 26 = .ok (.invokevirtual 46, 3) := dk_182 0 46 (dk_at dksX7_print_1 3 rfl rfl)
theorem dX7_print_29 : decode cX7_print 29 = .ok (.aload_n 0, 1) := dk_42 (dk_at dksX7_print_1 6 rfl rfl)
theorem dX7_print_30 : decode cX7_print 30 = .ok (.invokevirtual 49, 3) := dk_182 0 49 (dk_at dksX7_print_1 7 rfl rfl)
theorem dX7_print_33 : decode cX7_print 33 = .ok (.return_, 1) := dk_177 (dk_at dksX7_print_1 10 rfl rfl)
theorem q174 : (Jvm.Cond.initialized "ClauseCourt$AtMost") ∈ lw_all := lw_g (lw_at lw_m1 18 rfl) rfl
theorem q827 : (Jvm.Cond.fieldLink "ClauseCourt$AtMost" (53 : Nat) "ClauseCourt$AtMost" "items" "[I") ∈ lw_all := lw_g (lw_at lw_m3 191 rfl) rfl
theorem q828 : (Jvm.Cond.sameField "ClauseCourt$AtMost" "ClauseCourt$Rule" "items" "[I") ∈ lw_all := lw_g (lw_at lw_m3 192 rfl) rfl
theorem q848 : (Jvm.Cond.instantiable "ClauseCourt$AtMost" (8 : Nat)) ∈ lw_all := lw_g (lw_at lw_m3 212 rfl) rfl
theorem q850 : (Jvm.Cond.instanceMethod ({ cls := "ClauseCourt$AtMost", name := "<init>", desc := "(LClauseCourt;I[II)V" } : Jvm.MethodName)) ∈ lw_all := lw_g (lw_at lw_m3 214 rfl) rfl
theorem q851 : (Jvm.Cond.code ({ cls := "ClauseCourt$AtMost", name := "<init>", desc := "(LClauseCourt;I[II)V" } : Jvm.MethodName) prog_2_method_1_code (5 : Nat) (Option.none : Option Jvm.ClassFile.FieldType)) ∈ lw_all := lw_g (lw_at lw_m3 215 rfl) rfl
theorem q852 : (Jvm.Cond.methodLink "ClauseCourt$AtMost" (9 : Nat) ({ cls := "ClauseCourt$Clause", name := "<init>", desc := "(LClauseCourt;I[I)V" } : Jvm.MethodName)) ∈ lw_all := lw_g (lw_at lw_m3 216 rfl) rfl
theorem q853 : (Jvm.Cond.fieldLink "ClauseCourt$AtMost" (15 : Nat) "ClauseCourt$AtMost" "k" "I") ∈ lw_all := lw_g (lw_at lw_m3 217 rfl) rfl
theorem q856 : (Jvm.Cond.fieldLink "ClauseCourt$AtMost" (3 : Nat) "ClauseCourt$AtMost" "this$0" "LClauseCourt;") ∈ lw_all := lw_g (lw_at lw_m3 220 rfl) rfl
theorem q857 : (Jvm.Cond.laysFinal "ClauseCourt$AtMost" "ClauseCourt$AtMost" "k" "I") ∈ lw_all := lw_g (lw_at lw_m3 221 rfl) rfl
theorem q858 : (Jvm.Cond.soleField "ClauseCourt$AtMost" "k") ∈ lw_all := lw_g (lw_at lw_m3 222 rfl) rfl
theorem q859 : (Jvm.Cond.laysFinal "ClauseCourt$AtMost" "ClauseCourt$AtMost" "this$0" "LClauseCourt;") ∈ lw_all := lw_g (lw_at lw_m3 223 rfl) rfl
theorem q860 : (Jvm.Cond.soleField "ClauseCourt$AtMost" "this$0") ∈ lw_all := lw_g (lw_at lw_m3 224 rfl) rfl
theorem q861 : (Jvm.Cond.laysFinal "ClauseCourt$AtMost" "ClauseCourt$Clause" "this$0" "LClauseCourt;") ∈ lw_all := lw_g (lw_at lw_m3 225 rfl) rfl
theorem q862 : (Jvm.Cond.laysFinal "ClauseCourt$AtMost" "ClauseCourt$Rule" "kind" "I") ∈ lw_all := lw_g (lw_at lw_m3 226 rfl) rfl
theorem q863 : (Jvm.Cond.laysFinal "ClauseCourt$AtMost" "ClauseCourt$Rule" "items" "[I") ∈ lw_all := lw_g (lw_at lw_m3 227 rfl) rfl
theorem q864 : (Jvm.Cond.lays "ClauseCourt$AtMost" "ClauseCourt$Rule" "first" "I") ∈ lw_all := lw_g (lw_at lw_m3 228 rfl) rfl
theorem q865 : (Jvm.Cond.lays "ClauseCourt$AtMost" "ClauseCourt$Rule" "many" "I") ∈ lw_all := lw_g (lw_at lw_m3 229 rfl) rfl
theorem q866 : (Jvm.Cond.laysFinal "ClauseCourt$AtMost" "ClauseCourt$Rule" "this$0" "LClauseCourt;") ∈ lw_all := lw_g (lw_at lw_m3 230 rfl) rfl
theorem q867 : (Jvm.Cond.superclass "ClauseCourt$AtMost" "ClauseCourt$Clause") ∈ lw_all := lw_g (lw_at lw_m3 231 rfl) rfl
theorem q911 : (Jvm.Cond.selects "ClauseCourt$AtMost" ({ cls := "ClauseCourt$Rule", name := "lay", desc := "()V" } : Jvm.MethodName) ({ cls := "ClauseCourt$AtMost", name := "lay", desc := "()V" } : Jvm.MethodName)) ∈ lw_all := lw_g (lw_at lw_m4 35 rfl) rfl
theorem q912 : (Jvm.Cond.instanceMethod ({ cls := "ClauseCourt$AtMost", name := "lay", desc := "()V" } : Jvm.MethodName)) ∈ lw_all := lw_g (lw_at lw_m4 36 rfl) rfl
theorem q913 : (Jvm.Cond.code ({ cls := "ClauseCourt$AtMost", name := "lay", desc := "()V" } : Jvm.MethodName) prog_2_method_9_code (1 : Nat) (Option.none : Option Jvm.ClassFile.FieldType)) ∈ lw_all := lw_g (lw_at lw_m4 37 rfl) rfl
theorem q914 : (Jvm.Cond.methodLink "ClauseCourt$AtMost" (77 : Nat) ({ cls := "ClauseCourt$AtMost", name := "layMost", desc := "()[I" } : Jvm.MethodName)) ∈ lw_all := lw_g (lw_at lw_m4 38 rfl) rfl
theorem q915 : (Jvm.Cond.instanceMethod ({ cls := "ClauseCourt$AtMost", name := "layMost", desc := "()[I" } : Jvm.MethodName)) ∈ lw_all := lw_g (lw_at lw_m4 39 rfl) rfl
theorem q916 : (Jvm.Cond.selects "ClauseCourt$AtMost" ({ cls := "ClauseCourt$AtMost", name := "layMost", desc := "()[I" } : Jvm.MethodName) ({ cls := "ClauseCourt$AtMost", name := "layMost", desc := "()[I" } : Jvm.MethodName)) ∈ lw_all := lw_g (lw_at lw_m4 40 rfl) rfl
theorem q917 : (Jvm.Cond.sameMethod "ClauseCourt$AtMost" "ClauseCourt$AtMost" "layMost" "()[I") ∈ lw_all := lw_g (lw_at lw_m4 41 rfl) rfl
theorem q919 : (Jvm.Cond.code ({ cls := "ClauseCourt$AtMost", name := "layMost", desc := "()[I" } : Jvm.MethodName) prog_2_method_8_code (2 : Nat) (Option.some (Jvm.ClassFile.FieldType.array Jvm.ClassFile.FieldType.int))) ∈ lw_all := lw_g (lw_at lw_m4 43 rfl) rfl
theorem q920 : (Jvm.Cond.methodLink "ClauseCourt$AtMost" (71 : Nat) ({ cls := "ClauseCourt$AtMost", name := "counters", desc := "()[I" } : Jvm.MethodName)) ∈ lw_all := lw_g (lw_at lw_m4 44 rfl) rfl
theorem q921 : (Jvm.Cond.instanceMethod ({ cls := "ClauseCourt$AtMost", name := "counters", desc := "()[I" } : Jvm.MethodName)) ∈ lw_all := lw_g (lw_at lw_m4 45 rfl) rfl
theorem q922 : (Jvm.Cond.selects "ClauseCourt$AtMost" ({ cls := "ClauseCourt$AtMost", name := "counters", desc := "()[I" } : Jvm.MethodName) ({ cls := "ClauseCourt$AtMost", name := "counters", desc := "()[I" } : Jvm.MethodName)) ∈ lw_all := lw_g (lw_at lw_m4 46 rfl) rfl
theorem q923 : (Jvm.Cond.sameMethod "ClauseCourt$AtMost" "ClauseCourt$AtMost" "counters" "()[I") ∈ lw_all := lw_g (lw_at lw_m4 47 rfl) rfl
theorem q925 : (Jvm.Cond.code ({ cls := "ClauseCourt$AtMost", name := "counters", desc := "()[I" } : Jvm.MethodName) prog_2_method_6_code (6 : Nat) (Option.some (Jvm.ClassFile.FieldType.array Jvm.ClassFile.FieldType.int))) ∈ lw_all := lw_g (lw_at lw_m4 49 rfl) rfl
theorem q926 : (Jvm.Cond.methodLink "ClauseCourt$AtMost" (34 : Nat) ({ cls := "java/lang/Math", name := "min", desc := "(II)I" } : Jvm.MethodName)) ∈ lw_all := lw_g (lw_at lw_m4 50 rfl) rfl
theorem q927 : (Jvm.Cond.methodLink "ClauseCourt$AtMost" (57 : Nat) ({ cls := "ClauseCourt$AtMost", name := "counter", desc := "(III)I" } : Jvm.MethodName)) ∈ lw_all := lw_g (lw_at lw_m4 51 rfl) rfl
theorem q928 : (Jvm.Cond.privateMethod ({ cls := "ClauseCourt$AtMost", name := "counter", desc := "(III)I" } : Jvm.MethodName)) ∈ lw_tbl := lw_at lw_m4 52 rfl
theorem q929 : (Jvm.Cond.instanceMethod ({ cls := "ClauseCourt$AtMost", name := "counter", desc := "(III)I" } : Jvm.MethodName)) ∈ lw_all := lw_g (lw_at lw_m4 53 rfl) rfl
theorem q930 : (Jvm.Cond.code ({ cls := "ClauseCourt$AtMost", name := "counter", desc := "(III)I" } : Jvm.MethodName) prog_2_method_7_code (5 : Nat) (Option.some Jvm.ClassFile.FieldType.int)) ∈ lw_all := lw_g (lw_at lw_m4 54 rfl) rfl
theorem q931 : (Jvm.Cond.methodLinkNest "ClauseCourt$AtMost" (61 : Nat) ({ cls := "ClauseCourt", name := "newName", desc := "()I" } : Jvm.MethodName) "ClauseCourt") ∈ lw_tbl := lw_at lw_m4 55 rfl
theorem q935 : (Jvm.Cond.methodLinkNest "ClauseCourt$AtMost" (64 : Nat) ({ cls := "ClauseCourt", name := "plan", desc := "(II)V" } : Jvm.MethodName) "ClauseCourt") ∈ lw_tbl := lw_at lw_m4 59 rfl
theorem q951 : (Jvm.Cond.methodLinkNest "ClauseCourt$AtMost" (68 : Nat) ({ cls := "ClauseCourt", name := "plan", desc := "(III)V" } : Jvm.MethodName) "ClauseCourt") ∈ lw_tbl := lw_at lw_m4 75 rfl
theorem q956 : (Jvm.Cond.methodLinkNest "ClauseCourt$AtMost" (75 : Nat) ({ cls := "ClauseCourt", name := "plan", desc := "(I)V" } : Jvm.MethodName) "ClauseCourt") ∈ lw_tbl := lw_at lw_m4 80 rfl
theorem q967 : (Jvm.Cond.declares ({ cls := "ClauseCourt$AtMost", name := "layMost", desc := "()[I" } : Jvm.MethodName)) ∈ lw_tbl := lw_at lw_m4 91 rfl
theorem q1199 : (Jvm.Cond.selects "ClauseCourt$AtMost" ({ cls := "ClauseCourt$Rule", name := "holds", desc := "(LClauseCourt$Truth;)Z" } : Jvm.MethodName) ({ cls := "ClauseCourt$AtMost", name := "holds", desc := "(LClauseCourt$Truth;)Z" } : Jvm.MethodName)) ∈ lw_all := lw_g (lw_at lw_m5 83 rfl) rfl
theorem q1200 : (Jvm.Cond.instanceMethod ({ cls := "ClauseCourt$AtMost", name := "holds", desc := "(LClauseCourt$Truth;)Z" } : Jvm.MethodName)) ∈ lw_all := lw_g (lw_at lw_m5 84 rfl) rfl
theorem q1201 : (Jvm.Cond.code ({ cls := "ClauseCourt$AtMost", name := "holds", desc := "(LClauseCourt$Truth;)Z" } : Jvm.MethodName) prog_2_method_2_code (2 : Nat) (Option.some Jvm.ClassFile.FieldType.boolean)) ∈ lw_all := lw_g (lw_at lw_m5 85 rfl) rfl
theorem q1202 : (Jvm.Cond.methodLinkNest "ClauseCourt$AtMost" (19 : Nat) ({ cls := "ClauseCourt", name := "body", desc := "(I)V" } : Jvm.MethodName) "ClauseCourt") ∈ lw_tbl := lw_at lw_m5 86 rfl
theorem q1206 : (Jvm.Cond.methodLink "ClauseCourt$AtMost" (23 : Nat) ({ cls := "ClauseCourt$AtMost", name := "trues", desc := "(LClauseCourt$Truth;)I" } : Jvm.MethodName)) ∈ lw_all := lw_g (lw_at lw_m5 90 rfl) rfl
theorem q1207 : (Jvm.Cond.sameMethod "ClauseCourt$AtMost" "ClauseCourt$Rule" "trues" "(LClauseCourt$Truth;)I") ∈ lw_all := lw_g (lw_at lw_m5 91 rfl) rfl
theorem q1209 : (Jvm.Cond.selects "ClauseCourt$AtMost" ({ cls := "ClauseCourt$AtMost", name := "trues", desc := "(LClauseCourt$Truth;)I" } : Jvm.MethodName) ({ cls := "ClauseCourt$Rule", name := "trues", desc := "(LClauseCourt$Truth;)I" } : Jvm.MethodName)) ∈ lw_all := lw_g (lw_at lw_m5 93 rfl) rfl
theorem q1224 : (Jvm.Cond.selects "ClauseCourt$AtMost" ({ cls := "ClauseCourt$Clause", name := "trues", desc := "(LClauseCourt$Truth;)I" } : Jvm.MethodName) ({ cls := "ClauseCourt$Rule", name := "trues", desc := "(LClauseCourt$Truth;)I" } : Jvm.MethodName)) ∈ lw_all := lw_g (lw_at lw_m5 108 rfl) rfl
theorem q1255 : (Jvm.Cond.selects "ClauseCourt$AtMost" ({ cls := "ClauseCourt$Rule", name := "least", desc := "()I" } : Jvm.MethodName) ({ cls := "ClauseCourt$AtMost", name := "least", desc := "()I" } : Jvm.MethodName)) ∈ lw_all := lw_g (lw_at lw_m5 139 rfl) rfl
theorem q1256 : (Jvm.Cond.instanceMethod ({ cls := "ClauseCourt$AtMost", name := "least", desc := "()I" } : Jvm.MethodName)) ∈ lw_all := lw_g (lw_at lw_m5 140 rfl) rfl
theorem q1257 : (Jvm.Cond.code ({ cls := "ClauseCourt$AtMost", name := "least", desc := "()I" } : Jvm.MethodName) prog_2_method_3_code (1 : Nat) (Option.some Jvm.ClassFile.FieldType.int)) ∈ lw_all := lw_g (lw_at lw_m5 141 rfl) rfl
theorem q1258 : (Jvm.Cond.methodLink "ClauseCourt$AtMost" (27 : Nat) ({ cls := "ClauseCourt$Clause", name := "least", desc := "()I" } : Jvm.MethodName)) ∈ lw_all := lw_g (lw_at lw_m5 142 rfl) rfl
theorem q1276 : (Jvm.Cond.selects "ClauseCourt$AtMost" ({ cls := "ClauseCourt$Rule", name := "most", desc := "()I" } : Jvm.MethodName) ({ cls := "ClauseCourt$AtMost", name := "most", desc := "()I" } : Jvm.MethodName)) ∈ lw_all := lw_g (lw_at lw_m5 160 rfl) rfl
theorem q1277 : (Jvm.Cond.instanceMethod ({ cls := "ClauseCourt$AtMost", name := "most", desc := "()I" } : Jvm.MethodName)) ∈ lw_all := lw_g (lw_at lw_m5 161 rfl) rfl
theorem q1278 : (Jvm.Cond.code ({ cls := "ClauseCourt$AtMost", name := "most", desc := "()I" } : Jvm.MethodName) prog_2_method_4_code (1 : Nat) (Option.some Jvm.ClassFile.FieldType.int)) ∈ lw_all := lw_g (lw_at lw_m5 162 rfl) rfl
theorem q1279 : (Jvm.Cond.methodLink "ClauseCourt$AtMost" (31 : Nat) ({ cls := "ClauseCourt$Clause", name := "most", desc := "()I" } : Jvm.MethodName)) ∈ lw_all := lw_g (lw_at lw_m5 163 rfl) rfl
theorem q1295 : (Jvm.Cond.selects "ClauseCourt$AtMost" ({ cls := "ClauseCourt$Rule", name := "laid", desc := "()I" } : Jvm.MethodName) ({ cls := "ClauseCourt$Rule", name := "laid", desc := "()I" } : Jvm.MethodName)) ∈ lw_all := lw_g (lw_at lw_m5 179 rfl) rfl
theorem q1308 : (Jvm.Cond.selects "ClauseCourt$AtMost" ({ cls := "ClauseCourt$Rule", name := "print", desc := "()V" } : Jvm.MethodName) ({ cls := "ClauseCourt$AtMost", name := "print", desc := "()V" } : Jvm.MethodName)) ∈ lw_all := lw_g (lw_at lw_m5 192 rfl) rfl
theorem q1309 : (Jvm.Cond.instanceMethod ({ cls := "ClauseCourt$AtMost", name := "print", desc := "()V" } : Jvm.MethodName)) ∈ lw_all := lw_g (lw_at lw_m5 193 rfl) rfl
theorem q1310 : (Jvm.Cond.code ({ cls := "ClauseCourt$AtMost", name := "print", desc := "()V" } : Jvm.MethodName) prog_2_method_5_code (1 : Nat) (Option.none : Option Jvm.ClassFile.FieldType)) ∈ lw_all := lw_g (lw_at lw_m5 194 rfl) rfl
theorem q1311 : (Jvm.Cond.stringRef "ClauseCourt$AtMost" (40 : Nat) "most ") ∈ lw_tbl := lw_at lw_m5 195 rfl
theorem q1312 : (Jvm.Cond.methodLinkNest "ClauseCourt$AtMost" (42 : Nat) ({ cls := "ClauseCourt", name := "say", desc := "(Ljava/lang/String;)V" } : Jvm.MethodName) "ClauseCourt") ∈ lw_tbl := lw_at lw_m5 196 rfl
theorem q1368 : (Jvm.Cond.methodLinkNest "ClauseCourt$AtMost" (46 : Nat) ({ cls := "ClauseCourt", name := "sayNumber", desc := "(I)V" } : Jvm.MethodName) "ClauseCourt") ∈ lw_tbl := lw_at lw_m6 12 rfl
theorem q1372 : (Jvm.Cond.methodLink "ClauseCourt$AtMost" (49 : Nat) ({ cls := "ClauseCourt$AtMost", name := "sayList", desc := "()V" } : Jvm.MethodName)) ∈ lw_all := lw_g (lw_at lw_m6 16 rfl) rfl
theorem q1373 : (Jvm.Cond.sameMethod "ClauseCourt$AtMost" "ClauseCourt$Rule" "sayList" "()V") ∈ lw_all := lw_g (lw_at lw_m6 17 rfl) rfl
theorem q1375 : (Jvm.Cond.selects "ClauseCourt$AtMost" ({ cls := "ClauseCourt$AtMost", name := "sayList", desc := "()V" } : Jvm.MethodName) ({ cls := "ClauseCourt$Rule", name := "sayList", desc := "()V" } : Jvm.MethodName)) ∈ lw_all := lw_g (lw_at lw_m6 19 rfl) rfl
theorem q1383 : (Jvm.Cond.castable "ClauseCourt$AtMost" "ClauseCourt$Prints") ∈ lw_tbl := lw_at lw_m6 27 rfl
theorem q1384 : (Jvm.Cond.unhidden "ClauseCourt$AtMost" "list" "()V") ∈ lw_tbl := lw_at lw_m6 28 rfl
theorem q1392 : (Jvm.Cond.selects "ClauseCourt$AtMost" ({ cls := "ClauseCourt$Prints", name := "court", desc := "()LClauseCourt;" } : Jvm.MethodName) ({ cls := "ClauseCourt$Rule", name := "court", desc := "()LClauseCourt;" } : Jvm.MethodName)) ∈ lw_all := lw_g (lw_at lw_m6 36 rfl) rfl
theorem q1393 : (Jvm.Cond.unhidden "ClauseCourt$AtMost" "court" "()LClauseCourt;") ∈ lw_tbl := lw_at lw_m6 37 rfl
theorem q1415 : (Jvm.Cond.selects "ClauseCourt$AtMost" ({ cls := "ClauseCourt$Prints", name := "size", desc := "()I" } : Jvm.MethodName) ({ cls := "ClauseCourt$Rule", name := "size", desc := "()I" } : Jvm.MethodName)) ∈ lw_all := lw_g (lw_at lw_m6 59 rfl) rfl
theorem q1416 : (Jvm.Cond.unhidden "ClauseCourt$AtMost" "size" "()I") ∈ lw_tbl := lw_at lw_m6 60 rfl
theorem q1432 : (Jvm.Cond.selects "ClauseCourt$AtMost" ({ cls := "ClauseCourt$Prints", name := "at", desc := "(I)I" } : Jvm.MethodName) ({ cls := "ClauseCourt$Rule", name := "at", desc := "(I)I" } : Jvm.MethodName)) ∈ lw_all := lw_g (lw_at lw_m6 76 rfl) rfl
theorem q1433 : (Jvm.Cond.unhidden "ClauseCourt$AtMost" "at" "(I)I") ∈ lw_tbl := lw_at lw_m6 77 rfl
theorem q1457 : (Jvm.Cond.selects "ClauseCourt$AtMost" ({ cls := "ClauseCourt$Clause", name := "sayList", desc := "()V" } : Jvm.MethodName) ({ cls := "ClauseCourt$Rule", name := "sayList", desc := "()V" } : Jvm.MethodName)) ∈ lw_all := lw_g (lw_at lw_m6 101 rfl) rfl
theorem q2781 : (Jvm.Cond.sameMethod "ClauseCourt$AtMost" "ClauseCourt$AtMost" "counter" "(III)I") ∈ lw_all := lw_g (lw_at lw_m11 225 rfl) rfl
theorem q2782 : (Jvm.Cond.sameMethod "ClauseCourt$AtMost" "ClauseCourt$AtMost" "holds" "(LClauseCourt$Truth;)Z") ∈ lw_all := lw_g (lw_at lw_m11 226 rfl) rfl
theorem q2784 : (Jvm.Cond.sameMethod "ClauseCourt$AtMost" "ClauseCourt$AtMost" "print" "()V") ∈ lw_all := lw_g (lw_at lw_m11 228 rfl) rfl
theorem q2785 : (Jvm.Cond.castable "ClauseCourt$AtMost" "ClauseCourt$Clause") ∈ lw_tbl := lw_at lw_m11 229 rfl
theorem q2790 : (Jvm.Cond.castable "ClauseCourt$AtMost" "ClauseCourt$Rule") ∈ lw_tbl := lw_at lw_m11 234 rfl
theorem in_X7 : ∀ w ∈ wsX70, w ∈ lw_all := lw_in wsX70 [862, 863, 864, 865, 866, 861, 857, 859] (by decide +kernel) (by decide +kernel)

/-! ClauseCourt$Group -/
set_option maxRecDepth 100000
def RX8 : String := "ClauseCourt$Group"
def TX8 : u_T := fun k => match k with
  | 0 => ("ClauseCourt$Rule", "kind", "I", true)
  | 1 => ("ClauseCourt$Rule", "items", "[I", true)
  | 2 => ("ClauseCourt$Rule", "first", "I", false)
  | 3 => ("ClauseCourt$Rule", "many", "I", false)
  | 4 => ("ClauseCourt$Rule", "this$0", "LClauseCourt;", true)
  | 5 => ("ClauseCourt$Clause", "this$0", "LClauseCourt;", true)
  | 6 => ("ClauseCourt$AtMost", "k", "I", true)
  | 7 => ("ClauseCourt$AtMost", "this$0", "LClauseCourt;", true)
  | _ => ("ClauseCourt$Group", "this$0", "LClauseCourt;", true)
def tyX8 : Nat → FieldType := fun k => match k with
  | 0 => .int
  | 1 => .array .int
  | 2 => .int
  | 3 => .int
  | 4 => .object "ClauseCourt"
  | 5 => .object "ClauseCourt"
  | 6 => .int
  | 7 => .object "ClauseCourt"
  | _ => .object "ClauseCourt"
abbrev wsX80 : List Cond := u_ws RX8 TX8 9
-- two fields of one name: no nmX8
theorem tyX8_ok : ∀ k, k < 9 → parseFieldDescriptor (TX8 k).2.2.1 = some (tyX8 k) := by decide +kernel
abbrev cX8_init : ByteArray := prog_6_method_1_code
def yX8_init : MethodName := ⟨RX8, "<init>", "(LClauseCourt;[II)V"⟩
def dkwX8_init_0 : List UInt8 := [42, 43, 181, 0, 3, 42, 43, 5, 44, 29, 183, 0, 9, 177]
abbrev dktX8_init_0 : List UInt8 := dkwX8_init_0 ++ []
theorem dksX8_init_0 : cX8_init.data.toList.drop 0 = dktX8_init_0 := by decide +kernel
theorem dX8_init_0 : decode cX8_init 0 = .ok (.aload_n 0, 1) := dk_42 (dk_at dksX8_init_0 0 rfl rfl)
theorem dX8_init_1 : decode cX8_init 1 = .ok (.aload_n 1, 1) := dk_43 (dk_at dksX8_init_0 1 rfl rfl)
theorem dX8_init_2 : decode cX8_init 2 = .ok (.putfield 3, 3) := dk_181 0 3 (dk_at dksX8_init_0 2 rfl rfl)
theorem dX8_init_5 : decode cX8_init 5 = .ok (.aload_n 0, 1) := dk_42 (dk_at dksX8_init_0 5 rfl rfl)
theorem dX8_init_6 : decode cX8_init 6 = .ok (.aload_n 1, 1) := dk_43 (dk_at dksX8_init_0 6 rfl rfl)
theorem dX8_init_7 : decode cX8_init 7 = .ok (.iconst 2, 1) := dk_5 (dk_at dksX8_init_0 7 rfl rfl)
theorem dX8_init_8 : decode cX8_init 8 = .ok (.aload_n 2, 1) := dk_44 (dk_at dksX8_init_0 8 rfl rfl)
theorem dX8_init_9 : decode cX8_init 9 = .ok (.iload_n 3, 1) := dk_29 (dk_at dksX8_init_0 9 rfl rfl)
theorem dX8_init_10 : decode cX8_init 10 = .ok (.invokespecial 9, 3) := dk_183 0 9 (dk_at dksX8_init_0 10 rfl rfl)
theorem dX8_init_13 : decode cX8_init 13 = .ok (.return_, 1) := dk_177 (dk_at dksX8_init_0 13 rfl rfl)
abbrev cX8_lay : ByteArray := prog_6_method_5_code
def yX8_lay : MethodName := ⟨RX8, "lay", "()V"⟩
def dkwX8_lay_1 : List UInt8 := [167, 0, 23, 42, 180, 0, 27, 158, 0, 16, 42, 180, 0, 3, 43, 42, 180, 0, 27, 46, 182, 0, 52, 177]
abbrev dktX8_lay_1 : List UInt8 := dkwX8_lay_1 ++ []
def dkwX8_lay_0 : List UInt8 := [42, 182, 0, 41, 76, 42, 180, 0, 27, 42, 180, 0, 45, 190, 164, 0, 13, 42, 180, 0, 3, 182, 0, 49]
abbrev dktX8_lay_0 : List UInt8 := dkwX8_lay_0 ++ dktX8_lay_1
theorem dksX8_lay_0 : cX8_lay.data.toList.drop 0 = dktX8_lay_0 := by decide +kernel
theorem dksX8_lay_1 : cX8_lay.data.toList.drop 24 = dktX8_lay_1 := dk_seg dksX8_lay_0 24 rfl rfl
theorem dX8_lay_0 : decode cX8_lay 0 = .ok (.aload_n 0, 1) := dk_42 (dk_at dksX8_lay_0 0 rfl rfl)
theorem dX8_lay_1 : decode cX8_lay 1 = .ok (.invokevirtual 41, 3) := dk_182 0 41 (dk_at dksX8_lay_0 1 rfl rfl)
theorem dX8_lay_4 : decode cX8_lay 4 = .ok (.astore_n 1, 1) := dk_76 (dk_at dksX8_lay_0 4 rfl rfl)
theorem dX8_lay_5 : decode cX8_lay 5 = .ok (.aload_n 0, 1) := dk_42 (dk_at dksX8_lay_0 5 rfl rfl)
theorem dX8_lay_6 : decode cX8_lay 6 = .ok (.getfield 27, 3) := dk_180 0 27 (dk_at dksX8_lay_0 6 rfl rfl)
theorem dX8_lay_9 : decode cX8_lay 9 = .ok (.aload_n 0, 1) := dk_42 (dk_at dksX8_lay_0 9 rfl rfl)
theorem dX8_lay_10 : decode cX8_lay 10 = .ok (.getfield 45, 3) := dk_180 0 45 (dk_at dksX8_lay_0 10 rfl rfl)
theorem dX8_lay_13 : decode cX8_lay 13 = .ok (.arraylength, 1) := dk_190 (dk_at dksX8_lay_0 13 rfl rfl)
theorem dX8_lay_14 : decode cX8_lay 14 = .ok (.if_icmp .le 13, 3) := dk_164 0 13 (dk_at dksX8_lay_0 14 rfl rfl)
theorem dX8_lay_17 : decode cX8_lay 17 = .ok (.aload_n 0, 1) := dk_42 (dk_at dksX8_lay_0 17 rfl rfl)
theorem dX8_lay_18 : decode cX8_lay 18 = .ok (.getfield 3, 3) := dk_180 0 3 (dk_at dksX8_lay_0 18 rfl rfl)
theorem dX8_lay_21 : decode cX8_lay 21 = .ok (.invokevirtual 49, 3) := dk_182 0 49 (dk_at dksX8_lay_0 21 rfl rfl)
theorem dX8_lay_24 : decode cX8_lay 24 = .ok (.goto 23, 3) := dk_167 0 23 (dk_at dksX8_lay_1 0 rfl rfl)
theorem dX8_lay_27 : decode cX8_lay 27 = .ok (.aload_n 0, 1) := dk_42 (dk_at dksX8_lay_1 3 rfl rfl)
theorem dX8_lay_28 : decode cX8_lay 28 = .ok (.getfield 27, 3) := dk_180 0 27 (dk_at dksX8_lay_1 4 rfl rfl)
theorem dX8_lay_31 : decode cX8_lay 31 = .ok (.ifCond .le 16, 3) := dk_158 0 16 (dk_at dksX8_lay_1 7 rfl rfl)
theorem dX8_lay_34 : decode cX8_lay 34 = .ok (.aload_n 0, 1) := dk_42 (dk_at dksX8_lay_1 10 rfl rfl)
theorem dX8_lay_35 : decode cX8_lay 35 = .ok (.getfield 3, 3) := dk_180 0 3 (dk_at dksX8_lay_1 11 rfl rfl)
theorem dX8_lay_38 : decode cX8_lay 38 = .ok (.aload_n 1, 1) := dk_43 (dk_at dksX8_lay_1 14 rfl rfl)
theorem dX8_lay_39 : decode cX8_lay 39 = .ok (.aload_n 0, 1) := dk_42 (dk_at dksX8_lay_1 15 rfl rfl)
theorem dX8_lay_40 : decode cX8_lay 40 = .ok (.getfield 27, 3) := dk_180 0 27 (dk_at dksX8_lay_1 16 rfl rfl)
theorem dX8_lay_43 : decode cX8_lay 43 = .ok (.iaload, 1) := dk_46 (dk_at dksX8_lay_1 19 rfl rfl)
theorem dX8_lay_44 : decode cX8_lay 44 = .ok (.invokevirtual 52, 3) := dk_182 0 52 (dk_at dksX8_lay_1 20 rfl rfl)
theorem dX8_lay_47 : decode cX8_lay 47 = .ok (.return_, 1) := dk_177 (dk_at dksX8_lay_1 23 rfl rfl)
abbrev cX8_holds : ByteArray := prog_6_method_2_code
def yX8_holds : MethodName := ⟨RX8, "holds", "(LClauseCourt$Truth;)Z"⟩
def dkwX8_holds_1 : List UInt8 := [180, 0, 27, 161, 0, 7, 4, 167, 0, 4, 3, 172]
abbrev dktX8_holds_1 : List UInt8 := dkwX8_holds_1 ++ []
def dkwX8_holds_0 : List UInt8 := [42, 180, 0, 3, 16, 20, 182, 0, 15, 42, 43, 183, 0, 19, 153, 0, 19, 42, 43, 182, 0, 23, 42]
abbrev dktX8_holds_0 : List UInt8 := dkwX8_holds_0 ++ dktX8_holds_1
theorem dksX8_holds_0 : cX8_holds.data.toList.drop 0 = dktX8_holds_0 := by decide +kernel
theorem dksX8_holds_1 : cX8_holds.data.toList.drop 23 = dktX8_holds_1 := dk_seg dksX8_holds_0 23 rfl rfl
theorem dX8_holds_0 : decode cX8_holds 0 = .ok (.aload_n 0, 1) := dk_42 (dk_at dksX8_holds_0 0 rfl rfl)
theorem dX8_holds_1 : decode cX8_holds 1 = .ok (.getfield 3, 3) := dk_180 0 3 (dk_at dksX8_holds_0 1 rfl rfl)
theorem dX8_holds_4 : decode cX8_holds 4 = .ok (.bipush 20, 2) := dk_16 20 (dk_at dksX8_holds_0 4 rfl rfl)
theorem dX8_holds_6 : decode cX8_holds 6 = .ok (.invokevirtual 15, 3) := dk_182 0 15 (dk_at dksX8_holds_0 6 rfl rfl)
theorem dX8_holds_9 : decode cX8_holds 9 = .ok (.aload_n 0, 1) := dk_42 (dk_at dksX8_holds_0 9 rfl rfl)
theorem dX8_holds_10 : decode cX8_holds 10 = .ok (.aload_n 1, 1) := dk_43 (dk_at dksX8_holds_0 10 rfl rfl)
theorem dX8_holds_11 : decode cX8_holds 11 = .ok (.invokespecial 19, 3) := dk_183 0 19 (dk_at dksX8_holds_0 11 rfl rfl)
theorem dX8_holds_14 : decode cX8_holds 14 = .ok (.ifCond .eq 19, 3) := dk_153 0 19 (dk_at dksX8_holds_0 14 rfl rfl)
theorem dX8_holds_17 : decode cX8_holds 17 = .ok (.aload_n 0, 1) := dk_42 (dk_at dksX8_holds_0 17 rfl rfl)
theorem dX8_holds_18 : decode cX8_holds 18 = .ok (.aload_n 1, 1) := dk_43 (dk_at dksX8_holds_0 18 rfl rfl)
theorem dX8_holds_19 : decode cX8_holds 19 = .ok (.invokevirtual 23, 3) := dk_182 0 23 (dk_at dksX8_holds_0 19 rfl rfl)
theorem dX8_holds_22 : decode cX8_holds 22 = .ok (.aload_n 0, 1) := dk_42 (dk_at dksX8_holds_0 22 rfl rfl)
theorem dX8_holds_23 : decode cX8_holds 23 = .ok (.getfield 27, 3) := dk_180 0 27 (dk_at dksX8_holds_1 0 rfl rfl)
theorem dX8_holds_26 : decode cX8_holds 26 = .ok (.if_icmp .lt 7, 3) := dk_161 0 7 (dk_at dksX8_holds_1 3 rfl rfl)
theorem dX8_holds_29 : decode cX8_holds 29 = .ok (.iconst 1, 1) := dk_4 (dk_at dksX8_holds_1 6 rfl rfl)
theorem dX8_holds_30 : decode cX8_holds 30 = .ok (.goto 4, 3) := dk_167 0 4 (dk_at dksX8_holds_1 7 rfl rfl)
theorem dX8_holds_33 : decode cX8_holds 33 = .ok (.iconst 0, 1) := dk_3 (dk_at dksX8_holds_1 10 rfl rfl)
theorem dX8_holds_34 : decode cX8_holds 34 = .ok (.ireturn, 1) := dk_172 (dk_at dksX8_holds_1 11 rfl rfl)
abbrev cX8_least : ByteArray := prog_6_method_3_code
def yX8_least : MethodName := ⟨RX8, "least", "()I"⟩
def dkwX8_least_0 : List UInt8 := [42, 180, 0, 3, 16, 21, 182, 0, 15, 42, 180, 0, 27, 172]
abbrev dktX8_least_0 : List UInt8 := dkwX8_least_0 ++ []
theorem dksX8_least_0 : cX8_least.data.toList.drop 0 = dktX8_least_0 := by decide +kernel
theorem dX8_least_0 : decode cX8_least 0 = .ok (.aload_n 0, 1) := dk_42 (dk_at dksX8_least_0 0 rfl rfl)
theorem dX8_least_1 : decode cX8_least 1 = .ok (.getfield 3, 3) := dk_180 0 3 (dk_at dksX8_least_0 1 rfl rfl)
theorem dX8_least_4 : decode cX8_least 4 = .ok (.bipush 21, 2) := dk_16 21 (dk_at dksX8_least_0 4 rfl rfl)
theorem dX8_least_6 : decode cX8_least 6 = .ok (.invokevirtual 15, 3) := dk_182 0 15 (dk_at dksX8_least_0 6 rfl rfl)
theorem dX8_least_9 : decode cX8_least 9 = .ok (.aload_n 0, 1) := dk_42 (dk_at dksX8_least_0 9 rfl rfl)
theorem dX8_least_10 : decode cX8_least 10 = .ok (.getfield 27, 3) := dk_180 0 27 (dk_at dksX8_least_0 10 rfl rfl)
theorem dX8_least_13 : decode cX8_least 13 = .ok (.ireturn, 1) := dk_172 (dk_at dksX8_least_0 13 rfl rfl)
abbrev cX8_print : ByteArray := prog_6_method_4_code
def yX8_print : MethodName := ⟨RX8, "print", "()V"⟩
def dkwX8_print_0 : List UInt8 := [42, 180, 0, 3, 16, 24, 182, 0, 15, 42, 180, 0, 3, 18, 31, 182, 0, 33, 42, 183, 0, 37, 177]
abbrev dktX8_print_0 : List UInt8 := dkwX8_print_0 ++ []
theorem dksX8_print_0 : cX8_print.data.toList.drop 0 = dktX8_print_0 := by decide +kernel
theorem dX8_print_0 : decode cX8_print 0 = .ok (.aload_n 0, 1) := dk_42 (dk_at dksX8_print_0 0 rfl rfl)
theorem dX8_print_1 : decode cX8_print 1 = .ok (.getfield 3, 3) := dk_180 0 3 (dk_at dksX8_print_0 1 rfl rfl)
theorem dX8_print_4 : decode cX8_print 4 = .ok (.bipush 24, 2) := dk_16 24 (dk_at dksX8_print_0 4 rfl rfl)
theorem dX8_print_6 : decode cX8_print 6 = .ok (.invokevirtual 15, 3) := dk_182 0 15 (dk_at dksX8_print_0 6 rfl rfl)
theorem dX8_print_9 : decode cX8_print 9 = .ok (.aload_n 0, 1) := dk_42 (dk_at dksX8_print_0 9 rfl rfl)
theorem dX8_print_10 : decode cX8_print 10 = .ok (.getfield 3, 3) := dk_180 0 3 (dk_at dksX8_print_0 10 rfl rfl)
theorem dX8_print_13 : decode cX8_print 13 = .ok (.ldc 31, 2) := dk_18 31 (dk_at dksX8_print_0 13 rfl rfl)
theorem dX8_print_15 : decode cX8_print 15 = .ok (.invokevirtual 33, 3) := dk_182 0 33 (dk_at dksX8_print_0 15 rfl rfl)
theorem dX8_print_18 : decode cX8_print 18 = .ok (.aload_n 0, 1) := dk_42 (dk_at dksX8_print_0 18 rfl rfl)
theorem dX8_print_19 : decode cX8_print 19 = .ok (.invokespecial 37, 3) := dk_183 0 37 (dk_at dksX8_print_0 19 rfl rfl)
theorem dX8_print_22 : decode cX8_print 22 = .ok (.return_, 1) := dk_177 (dk_at dksX8_print_0 22 rfl rfl)
theorem q175 : (Jvm.Cond.initialized "ClauseCourt$Group") ∈ lw_all := lw_g (lw_at lw_m1 19 rfl) rfl
theorem q823 : (Jvm.Cond.fieldLink "ClauseCourt$Group" (45 : Nat) "ClauseCourt$Group" "items" "[I") ∈ lw_all := lw_g (lw_at lw_m3 187 rfl) rfl
theorem q824 : (Jvm.Cond.sameField "ClauseCourt$Group" "ClauseCourt$Rule" "items" "[I") ∈ lw_all := lw_g (lw_at lw_m3 188 rfl) rfl
theorem q854 : (Jvm.Cond.fieldLink "ClauseCourt$Group" (27 : Nat) "ClauseCourt$Group" "k" "I") ∈ lw_all := lw_g (lw_at lw_m3 218 rfl) rfl
theorem q855 : (Jvm.Cond.sameField "ClauseCourt$Group" "ClauseCourt$AtMost" "k" "I") ∈ lw_all := lw_g (lw_at lw_m3 219 rfl) rfl
theorem q869 : (Jvm.Cond.instantiable "ClauseCourt$Group" (9 : Nat)) ∈ lw_all := lw_g (lw_at lw_m3 233 rfl) rfl
theorem q871 : (Jvm.Cond.instanceMethod ({ cls := "ClauseCourt$Group", name := "<init>", desc := "(LClauseCourt;[II)V" } : Jvm.MethodName)) ∈ lw_all := lw_g (lw_at lw_m3 235 rfl) rfl
theorem q872 : (Jvm.Cond.code ({ cls := "ClauseCourt$Group", name := "<init>", desc := "(LClauseCourt;[II)V" } : Jvm.MethodName) prog_6_method_1_code (4 : Nat) (Option.none : Option Jvm.ClassFile.FieldType)) ∈ lw_all := lw_g (lw_at lw_m3 236 rfl) rfl
theorem q873 : (Jvm.Cond.methodLink "ClauseCourt$Group" (9 : Nat) ({ cls := "ClauseCourt$AtMost", name := "<init>", desc := "(LClauseCourt;I[II)V" } : Jvm.MethodName)) ∈ lw_all := lw_g (lw_at lw_m3 237 rfl) rfl
theorem q874 : (Jvm.Cond.fieldLink "ClauseCourt$Group" (3 : Nat) "ClauseCourt$Group" "this$0" "LClauseCourt;") ∈ lw_all := lw_g (lw_at lw_m3 238 rfl) rfl
theorem q875 : (Jvm.Cond.laysFinal "ClauseCourt$Group" "ClauseCourt$Group" "this$0" "LClauseCourt;") ∈ lw_all := lw_g (lw_at lw_m3 239 rfl) rfl
theorem q876 : (Jvm.Cond.soleField "ClauseCourt$Group" "this$0") ∈ lw_all := lw_g (lw_at lw_m4 0 rfl) rfl
theorem q877 : (Jvm.Cond.laysFinal "ClauseCourt$Group" "ClauseCourt$AtMost" "k" "I") ∈ lw_all := lw_g (lw_at lw_m4 1 rfl) rfl
theorem q878 : (Jvm.Cond.laysFinal "ClauseCourt$Group" "ClauseCourt$AtMost" "this$0" "LClauseCourt;") ∈ lw_all := lw_g (lw_at lw_m4 2 rfl) rfl
theorem q879 : (Jvm.Cond.laysFinal "ClauseCourt$Group" "ClauseCourt$Clause" "this$0" "LClauseCourt;") ∈ lw_all := lw_g (lw_at lw_m4 3 rfl) rfl
theorem q880 : (Jvm.Cond.laysFinal "ClauseCourt$Group" "ClauseCourt$Rule" "kind" "I") ∈ lw_all := lw_g (lw_at lw_m4 4 rfl) rfl
theorem q881 : (Jvm.Cond.laysFinal "ClauseCourt$Group" "ClauseCourt$Rule" "items" "[I") ∈ lw_all := lw_g (lw_at lw_m4 5 rfl) rfl
theorem q882 : (Jvm.Cond.lays "ClauseCourt$Group" "ClauseCourt$Rule" "first" "I") ∈ lw_all := lw_g (lw_at lw_m4 6 rfl) rfl
theorem q883 : (Jvm.Cond.lays "ClauseCourt$Group" "ClauseCourt$Rule" "many" "I") ∈ lw_all := lw_g (lw_at lw_m4 7 rfl) rfl
theorem q884 : (Jvm.Cond.laysFinal "ClauseCourt$Group" "ClauseCourt$Rule" "this$0" "LClauseCourt;") ∈ lw_all := lw_g (lw_at lw_m4 8 rfl) rfl
theorem q885 : (Jvm.Cond.superclass "ClauseCourt$Group" "ClauseCourt$AtMost") ∈ lw_all := lw_g (lw_at lw_m4 9 rfl) rfl
theorem q918 : (Jvm.Cond.selects "ClauseCourt$Group" ({ cls := "ClauseCourt$AtMost", name := "layMost", desc := "()[I" } : Jvm.MethodName) ({ cls := "ClauseCourt$AtMost", name := "layMost", desc := "()[I" } : Jvm.MethodName)) ∈ lw_all := lw_g (lw_at lw_m4 42 rfl) rfl
theorem q924 : (Jvm.Cond.selects "ClauseCourt$Group" ({ cls := "ClauseCourt$AtMost", name := "counters", desc := "()[I" } : Jvm.MethodName) ({ cls := "ClauseCourt$AtMost", name := "counters", desc := "()[I" } : Jvm.MethodName)) ∈ lw_all := lw_g (lw_at lw_m4 48 rfl) rfl
theorem q962 : (Jvm.Cond.selects "ClauseCourt$Group" ({ cls := "ClauseCourt$Rule", name := "lay", desc := "()V" } : Jvm.MethodName) ({ cls := "ClauseCourt$Group", name := "lay", desc := "()V" } : Jvm.MethodName)) ∈ lw_all := lw_g (lw_at lw_m4 86 rfl) rfl
theorem q963 : (Jvm.Cond.instanceMethod ({ cls := "ClauseCourt$Group", name := "lay", desc := "()V" } : Jvm.MethodName)) ∈ lw_all := lw_g (lw_at lw_m4 87 rfl) rfl
theorem q964 : (Jvm.Cond.code ({ cls := "ClauseCourt$Group", name := "lay", desc := "()V" } : Jvm.MethodName) prog_6_method_5_code (2 : Nat) (Option.none : Option Jvm.ClassFile.FieldType)) ∈ lw_all := lw_g (lw_at lw_m4 88 rfl) rfl
theorem q965 : (Jvm.Cond.methodLink "ClauseCourt$Group" (41 : Nat) ({ cls := "ClauseCourt$Group", name := "layMost", desc := "()[I" } : Jvm.MethodName)) ∈ lw_all := lw_g (lw_at lw_m4 89 rfl) rfl
theorem q966 : (Jvm.Cond.sameMethod "ClauseCourt$Group" "ClauseCourt$AtMost" "layMost" "()[I") ∈ lw_all := lw_g (lw_at lw_m4 90 rfl) rfl
theorem q968 : (Jvm.Cond.selects "ClauseCourt$Group" ({ cls := "ClauseCourt$Group", name := "layMost", desc := "()[I" } : Jvm.MethodName) ({ cls := "ClauseCourt$AtMost", name := "layMost", desc := "()[I" } : Jvm.MethodName)) ∈ lw_all := lw_g (lw_at lw_m4 92 rfl) rfl
theorem q969 : (Jvm.Cond.methodLinkNest "ClauseCourt$Group" (49 : Nat) ({ cls := "ClauseCourt", name := "endRow", desc := "()V" } : Jvm.MethodName) "ClauseCourt") ∈ lw_tbl := lw_at lw_m4 93 rfl
theorem q970 : (Jvm.Cond.methodLinkNest "ClauseCourt$Group" (52 : Nat) ({ cls := "ClauseCourt", name := "plan", desc := "(I)V" } : Jvm.MethodName) "ClauseCourt") ∈ lw_tbl := lw_at lw_m4 94 rfl
theorem q1210 : (Jvm.Cond.selects "ClauseCourt$Group" ({ cls := "ClauseCourt$AtMost", name := "trues", desc := "(LClauseCourt$Truth;)I" } : Jvm.MethodName) ({ cls := "ClauseCourt$Rule", name := "trues", desc := "(LClauseCourt$Truth;)I" } : Jvm.MethodName)) ∈ lw_all := lw_g (lw_at lw_m5 94 rfl) rfl
theorem q1226 : (Jvm.Cond.selects "ClauseCourt$Group" ({ cls := "ClauseCourt$Clause", name := "trues", desc := "(LClauseCourt$Truth;)I" } : Jvm.MethodName) ({ cls := "ClauseCourt$Rule", name := "trues", desc := "(LClauseCourt$Truth;)I" } : Jvm.MethodName)) ∈ lw_all := lw_g (lw_at lw_m5 110 rfl) rfl
theorem q1228 : (Jvm.Cond.selects "ClauseCourt$Group" ({ cls := "ClauseCourt$Rule", name := "holds", desc := "(LClauseCourt$Truth;)Z" } : Jvm.MethodName) ({ cls := "ClauseCourt$Group", name := "holds", desc := "(LClauseCourt$Truth;)Z" } : Jvm.MethodName)) ∈ lw_all := lw_g (lw_at lw_m5 112 rfl) rfl
theorem q1229 : (Jvm.Cond.instanceMethod ({ cls := "ClauseCourt$Group", name := "holds", desc := "(LClauseCourt$Truth;)Z" } : Jvm.MethodName)) ∈ lw_all := lw_g (lw_at lw_m5 113 rfl) rfl
theorem q1230 : (Jvm.Cond.code ({ cls := "ClauseCourt$Group", name := "holds", desc := "(LClauseCourt$Truth;)Z" } : Jvm.MethodName) prog_6_method_2_code (2 : Nat) (Option.some Jvm.ClassFile.FieldType.boolean)) ∈ lw_all := lw_g (lw_at lw_m5 114 rfl) rfl
theorem q1231 : (Jvm.Cond.methodLinkNest "ClauseCourt$Group" (15 : Nat) ({ cls := "ClauseCourt", name := "body", desc := "(I)V" } : Jvm.MethodName) "ClauseCourt") ∈ lw_tbl := lw_at lw_m5 115 rfl
theorem q1232 : (Jvm.Cond.methodLink "ClauseCourt$Group" (19 : Nat) ({ cls := "ClauseCourt$AtMost", name := "holds", desc := "(LClauseCourt$Truth;)Z" } : Jvm.MethodName)) ∈ lw_all := lw_g (lw_at lw_m5 116 rfl) rfl
theorem q1233 : (Jvm.Cond.methodLink "ClauseCourt$Group" (23 : Nat) ({ cls := "ClauseCourt$Group", name := "trues", desc := "(LClauseCourt$Truth;)I" } : Jvm.MethodName)) ∈ lw_all := lw_g (lw_at lw_m5 117 rfl) rfl
theorem q1234 : (Jvm.Cond.sameMethod "ClauseCourt$Group" "ClauseCourt$Rule" "trues" "(LClauseCourt$Truth;)I") ∈ lw_all := lw_g (lw_at lw_m5 118 rfl) rfl
theorem q1235 : (Jvm.Cond.selects "ClauseCourt$Group" ({ cls := "ClauseCourt$Group", name := "trues", desc := "(LClauseCourt$Truth;)I" } : Jvm.MethodName) ({ cls := "ClauseCourt$Rule", name := "trues", desc := "(LClauseCourt$Truth;)I" } : Jvm.MethodName)) ∈ lw_all := lw_g (lw_at lw_m5 119 rfl) rfl
theorem q1263 : (Jvm.Cond.selects "ClauseCourt$Group" ({ cls := "ClauseCourt$Rule", name := "least", desc := "()I" } : Jvm.MethodName) ({ cls := "ClauseCourt$Group", name := "least", desc := "()I" } : Jvm.MethodName)) ∈ lw_all := lw_g (lw_at lw_m5 147 rfl) rfl
theorem q1264 : (Jvm.Cond.instanceMethod ({ cls := "ClauseCourt$Group", name := "least", desc := "()I" } : Jvm.MethodName)) ∈ lw_all := lw_g (lw_at lw_m5 148 rfl) rfl
theorem q1265 : (Jvm.Cond.code ({ cls := "ClauseCourt$Group", name := "least", desc := "()I" } : Jvm.MethodName) prog_6_method_3_code (1 : Nat) (Option.some Jvm.ClassFile.FieldType.int)) ∈ lw_all := lw_g (lw_at lw_m5 149 rfl) rfl
theorem q1283 : (Jvm.Cond.selects "ClauseCourt$Group" ({ cls := "ClauseCourt$Rule", name := "most", desc := "()I" } : Jvm.MethodName) ({ cls := "ClauseCourt$AtMost", name := "most", desc := "()I" } : Jvm.MethodName)) ∈ lw_all := lw_g (lw_at lw_m5 167 rfl) rfl
theorem q1297 : (Jvm.Cond.selects "ClauseCourt$Group" ({ cls := "ClauseCourt$Rule", name := "laid", desc := "()I" } : Jvm.MethodName) ({ cls := "ClauseCourt$Rule", name := "laid", desc := "()I" } : Jvm.MethodName)) ∈ lw_all := lw_g (lw_at lw_m5 181 rfl) rfl
theorem q1376 : (Jvm.Cond.selects "ClauseCourt$Group" ({ cls := "ClauseCourt$AtMost", name := "sayList", desc := "()V" } : Jvm.MethodName) ({ cls := "ClauseCourt$Rule", name := "sayList", desc := "()V" } : Jvm.MethodName)) ∈ lw_all := lw_g (lw_at lw_m6 20 rfl) rfl
theorem q1400 : (Jvm.Cond.castable "ClauseCourt$Group" "ClauseCourt$Prints") ∈ lw_tbl := lw_at lw_m6 44 rfl
theorem q1401 : (Jvm.Cond.selects "ClauseCourt$Group" ({ cls := "ClauseCourt$Prints", name := "court", desc := "()LClauseCourt;" } : Jvm.MethodName) ({ cls := "ClauseCourt$Rule", name := "court", desc := "()LClauseCourt;" } : Jvm.MethodName)) ∈ lw_all := lw_g (lw_at lw_m6 45 rfl) rfl
theorem q1402 : (Jvm.Cond.unhidden "ClauseCourt$Group" "court" "()LClauseCourt;") ∈ lw_tbl := lw_at lw_m6 46 rfl
theorem q1422 : (Jvm.Cond.selects "ClauseCourt$Group" ({ cls := "ClauseCourt$Prints", name := "size", desc := "()I" } : Jvm.MethodName) ({ cls := "ClauseCourt$Rule", name := "size", desc := "()I" } : Jvm.MethodName)) ∈ lw_all := lw_g (lw_at lw_m6 66 rfl) rfl
theorem q1423 : (Jvm.Cond.unhidden "ClauseCourt$Group" "size" "()I") ∈ lw_tbl := lw_at lw_m6 67 rfl
theorem q1439 : (Jvm.Cond.selects "ClauseCourt$Group" ({ cls := "ClauseCourt$Prints", name := "at", desc := "(I)I" } : Jvm.MethodName) ({ cls := "ClauseCourt$Rule", name := "at", desc := "(I)I" } : Jvm.MethodName)) ∈ lw_all := lw_g (lw_at lw_m6 83 rfl) rfl
theorem q1440 : (Jvm.Cond.unhidden "ClauseCourt$Group" "at" "(I)I") ∈ lw_tbl := lw_at lw_m6 84 rfl
theorem q1447 : (Jvm.Cond.unhidden "ClauseCourt$Group" "list" "()V") ∈ lw_tbl := lw_at lw_m6 91 rfl
theorem q1459 : (Jvm.Cond.selects "ClauseCourt$Group" ({ cls := "ClauseCourt$Clause", name := "sayList", desc := "()V" } : Jvm.MethodName) ({ cls := "ClauseCourt$Rule", name := "sayList", desc := "()V" } : Jvm.MethodName)) ∈ lw_all := lw_g (lw_at lw_m6 103 rfl) rfl
theorem q1461 : (Jvm.Cond.selects "ClauseCourt$Group" ({ cls := "ClauseCourt$Rule", name := "print", desc := "()V" } : Jvm.MethodName) ({ cls := "ClauseCourt$Group", name := "print", desc := "()V" } : Jvm.MethodName)) ∈ lw_all := lw_g (lw_at lw_m6 105 rfl) rfl
theorem q1462 : (Jvm.Cond.instanceMethod ({ cls := "ClauseCourt$Group", name := "print", desc := "()V" } : Jvm.MethodName)) ∈ lw_all := lw_g (lw_at lw_m6 106 rfl) rfl
theorem q1463 : (Jvm.Cond.code ({ cls := "ClauseCourt$Group", name := "print", desc := "()V" } : Jvm.MethodName) prog_6_method_4_code (1 : Nat) (Option.none : Option Jvm.ClassFile.FieldType)) ∈ lw_all := lw_g (lw_at lw_m6 107 rfl) rfl
theorem q1464 : (Jvm.Cond.stringRef "ClauseCourt$Group" (31 : Nat) "just ") ∈ lw_tbl := lw_at lw_m6 108 rfl
theorem q1465 : (Jvm.Cond.methodLinkNest "ClauseCourt$Group" (33 : Nat) ({ cls := "ClauseCourt", name := "say", desc := "(Ljava/lang/String;)V" } : Jvm.MethodName) "ClauseCourt") ∈ lw_tbl := lw_at lw_m6 109 rfl
theorem q1466 : (Jvm.Cond.methodLink "ClauseCourt$Group" (37 : Nat) ({ cls := "ClauseCourt$AtMost", name := "print", desc := "()V" } : Jvm.MethodName)) ∈ lw_all := lw_g (lw_at lw_m6 110 rfl) rfl
theorem q2786 : (Jvm.Cond.castable "ClauseCourt$Group" "ClauseCourt$Clause") ∈ lw_tbl := lw_at lw_m11 230 rfl
theorem q2788 : (Jvm.Cond.castable "ClauseCourt$Group" "ClauseCourt$AtMost") ∈ lw_tbl := lw_at lw_m11 232 rfl
theorem q2791 : (Jvm.Cond.castable "ClauseCourt$Group" "ClauseCourt$Rule") ∈ lw_tbl := lw_at lw_m11 235 rfl
theorem in_X8 : ∀ w ∈ wsX80, w ∈ lw_all := lw_in wsX80 [880, 881, 882, 883, 884, 879, 877, 878, 875] (by decide +kernel) (by decide +kernel)

/-! ClauseCourt$Parity -/
set_option maxRecDepth 100000
def RX9 : String := "ClauseCourt$Parity"
def TX9 : u_T := fun k => match k with
  | 0 => ("ClauseCourt$Rule", "kind", "I", true)
  | 1 => ("ClauseCourt$Rule", "items", "[I", true)
  | 2 => ("ClauseCourt$Rule", "first", "I", false)
  | 3 => ("ClauseCourt$Rule", "many", "I", false)
  | 4 => ("ClauseCourt$Rule", "this$0", "LClauseCourt;", true)
  | 5 => ("ClauseCourt$Parity", "odd", "Z", true)
  | _ => ("ClauseCourt$Parity", "this$0", "LClauseCourt;", true)
def tyX9 : Nat → FieldType := fun k => match k with
  | 0 => .int
  | 1 => .array .int
  | 2 => .int
  | 3 => .int
  | 4 => .object "ClauseCourt"
  | 5 => .boolean
  | _ => .object "ClauseCourt"
abbrev wsX90 : List Cond := u_ws RX9 TX9 7
-- two fields of one name: no nmX9
theorem tyX9_ok : ∀ k, k < 7 → parseFieldDescriptor (TX9 k).2.2.1 = some (tyX9 k) := by decide +kernel
abbrev cX9_init : ByteArray := prog_9_method_1_code
def yX9_init : MethodName := ⟨RX9, "<init>", "(LClauseCourt;[IZ)V"⟩
def dkwX9_init_0 : List UInt8 := [42, 43, 181, 0, 3, 42, 43, 6, 44, 183, 0, 9, 42, 29, 181, 0, 15, 177]
abbrev dktX9_init_0 : List UInt8 := dkwX9_init_0 ++ []
theorem dksX9_init_0 : cX9_init.data.toList.drop 0 = dktX9_init_0 := by decide +kernel
theorem dX9_init_0 : decode cX9_init 0 = .ok (.aload_n 0, 1) := dk_42 (dk_at dksX9_init_0 0 rfl rfl)
theorem dX9_init_1 : decode cX9_init 1 = .ok (.aload_n 1, 1) := dk_43 (dk_at dksX9_init_0 1 rfl rfl)
theorem dX9_init_2 : decode cX9_init 2 = .ok (.putfield 3, 3) := dk_181 0 3 (dk_at dksX9_init_0 2 rfl rfl)
theorem dX9_init_5 : decode cX9_init 5 = .ok (.aload_n 0, 1) := dk_42 (dk_at dksX9_init_0 5 rfl rfl)
theorem dX9_init_6 : decode cX9_init 6 = .ok (.aload_n 1, 1) := dk_43 (dk_at dksX9_init_0 6 rfl rfl)
theorem dX9_init_7 : decode cX9_init 7 = .ok (.iconst 3, 1) := dk_6 (dk_at dksX9_init_0 7 rfl rfl)
theorem dX9_init_8 : decode cX9_init 8 = .ok (.aload_n 2, 1) := dk_44 (dk_at dksX9_init_0 8 rfl rfl)
theorem dX9_init_9 : decode cX9_init 9 = .ok (.invokespecial 9, 3) := dk_183 0 9 (dk_at dksX9_init_0 9 rfl rfl)
theorem dX9_init_12 : decode cX9_init 12 = .ok (.aload_n 0, 1) := dk_42 (dk_at dksX9_init_0 12 rfl rfl)
theorem dX9_init_13 : decode cX9_init 13 = .ok (.iload_n 3, 1) := dk_29 (dk_at dksX9_init_0 13 rfl rfl)
theorem dX9_init_14 : decode cX9_init 14 = .ok (.putfield 15, 3) := dk_181 0 15 (dk_at dksX9_init_0 14 rfl rfl)
theorem dX9_init_17 : decode cX9_init 17 = .ok (.return_, 1) := dk_177 (dk_at dksX9_init_0 17 rfl rfl)
abbrev cX9_lay : ByteArray := prog_9_method_6_code
def yX9_lay : MethodName := ⟨RX9, "lay", "()V"⟩
def dkwX9_lay_5 : List UInt8 := [42, 180, 0, 15, 153, 0, 7, 27, 167, 0, 5, 27, 116, 182, 0, 59, 177]
abbrev dktX9_lay_5 : List UInt8 := dkwX9_lay_5 ++ []
def dkwX9_lay_4 : List UInt8 := [180, 0, 3, 27, 116, 29, 21, 4, 182, 0, 55, 21, 4, 60, 132, 2, 1, 167, 255, 175, 42, 180, 0, 3]
abbrev dktX9_lay_4 : List UInt8 := dkwX9_lay_4 ++ dktX9_lay_5
def dkwX9_lay_3 : List UInt8 := [180, 0, 3, 27, 29, 21, 4, 116, 182, 0, 55, 42, 180, 0, 3, 27, 29, 116, 21, 4, 182, 0, 55, 42]
abbrev dktX9_lay_3 : List UInt8 := dkwX9_lay_3 ++ dktX9_lay_4
def dkwX9_lay_2 : List UInt8 := [42, 180, 0, 3, 182, 0, 52, 54, 4, 42, 180, 0, 3, 27, 116, 29, 116, 21, 4, 116, 182, 0, 55, 42]
abbrev dktX9_lay_2 : List UInt8 := dkwX9_lay_2 ++ dktX9_lay_3
def dkwX9_lay_1 : List UInt8 := [180, 0, 45, 3, 46, 60, 4, 61, 28, 42, 180, 0, 45, 190, 162, 0, 78, 42, 180, 0, 45, 28, 46, 62]
abbrev dktX9_lay_1 : List UInt8 := dkwX9_lay_1 ++ dktX9_lay_2
def dkwX9_lay_0 : List UInt8 := [42, 180, 0, 45, 190, 154, 0, 18, 42, 180, 0, 15, 153, 0, 10, 42, 180, 0, 3, 182, 0, 49, 177, 42]
abbrev dktX9_lay_0 : List UInt8 := dkwX9_lay_0 ++ dktX9_lay_1
theorem dksX9_lay_0 : cX9_lay.data.toList.drop 0 = dktX9_lay_0 := by decide +kernel
theorem dksX9_lay_1 : cX9_lay.data.toList.drop 24 = dktX9_lay_1 := dk_seg dksX9_lay_0 24 rfl rfl
theorem dksX9_lay_2 : cX9_lay.data.toList.drop 48 = dktX9_lay_2 := dk_seg dksX9_lay_1 24 rfl rfl
theorem dksX9_lay_3 : cX9_lay.data.toList.drop 72 = dktX9_lay_3 := dk_seg dksX9_lay_2 24 rfl rfl
theorem dksX9_lay_4 : cX9_lay.data.toList.drop 96 = dktX9_lay_4 := dk_seg dksX9_lay_3 24 rfl rfl
theorem dksX9_lay_5 : cX9_lay.data.toList.drop 120 = dktX9_lay_5 := dk_seg dksX9_lay_4 24 rfl rfl
theorem dX9_lay_0 : decode cX9_lay 0 = .ok (.aload_n 0, 1) := dk_42 (dk_at dksX9_lay_0 0 rfl rfl)
theorem dX9_lay_1 : decode cX9_lay 1 = .ok (.getfield 45, 3) := dk_180 0 45 (dk_at dksX9_lay_0 1 rfl rfl)
theorem dX9_lay_4 : decode cX9_lay 4 = .ok (.arraylength, 1) := dk_190 (dk_at dksX9_lay_0 4 rfl rfl)
theorem dX9_lay_5 : decode cX9_lay 5 = .ok (.ifCond .ne 18, 3) := dk_154 0 18 (dk_at dksX9_lay_0 5 rfl rfl)
theorem dX9_lay_8 : decode cX9_lay 8 = .ok (.aload_n 0, 1) := dk_42 (dk_at dksX9_lay_0 8 rfl rfl)
theorem dX9_lay_9 : decode cX9_lay 9 = .ok (.getfield 15, 3) := dk_180 0 15 (dk_at dksX9_lay_0 9 rfl rfl)
theorem dX9_lay_12 : decode cX9_lay 12 = .ok (.ifCond .eq 10, 3) := dk_153 0 10 (dk_at dksX9_lay_0 12 rfl rfl)
theorem dX9_lay_15 : decode cX9_lay 15 = .ok (.aload_n 0, 1) := dk_42 (dk_at dksX9_lay_0 15 rfl rfl)
theorem dX9_lay_16 : decode cX9_lay 16 = .ok (.getfield 3, 3) := dk_180 0 3 (dk_at dksX9_lay_0 16 rfl rfl)
theorem dX9_lay_19 : decode cX9_lay 19 = .ok (.invokevirtual 49, 3) := dk_182 0 49 (dk_at dksX9_lay_0 19 rfl rfl)
theorem dX9_lay_22 : decode cX9_lay 22 = .ok (.return_, 1) := dk_177 (dk_at dksX9_lay_0 22 rfl rfl)
theorem dX9_lay_23 : decode cX9_lay 23 = .ok (.aload_n 0, 1) := dk_42 (dk_at dksX9_lay_0 23 rfl rfl)
theorem dX9_lay_24 : decode cX9_lay 24 = .ok (.getfield 45, 3) := dk_180 0 45 (dk_at dksX9_lay_1 0 rfl rfl)
theorem dX9_lay_27 : decode cX9_lay 27 = .ok (.iconst 0, 1) := dk_3 (dk_at dksX9_lay_1 3 rfl rfl)
theorem dX9_lay_28 : decode cX9_lay 28 = .ok (.iaload, 1) := dk_46 (dk_at dksX9_lay_1 4 rfl rfl)
theorem dX9_lay_29 : decode cX9_lay 29 = .ok (.istore_n 1, 1) := dk_60 (dk_at dksX9_lay_1 5 rfl rfl)
theorem dX9_lay_30 : decode cX9_lay 30 = .ok (.iconst 1, 1) := dk_4 (dk_at dksX9_lay_1 6 rfl rfl)
theorem dX9_lay_31 : decode cX9_lay 31 = .ok (.istore_n 2, 1) := dk_61 (dk_at dksX9_lay_1 7 rfl rfl)
theorem dX9_lay_32 : decode cX9_lay 32 = .ok (.iload_n 2, 1) := dk_28 (dk_at dksX9_lay_1 8 rfl rfl)
theorem dX9_lay_33 : decode cX9_lay 33 = .ok (.aload_n 0, 1) := dk_42 (dk_at dksX9_lay_1 9 rfl rfl)
theorem dX9_lay_34 : decode cX9_lay 34 = .ok (.getfield 45, 3) := dk_180 0 45 (dk_at dksX9_lay_1 10 rfl rfl)
theorem dX9_lay_37 : decode cX9_lay 37 = .ok (.arraylength, 1) := dk_190 (dk_at dksX9_lay_1 13 rfl rfl)
theorem dX9_lay_38 : decode cX9_lay 38 = .ok (.if_icmp .ge 78, 3) := dk_162 0 78 (dk_at dksX9_lay_1 14 rfl rfl)
theorem dX9_lay_41 : decode cX9_lay 41 = .ok (.aload_n 0, 1) := dk_42 (dk_at dksX9_lay_1 17 rfl rfl)
theorem dX9_lay_42 : decode cX9_lay 42 = .ok (.getfield 45, 3) := dk_180 0 45 (dk_at dksX9_lay_1 18 rfl rfl)
theorem dX9_lay_45 : decode cX9_lay 45 = .ok (.iload_n 2, 1) := dk_28 (dk_at dksX9_lay_1 21 rfl rfl)
theorem dX9_lay_46 : decode cX9_lay 46 = .ok (.iaload, 1) := dk_46 (dk_at dksX9_lay_1 22 rfl rfl)
theorem dX9_lay_47 : decode cX9_lay 47 = .ok (.istore_n 3, 1) := dk_62 (dk_at dksX9_lay_1 23 rfl rfl)
theorem dX9_lay_48 : decode cX9_lay 48 = .ok (.aload_n 0, 1) := dk_42 (dk_at dksX9_lay_2 0 rfl rfl)
theorem dX9_lay_49 : decode cX9_lay 49 = .ok (.getfield 3, 3) := dk_180 0 3 (dk_at dksX9_lay_2 1 rfl rfl)
theorem dX9_lay_52 : decode cX9_lay 52 = .ok (.invokevirtual 52, 3) := dk_182 0 52 (dk_at dksX9_lay_2 4 rfl rfl)
theorem dX9_lay_55 : decode cX9_lay 55 = .ok (.istore 4, 2) := dk_54 4 (dk_at dksX9_lay_2 7 rfl rfl)
theorem dX9_lay_57 : decode cX9_lay 57 = .ok (.aload_n 0, 1) := dk_42 (dk_at dksX9_lay_2 9 rfl rfl)
theorem dX9_lay_58 : decode cX9_lay 58 = .ok (.getfield 3, 3) := dk_180 0 3 (dk_at dksX9_lay_2 10 rfl rfl)
theorem dX9_lay_61 : decode cX9_lay 61 = .ok (.iload_n 1, 1) := dk_27 (dk_at dksX9_lay_2 13 rfl rfl)
theorem dX9_lay_62 : decode cX9_lay 62 = .ok (.ineg, 1) := dk_116 (dk_at dksX9_lay_2 14 rfl rfl)
theorem dX9_lay_63 : decode cX9_lay 63 = .ok (.iload_n 3, 1) := dk_29 (dk_at dksX9_lay_2 15 rfl rfl)
theorem dX9_lay_64 : decode cX9_lay 64 = .ok (.ineg, 1) := dk_116 (dk_at dksX9_lay_2 16 rfl rfl)
theorem dX9_lay_65 : decode cX9_lay 65 = .ok (.iload 4, 2) := dk_21 4 (dk_at dksX9_lay_2 17 rfl rfl)
theorem dX9_lay_67 : decode cX9_lay 67 = .ok (.ineg, 1) := dk_116 (dk_at dksX9_lay_2 19 rfl rfl)
theorem dX9_lay_68 : decode cX9_lay 68 = .ok (.invokevirtual 55, 3) := dk_182 0 55 (dk_at dksX9_lay_2 20 rfl rfl)
theorem dX9_lay_71 : decode cX9_lay 71 = .ok (.aload_n 0, 1) := dk_42 (dk_at dksX9_lay_2 23 rfl rfl)
theorem dX9_lay_72 : decode cX9_lay 72 = .ok (.getfield 3, 3) := dk_180 0 3 (dk_at dksX9_lay_3 0 rfl rfl)
theorem dX9_lay_75 : decode cX9_lay 75 = .ok (.iload_n 1, 1) := dk_27 (dk_at dksX9_lay_3 3 rfl rfl)
theorem dX9_lay_76 : decode cX9_lay 76 = .ok (.iload_n 3, 1) := dk_29 (dk_at dksX9_lay_3 4 rfl rfl)
theorem dX9_lay_77 : decode cX9_lay 77 = .ok (.iload 4, 2) := dk_21 4 (dk_at dksX9_lay_3 5 rfl rfl)
theorem dX9_lay_79 : decode cX9_lay 79 = .ok (.ineg, 1) := dk_116 (dk_at dksX9_lay_3 7 rfl rfl)
theorem dX9_lay_80 : decode cX9_lay 80 = .ok (.invokevirtual 55, 3) := dk_182 0 55 (dk_at dksX9_lay_3 8 rfl rfl)
theorem dX9_lay_83 : decode cX9_lay 83 = .ok (.aload_n 0, 1) := dk_42 (dk_at dksX9_lay_3 11 rfl rfl)
theorem dX9_lay_84 : decode cX9_lay 84 = .ok (.getfield 3, 3) := dk_180 0 3 (dk_at dksX9_lay_3 12 rfl rfl)
theorem dX9_lay_87 : decode cX9_lay 87 = .ok (.iload_n 1, 1) := dk_27 (dk_at dksX9_lay_3 15 rfl rfl)
theorem dX9_lay_88 : decode cX9_lay 88 = .ok (.iload_n 3, 1) := dk_29 (dk_at dksX9_lay_3 16 rfl rfl)
theorem dX9_lay_89 : decode cX9_lay 89 = .ok (.ineg, 1) := dk_116 (dk_at dksX9_lay_3 17 rfl rfl)
theorem dX9_lay_90 : decode cX9_lay 90 = .ok (.iload 4, 2) := dk_21 4 (dk_at dksX9_lay_3 18 rfl rfl)
theorem dX9_lay_92 : decode cX9_lay 92 = .ok (.invokevirtual 55, 3) := dk_182 0 55 (dk_at dksX9_lay_3 20 rfl rfl)
theorem dX9_lay_95 : decode cX9_lay 95 = .ok (.aload_n 0, 1) := dk_42 (dk_at dksX9_lay_3 23 rfl rfl)
theorem dX9_lay_96 : decode cX9_lay 96 = .ok (.getfield 3, 3) := dk_180 0 3 (dk_at dksX9_lay_4 0 rfl rfl)
theorem dX9_lay_99 : decode cX9_lay 99 = .ok (.iload_n 1, 1) := dk_27 (dk_at dksX9_lay_4 3 rfl rfl)
theorem dX9_lay_100 : decode cX9_lay 100 = .ok (.ineg, 1) := dk_116 (dk_at dksX9_lay_4 4 rfl rfl)
theorem dX9_lay_101 : decode cX9_lay 101 = .ok (.iload_n 3, 1) := dk_29 (dk_at dksX9_lay_4 5 rfl rfl)
theorem dX9_lay_102 : decode cX9_lay 102 = .ok (.iload 4, 2) := dk_21 4 (dk_at dksX9_lay_4 6 rfl rfl)
theorem dX9_lay_104 : decode cX9_lay 104 = .ok (.invokevirtual 55, 3) := dk_182 0 55 (dk_at dksX9_lay_4 8 rfl rfl)
theorem dX9_lay_107 : decode cX9_lay 107 = .ok (.iload 4, 2) := dk_21 4 (dk_at dksX9_lay_4 11 rfl rfl)
theorem dX9_lay_109 : decode cX9_lay 109 = .ok (.istore_n 1, 1) := dk_60 (dk_at dksX9_lay_4 13 rfl rfl)
theorem dX9_lay_110 : decode cX9_lay 110 = .ok (.iinc 2 1, 3) := dk_132 2 1 (dk_at dksX9_lay_4 14 rfl rfl)
theorem dX9_lay_113 : decode cX9_lay 113 = .ok (.goto (-81), 3) := dk_167 255 175 (dk_at dksX9_lay_4 17 rfl rfl)
theorem dX9_lay_116 : decode cX9_lay 116 = .ok (.aload_n 0, 1) := dk_42 (dk_at dksX9_lay_4 20 rfl rfl)
theorem dX9_lay_117 : decode cX9_lay 117 = .ok (.getfield 3, 3) := dk_180 0 3 (dk_at dksX9_lay_4 21 rfl rfl)
theorem dX9_lay_120 : decode cX9_lay 120 = .ok (.aload_n 0, 1) := dk_42 (dk_at dksX9_lay_5 0 rfl rfl)
theorem dX9_lay_121 : decode cX9_lay 121 = .ok (.getfield 15, 3) := dk_180 0 15 (dk_at dksX9_lay_5 1 rfl rfl)
theorem dX9_lay_124 : decode cX9_lay 124 = .ok (.ifCond .eq 7, 3) := dk_153 0 7 (dk_at dksX9_lay_5 4 rfl rfl)
theorem dX9_lay_127 : decode cX9_lay 127 = .ok (.iload_n 1, 1) := dk_27 (dk_at dksX9_lay_5 7 rfl rfl)
theorem dX9_lay_128 : decode cX9_lay 128 = .ok (.goto 5, 3) := dk_167 0 5 (dk_at dksX9_lay_5 8 rfl rfl)
theorem dX9_lay_131 : decode cX9_lay 131 = .ok (.iload_n 1, 1) := dk_27 (dk_at dksX9_lay_5 11 rfl rfl)
theorem dX9_lay_132 : decode cX9_lay 132 = .ok (.ineg, 1) := dk_116 (dk_at dksX9_lay_5 12 rfl rfl)
theorem dX9_lay_133 : decode cX9_lay 133 = .ok (.invokevirtual 59, 3) := dk_182 0 59 (dk_at dksX9_lay_5 13 rfl rfl)
theorem dX9_lay_136 : decode cX9_lay 136 = .ok (.return_, 1) := dk_177 (dk_at dksX9_lay_5 16 rfl rfl)
abbrev cX9_holds : ByteArray := prog_9_method_2_code
def yX9_holds : MethodName := ⟨RX9, "holds", "(LClauseCourt$Truth;)Z"⟩
def dkwX9_holds_1 : List UInt8 := [3, 42, 180, 0, 15, 160, 0, 7, 4, 167, 0, 4, 3, 172]
abbrev dktX9_holds_1 : List UInt8 := dkwX9_holds_1 ++ []
def dkwX9_holds_0 : List UInt8 := [42, 180, 0, 3, 16, 30, 182, 0, 19, 42, 43, 182, 0, 23, 5, 112, 4, 160, 0, 7, 4, 167, 0, 4]
abbrev dktX9_holds_0 : List UInt8 := dkwX9_holds_0 ++ dktX9_holds_1
theorem dksX9_holds_0 : cX9_holds.data.toList.drop 0 = dktX9_holds_0 := by decide +kernel
theorem dksX9_holds_1 : cX9_holds.data.toList.drop 24 = dktX9_holds_1 := dk_seg dksX9_holds_0 24 rfl rfl
theorem dX9_holds_0 : decode cX9_holds 0 = .ok (.aload_n 0, 1) := dk_42 (dk_at dksX9_holds_0 0 rfl rfl)
theorem dX9_holds_1 : decode cX9_holds 1 = .ok (.getfield 3, 3) := dk_180 0 3 (dk_at dksX9_holds_0 1 rfl rfl)
theorem dX9_holds_4 : decode cX9_holds 4 = .ok (.bipush 30, 2) := dk_16 30 (dk_at dksX9_holds_0 4 rfl rfl)
theorem dX9_holds_6 : decode cX9_holds 6 = .ok (.invokevirtual 19, 3) := dk_182 0 19 (dk_at dksX9_holds_0 6 rfl rfl)
theorem dX9_holds_9 : decode cX9_holds 9 = .ok (.aload_n 0, 1) := dk_42 (dk_at dksX9_holds_0 9 rfl rfl)
theorem dX9_holds_10 : decode cX9_holds 10 = .ok (.aload_n 1, 1) := dk_43 (dk_at dksX9_holds_0 10 rfl rfl)
theorem dX9_holds_11 : decode cX9_holds 11 = .ok (.invokevirtual 23, 3) := dk_182 0 23 (dk_at dksX9_holds_0 11 rfl rfl)
theorem dX9_holds_14 : decode cX9_holds 14 = .ok (.iconst 2, 1) := dk_5 (dk_at dksX9_holds_0 14 rfl rfl)
theorem dX9_holds_15 : decode cX9_holds 15 = .ok (.irem, 1) := dk_112 (dk_at dksX9_holds_0 15 rfl rfl)
theorem dX9_holds_16 : decode cX9_holds 16 = .ok (.iconst 1, 1) := dk_4 (dk_at dksX9_holds_0 16 rfl rfl)
theorem dX9_holds_17 : decode cX9_holds 17 = .ok (.if_icmp .ne 7, 3) := dk_160 0 7 (dk_at dksX9_holds_0 17 rfl rfl)
theorem dX9_holds_20 : decode cX9_holds 20 = .ok (.iconst 1, 1) := dk_4 (dk_at dksX9_holds_0 20 rfl rfl)
theorem dX9_holds_21 : decode cX9_holds 21 = .ok (.goto 4, 3) := dk_167 0 4 (dk_at dksX9_holds_0 21 rfl rfl)
theorem dX9_holds_24 : decode cX9_holds 24 = .ok (.iconst 0, 1) := dk_3 (dk_at dksX9_holds_1 0 rfl rfl)
theorem dX9_holds_25 : decode cX9_holds 25 = .ok (.aload_n 0, 1) := dk_42 (dk_at dksX9_holds_1 1 rfl rfl)
theorem dX9_holds_26 : decode cX9_holds 26 = .ok (.getfield 15, 3) := dk_180 0 15 (dk_at dksX9_holds_1 2 rfl rfl)
theorem dX9_holds_29 : decode cX9_holds 29 = .ok (.if_icmp .ne 7, 3) := dk_160 0 7 (dk_at dksX9_holds_1 5 rfl rfl)
theorem dX9_holds_32 : decode cX9_holds 32 = .ok (.iconst 1, 1) := dk_4 (dk_at dksX9_holds_1 8 rfl rfl)
theorem dX9_holds_33 : decode cX9_holds 33 = .ok (.goto 4, 3) := dk_167 0 4 (dk_at dksX9_holds_1 9 rfl rfl)
theorem dX9_holds_36 : decode cX9_holds 36 = .ok (.iconst 0, 1) := dk_3 (dk_at dksX9_holds_1 12 rfl rfl)
theorem dX9_holds_37 : decode cX9_holds 37 = .ok (.ireturn, 1) := dk_172 (dk_at dksX9_holds_1 13 rfl rfl)
abbrev cX9_least : ByteArray := prog_9_method_3_code
def yX9_least : MethodName := ⟨RX9, "least", "()I"⟩
def dkwX9_least_1 : List UInt8 := [3, 96, 172]
abbrev dktX9_least_1 : List UInt8 := dkwX9_least_1 ++ []
def dkwX9_least_0 : List UInt8 := [42, 180, 0, 3, 16, 31, 182, 0, 19, 42, 183, 0, 27, 42, 180, 0, 15, 153, 0, 7, 4, 167, 0, 4]
abbrev dktX9_least_0 : List UInt8 := dkwX9_least_0 ++ dktX9_least_1
theorem dksX9_least_0 : cX9_least.data.toList.drop 0 = dktX9_least_0 := by decide +kernel
theorem dksX9_least_1 : cX9_least.data.toList.drop 24 = dktX9_least_1 := dk_seg dksX9_least_0 24 rfl rfl
theorem dX9_least_0 : decode cX9_least 0 = .ok (.aload_n 0, 1) := dk_42 (dk_at dksX9_least_0 0 rfl rfl)
theorem dX9_least_1 : decode cX9_least 1 = .ok (.getfield 3, 3) := dk_180 0 3 (dk_at dksX9_least_0 1 rfl rfl)
theorem dX9_least_4 : decode cX9_least 4 = .ok (.bipush 31, 2) := dk_16 31 (dk_at dksX9_least_0 4 rfl rfl)
theorem dX9_least_6 : decode cX9_least 6 = .ok (.invokevirtual 19, 3) := dk_182 0 19 (dk_at dksX9_least_0 6 rfl rfl)
theorem dX9_least_9 : decode cX9_least 9 = .ok (.aload_n 0, 1) := dk_42 (dk_at dksX9_least_0 9 rfl rfl)
theorem dX9_least_10 : decode cX9_least 10 = .ok (.invokespecial 27, 3) := dk_183 0 27 (dk_at dksX9_least_0 10 rfl rfl)
theorem dX9_least_13 : decode cX9_least 13 = .ok (.aload_n 0, 1) := dk_42 (dk_at dksX9_least_0 13 rfl rfl)
theorem dX9_least_14 : decode cX9_least 14 = .ok (.getfield 15, 3) := dk_180 0 15 (dk_at dksX9_least_0 14 rfl rfl)
theorem dX9_least_17 : decode cX9_least 17 = .ok (.ifCond .eq 7, 3) := dk_153 0 7 (dk_at dksX9_least_0 17 rfl rfl)
theorem dX9_least_20 : decode cX9_least 20 = .ok (.iconst 1, 1) := dk_4 (dk_at dksX9_least_0 20 rfl rfl)
theorem dX9_least_21 : decode cX9_least 21 = .ok (.goto 4, 3) := dk_167 0 4 (dk_at dksX9_least_0 21 rfl rfl)
theorem dX9_least_24 : decode cX9_least 24 = .ok (.iconst 0, 1) := dk_3 (dk_at dksX9_least_1 0 rfl rfl)
theorem dX9_least_25 : decode cX9_least 25 = .ok (.iadd, 1) := dk_96 (dk_at dksX9_least_1 1 rfl rfl)
theorem dX9_least_26 : decode cX9_least 26 = .ok (.ireturn, 1) := dk_172 (dk_at dksX9_least_1 2 rfl rfl)
abbrev cX9_most : ByteArray := prog_9_method_4_code
def yX9_most : MethodName := ⟨RX9, "most", "()I"⟩
def dkwX9_most_1 : List UInt8 := [167, 0, 4, 3, 42, 180, 0, 15, 160, 0, 7, 27, 167, 0, 6, 27, 4, 100, 172]
abbrev dktX9_most_1 : List UInt8 := dkwX9_most_1 ++ []
def dkwX9_most_0 : List UInt8 := [42, 180, 0, 3, 16, 32, 182, 0, 19, 42, 183, 0, 31, 60, 27, 5, 112, 4, 160, 0, 7, 4]
abbrev dktX9_most_0 : List UInt8 := dkwX9_most_0 ++ dktX9_most_1
theorem dksX9_most_0 : cX9_most.data.toList.drop 0 = dktX9_most_0 := by decide +kernel
theorem dksX9_most_1 : cX9_most.data.toList.drop 22 = dktX9_most_1 := dk_seg dksX9_most_0 22 rfl rfl
theorem dX9_most_0 : decode cX9_most 0 = .ok (.aload_n 0, 1) := dk_42 (dk_at dksX9_most_0 0 rfl rfl)
theorem dX9_most_1 : decode cX9_most 1 = .ok (.getfield 3, 3) := dk_180 0 3 (dk_at dksX9_most_0 1 rfl rfl)
theorem dX9_most_4 : decode cX9_most 4 = .ok (.bipush 32, 2) := dk_16 32 (dk_at dksX9_most_0 4 rfl rfl)
theorem dX9_most_6 : decode cX9_most 6 = .ok (.invokevirtual 19, 3) := dk_182 0 19 (dk_at dksX9_most_0 6 rfl rfl)
theorem dX9_most_9 : decode cX9_most 9 = .ok (.aload_n 0, 1) := dk_42 (dk_at dksX9_most_0 9 rfl rfl)
theorem dX9_most_10 : decode cX9_most 10 = .ok (.invokespecial 31, 3) := dk_183 0 31 (dk_at dksX9_most_0 10 rfl rfl)
theorem dX9_most_13 : decode cX9_most 13 = .ok (.istore_n 1, 1) := dk_60 (dk_at dksX9_most_0 13 rfl rfl)
theorem dX9_most_14 : decode cX9_most 14 = .ok (.iload_n 1, 1) := dk_27 (dk_at dksX9_most_0 14 rfl rfl)
theorem dX9_most_15 : decode cX9_most 15 = .ok (.iconst 2, 1) := dk_5 (dk_at dksX9_most_0 15 rfl rfl)
theorem dX9_most_16 : decode cX9_most 16 = .ok (.irem, 1) := dk_112 (dk_at dksX9_most_0 16 rfl rfl)
theorem dX9_most_17 : decode cX9_most 17 = .ok (.iconst 1, 1) := dk_4 (dk_at dksX9_most_0 17 rfl rfl)
theorem dX9_most_18 : decode cX9_most 18 = .ok (.if_icmp .ne 7, 3) := dk_160 0 7 (dk_at dksX9_most_0 18 rfl rfl)
theorem dX9_most_21 : decode cX9_most 21 = .ok (.iconst 1, 1) := dk_4 (dk_at dksX9_most_0 21 rfl rfl)
theorem dX9_most_22 : decode cX9_most 22 = .ok (.goto 4, 3) := dk_167 0 4 (dk_at dksX9_most_1 0 rfl rfl)
theorem dX9_most_25 : decode cX9_most 25 = .ok (.iconst 0, 1) := dk_3 (dk_at dksX9_most_1 3 rfl rfl)
theorem dX9_most_26 : decode cX9_most 26 = .ok (.aload_n 0, 1) := dk_42 (dk_at dksX9_most_1 4 rfl rfl)
theorem dX9_most_27 : decode cX9_most 27 = .ok (.getfield 15, 3) := dk_180 0 15 (dk_at dksX9_most_1 5 rfl rfl)
theorem dX9_most_30 : decode cX9_most 30 = .ok (.if_icmp .ne 7, 3) := dk_160 0 7 (dk_at dksX9_most_1 8 rfl rfl)
theorem dX9_most_33 : decode cX9_most 33 = .ok (.iload_n 1, 1) := dk_27 (dk_at dksX9_most_1 11 rfl rfl)
theorem dX9_most_34 : decode cX9_most 34 = .ok (.goto 6, 3) := dk_167 0 6 (dk_at dksX9_most_1 12 rfl rfl)
theorem dX9_most_37 : decode cX9_most 37 = .ok (.iload_n 1, 1) := dk_27 (dk_at dksX9_most_1 15 rfl rfl)
theorem dX9_most_38 : decode cX9_most 38 = .ok (.iconst 1, 1) := dk_4 (dk_at dksX9_most_1 16 rfl rfl)
theorem dX9_most_39 : decode cX9_most 39 = .ok (.isub, 1) := dk_100 (dk_at dksX9_most_1 17 rfl rfl)
theorem dX9_most_40 : decode cX9_most 40 = .ok (.ireturn, 1) := dk_172 (dk_at dksX9_most_1 18 rfl rfl)
abbrev cX9_print : ByteArray := prog_9_method_5_code
def yX9_print : MethodName := ⟨RX9, "print", "()V"⟩
def dkwX9_print_1 : List UInt8 := [167, 0, 5, 18, 35, 182, 0, 37, 42, 182, 0, 41, 177]
abbrev dktX9_print_1 : List UInt8 := dkwX9_print_1 ++ []
def dkwX9_print_0 : List UInt8 := [42, 180, 0, 3, 16, 34, 182, 0, 19, 42, 180, 0, 3, 42, 180, 0, 15, 153, 0, 8, 18, 34]
abbrev dktX9_print_0 : List UInt8 := dkwX9_print_0 ++ dktX9_print_1
theorem dksX9_print_0 : cX9_print.data.toList.drop 0 = dktX9_print_0 := by decide +kernel
theorem dksX9_print_1 : cX9_print.data.toList.drop 22 = dktX9_print_1 := dk_seg dksX9_print_0 22 rfl rfl
theorem dX9_print_0 : decode cX9_print 0 = .ok (.aload_n 0, 1) := dk_42 (dk_at dksX9_print_0 0 rfl rfl)
theorem dX9_print_1 : decode cX9_print 1 = .ok (.getfield 3, 3) := dk_180 0 3 (dk_at dksX9_print_0 1 rfl rfl)
theorem dX9_print_4 : decode cX9_print 4 = .ok (.bipush 34, 2) := dk_16 34 (dk_at dksX9_print_0 4 rfl rfl)
theorem dX9_print_6 : decode cX9_print 6 = .ok (.invokevirtual 19, 3) := dk_182 0 19 (dk_at dksX9_print_0 6 rfl rfl)
theorem dX9_print_9 : decode cX9_print 9 = .ok (.aload_n 0, 1) := dk_42 (dk_at dksX9_print_0 9 rfl rfl)
theorem dX9_print_10 : decode cX9_print 10 = .ok (.getfield 3, 3) := dk_180 0 3 (dk_at dksX9_print_0 10 rfl rfl)
theorem dX9_print_13 : decode cX9_print 13 = .ok (.aload_n 0, 1) := dk_42 (dk_at dksX9_print_0 13 rfl rfl)
theorem dX9_print_14 : decode cX9_print 14 = .ok (.getfield 15, 3) := dk_180 0 15 (dk_at dksX9_print_0 14 rfl rfl)
theorem dX9_print_17 : decode cX9_print 17 = .ok (.ifCond .eq 8, 3) := dk_153 0 8 (dk_at dksX9_print_0 17 rfl rfl)
theorem dX9_print_20 : decode cX9_print 20 = .ok (.ldc 34, 2) := dk_18 34 (dk_at dksX9_print_0 20 rfl rfl)
theorem dX9_print_22 : decode cX9_print 22 = .ok (.goto 5, 3) := dk_167 0 5 (dk_at dksX9_print_1 0 rfl rfl)
theorem dX9_print_25 : decode cX9_print 25 = .ok (.ldc 35, 2) := dk_18 35 (dk_at dksX9_print_1 3 rfl rfl)
theorem dX9_print_27 : decode cX9_print 27 = .ok (.invokevirtual 37, 3) := dk_182 0 37 (dk_at dksX9_print_1 5 rfl rfl)
theorem dX9_print_30 : decode cX9_print 30 = .ok (.aload_n 0, 1) := dk_42 (dk_at dksX9_print_1 8 rfl rfl)
theorem dX9_print_31 : decode cX9_print 31 = .ok (.invokevirtual 41, 3) := dk_182 0 41 (dk_at dksX9_print_1 9 rfl rfl)
theorem dX9_print_34 : decode cX9_print 34 = .ok (.return_, 1) := dk_177 (dk_at dksX9_print_1 12 rfl rfl)
theorem q176 : (Jvm.Cond.initialized "ClauseCourt$Parity") ∈ lw_all := lw_g (lw_at lw_m1 20 rfl) rfl
theorem q825 : (Jvm.Cond.fieldLink "ClauseCourt$Parity" (45 : Nat) "ClauseCourt$Parity" "items" "[I") ∈ lw_all := lw_g (lw_at lw_m3 189 rfl) rfl
theorem q826 : (Jvm.Cond.sameField "ClauseCourt$Parity" "ClauseCourt$Rule" "items" "[I") ∈ lw_all := lw_g (lw_at lw_m3 190 rfl) rfl
theorem q887 : (Jvm.Cond.instantiable "ClauseCourt$Parity" (7 : Nat)) ∈ lw_all := lw_g (lw_at lw_m4 11 rfl) rfl
theorem q889 : (Jvm.Cond.instanceMethod ({ cls := "ClauseCourt$Parity", name := "<init>", desc := "(LClauseCourt;[IZ)V" } : Jvm.MethodName)) ∈ lw_all := lw_g (lw_at lw_m4 13 rfl) rfl
theorem q890 : (Jvm.Cond.code ({ cls := "ClauseCourt$Parity", name := "<init>", desc := "(LClauseCourt;[IZ)V" } : Jvm.MethodName) prog_9_method_1_code (4 : Nat) (Option.none : Option Jvm.ClassFile.FieldType)) ∈ lw_all := lw_g (lw_at lw_m4 14 rfl) rfl
theorem q891 : (Jvm.Cond.methodLink "ClauseCourt$Parity" (9 : Nat) ({ cls := "ClauseCourt$Rule", name := "<init>", desc := "(LClauseCourt;I[I)V" } : Jvm.MethodName)) ∈ lw_all := lw_g (lw_at lw_m4 15 rfl) rfl
theorem q892 : (Jvm.Cond.fieldLink "ClauseCourt$Parity" (15 : Nat) "ClauseCourt$Parity" "odd" "Z") ∈ lw_all := lw_g (lw_at lw_m4 16 rfl) rfl
theorem q893 : (Jvm.Cond.fieldLink "ClauseCourt$Parity" (3 : Nat) "ClauseCourt$Parity" "this$0" "LClauseCourt;") ∈ lw_all := lw_g (lw_at lw_m4 17 rfl) rfl
theorem q894 : (Jvm.Cond.laysFinal "ClauseCourt$Parity" "ClauseCourt$Parity" "odd" "Z") ∈ lw_all := lw_g (lw_at lw_m4 18 rfl) rfl
theorem q895 : (Jvm.Cond.soleField "ClauseCourt$Parity" "odd") ∈ lw_all := lw_g (lw_at lw_m4 19 rfl) rfl
theorem q896 : (Jvm.Cond.laysFinal "ClauseCourt$Parity" "ClauseCourt$Parity" "this$0" "LClauseCourt;") ∈ lw_all := lw_g (lw_at lw_m4 20 rfl) rfl
theorem q897 : (Jvm.Cond.soleField "ClauseCourt$Parity" "this$0") ∈ lw_all := lw_g (lw_at lw_m4 21 rfl) rfl
theorem q898 : (Jvm.Cond.laysFinal "ClauseCourt$Parity" "ClauseCourt$Rule" "kind" "I") ∈ lw_all := lw_g (lw_at lw_m4 22 rfl) rfl
theorem q899 : (Jvm.Cond.laysFinal "ClauseCourt$Parity" "ClauseCourt$Rule" "items" "[I") ∈ lw_all := lw_g (lw_at lw_m4 23 rfl) rfl
theorem q900 : (Jvm.Cond.lays "ClauseCourt$Parity" "ClauseCourt$Rule" "first" "I") ∈ lw_all := lw_g (lw_at lw_m4 24 rfl) rfl
theorem q901 : (Jvm.Cond.lays "ClauseCourt$Parity" "ClauseCourt$Rule" "many" "I") ∈ lw_all := lw_g (lw_at lw_m4 25 rfl) rfl
theorem q902 : (Jvm.Cond.laysFinal "ClauseCourt$Parity" "ClauseCourt$Rule" "this$0" "LClauseCourt;") ∈ lw_all := lw_g (lw_at lw_m4 26 rfl) rfl
theorem q903 : (Jvm.Cond.superclass "ClauseCourt$Parity" "ClauseCourt$Rule") ∈ lw_all := lw_g (lw_at lw_m4 27 rfl) rfl
theorem q971 : (Jvm.Cond.selects "ClauseCourt$Parity" ({ cls := "ClauseCourt$Rule", name := "lay", desc := "()V" } : Jvm.MethodName) ({ cls := "ClauseCourt$Parity", name := "lay", desc := "()V" } : Jvm.MethodName)) ∈ lw_all := lw_g (lw_at lw_m4 95 rfl) rfl
theorem q972 : (Jvm.Cond.instanceMethod ({ cls := "ClauseCourt$Parity", name := "lay", desc := "()V" } : Jvm.MethodName)) ∈ lw_all := lw_g (lw_at lw_m4 96 rfl) rfl
theorem q973 : (Jvm.Cond.code ({ cls := "ClauseCourt$Parity", name := "lay", desc := "()V" } : Jvm.MethodName) prog_9_method_6_code (5 : Nat) (Option.none : Option Jvm.ClassFile.FieldType)) ∈ lw_all := lw_g (lw_at lw_m4 97 rfl) rfl
theorem q974 : (Jvm.Cond.methodLinkNest "ClauseCourt$Parity" (49 : Nat) ({ cls := "ClauseCourt", name := "endRow", desc := "()V" } : Jvm.MethodName) "ClauseCourt") ∈ lw_tbl := lw_at lw_m4 98 rfl
theorem q975 : (Jvm.Cond.methodLinkNest "ClauseCourt$Parity" (52 : Nat) ({ cls := "ClauseCourt", name := "newName", desc := "()I" } : Jvm.MethodName) "ClauseCourt") ∈ lw_tbl := lw_at lw_m4 99 rfl
theorem q976 : (Jvm.Cond.methodLinkNest "ClauseCourt$Parity" (55 : Nat) ({ cls := "ClauseCourt", name := "plan", desc := "(III)V" } : Jvm.MethodName) "ClauseCourt") ∈ lw_tbl := lw_at lw_m4 100 rfl
theorem q977 : (Jvm.Cond.methodLinkNest "ClauseCourt$Parity" (59 : Nat) ({ cls := "ClauseCourt", name := "plan", desc := "(I)V" } : Jvm.MethodName) "ClauseCourt") ∈ lw_tbl := lw_at lw_m4 101 rfl
theorem q1236 : (Jvm.Cond.selects "ClauseCourt$Parity" ({ cls := "ClauseCourt$Rule", name := "holds", desc := "(LClauseCourt$Truth;)Z" } : Jvm.MethodName) ({ cls := "ClauseCourt$Parity", name := "holds", desc := "(LClauseCourt$Truth;)Z" } : Jvm.MethodName)) ∈ lw_all := lw_g (lw_at lw_m5 120 rfl) rfl
theorem q1237 : (Jvm.Cond.instanceMethod ({ cls := "ClauseCourt$Parity", name := "holds", desc := "(LClauseCourt$Truth;)Z" } : Jvm.MethodName)) ∈ lw_all := lw_g (lw_at lw_m5 121 rfl) rfl
theorem q1238 : (Jvm.Cond.code ({ cls := "ClauseCourt$Parity", name := "holds", desc := "(LClauseCourt$Truth;)Z" } : Jvm.MethodName) prog_9_method_2_code (2 : Nat) (Option.some Jvm.ClassFile.FieldType.boolean)) ∈ lw_all := lw_g (lw_at lw_m5 122 rfl) rfl
theorem q1239 : (Jvm.Cond.methodLinkNest "ClauseCourt$Parity" (19 : Nat) ({ cls := "ClauseCourt", name := "body", desc := "(I)V" } : Jvm.MethodName) "ClauseCourt") ∈ lw_tbl := lw_at lw_m5 123 rfl
theorem q1240 : (Jvm.Cond.methodLink "ClauseCourt$Parity" (23 : Nat) ({ cls := "ClauseCourt$Parity", name := "trues", desc := "(LClauseCourt$Truth;)I" } : Jvm.MethodName)) ∈ lw_all := lw_g (lw_at lw_m5 124 rfl) rfl
theorem q1241 : (Jvm.Cond.sameMethod "ClauseCourt$Parity" "ClauseCourt$Rule" "trues" "(LClauseCourt$Truth;)I") ∈ lw_all := lw_g (lw_at lw_m5 125 rfl) rfl
theorem q1242 : (Jvm.Cond.selects "ClauseCourt$Parity" ({ cls := "ClauseCourt$Parity", name := "trues", desc := "(LClauseCourt$Truth;)I" } : Jvm.MethodName) ({ cls := "ClauseCourt$Rule", name := "trues", desc := "(LClauseCourt$Truth;)I" } : Jvm.MethodName)) ∈ lw_all := lw_g (lw_at lw_m5 126 rfl) rfl
theorem q1266 : (Jvm.Cond.selects "ClauseCourt$Parity" ({ cls := "ClauseCourt$Rule", name := "least", desc := "()I" } : Jvm.MethodName) ({ cls := "ClauseCourt$Parity", name := "least", desc := "()I" } : Jvm.MethodName)) ∈ lw_all := lw_g (lw_at lw_m5 150 rfl) rfl
theorem q1267 : (Jvm.Cond.instanceMethod ({ cls := "ClauseCourt$Parity", name := "least", desc := "()I" } : Jvm.MethodName)) ∈ lw_all := lw_g (lw_at lw_m5 151 rfl) rfl
theorem q1268 : (Jvm.Cond.code ({ cls := "ClauseCourt$Parity", name := "least", desc := "()I" } : Jvm.MethodName) prog_9_method_3_code (1 : Nat) (Option.some Jvm.ClassFile.FieldType.int)) ∈ lw_all := lw_g (lw_at lw_m5 152 rfl) rfl
theorem q1269 : (Jvm.Cond.methodLink "ClauseCourt$Parity" (27 : Nat) ({ cls := "ClauseCourt$Rule", name := "least", desc := "()I" } : Jvm.MethodName)) ∈ lw_all := lw_g (lw_at lw_m5 153 rfl) rfl
theorem q1284 : (Jvm.Cond.selects "ClauseCourt$Parity" ({ cls := "ClauseCourt$Rule", name := "most", desc := "()I" } : Jvm.MethodName) ({ cls := "ClauseCourt$Parity", name := "most", desc := "()I" } : Jvm.MethodName)) ∈ lw_all := lw_g (lw_at lw_m5 168 rfl) rfl
theorem q1285 : (Jvm.Cond.instanceMethod ({ cls := "ClauseCourt$Parity", name := "most", desc := "()I" } : Jvm.MethodName)) ∈ lw_all := lw_g (lw_at lw_m5 169 rfl) rfl
theorem q1286 : (Jvm.Cond.code ({ cls := "ClauseCourt$Parity", name := "most", desc := "()I" } : Jvm.MethodName) prog_9_method_4_code (2 : Nat) (Option.some Jvm.ClassFile.FieldType.int)) ∈ lw_all := lw_g (lw_at lw_m5 170 rfl) rfl
theorem q1287 : (Jvm.Cond.methodLink "ClauseCourt$Parity" (31 : Nat) ({ cls := "ClauseCourt$Rule", name := "most", desc := "()I" } : Jvm.MethodName)) ∈ lw_all := lw_g (lw_at lw_m5 171 rfl) rfl
theorem q1298 : (Jvm.Cond.selects "ClauseCourt$Parity" ({ cls := "ClauseCourt$Rule", name := "laid", desc := "()I" } : Jvm.MethodName) ({ cls := "ClauseCourt$Rule", name := "laid", desc := "()I" } : Jvm.MethodName)) ∈ lw_all := lw_g (lw_at lw_m5 182 rfl) rfl
theorem q1403 : (Jvm.Cond.castable "ClauseCourt$Parity" "ClauseCourt$Prints") ∈ lw_tbl := lw_at lw_m6 47 rfl
theorem q1404 : (Jvm.Cond.selects "ClauseCourt$Parity" ({ cls := "ClauseCourt$Prints", name := "court", desc := "()LClauseCourt;" } : Jvm.MethodName) ({ cls := "ClauseCourt$Rule", name := "court", desc := "()LClauseCourt;" } : Jvm.MethodName)) ∈ lw_all := lw_g (lw_at lw_m6 48 rfl) rfl
theorem q1405 : (Jvm.Cond.unhidden "ClauseCourt$Parity" "court" "()LClauseCourt;") ∈ lw_tbl := lw_at lw_m6 49 rfl
theorem q1424 : (Jvm.Cond.selects "ClauseCourt$Parity" ({ cls := "ClauseCourt$Prints", name := "size", desc := "()I" } : Jvm.MethodName) ({ cls := "ClauseCourt$Rule", name := "size", desc := "()I" } : Jvm.MethodName)) ∈ lw_all := lw_g (lw_at lw_m6 68 rfl) rfl
theorem q1425 : (Jvm.Cond.unhidden "ClauseCourt$Parity" "size" "()I") ∈ lw_tbl := lw_at lw_m6 69 rfl
theorem q1441 : (Jvm.Cond.selects "ClauseCourt$Parity" ({ cls := "ClauseCourt$Prints", name := "at", desc := "(I)I" } : Jvm.MethodName) ({ cls := "ClauseCourt$Rule", name := "at", desc := "(I)I" } : Jvm.MethodName)) ∈ lw_all := lw_g (lw_at lw_m6 85 rfl) rfl
theorem q1442 : (Jvm.Cond.unhidden "ClauseCourt$Parity" "at" "(I)I") ∈ lw_tbl := lw_at lw_m6 86 rfl
theorem q1448 : (Jvm.Cond.unhidden "ClauseCourt$Parity" "list" "()V") ∈ lw_tbl := lw_at lw_m6 92 rfl
theorem q1467 : (Jvm.Cond.selects "ClauseCourt$Parity" ({ cls := "ClauseCourt$Rule", name := "print", desc := "()V" } : Jvm.MethodName) ({ cls := "ClauseCourt$Parity", name := "print", desc := "()V" } : Jvm.MethodName)) ∈ lw_all := lw_g (lw_at lw_m6 111 rfl) rfl
theorem q1468 : (Jvm.Cond.instanceMethod ({ cls := "ClauseCourt$Parity", name := "print", desc := "()V" } : Jvm.MethodName)) ∈ lw_all := lw_g (lw_at lw_m6 112 rfl) rfl
theorem q1469 : (Jvm.Cond.code ({ cls := "ClauseCourt$Parity", name := "print", desc := "()V" } : Jvm.MethodName) prog_9_method_5_code (1 : Nat) (Option.none : Option Jvm.ClassFile.FieldType)) ∈ lw_all := lw_g (lw_at lw_m6 113 rfl) rfl
theorem q1470 : (Jvm.Cond.stringRef "ClauseCourt$Parity" (34 : Nat) "odd") ∈ lw_tbl := lw_at lw_m6 114 rfl
theorem q1471 : (Jvm.Cond.stringRef "ClauseCourt$Parity" (35 : Nat) "even") ∈ lw_tbl := lw_at lw_m6 115 rfl
theorem q1472 : (Jvm.Cond.methodLinkNest "ClauseCourt$Parity" (37 : Nat) ({ cls := "ClauseCourt", name := "say", desc := "(Ljava/lang/String;)V" } : Jvm.MethodName) "ClauseCourt") ∈ lw_tbl := lw_at lw_m6 116 rfl
theorem q1473 : (Jvm.Cond.methodLink "ClauseCourt$Parity" (41 : Nat) ({ cls := "ClauseCourt$Parity", name := "sayList", desc := "()V" } : Jvm.MethodName)) ∈ lw_all := lw_g (lw_at lw_m6 117 rfl) rfl
theorem q1474 : (Jvm.Cond.sameMethod "ClauseCourt$Parity" "ClauseCourt$Rule" "sayList" "()V") ∈ lw_all := lw_g (lw_at lw_m6 118 rfl) rfl
theorem q1475 : (Jvm.Cond.selects "ClauseCourt$Parity" ({ cls := "ClauseCourt$Parity", name := "sayList", desc := "()V" } : Jvm.MethodName) ({ cls := "ClauseCourt$Rule", name := "sayList", desc := "()V" } : Jvm.MethodName)) ∈ lw_all := lw_g (lw_at lw_m6 119 rfl) rfl
theorem q2792 : (Jvm.Cond.castable "ClauseCourt$Parity" "ClauseCourt$Rule") ∈ lw_tbl := lw_at lw_m11 236 rfl
theorem in_X9 : ∀ w ∈ wsX90, w ∈ lw_all := lw_in wsX90 [898, 899, 900, 901, 902, 894, 896] (by decide +kernel) (by decide +kernel)

/-! ClauseCourt$Reader -/
set_option maxRecDepth 100000
def RX10 : String := "ClauseCourt$Reader"
def TX10 : u_T := fun k => match k with
  | 0 => ("ClauseCourt$Reader", "text", "[B", true)
  | 1 => ("ClauseCourt$Reader", "at", "I", false)
  | 2 => ("ClauseCourt$Reader", "open", "I", false)
  | 3 => ("ClauseCourt$Reader", "numbers", "I", false)
  | _ => ("ClauseCourt$Reader", "number", "[I", true)
def tyX10 : Nat → FieldType := fun k => match k with
  | 0 => .array .byte
  | 1 => .int
  | 2 => .int
  | 3 => .int
  | _ => .array .int
abbrev wsX100 : List Cond := u_ws RX10 TX10 5
theorem nmX10 : ∀ a, a < 5 → ∀ b, b < 5 → a ≠ b → (TX10 a).2.1 ≠ (TX10 b).2.1 := by decide +kernel
theorem tyX10_ok : ∀ k, k < 5 → parseFieldDescriptor (TX10 k).2.2.1 = some (tyX10 k) := by decide +kernel
abbrev cX10_init : ByteArray := prog_12_method_1_code
def yX10_init : MethodName := ⟨RX10, "<init>", "([B)V"⟩
def dkwX10_init_0 : List UInt8 := [42, 183, 0, 3, 42, 16, 60, 188, 10, 181, 0, 9, 42, 43, 181, 0, 15, 177]
abbrev dktX10_init_0 : List UInt8 := dkwX10_init_0 ++ []
theorem dksX10_init_0 : cX10_init.data.toList.drop 0 = dktX10_init_0 := by decide +kernel
theorem dX10_init_0 : decode cX10_init 0 = .ok (.aload_n 0, 1) := dk_42 (dk_at dksX10_init_0 0 rfl rfl)
theorem dX10_init_1 : decode cX10_init 1 = .ok (.invokespecial 3, 3) := dk_183 0 3 (dk_at dksX10_init_0 1 rfl rfl)
theorem dX10_init_4 : decode cX10_init 4 = .ok (.aload_n 0, 1) := dk_42 (dk_at dksX10_init_0 4 rfl rfl)
theorem dX10_init_5 : decode cX10_init 5 = .ok (.bipush 60, 2) := dk_16 60 (dk_at dksX10_init_0 5 rfl rfl)
theorem dX10_init_7 : decode cX10_init 7 = .ok (.newarray .int, 2) := dk_188_10 (dk_at dksX10_init_0 7 rfl rfl)
theorem dX10_init_9 : decode cX10_init 9 = .ok (.putfield 9, 3) := dk_181 0 9 (dk_at dksX10_init_0 9 rfl rfl)
theorem dX10_init_12 : decode cX10_init 12 = .ok (.aload_n 0, 1) := dk_42 (dk_at dksX10_init_0 12 rfl rfl)
theorem dX10_init_13 : decode cX10_init 13 = .ok (.aload_n 1, 1) := dk_43 (dk_at dksX10_init_0 13 rfl rfl)
theorem dX10_init_14 : decode cX10_init 14 = .ok (.putfield 15, 3) := dk_181 0 15 (dk_at dksX10_init_0 14 rfl rfl)
theorem dX10_init_17 : decode cX10_init 17 = .ok (.return_, 1) := dk_177 (dk_at dksX10_init_0 17 rfl rfl)
abbrev cX10_whole : ByteArray := prog_12_method_8_code
def yX10_whole : MethodName := ⟨RX10, "whole", "()LClauseCourt$Part;"⟩
def dkwX10_whole_1 : List UInt8 := [180, 0, 19, 183, 0, 25, 191, 43, 176]
abbrev dktX10_whole_1 : List UInt8 := dkwX10_whole_1 ++ []
def dkwX10_whole_0 : List UInt8 := [42, 182, 0, 55, 76, 42, 180, 0, 19, 42, 180, 0, 15, 190, 162, 0, 15, 187, 0, 23, 89, 42]
abbrev dktX10_whole_0 : List UInt8 := dkwX10_whole_0 ++ dktX10_whole_1
theorem dksX10_whole_0 : cX10_whole.data.toList.drop 0 = dktX10_whole_0 := by decide +kernel
theorem dksX10_whole_1 : cX10_whole.data.toList.drop 22 = dktX10_whole_1 := dk_seg dksX10_whole_0 22 rfl rfl
theorem dX10_whole_0 : decode cX10_whole 0 = .ok (.aload_n 0, 1) := dk_42 (dk_at dksX10_whole_0 0 rfl rfl)
theorem dX10_whole_1 : decode cX10_whole 1 = .ok (.invokevirtual 55, 3) := dk_182 0 55 (dk_at dksX10_whole_0 1 rfl rfl)
theorem dX10_whole_4 : decode cX10_whole 4 = .ok (.astore_n 1, 1) := dk_76 (dk_at dksX10_whole_0 4 rfl rfl)
theorem dX10_whole_5 : decode cX10_whole 5 = .ok (.aload_n 0, 1) := dk_42 (dk_at dksX10_whole_0 5 rfl rfl)
theorem dX10_whole_6 : decode cX10_whole 6 = .ok (.getfield 19, 3) := dk_180 0 19 (dk_at dksX10_whole_0 6 rfl rfl)
theorem dX10_whole_9 : decode cX10_whole 9 = .ok (.aload_n 0, 1) := dk_42 (dk_at dksX10_whole_0 9 rfl rfl)
theorem dX10_whole_10 : decode cX10_whole 10 = .ok (.getfield 15, 3) := dk_180 0 15 (dk_at dksX10_whole_0 10 rfl rfl)
theorem dX10_whole_13 : decode cX10_whole 13 = .ok (.arraylength, 1) := dk_190 (dk_at dksX10_whole_0 13 rfl rfl)
theorem dX10_whole_14 : decode cX10_whole 14 = .ok (.if_icmp .ge 15, 3) := dk_162 0 15 (dk_at dksX10_whole_0 14 rfl rfl)
theorem dX10_whole_17 : decode cX10_whole 17 = .ok (.new 23, 3) := dk_187 0 23 (dk_at dksX10_whole_0 17 rfl rfl)
theorem dX10_whole_20 : decode cX10_whole 20 = .ok (.dup, 1) := dk_89 (dk_at dksX10_whole_0 20 rfl rfl)
theorem dX10_whole_21 : decode cX10_whole 21 = .ok (.aload_n 0, 1) := dk_42 (dk_at dksX10_whole_0 21 rfl rfl)
theorem dX10_whole_22 : decode cX10_whole 22 = .ok (.getfield 19, 3) := dk_180 0 19 (dk_at dksX10_whole_1 0 rfl rfl)
theorem dX10_whole_25 : decode cX10_whole 25 = .ok (.invokespecial 25, 3) := dk_183 0 25 (dk_at dksX10_whole_1 3 rfl rfl)
theorem dX10_whole_28 : decode cX10_whole 28 = .ok (.athrow, 1) := dk_191 (dk_at dksX10_whole_1 6 rfl rfl)
theorem dX10_whole_29 : decode cX10_whole 29 = .ok (.aload_n 1, 1) := dk_43 (dk_at dksX10_whole_1 7 rfl rfl)
theorem dX10_whole_30 : decode cX10_whole 30 = .ok (.areturn, 1) := dk_176 (dk_at dksX10_whole_1 8 rfl rfl)
abbrev cX10_part : ByteArray := prog_12_method_7_code
def yX10_part : MethodName := ⟨RX10, "part", "()LClauseCourt$Part;"⟩
def dkwX10_part_3 : List UInt8 := [27, 16, 106, 160, 0, 11, 42, 27, 182, 0, 62, 167, 0, 7, 42, 182, 0, 66, 176]
abbrev dktX10_part_3 : List UInt8 := dkwX10_part_3 ++ []
def dkwX10_part_2 : List UInt8 := [182, 0, 55, 83, 44, 176, 27, 16, 38, 159, 0, 21, 27, 16, 124, 159, 0, 15, 27, 16, 62, 159, 0, 9]
abbrev dktX10_part_2 : List UInt8 := dkwX10_part_2 ++ dktX10_part_3
def dkwX10_part_1 : List UInt8 := [89, 27, 4, 183, 0, 33, 77, 44, 180, 0, 51, 44, 89, 180, 0, 48, 90, 4, 96, 181, 0, 48, 42]
abbrev dktX10_part_1 : List UInt8 := dkwX10_part_1 ++ dktX10_part_2
def dkwX10_part_0 : List UInt8 := [42, 182, 0, 58, 60, 27, 16, 33, 160, 0, 45, 42, 89, 180, 0, 19, 4, 96, 181, 0, 19, 187, 0, 31]
abbrev dktX10_part_0 : List UInt8 := dkwX10_part_0 ++ dktX10_part_1
theorem dksX10_part_0 : cX10_part.data.toList.drop 0 = dktX10_part_0 := by decide +kernel
theorem dksX10_part_1 : cX10_part.data.toList.drop 24 = dktX10_part_1 := dk_seg dksX10_part_0 24 rfl rfl
theorem dksX10_part_2 : cX10_part.data.toList.drop 47 = dktX10_part_2 := dk_seg dksX10_part_1 23 rfl rfl
theorem dksX10_part_3 : cX10_part.data.toList.drop 71 = dktX10_part_3 := dk_seg dksX10_part_2 24 rfl rfl
theorem dX10_part_0 : decode cX10_part 0 = .ok (.aload_n 0, 1) := dk_42 (dk_at dksX10_part_0 0 rfl rfl)
theorem dX10_part_1 : decode cX10_part 1 = .ok (.invokevirtual 58, 3) := dk_182 0 58 (dk_at dksX10_part_0 1 rfl rfl)
theorem dX10_part_4 : decode cX10_part 4 = .ok (.istore_n 1, 1) := dk_60 (dk_at dksX10_part_0 4 rfl rfl)
theorem dX10_part_5 : decode cX10_part 5 = .ok (.iload_n 1, 1) := dk_27 (dk_at dksX10_part_0 5 rfl rfl)
theorem dX10_part_6 : decode cX10_part 6 = .ok (.bipush 33, 2) := dk_16 33 (dk_at dksX10_part_0 6 rfl rfl)
theorem dX10_part_8 : decode cX10_part 8 = .ok (.if_icmp .ne 45, 3) := dk_160 0 45 (dk_at dksX10_part_0 8 rfl rfl)
theorem dX10_part_11 : decode cX10_part 11 = .ok (.aload_n 0, 1) := dk_42 (dk_at dksX10_part_0 11 rfl rfl)
theorem dX10_part_12 : decode cX10_part 12 = .ok (.dup, 1) := dk_89 (dk_at dksX10_part_0 12 rfl rfl)
theorem dX10_part_13 : decode cX10_part 13 = .ok (.getfield 19, 3) := dk_180 0 19 (dk_at dksX10_part_0 13 rfl rfl)
theorem dX10_part_16 : decode cX10_part 16 = .ok (.iconst 1, 1) := dk_4 (dk_at dksX10_part_0 16 rfl rfl)
theorem dX10_part_17 : decode cX10_part 17 = .ok (.iadd, 1) := dk_96 (dk_at dksX10_part_0 17 rfl rfl)
theorem dX10_part_18 : decode cX10_part 18 = .ok (.putfield 19, 3) := dk_181 0 19 (dk_at dksX10_part_0 18 rfl rfl)
theorem dX10_part_21 : decode cX10_part 21 = .ok (.new 31, 3) := dk_187 0 31 (dk_at dksX10_part_0 21 rfl rfl)
theorem dX10_part_24 : decode cX10_part 24 = .ok (.dup, 1) := dk_89 (dk_at dksX10_part_1 0 rfl rfl)
theorem dX10_part_25 : decode cX10_part 25 = .ok (.iload_n 1, 1) := dk_27 (dk_at dksX10_part_1 1 rfl rfl)
theorem dX10_part_26 : decode cX10_part 26 = .ok (.iconst 1, 1) := dk_4 (dk_at dksX10_part_1 2 rfl rfl)
theorem dX10_part_27 : decode cX10_part 27 = .ok (.invokespecial 33, 3) := dk_183 0 33 (dk_at dksX10_part_1 3 rfl rfl)
theorem dX10_part_30 : decode cX10_part 30 = .ok (.astore_n 2, 1) := dk_77 (dk_at dksX10_part_1 6 rfl rfl)
theorem dX10_part_31 : decode cX10_part 31 = .ok (.aload_n 2, 1) := dk_44 (dk_at dksX10_part_1 7 rfl rfl)
theorem dX10_part_32 : decode cX10_part 32 = .ok (.getfield 51, 3) := dk_180 0 51 (dk_at dksX10_part_1 8 rfl rfl)
theorem dX10_part_35 : decode cX10_part 35 = .ok (.aload_n 2, 1) := dk_44 (dk_at dksX10_part_1 11 rfl rfl)
theorem dX10_part_36 : decode cX10_part 36 = .ok (.dup, 1) := dk_89 (dk_at dksX10_part_1 12 rfl rfl)
theorem dX10_part_37 : decode cX10_part 37 = .ok (.getfield 48, 3) := dk_180 0 48 (dk_at dksX10_part_1 13 rfl rfl)
theorem dX10_part_40 : decode cX10_part 40 = .ok (.dup_x1, 1) := dk_90 (dk_at dksX10_part_1 16 rfl rfl)
theorem dX10_part_41 : decode cX10_part 41 = .ok (.iconst 1, 1) := dk_4 (dk_at dksX10_part_1 17 rfl rfl)
theorem dX10_part_42 : decode cX10_part 42 = .ok (.iadd, 1) := dk_96 (dk_at dksX10_part_1 18 rfl rfl)
theorem dX10_part_43 : decode cX10_part 43 = .ok (.putfield 48, 3) := dk_181 0 48 (dk_at dksX10_part_1 19 rfl rfl)
theorem dX10_part_46 : decode cX10_part 46 = .ok (.aload_n 0, 1) := dk_42 (dk_at dksX10_part_1 22 rfl rfl)
theorem dX10_part_47 : decode cX10_part 47 = .ok (.invokevirtual 55, 3) := dk_182 0 55 (dk_at dksX10_part_2 0 rfl rfl)
theorem dX10_part_50 : decode cX10_part 50 = .ok (.aastore, 1) := dk_83 (dk_at dksX10_part_2 3 rfl rfl)
theorem dX10_part_51 : decode cX10_part 51 = .ok (.aload_n 2, 1) := dk_44 (dk_at dksX10_part_2 4 rfl rfl)
theorem dX10_part_52 : decode cX10_part 52 = .ok (.areturn, 1) := dk_176 (dk_at dksX10_part_2 5 rfl rfl)
theorem dX10_part_53 : decode cX10_part 53 = .ok (.iload_n 1, 1) := dk_27 (dk_at dksX10_part_2 6 rfl rfl)
theorem dX10_part_54 : decode cX10_part 54 = .ok (.bipush 38, 2) := dk_16 38 (dk_at dksX10_part_2 7 rfl rfl)
theorem dX10_part_56 : decode cX10_part 56 = .ok (.if_icmp .eq 21, 3) := dk_159 0 21 (dk_at dksX10_part_2 9 rfl rfl)
theorem dX10_part_59 : decode cX10_part 59 = .ok (.iload_n 1, 1) := dk_27 (dk_at dksX10_part_2 12 rfl rfl)
theorem dX10_part_60 : decode cX10_part 60 = .ok (.bipush 124, 2) := dk_16 124 (dk_at dksX10_part_2 13 rfl rfl)
theorem dX10_part_62 : decode cX10_part 62 = .ok (.if_icmp .eq 15, 3) := dk_159 0 15 (dk_at dksX10_part_2 15 rfl rfl)
theorem dX10_part_65 : decode cX10_part 65 = .ok (.iload_n 1, 1) := dk_27 (dk_at dksX10_part_2 18 rfl rfl)
theorem dX10_part_66 : decode cX10_part 66 = .ok (.bipush 62, 2) := dk_16 62 (dk_at dksX10_part_2 19 rfl rfl)
theorem dX10_part_68 : decode cX10_part 68 = .ok (.if_icmp .eq 9, 3) := dk_159 0 9 (dk_at dksX10_part_2 21 rfl rfl)
theorem dX10_part_71 : decode cX10_part 71 = .ok (.iload_n 1, 1) := dk_27 (dk_at dksX10_part_3 0 rfl rfl)
theorem dX10_part_72 : decode cX10_part 72 = .ok (.bipush 106, 2) := dk_16 106 (dk_at dksX10_part_3 1 rfl rfl)
theorem dX10_part_74 : decode cX10_part 74 = .ok (.if_icmp .ne 11, 3) := dk_160 0 11 (dk_at dksX10_part_3 3 rfl rfl)
theorem dX10_part_77 : decode cX10_part 77 = .ok (.aload_n 0, 1) := dk_42 (dk_at dksX10_part_3 6 rfl rfl)
theorem dX10_part_78 : decode cX10_part 78 = .ok (.iload_n 1, 1) := dk_27 (dk_at dksX10_part_3 7 rfl rfl)
theorem dX10_part_79 : decode cX10_part 79 = .ok (.invokevirtual 62, 3) := dk_182 0 62 (dk_at dksX10_part_3 8 rfl rfl)
theorem dX10_part_82 : decode cX10_part 82 = .ok (.goto 7, 3) := dk_167 0 7 (dk_at dksX10_part_3 11 rfl rfl)
theorem dX10_part_85 : decode cX10_part 85 = .ok (.aload_n 0, 1) := dk_42 (dk_at dksX10_part_3 14 rfl rfl)
theorem dX10_part_86 : decode cX10_part 86 = .ok (.invokevirtual 66, 3) := dk_182 0 66 (dk_at dksX10_part_3 15 rfl rfl)
theorem dX10_part_89 : decode cX10_part 89 = .ok (.areturn, 1) := dk_176 (dk_at dksX10_part_3 18 rfl rfl)
abbrev cX10_here : ByteArray := prog_12_method_2_code
def yX10_here : MethodName := ⟨RX10, "here", "()I"⟩
def dkwX10_here_1 : List UInt8 := [3, 172]
abbrev dktX10_here_1 : List UInt8 := dkwX10_here_1 ++ []
def dkwX10_here_0 : List UInt8 := [42, 180, 0, 19, 42, 180, 0, 15, 190, 162, 0, 15, 42, 180, 0, 15, 42, 180, 0, 19, 51, 167, 0, 4]
abbrev dktX10_here_0 : List UInt8 := dkwX10_here_0 ++ dktX10_here_1
theorem dksX10_here_0 : cX10_here.data.toList.drop 0 = dktX10_here_0 := by decide +kernel
theorem dksX10_here_1 : cX10_here.data.toList.drop 24 = dktX10_here_1 := dk_seg dksX10_here_0 24 rfl rfl
theorem dX10_here_0 : decode cX10_here 0 = .ok (.aload_n 0, 1) := dk_42 (dk_at dksX10_here_0 0 rfl rfl)
theorem dX10_here_1 : decode cX10_here 1 = .ok (.getfield 19, 3) := dk_180 0 19 (dk_at dksX10_here_0 1 rfl rfl)
theorem dX10_here_4 : decode cX10_here 4 = .ok (.aload_n 0, 1) := dk_42 (dk_at dksX10_here_0 4 rfl rfl)
theorem dX10_here_5 : decode cX10_here 5 = .ok (.getfield 15, 3) := dk_180 0 15 (dk_at dksX10_here_0 5 rfl rfl)
theorem dX10_here_8 : decode cX10_here 8 = .ok (.arraylength, 1) := dk_190 (dk_at dksX10_here_0 8 rfl rfl)
theorem dX10_here_9 : decode cX10_here 9 = .ok (.if_icmp .ge 15, 3) := dk_162 0 15 (dk_at dksX10_here_0 9 rfl rfl)
theorem dX10_here_12 : decode cX10_here 12 = .ok (.aload_n 0, 1) := dk_42 (dk_at dksX10_here_0 12 rfl rfl)
theorem dX10_here_13 : decode cX10_here 13 = .ok (.getfield 15, 3) := dk_180 0 15 (dk_at dksX10_here_0 13 rfl rfl)
theorem dX10_here_16 : decode cX10_here 16 = .ok (.aload_n 0, 1) := dk_42 (dk_at dksX10_here_0 16 rfl rfl)
theorem dX10_here_17 : decode cX10_here 17 = .ok (.getfield 19, 3) := dk_180 0 19 (dk_at dksX10_here_0 17 rfl rfl)
theorem dX10_here_20 : decode cX10_here 20 = .ok (.baload, 1) := dk_51 (dk_at dksX10_here_0 20 rfl rfl)
theorem dX10_here_21 : decode cX10_here 21 = .ok (.goto 4, 3) := dk_167 0 4 (dk_at dksX10_here_0 21 rfl rfl)
theorem dX10_here_24 : decode cX10_here 24 = .ok (.iconst 0, 1) := dk_3 (dk_at dksX10_here_1 0 rfl rfl)
theorem dX10_here_25 : decode cX10_here 25 = .ok (.ireturn, 1) := dk_172 (dk_at dksX10_here_1 1 rfl rfl)
abbrev cX10_several : ByteArray := prog_12_method_6_code
def yX10_several : MethodName := ⟨RX10, "several", "(I)LClauseCourt$Part;"⟩
def dkwX10_several_8 : List UInt8 := [182, 0, 28, 42, 89, 180, 0, 45, 4, 100, 181, 0, 45, 44, 176]
abbrev dktX10_several_8 : List UInt8 := dkwX10_several_8 ++ []
def dkwX10_several_7 : List UInt8 := [180, 0, 48, 29, 162, 0, 15, 187, 0, 23, 89, 42, 180, 0, 19, 183, 0, 25, 191, 42, 16, 41]
abbrev dktX10_several_7 : List UInt8 := dkwX10_several_7 ++ dktX10_several_8
def dkwX10_several_6 : List UInt8 := [160, 0, 17, 27, 16, 62, 160, 255, 182, 44, 180, 0, 48, 29, 161, 255, 174, 27, 16, 62, 160, 0, 23, 44]
abbrev dktX10_several_6 : List UInt8 := dkwX10_several_6 ++ dktX10_several_7
def dkwX10_several_5 : List UInt8 := [44, 89, 180, 0, 48, 90, 4, 96, 181, 0, 48, 42, 182, 0, 55, 83, 42, 182, 0, 58, 16, 44]
abbrev dktX10_several_5 : List UInt8 := dkwX10_several_5 ++ dktX10_several_6
def dkwX10_several_4 : List UInt8 := [180, 0, 48, 16, 8, 160, 0, 15, 187, 0, 23, 89, 42, 180, 0, 19, 183, 0, 25, 191, 44, 180, 0, 51]
abbrev dktX10_several_4 : List UInt8 := dkwX10_several_4 ++ dktX10_several_5
def dkwX10_several_3 : List UInt8 := [42, 89, 180, 0, 19, 44, 180, 0, 48, 158, 0, 7, 4, 167, 0, 4, 3, 96, 181, 0, 19, 44]
abbrev dktX10_several_3 : List UInt8 := dkwX10_several_3 ++ dktX10_several_4
def dkwX10_several_2 : List UInt8 := [187, 0, 31, 89, 27, 16, 8, 183, 0, 33, 77, 27, 16, 62, 160, 0, 7, 5, 167, 0, 5, 16, 8, 62]
abbrev dktX10_several_2 : List UInt8 := dkwX10_several_2 ++ dktX10_several_3
def dkwX10_several_1 : List UInt8 := [180, 0, 19, 183, 0, 25, 191, 42, 16, 40, 182, 0, 28, 42, 89, 180, 0, 45, 4, 96, 181, 0, 45]
abbrev dktX10_several_1 : List UInt8 := dkwX10_several_1 ++ dktX10_several_2
def dkwX10_several_0 : List UInt8 := [42, 89, 180, 0, 19, 4, 96, 181, 0, 19, 42, 180, 0, 45, 16, 8, 160, 0, 15, 187, 0, 23, 89, 42]
abbrev dktX10_several_0 : List UInt8 := dkwX10_several_0 ++ dktX10_several_1
theorem dksX10_several_0 : cX10_several.data.toList.drop 0 = dktX10_several_0 := by decide +kernel
theorem dksX10_several_1 : cX10_several.data.toList.drop 24 = dktX10_several_1 := dk_seg dksX10_several_0 24 rfl rfl
theorem dksX10_several_2 : cX10_several.data.toList.drop 47 = dktX10_several_2 := dk_seg dksX10_several_1 23 rfl rfl
theorem dksX10_several_3 : cX10_several.data.toList.drop 71 = dktX10_several_3 := dk_seg dksX10_several_2 24 rfl rfl
theorem dksX10_several_4 : cX10_several.data.toList.drop 93 = dktX10_several_4 := dk_seg dksX10_several_3 22 rfl rfl
theorem dksX10_several_5 : cX10_several.data.toList.drop 117 = dktX10_several_5 := dk_seg dksX10_several_4 24 rfl rfl
theorem dksX10_several_6 : cX10_several.data.toList.drop 139 = dktX10_several_6 := dk_seg dksX10_several_5 22 rfl rfl
theorem dksX10_several_7 : cX10_several.data.toList.drop 163 = dktX10_several_7 := dk_seg dksX10_several_6 24 rfl rfl
theorem dksX10_several_8 : cX10_several.data.toList.drop 185 = dktX10_several_8 := dk_seg dksX10_several_7 22 rfl rfl
theorem dX10_several_0 : decode cX10_several 0 = .ok (.aload_n 0, 1) := dk_42 (dk_at dksX10_several_0 0 rfl rfl)
theorem dX10_several_1 : decode cX10_several 1 = .ok (.dup, 1) := dk_89 (dk_at dksX10_several_0 1 rfl rfl)
theorem dX10_several_2 : decode cX10_several 2 = .ok (.getfield 19, 3) := dk_180 0 19 (dk_at dksX10_several_0 2 rfl rfl)
theorem dX10_several_5 : decode cX10_several 5 = .ok (.iconst 1, 1) := dk_4 (dk_at dksX10_several_0 5 rfl rfl)
theorem dX10_several_6 : decode cX10_several 6 = .ok (.iadd, 1) := dk_96 (dk_at dksX10_several_0 6 rfl rfl)
theorem dX10_several_7 : decode cX10_several 7 = .ok (.putfield 19, 3) := dk_181 0 19 (dk_at dksX10_several_0 7 rfl rfl)
theorem dX10_several_10 : decode cX10_several 10 = .ok (.aload_n 0, 1) := dk_42 (dk_at dksX10_several_0 10 rfl rfl)
theorem dX10_several_11 : decode cX10_several 11 = .ok (.getfield 45, 3) := dk_180 0 45 (dk_at dksX10_several_0 11 rfl rfl)
theorem dX10_several_14 : decode cX10_several 14 = .ok (.bipush 8, 2) := dk_16 8 (dk_at dksX10_several_0 14 rfl rfl)
theorem dX10_several_16 : decode cX10_several 16 = .ok (.if_icmp .ne 15, 3) := dk_160 0 15 (dk_at dksX10_several_0 16 rfl rfl)
theorem dX10_several_19 : decode cX10_several 19 = .ok (.new 23, 3) := dk_187 0 23 (dk_at dksX10_several_0 19 rfl rfl)
theorem dX10_several_22 : decode cX10_several 22 = .ok (.dup, 1) := dk_89 (dk_at dksX10_several_0 22 rfl rfl)
theorem dX10_several_23 : decode cX10_several 23 = .ok (.aload_n 0, 1) := dk_42 (dk_at dksX10_several_0 23 rfl rfl)
theorem dX10_several_24 : decode cX10_several 24 = .ok (.getfield 19, 3) := dk_180 0 19 (dk_at dksX10_several_1 0 rfl rfl)
theorem dX10_several_27 : decode cX10_several 27 = .ok (.invokespecial 25, 3) := dk_183 0 25 (dk_at dksX10_several_1 3 rfl rfl)
theorem dX10_several_30 : decode cX10_several 30 = .ok (.athrow, 1) := dk_191 (dk_at dksX10_several_1 6 rfl rfl)
theorem dX10_several_31 : decode cX10_several 31 = .ok (.aload_n 0, 1) := dk_42 (dk_at dksX10_several_1 7 rfl rfl)
theorem dX10_several_32 : decode cX10_several 32 = .ok (.bipush 40, 2) := dk_16 40 (dk_at dksX10_several_1 8 rfl rfl)
theorem dX10_several_34 : decode cX10_several 34 = .ok (.invokevirtual 28, 3) := dk_182 0 28 (dk_at dksX10_several_1 10 rfl rfl)
theorem dX10_several_37 : decode cX10_several 37 = .ok (.aload_n 0, 1) := dk_42 (dk_at dksX10_several_1 13 rfl rfl)
theorem dX10_several_38 : decode cX10_several 38 = .ok (.dup, 1) := dk_89 (dk_at dksX10_several_1 14 rfl rfl)
theorem dX10_several_39 : decode cX10_several 39 = .ok (.getfield 45, 3) := dk_180 0 45 (dk_at dksX10_several_1 15 rfl rfl)
theorem dX10_several_42 : decode cX10_several 42 = .ok (.iconst 1, 1) := dk_4 (dk_at dksX10_several_1 18 rfl rfl)
theorem dX10_several_43 : decode cX10_several 43 = .ok (.iadd, 1) := dk_96 (dk_at dksX10_several_1 19 rfl rfl)
theorem dX10_several_44 : decode cX10_several 44 = .ok (.putfield 45, 3) := dk_181 0 45 (dk_at dksX10_several_1 20 rfl rfl)
theorem dX10_several_47 : decode cX10_several 47 = .ok (.new 31, 3) := dk_187 0 31 (dk_at dksX10_several_2 0 rfl rfl)
theorem dX10_several_50 : decode cX10_several 50 = .ok (.dup, 1) := dk_89 (dk_at dksX10_several_2 3 rfl rfl)
theorem dX10_several_51 : decode cX10_several 51 = .ok (.iload_n 1, 1) := dk_27 (dk_at dksX10_several_2 4 rfl rfl)
theorem dX10_several_52 : decode cX10_several 52 = .ok (.bipush 8, 2) := dk_16 8 (dk_at dksX10_several_2 5 rfl rfl)
theorem dX10_several_54 : decode cX10_several 54 = .ok (.invokespecial 33, 3) := dk_183 0 33 (dk_at dksX10_several_2 7 rfl rfl)
theorem dX10_several_57 : decode cX10_several 57 = .ok (.astore_n 2, 1) := dk_77 (dk_at dksX10_several_2 10 rfl rfl)
theorem dX10_several_58 : decode cX10_several 58 = .ok (.iload_n 1, 1) := dk_27 (dk_at dksX10_several_2 11 rfl rfl)
theorem dX10_several_59 : decode cX10_several 59 = .ok (.bipush 62, 2) := dk_16 62 (dk_at dksX10_several_2 12 rfl rfl)
theorem dX10_several_61 : decode cX10_several 61 = .ok (.if_icmp .ne 7, 3) := dk_160 0 7 (dk_at dksX10_several_2 14 rfl rfl)
theorem dX10_several_64 : decode cX10_several 64 = .ok (.iconst 2, 1) := dk_5 (dk_at dksX10_several_2 17 rfl rfl)
theorem dX10_several_65 : decode cX10_several 65 = .ok (.goto 5, 3) := dk_167 0 5 (dk_at dksX10_several_2 18 rfl rfl)
theorem dX10_several_68 : decode cX10_several 68 = .ok (.bipush 8, 2) := dk_16 8 (dk_at dksX10_several_2 21 rfl rfl)
theorem dX10_several_70 : decode cX10_several 70 = .ok (.istore_n 3, 1) := dk_62 (dk_at dksX10_several_2 23 rfl rfl)
theorem dX10_several_71 : decode cX10_several 71 = .ok (.aload_n 0, 1) := dk_42 (dk_at dksX10_several_3 0 rfl rfl)
theorem dX10_several_72 : decode cX10_several 72 = .ok (.dup, 1) := dk_89 (dk_at dksX10_several_3 1 rfl rfl)
theorem dX10_several_73 : decode cX10_several 73 = .ok (.getfield 19, 3) := dk_180 0 19 (dk_at dksX10_several_3 2 rfl rfl)
theorem dX10_several_76 : decode cX10_several 76 = .ok (.aload_n 2, 1) := dk_44 (dk_at dksX10_several_3 5 rfl rfl)
theorem dX10_several_77 : decode cX10_several 77 = .ok (.getfield 48, 3) := dk_180 0 48 (dk_at dksX10_several_3 6 rfl rfl)
theorem dX10_several_80 : decode cX10_several 80 = .ok (.ifCond .le 7, 3) := dk_158 0 7 (dk_at dksX10_several_3 9 rfl rfl)
theorem dX10_several_83 : decode cX10_several 83 = .ok (.iconst 1, 1) := dk_4 (dk_at dksX10_several_3 12 rfl rfl)
theorem dX10_several_84 : decode cX10_several 84 = .ok (.goto 4, 3) := dk_167 0 4 (dk_at dksX10_several_3 13 rfl rfl)
theorem dX10_several_87 : decode cX10_several 87 = .ok (.iconst 0, 1) := dk_3 (dk_at dksX10_several_3 16 rfl rfl)
theorem dX10_several_88 : decode cX10_several 88 = .ok (.iadd, 1) := dk_96 (dk_at dksX10_several_3 17 rfl rfl)
theorem dX10_several_89 : decode cX10_several 89 = .ok (.putfield 19, 3) := dk_181 0 19 (dk_at dksX10_several_3 18 rfl rfl)
theorem dX10_several_92 : decode cX10_several 92 = .ok (.aload_n 2, 1) := dk_44 (dk_at dksX10_several_3 21 rfl rfl)
theorem dX10_several_93 : decode cX10_several 93 = .ok (.getfield 48, 3) := dk_180 0 48 (dk_at dksX10_several_4 0 rfl rfl)
theorem dX10_several_96 : decode cX10_several 96 = .ok (.bipush 8, 2) := dk_16 8 (dk_at dksX10_several_4 3 rfl rfl)
theorem dX10_several_98 : decode cX10_several 98 = .ok (.if_icmp .ne 15, 3) := dk_160 0 15 (dk_at dksX10_several_4 5 rfl rfl)
theorem dX10_several_101 : decode cX10_several 101 = .ok (.new 23, 3) := dk_187 0 23 (dk_at dksX10_several_4 8 rfl rfl)
theorem dX10_several_104 : decode cX10_several 104 = .ok (.dup, 1) := dk_89 (dk_at dksX10_several_4 11 rfl rfl)
theorem dX10_several_105 : decode cX10_several 105 = .ok (.aload_n 0, 1) := dk_42 (dk_at dksX10_several_4 12 rfl rfl)
theorem dX10_several_106 : decode cX10_several 106 = .ok (.getfield 19, 3) := dk_180 0 19 (dk_at dksX10_several_4 13 rfl rfl)
theorem dX10_several_109 : decode cX10_several 109 = .ok (.invokespecial 25, 3) := dk_183 0 25 (dk_at dksX10_several_4 16 rfl rfl)
theorem dX10_several_112 : decode cX10_several 112 = .ok (.athrow, 1) := dk_191 (dk_at dksX10_several_4 19 rfl rfl)
theorem dX10_several_113 : decode cX10_several 113 = .ok (.aload_n 2, 1) := dk_44 (dk_at dksX10_several_4 20 rfl rfl)
theorem dX10_several_114 : decode cX10_several 114 = .ok (.getfield 51, 3) := dk_180 0 51 (dk_at dksX10_several_4 21 rfl rfl)
theorem dX10_several_117 : decode cX10_several 117 = .ok (.aload_n 2, 1) := dk_44 (dk_at dksX10_several_5 0 rfl rfl)
theorem dX10_several_118 : decode cX10_several 118 = .ok (.dup, 1) := dk_89 (dk_at dksX10_several_5 1 rfl rfl)
theorem dX10_several_119 : decode cX10_several 119 = .ok (.getfield 48, 3) := dk_180 0 48 (dk_at dksX10_several_5 2 rfl rfl)
theorem dX10_several_122 : decode cX10_several 122 = .ok (.dup_x1, 1) := dk_90 (dk_at dksX10_several_5 5 rfl rfl)
theorem dX10_several_123 : decode cX10_several 123 = .ok (.iconst 1, 1) := dk_4 (dk_at dksX10_several_5 6 rfl rfl)
theorem dX10_several_124 : decode cX10_several 124 = .ok (.iadd, 1) := dk_96 (dk_at dksX10_several_5 7 rfl rfl)
theorem dX10_several_125 : decode cX10_several 125 = .ok (.putfield 48, 3) := dk_181 0 48 (dk_at dksX10_several_5 8 rfl rfl)
theorem dX10_several_128 : decode cX10_several 128 = .ok (.aload_n 0, 1) := dk_42 (dk_at dksX10_several_5 11 rfl rfl)
theorem dX10_several_129 : decode cX10_several 129 = .ok (.invokevirtual 55, 3) := dk_182 0 55 (dk_at dksX10_several_5 12 rfl rfl)
theorem dX10_several_132 : decode cX10_several 132 = .ok (.aastore, 1) := dk_83 (dk_at dksX10_several_5 15 rfl rfl)
theorem dX10_several_133 : decode cX10_several 133 = .ok (.aload_n 0, 1) := dk_42 (dk_at dksX10_several_5 16 rfl rfl)
theorem dX10_several_134 : decode cX10_several 134 = .ok (.invokevirtual 58, 3) := dk_182 0 58 (dk_at dksX10_several_5 17 rfl rfl)
theorem dX10_several_137 : decode cX10_several 137 = .ok (.bipush 44, 2) := dk_16 44 (dk_at dksX10_several_5 20 rfl rfl)
theorem dX10_several_139 : decode cX10_several 139 = .ok (.if_icmp .ne 17, 3) := dk_160 0 17 (dk_at dksX10_several_6 0 rfl rfl)
theorem dX10_several_142 : decode cX10_several 142 = .ok (.iload_n 1, 1) := dk_27 (dk_at dksX10_several_6 3 rfl rfl)
theorem dX10_several_143 : decode cX10_several 143 = .ok (.bipush 62, 2) := dk_16 62 (dk_at dksX10_several_6 4 rfl rfl)
theorem dX10_several_145 : decode cX10_several 145 = .ok (.if_icmp .ne (-74), 3) := dk_160 255 182 (dk_at dksX10_several_6 6 rfl rfl)
theorem dX10_several_148 : decode cX10_several 148 = .ok (.aload_n 2, 1) := dk_44 (dk_at dksX10_several_6 9 rfl rfl)
theorem dX10_several_149 : decode cX10_several 149 = .ok (.getfield 48, 3) := dk_180 0 48 (dk_at dksX10_several_6 10 rfl rfl)
theorem dX10_several_152 : decode cX10_several 152 = .ok (.iload_n 3, 1) := dk_29 (dk_at dksX10_several_6 13 rfl rfl)
theorem dX10_several_153 : decode cX10_several 153 = .ok (.if_icmp .lt (-82), 3) := dk_161 255 174 (dk_at dksX10_several_6 14 rfl rfl)
theorem dX10_several_156 : decode cX10_several 156 = .ok (.iload_n 1, 1) := dk_27 (dk_at dksX10_several_6 17 rfl rfl)
theorem dX10_several_157 : decode cX10_several 157 = .ok (.bipush 62, 2) := dk_16 62 (dk_at dksX10_several_6 18 rfl rfl)
theorem dX10_several_159 : decode cX10_several 159 = .ok (.if_icmp .ne 23, 3) := dk_160 0 23 (dk_at dksX10_several_6 20 rfl rfl)
theorem dX10_several_162 : decode cX10_several 162 = .ok (.aload_n 2, 1) := dk_44 (dk_at dksX10_several_6 23 rfl rfl)
theorem dX10_several_163 : decode cX10_several 163 = .ok (.getfield 48, 3) := dk_180 0 48 (dk_at dksX10_several_7 0 rfl rfl)
theorem dX10_several_166 : decode cX10_several 166 = .ok (.iload_n 3, 1) := dk_29 (dk_at dksX10_several_7 3 rfl rfl)
theorem dX10_several_167 : decode cX10_several 167 = .ok (.if_icmp .ge 15, 3) := dk_162 0 15 (dk_at dksX10_several_7 4 rfl rfl)
theorem dX10_several_170 : decode cX10_several 170 = .ok (.new 23, 3) := dk_187 0 23 (dk_at dksX10_several_7 7 rfl rfl)
theorem dX10_several_173 : decode cX10_several 173 = .ok (.dup, 1) := dk_89 (dk_at dksX10_several_7 10 rfl rfl)
theorem dX10_several_174 : decode cX10_several 174 = .ok (.aload_n 0, 1) := dk_42 (dk_at dksX10_several_7 11 rfl rfl)
theorem dX10_several_175 : decode cX10_several 175 = .ok (.getfield 19, 3) := dk_180 0 19 (dk_at dksX10_several_7 12 rfl rfl)
theorem dX10_several_178 : decode cX10_several 178 = .ok (.invokespecial 25, 3) := dk_183 0 25 (dk_at dksX10_several_7 15 rfl rfl)
theorem dX10_several_181 : decode cX10_several 181 = .ok (.athrow, 1) := dk_191 (dk_at dksX10_several_7 18 rfl rfl)
theorem dX10_several_182 : decode cX10_several 182 = .ok (.aload_n 0, 1) := dk_42 (dk_at dksX10_several_7 19 rfl rfl)
theorem dX10_several_183 : decode cX10_several 183 = .ok (.bipush 41, 2) := dk_16 41 (dk_at dksX10_several_7 20 rfl rfl)
theorem dX10_several_185 : decode cX10_several 185 = .ok (.invokevirtual 28, 3) := dk_182 0 28 (dk_at dksX10_several_8 0 rfl rfl)
theorem dX10_several_188 : decode cX10_several 188 = .ok (.aload_n 0, 1) := dk_42 (dk_at dksX10_several_8 3 rfl rfl)
theorem dX10_several_189 : decode cX10_several 189 = .ok (.dup, 1) := dk_89 (dk_at dksX10_several_8 4 rfl rfl)
theorem dX10_several_190 : decode cX10_several 190 = .ok (.getfield 45, 3) := dk_180 0 45 (dk_at dksX10_several_8 5 rfl rfl)
theorem dX10_several_193 : decode cX10_several 193 = .ok (.iconst 1, 1) := dk_4 (dk_at dksX10_several_8 8 rfl rfl)
theorem dX10_several_194 : decode cX10_several 194 = .ok (.isub, 1) := dk_100 (dk_at dksX10_several_8 9 rfl rfl)
theorem dX10_several_195 : decode cX10_several 195 = .ok (.putfield 45, 3) := dk_181 0 45 (dk_at dksX10_several_8 10 rfl rfl)
theorem dX10_several_198 : decode cX10_several 198 = .ok (.aload_n 2, 1) := dk_44 (dk_at dksX10_several_8 13 rfl rfl)
theorem dX10_several_199 : decode cX10_several 199 = .ok (.areturn, 1) := dk_176 (dk_at dksX10_several_8 14 rfl rfl)
abbrev cX10_take : ByteArray := prog_12_method_3_code
def yX10_take : MethodName := ⟨RX10, "take", "(I)V"⟩
def dkwX10_take_2 : List UInt8 := [181, 0, 19, 177]
abbrev dktX10_take_2 : List UInt8 := dkwX10_take_2 ++ []
def dkwX10_take_1 : List UInt8 := [159, 0, 15, 187, 0, 23, 89, 42, 180, 0, 19, 183, 0, 25, 191, 42, 89, 180, 0, 19, 4, 96]
abbrev dktX10_take_1 : List UInt8 := dkwX10_take_1 ++ dktX10_take_2
def dkwX10_take_0 : List UInt8 := [42, 180, 0, 19, 42, 180, 0, 15, 190, 162, 0, 16, 42, 180, 0, 15, 42, 180, 0, 19, 51, 27]
abbrev dktX10_take_0 : List UInt8 := dkwX10_take_0 ++ dktX10_take_1
theorem dksX10_take_0 : cX10_take.data.toList.drop 0 = dktX10_take_0 := by decide +kernel
theorem dksX10_take_1 : cX10_take.data.toList.drop 22 = dktX10_take_1 := dk_seg dksX10_take_0 22 rfl rfl
theorem dksX10_take_2 : cX10_take.data.toList.drop 44 = dktX10_take_2 := dk_seg dksX10_take_1 22 rfl rfl
theorem dX10_take_0 : decode cX10_take 0 = .ok (.aload_n 0, 1) := dk_42 (dk_at dksX10_take_0 0 rfl rfl)
theorem dX10_take_1 : decode cX10_take 1 = .ok (.getfield 19, 3) := dk_180 0 19 (dk_at dksX10_take_0 1 rfl rfl)
theorem dX10_take_4 : decode cX10_take 4 = .ok (.aload_n 0, 1) := dk_42 (dk_at dksX10_take_0 4 rfl rfl)
theorem dX10_take_5 : decode cX10_take 5 = .ok (.getfield 15, 3) := dk_180 0 15 (dk_at dksX10_take_0 5 rfl rfl)
theorem dX10_take_8 : decode cX10_take 8 = .ok (.arraylength, 1) := dk_190 (dk_at dksX10_take_0 8 rfl rfl)
theorem dX10_take_9 : decode cX10_take 9 = .ok (.if_icmp .ge 16, 3) := dk_162 0 16 (dk_at dksX10_take_0 9 rfl rfl)
theorem dX10_take_12 : decode cX10_take 12 = .ok (.aload_n 0, 1) := dk_42 (dk_at dksX10_take_0 12 rfl rfl)
theorem dX10_take_13 : decode cX10_take 13 = .ok (.getfield 15, 3) := dk_180 0 15 (dk_at dksX10_take_0 13 rfl rfl)
theorem dX10_take_16 : decode cX10_take 16 = .ok (.aload_n 0, 1) := dk_42 (dk_at dksX10_take_0 16 rfl rfl)
theorem dX10_take_17 : decode cX10_take 17 = .ok (.getfield 19, 3) := dk_180 0 19 (dk_at dksX10_take_0 17 rfl rfl)
theorem dX10_take_20 : decode cX10_take 20 = .ok (.baload, 1) := dk_51 (dk_at dksX10_take_0 20 rfl rfl)
theorem dX10_take_21 : decode cX10_take 21 = .ok (.iload_n 1, 1) := dk_27 (dk_at dksX10_take_0 21 rfl rfl)
theorem dX10_take_22 : decode cX10_take 22 = .ok (.if_icmp .eq 15, 3) := dk_159 0 15 (dk_at dksX10_take_1 0 rfl rfl)
theorem dX10_take_25 : decode cX10_take 25 = .ok (.new 23, 3) := dk_187 0 23 (dk_at dksX10_take_1 3 rfl rfl)
theorem dX10_take_28 : decode cX10_take 28 = .ok (.dup, 1) := dk_89 (dk_at dksX10_take_1 6 rfl rfl)
theorem dX10_take_29 : decode cX10_take 29 = .ok (.aload_n 0, 1) := dk_42 (dk_at dksX10_take_1 7 rfl rfl)
theorem dX10_take_30 : decode cX10_take 30 = .ok (.getfield 19, 3) := dk_180 0 19 (dk_at dksX10_take_1 8 rfl rfl)
theorem dX10_take_33 : decode cX10_take 33 = .ok (.invokespecial 25, 3) := dk_183 0 25 (dk_at dksX10_take_1 11 rfl rfl)
theorem dX10_take_36 : decode cX10_take 36 = .ok (.athrow, 1) := dk_191 (dk_at dksX10_take_1 14 rfl rfl)
theorem dX10_take_37 : decode cX10_take 37 = .ok (.aload_n 0, 1) := dk_42 (dk_at dksX10_take_1 15 rfl rfl)
theorem dX10_take_38 : decode cX10_take 38 = .ok (.dup, 1) := dk_89 (dk_at dksX10_take_1 16 rfl rfl)
theorem dX10_take_39 : decode cX10_take 39 = .ok (.getfield 19, 3) := dk_180 0 19 (dk_at dksX10_take_1 17 rfl rfl)
theorem dX10_take_42 : decode cX10_take 42 = .ok (.iconst 1, 1) := dk_4 (dk_at dksX10_take_1 20 rfl rfl)
theorem dX10_take_43 : decode cX10_take 43 = .ok (.iadd, 1) := dk_96 (dk_at dksX10_take_1 21 rfl rfl)
theorem dX10_take_44 : decode cX10_take 44 = .ok (.putfield 19, 3) := dk_181 0 19 (dk_at dksX10_take_2 0 rfl rfl)
theorem dX10_take_47 : decode cX10_take 47 = .ok (.return_, 1) := dk_177 (dk_at dksX10_take_2 3 rfl rfl)
abbrev cX10_name : ByteArray := prog_12_method_5_code
def yX10_name : MethodName := ⟨RX10, "name", "()LClauseCourt$Part;"⟩
def dkwX10_name_4 : List UInt8 := [180, 0, 9, 42, 89, 180, 0, 42, 90, 4, 96, 181, 0, 42, 43, 180, 0, 40, 79, 43, 176]
abbrev dktX10_name_4 : List UInt8 := dkwX10_name_4 ++ []
def dkwX10_name_3 : List UInt8 := [96, 16, 48, 100, 181, 0, 40, 42, 89, 180, 0, 19, 4, 96, 181, 0, 19, 132, 2, 1, 167, 255, 184, 42]
abbrev dktX10_name_3 : List UInt8 := dkwX10_name_3 ++ dktX10_name_4
def dkwX10_name_2 : List UInt8 := [180, 0, 19, 183, 0, 25, 191, 43, 16, 10, 43, 180, 0, 40, 104, 42, 180, 0, 15, 42, 180, 0, 19, 51]
abbrev dktX10_name_2 : List UInt8 := dkwX10_name_2 ++ dktX10_name_3
def dkwX10_name_1 : List UInt8 := [28, 153, 0, 10, 42, 182, 0, 36, 153, 0, 62, 42, 182, 0, 36, 154, 0, 15, 187, 0, 23, 89, 42]
abbrev dktX10_name_1 : List UInt8 := dkwX10_name_1 ++ dktX10_name_2
def dkwX10_name_0 : List UInt8 := [42, 16, 120, 182, 0, 28, 187, 0, 31, 89, 16, 120, 3, 183, 0, 33, 76, 3, 61, 28, 6, 162, 0, 73]
abbrev dktX10_name_0 : List UInt8 := dkwX10_name_0 ++ dktX10_name_1
theorem dksX10_name_0 : cX10_name.data.toList.drop 0 = dktX10_name_0 := by decide +kernel
theorem dksX10_name_1 : cX10_name.data.toList.drop 24 = dktX10_name_1 := dk_seg dksX10_name_0 24 rfl rfl
theorem dksX10_name_2 : cX10_name.data.toList.drop 47 = dktX10_name_2 := dk_seg dksX10_name_1 23 rfl rfl
theorem dksX10_name_3 : cX10_name.data.toList.drop 71 = dktX10_name_3 := dk_seg dksX10_name_2 24 rfl rfl
theorem dksX10_name_4 : cX10_name.data.toList.drop 95 = dktX10_name_4 := dk_seg dksX10_name_3 24 rfl rfl
theorem dX10_name_0 : decode cX10_name 0 = .ok (.aload_n 0, 1) := dk_42 (dk_at dksX10_name_0 0 rfl rfl)
theorem dX10_name_1 : decode cX10_name 1 = .ok (.bipush 120, 2) := dk_16 120 (dk_at dksX10_name_0 1 rfl rfl)
theorem dX10_name_3 : decode cX10_name 3 = .ok (.invokevirtual 28, 3) := dk_182 0 28 (dk_at dksX10_name_0 3 rfl rfl)
theorem dX10_name_6 : decode cX10_name 6 = .ok (.new 31, 3) := dk_187 0 31 (dk_at dksX10_name_0 6 rfl rfl)
theorem dX10_name_9 : decode cX10_name 9 = .ok (.dup, 1) := dk_89 (dk_at dksX10_name_0 9 rfl rfl)
theorem dX10_name_10 : decode cX10_name 10 = .ok (.bipush 120, 2) := dk_16 120 (dk_at dksX10_name_0 10 rfl rfl)
theorem dX10_name_12 : decode cX10_name 12 = .ok (.iconst 0, 1) := dk_3 (dk_at dksX10_name_0 12 rfl rfl)
theorem dX10_name_13 : decode cX10_name 13 = .ok (.invokespecial 33, 3) := dk_183 0 33 (dk_at dksX10_name_0 13 rfl rfl)
theorem dX10_name_16 : decode cX10_name 16 = .ok (.astore_n 1, 1) := dk_76 (dk_at dksX10_name_0 16 rfl rfl)
theorem dX10_name_17 : decode cX10_name 17 = .ok (.iconst 0, 1) := dk_3 (dk_at dksX10_name_0 17 rfl rfl)
theorem dX10_name_18 : decode cX10_name 18 = .ok (.istore_n 2, 1) := dk_61 (dk_at dksX10_name_0 18 rfl rfl)
theorem dX10_name_19 : decode cX10_name 19 = .ok (.iload_n 2, 1) := dk_28 (dk_at dksX10_name_0 19 rfl rfl)
theorem dX10_name_20 : decode cX10_name 20 = .ok (.iconst 3, 1) := dk_6 (dk_at dksX10_name_0 20 rfl rfl)
theorem dX10_name_21 : decode cX10_name 21 = .ok (.if_icmp .ge 73, 3) := dk_162 0 73 (dk_at dksX10_name_0 21 rfl rfl)
theorem dX10_name_24 : decode cX10_name 24 = .ok (.iload_n 2, 1) := dk_28 (dk_at dksX10_name_1 0 rfl rfl)
theorem dX10_name_25 : decode cX10_name 25 = .ok (.ifCond .eq 10, 3) := dk_153 0 10 (dk_at dksX10_name_1 1 rfl rfl)
theorem dX10_name_28 : decode cX10_name 28 = .ok (.aload_n 0, 1) := dk_42 (dk_at dksX10_name_1 4 rfl rfl)
theorem dX10_name_29 : decode cX10_name 29 = .ok (.invokevirtual 36, 3) := dk_182 0 36 (dk_at dksX10_name_1 5 rfl rfl)
theorem dX10_name_32 : decode cX10_name 32 = .ok (.ifCond .eq 62, 3) := dk_153 0 62 (dk_at dksX10_name_1 8 rfl rfl)
theorem dX10_name_35 : decode cX10_name 35 = .ok (.aload_n 0, 1) := dk_42 (dk_at dksX10_name_1 11 rfl rfl)
theorem dX10_name_36 : decode cX10_name 36 = .ok (.invokevirtual 36, 3) := dk_182 0 36 (dk_at dksX10_name_1 12 rfl rfl)
theorem dX10_name_39 : decode cX10_name 39 = .ok (.ifCond .ne 15, 3) := dk_154 0 15 (dk_at dksX10_name_1 15 rfl rfl)
theorem dX10_name_42 : decode cX10_name 42 = .ok (.new 23, 3) := dk_187 0 23 (dk_at dksX10_name_1 18 rfl rfl)
theorem dX10_name_45 : decode cX10_name 45 = .ok (.dup, 1) := dk_89 (dk_at dksX10_name_1 21 rfl rfl)
theorem dX10_name_46 : decode cX10_name 46 = .ok (.aload_n 0, 1) := dk_42 (dk_at dksX10_name_1 22 rfl rfl)
theorem dX10_name_47 : decode cX10_name 47 = .ok (.getfield 19, 3) := dk_180 0 19 (dk_at dksX10_name_2 0 rfl rfl)
theorem dX10_name_50 : decode cX10_name 50 = .ok (.invokespecial 25, 3) := dk_183 0 25 (dk_at dksX10_name_2 3 rfl rfl)
theorem dX10_name_53 : decode cX10_name 53 = .ok (.athrow, 1) := dk_191 (dk_at dksX10_name_2 6 rfl rfl)
theorem dX10_name_54 : decode cX10_name 54 = .ok (.aload_n 1, 1) := dk_43 (dk_at dksX10_name_2 7 rfl rfl)
theorem dX10_name_55 : decode cX10_name 55 = .ok (.bipush 10, 2) := dk_16 10 (dk_at dksX10_name_2 8 rfl rfl)
theorem dX10_name_57 : decode cX10_name 57 = .ok (.aload_n 1, 1) := dk_43 (dk_at dksX10_name_2 10 rfl rfl)
theorem dX10_name_58 : decode cX10_name 58 = .ok (.getfield 40, 3) := dk_180 0 40 (dk_at dksX10_name_2 11 rfl rfl)
theorem dX10_name_61 : decode cX10_name 61 = .ok (.imul, 1) := dk_104 (dk_at dksX10_name_2 14 rfl rfl)
theorem dX10_name_62 : decode cX10_name 62 = .ok (.aload_n 0, 1) := dk_42 (dk_at dksX10_name_2 15 rfl rfl)
theorem dX10_name_63 : decode cX10_name 63 = .ok (.getfield 15, 3) := dk_180 0 15 (dk_at dksX10_name_2 16 rfl rfl)
theorem dX10_name_66 : decode cX10_name 66 = .ok (.aload_n 0, 1) := dk_42 (dk_at dksX10_name_2 19 rfl rfl)
theorem dX10_name_67 : decode cX10_name 67 = .ok (.getfield 19, 3) := dk_180 0 19 (dk_at dksX10_name_2 20 rfl rfl)
theorem dX10_name_70 : decode cX10_name 70 = .ok (.baload, 1) := dk_51 (dk_at dksX10_name_2 23 rfl rfl)
theorem dX10_name_71 : decode cX10_name 71 = .ok (.iadd, 1) := dk_96 (dk_at dksX10_name_3 0 rfl rfl)
theorem dX10_name_72 : decode cX10_name 72 = .ok (.bipush 48, 2) := dk_16 48 (dk_at dksX10_name_3 1 rfl rfl)
theorem dX10_name_74 : decode cX10_name 74 = .ok (.isub, 1) := dk_100 (dk_at dksX10_name_3 3 rfl rfl)
theorem dX10_name_75 : decode cX10_name 75 = .ok (.putfield 40, 3) := dk_181 0 40 (dk_at dksX10_name_3 4 rfl rfl)
theorem dX10_name_78 : decode cX10_name 78 = .ok (.aload_n 0, 1) := dk_42 (dk_at dksX10_name_3 7 rfl rfl)
theorem dX10_name_79 : decode cX10_name 79 = .ok (.dup, 1) := dk_89 (dk_at dksX10_name_3 8 rfl rfl)
theorem dX10_name_80 : decode cX10_name 80 = .ok (.getfield 19, 3) := dk_180 0 19 (dk_at dksX10_name_3 9 rfl rfl)
theorem dX10_name_83 : decode cX10_name 83 = .ok (.iconst 1, 1) := dk_4 (dk_at dksX10_name_3 12 rfl rfl)
theorem dX10_name_84 : decode cX10_name 84 = .ok (.iadd, 1) := dk_96 (dk_at dksX10_name_3 13 rfl rfl)
theorem dX10_name_85 : decode cX10_name 85 = .ok (.putfield 19, 3) := dk_181 0 19 (dk_at dksX10_name_3 14 rfl rfl)
theorem dX10_name_88 : decode cX10_name 88 = .ok (.iinc 2 1, 3) := dk_132 2 1 (dk_at dksX10_name_3 17 rfl rfl)
theorem dX10_name_91 : decode cX10_name 91 = .ok (.goto (-72), 3) := dk_167 255 184 (dk_at dksX10_name_3 20 rfl rfl)
theorem dX10_name_94 : decode cX10_name 94 = .ok (.aload_n 0, 1) := dk_42 (dk_at dksX10_name_3 23 rfl rfl)
theorem dX10_name_95 : decode cX10_name 95 = .ok (.getfield 9, 3) := dk_180 0 9 (dk_at dksX10_name_4 0 rfl rfl)
theorem dX10_name_98 : decode cX10_name 98 = .ok (.aload_n 0, 1) := dk_42 (dk_at dksX10_name_4 3 rfl rfl)
theorem dX10_name_99 : decode cX10_name 99 = .ok (.dup, 1) := dk_89 (dk_at dksX10_name_4 4 rfl rfl)
theorem dX10_name_100 : decode cX10_name 100 = .ok (.getfield 42, 3) := dk_180 0 42 (dk_at dksX10_name_4 5 rfl rfl)
theorem dX10_name_103 : decode cX10_name 103 = .ok (.dup_x1, 1) := dk_90 (dk_at dksX10_name_4 8 rfl rfl)
theorem dX10_name_104 : decode cX10_name 104 = .ok (.iconst 1, 1) := dk_4 (dk_at dksX10_name_4 9 rfl rfl)
theorem dX10_name_105 : decode cX10_name 105 = .ok (.iadd, 1) := dk_96 (dk_at dksX10_name_4 10 rfl rfl)
theorem dX10_name_106 : decode cX10_name 106 = .ok (.putfield 42, 3) := dk_181 0 42 (dk_at dksX10_name_4 11 rfl rfl)
theorem dX10_name_109 : decode cX10_name 109 = .ok (.aload_n 1, 1) := dk_43 (dk_at dksX10_name_4 14 rfl rfl)
theorem dX10_name_110 : decode cX10_name 110 = .ok (.getfield 40, 3) := dk_180 0 40 (dk_at dksX10_name_4 15 rfl rfl)
theorem dX10_name_113 : decode cX10_name 113 = .ok (.iastore, 1) := dk_79 (dk_at dksX10_name_4 18 rfl rfl)
theorem dX10_name_114 : decode cX10_name 114 = .ok (.aload_n 1, 1) := dk_43 (dk_at dksX10_name_4 19 rfl rfl)
theorem dX10_name_115 : decode cX10_name 115 = .ok (.areturn, 1) := dk_176 (dk_at dksX10_name_4 20 rfl rfl)
abbrev cX10_isDigit : ByteArray := prog_12_method_4_code
def yX10_isDigit : MethodName := ⟨RX10, "isDigit", "()Z"⟩
def dkwX10_isDigit_1 : List UInt8 := [161, 0, 21, 42, 180, 0, 15, 42, 180, 0, 19, 51, 16, 57, 163, 0, 7, 4, 167, 0, 4, 3, 172]
abbrev dktX10_isDigit_1 : List UInt8 := dkwX10_isDigit_1 ++ []
def dkwX10_isDigit_0 : List UInt8 := [42, 180, 0, 19, 42, 180, 0, 15, 190, 162, 0, 35, 42, 180, 0, 15, 42, 180, 0, 19, 51, 16, 48]
abbrev dktX10_isDigit_0 : List UInt8 := dkwX10_isDigit_0 ++ dktX10_isDigit_1
theorem dksX10_isDigit_0 : cX10_isDigit.data.toList.drop 0 = dktX10_isDigit_0 := by decide +kernel
theorem dksX10_isDigit_1 : cX10_isDigit.data.toList.drop 23 = dktX10_isDigit_1 := dk_seg dksX10_isDigit_0 23 rfl rfl
theorem dX10_isDigit_0 : decode cX10_isDigit 0 = .ok (.aload_n 0, 1) := dk_42 (dk_at dksX10_isDigit_0 0 rfl rfl)
theorem dX10_isDigit_1 : decode cX10_isDigit 1 = .ok (.getfield 19, 3) := dk_180 0 19 (dk_at dksX10_isDigit_0 1 rfl rfl)
theorem dX10_isDigit_4 : decode cX10_isDigit 4 = .ok (.aload_n 0, 1) := dk_42 (dk_at dksX10_isDigit_0 4 rfl rfl)
theorem dX10_isDigit_5 : decode cX10_isDigit 5 = .ok (.getfield 15, 3) := dk_180 0 15 (dk_at dksX10_isDigit_0 5 rfl rfl)
theorem dX10_isDigit_8 : decode cX10_isDigit 8 = .ok (.arraylength, 1) := dk_190 (dk_at dksX10_isDigit_0 8 rfl rfl)
theorem dX10_isDigit_9 : decode cX10_isDigit 9 = .ok (.if_icmp .ge 35, 3) := dk_162 0 35 (dk_at dksX10_isDigit_0 9 rfl rfl)
theorem dX10_isDigit_12 : decode cX10_isDigit 12 = .ok (.aload_n 0, 1) := dk_42 (dk_at dksX10_isDigit_0 12 rfl rfl)
theorem dX10_isDigit_13 : decode cX10_isDigit 13 = .ok (.getfield 15, 3) := dk_180 0 15 (dk_at dksX10_isDigit_0 13 rfl rfl)
theorem dX10_isDigit_16 : decode cX10_isDigit 16 = .ok (.aload_n 0, 1) := dk_42 (dk_at dksX10_isDigit_0 16 rfl rfl)
theorem dX10_isDigit_17 : decode cX10_isDigit 17 = .ok (.getfield 19, 3) := dk_180 0 19 (dk_at dksX10_isDigit_0 17 rfl rfl)
theorem dX10_isDigit_20 : decode cX10_isDigit 20 = .ok (.baload, 1) := dk_51 (dk_at dksX10_isDigit_0 20 rfl rfl)
theorem dX10_isDigit_21 : decode cX10_isDigit 21 = .ok (.bipush 48, 2) := dk_16 48 (dk_at dksX10_isDigit_0 21 rfl rfl)
theorem dX10_isDigit_23 : decode cX10_isDigit 23 = .ok (.if_icmp .lt 21, 3) := dk_161 0 21 (dk_at dksX10_isDigit_1 0 rfl rfl)
theorem dX10_isDigit_26 : decode cX10_isDigit 26 = .ok (.aload_n 0, 1) := dk_42 (dk_at dksX10_isDigit_1 3 rfl rfl)
theorem dX10_isDigit_27 : decode cX10_isDigit 27 = .ok (.getfield 15, 3) := dk_180 0 15 (dk_at dksX10_isDigit_1 4 rfl rfl)
theorem dX10_isDigit_30 : decode cX10_isDigit 30 = .ok (.aload_n 0, 1) := dk_42 (dk_at dksX10_isDigit_1 7 rfl rfl)
theorem dX10_isDigit_31 : decode cX10_isDigit 31 = .ok (.getfield 19, 3) := dk_180 0 19 (dk_at dksX10_isDigit_1 8 rfl rfl)
theorem dX10_isDigit_34 : decode cX10_isDigit 34 = .ok (.baload, 1) := dk_51 (dk_at dksX10_isDigit_1 11 rfl rfl)
theorem dX10_isDigit_35 : decode cX10_isDigit 35 = .ok (.bipush 57, 2) := dk_16 57 (dk_at dksX10_isDigit_1 12 rfl rfl)
theorem dX10_isDigit_37 : decode cX10_isDigit 37 = .ok (.if_icmp .gt 7, 3) := dk_163 0 7 (dk_at dksX10_isDigit_1 14 rfl rfl)
theorem dX10_isDigit_40 : decode cX10_isDigit 40 = .ok (.iconst 1, 1) := dk_4 (dk_at dksX10_isDigit_1 17 rfl rfl)
theorem dX10_isDigit_41 : decode cX10_isDigit 41 = .ok (.goto 4, 3) := dk_167 0 4 (dk_at dksX10_isDigit_1 18 rfl rfl)
theorem dX10_isDigit_44 : decode cX10_isDigit 44 = .ok (.iconst 0, 1) := dk_3 (dk_at dksX10_isDigit_1 21 rfl rfl)
theorem dX10_isDigit_45 : decode cX10_isDigit 45 = .ok (.ireturn, 1) := dk_172 (dk_at dksX10_isDigit_1 22 rfl rfl)
theorem q177 : (Jvm.Cond.initialized "ClauseCourt$Reader") ∈ lw_all := lw_g (lw_at lw_m1 21 rfl) rfl
theorem q1030 : (Jvm.Cond.instantiable "ClauseCourt$Reader" (5 : Nat)) ∈ lw_all := lw_g (lw_at lw_m4 154 rfl) rfl
theorem q1032 : (Jvm.Cond.instanceMethod ({ cls := "ClauseCourt$Reader", name := "<init>", desc := "([B)V" } : Jvm.MethodName)) ∈ lw_all := lw_g (lw_at lw_m4 156 rfl) rfl
theorem q1033 : (Jvm.Cond.code ({ cls := "ClauseCourt$Reader", name := "<init>", desc := "([B)V" } : Jvm.MethodName) prog_12_method_1_code (2 : Nat) (Option.none : Option Jvm.ClassFile.FieldType)) ∈ lw_all := lw_g (lw_at lw_m4 157 rfl) rfl
theorem q1034 : (Jvm.Cond.methodLink "ClauseCourt$Reader" (3 : Nat) ({ cls := "java/lang/Object", name := "<init>", desc := "()V" } : Jvm.MethodName)) ∈ lw_all := lw_g (lw_at lw_m4 158 rfl) rfl
theorem q1035 : (Jvm.Cond.fieldLink "ClauseCourt$Reader" (15 : Nat) "ClauseCourt$Reader" "text" "[B") ∈ lw_all := lw_g (lw_at lw_m4 159 rfl) rfl
theorem q1036 : (Jvm.Cond.fieldLink "ClauseCourt$Reader" (19 : Nat) "ClauseCourt$Reader" "at" "I") ∈ lw_all := lw_g (lw_at lw_m4 160 rfl) rfl
theorem q1037 : (Jvm.Cond.fieldLink "ClauseCourt$Reader" (45 : Nat) "ClauseCourt$Reader" "open" "I") ∈ lw_all := lw_g (lw_at lw_m4 161 rfl) rfl
theorem q1038 : (Jvm.Cond.fieldLink "ClauseCourt$Reader" (42 : Nat) "ClauseCourt$Reader" "numbers" "I") ∈ lw_all := lw_g (lw_at lw_m4 162 rfl) rfl
theorem q1040 : (Jvm.Cond.fieldLink "ClauseCourt$Reader" (9 : Nat) "ClauseCourt$Reader" "number" "[I") ∈ lw_all := lw_g (lw_at lw_m4 164 rfl) rfl
theorem q1042 : (Jvm.Cond.laysFinal "ClauseCourt$Reader" "ClauseCourt$Reader" "text" "[B") ∈ lw_all := lw_g (lw_at lw_m4 166 rfl) rfl
theorem q1043 : (Jvm.Cond.soleField "ClauseCourt$Reader" "text") ∈ lw_all := lw_g (lw_at lw_m4 167 rfl) rfl
theorem q1044 : (Jvm.Cond.lays "ClauseCourt$Reader" "ClauseCourt$Reader" "at" "I") ∈ lw_all := lw_g (lw_at lw_m4 168 rfl) rfl
theorem q1045 : (Jvm.Cond.soleField "ClauseCourt$Reader" "at") ∈ lw_all := lw_g (lw_at lw_m4 169 rfl) rfl
theorem q1046 : (Jvm.Cond.lays "ClauseCourt$Reader" "ClauseCourt$Reader" "open" "I") ∈ lw_all := lw_g (lw_at lw_m4 170 rfl) rfl
theorem q1047 : (Jvm.Cond.soleField "ClauseCourt$Reader" "open") ∈ lw_all := lw_g (lw_at lw_m4 171 rfl) rfl
theorem q1048 : (Jvm.Cond.lays "ClauseCourt$Reader" "ClauseCourt$Reader" "numbers" "I") ∈ lw_all := lw_g (lw_at lw_m4 172 rfl) rfl
theorem q1049 : (Jvm.Cond.soleField "ClauseCourt$Reader" "numbers") ∈ lw_all := lw_g (lw_at lw_m4 173 rfl) rfl
theorem q1050 : (Jvm.Cond.laysFinal "ClauseCourt$Reader" "ClauseCourt$Reader" "number" "[I") ∈ lw_all := lw_g (lw_at lw_m4 174 rfl) rfl
theorem q1051 : (Jvm.Cond.soleField "ClauseCourt$Reader" "number") ∈ lw_all := lw_g (lw_at lw_m4 175 rfl) rfl
theorem q1052 : (Jvm.Cond.superclass "ClauseCourt$Reader" "java/lang/Object") ∈ lw_all := lw_g (lw_at lw_m4 176 rfl) rfl
theorem q1054 : (Jvm.Cond.instanceMethod ({ cls := "ClauseCourt$Reader", name := "whole", desc := "()LClauseCourt$Part;" } : Jvm.MethodName)) ∈ lw_all := lw_g (lw_at lw_m4 178 rfl) rfl
theorem q1055 : (Jvm.Cond.selects "ClauseCourt$Reader" ({ cls := "ClauseCourt$Reader", name := "whole", desc := "()LClauseCourt$Part;" } : Jvm.MethodName) ({ cls := "ClauseCourt$Reader", name := "whole", desc := "()LClauseCourt$Part;" } : Jvm.MethodName)) ∈ lw_all := lw_g (lw_at lw_m4 179 rfl) rfl
theorem q1056 : (Jvm.Cond.code ({ cls := "ClauseCourt$Reader", name := "whole", desc := "()LClauseCourt$Part;" } : Jvm.MethodName) prog_12_method_8_code (2 : Nat) (Option.some (Jvm.ClassFile.FieldType.object "ClauseCourt$Part"))) ∈ lw_all := lw_g (lw_at lw_m4 180 rfl) rfl
theorem q1057 : (Jvm.Cond.methodLink "ClauseCourt$Reader" (55 : Nat) ({ cls := "ClauseCourt$Reader", name := "part", desc := "()LClauseCourt$Part;" } : Jvm.MethodName)) ∈ lw_all := lw_g (lw_at lw_m4 181 rfl) rfl
theorem q1058 : (Jvm.Cond.instanceMethod ({ cls := "ClauseCourt$Reader", name := "part", desc := "()LClauseCourt$Part;" } : Jvm.MethodName)) ∈ lw_all := lw_g (lw_at lw_m4 182 rfl) rfl
theorem q1059 : (Jvm.Cond.selects "ClauseCourt$Reader" ({ cls := "ClauseCourt$Reader", name := "part", desc := "()LClauseCourt$Part;" } : Jvm.MethodName) ({ cls := "ClauseCourt$Reader", name := "part", desc := "()LClauseCourt$Part;" } : Jvm.MethodName)) ∈ lw_all := lw_g (lw_at lw_m4 183 rfl) rfl
theorem q1060 : (Jvm.Cond.code ({ cls := "ClauseCourt$Reader", name := "part", desc := "()LClauseCourt$Part;" } : Jvm.MethodName) prog_12_method_7_code (3 : Nat) (Option.some (Jvm.ClassFile.FieldType.object "ClauseCourt$Part"))) ∈ lw_all := lw_g (lw_at lw_m4 184 rfl) rfl
theorem q1061 : (Jvm.Cond.methodLink "ClauseCourt$Reader" (58 : Nat) ({ cls := "ClauseCourt$Reader", name := "here", desc := "()I" } : Jvm.MethodName)) ∈ lw_all := lw_g (lw_at lw_m4 185 rfl) rfl
theorem q1062 : (Jvm.Cond.privateMethod ({ cls := "ClauseCourt$Reader", name := "here", desc := "()I" } : Jvm.MethodName)) ∈ lw_tbl := lw_at lw_m4 186 rfl
theorem q1063 : (Jvm.Cond.instanceMethod ({ cls := "ClauseCourt$Reader", name := "here", desc := "()I" } : Jvm.MethodName)) ∈ lw_all := lw_g (lw_at lw_m4 187 rfl) rfl
theorem q1064 : (Jvm.Cond.code ({ cls := "ClauseCourt$Reader", name := "here", desc := "()I" } : Jvm.MethodName) prog_12_method_2_code (1 : Nat) (Option.some Jvm.ClassFile.FieldType.int)) ∈ lw_all := lw_g (lw_at lw_m4 188 rfl) rfl
theorem q1065 : (Jvm.Cond.classLink "ClauseCourt$Reader" (31 : Nat) "ClauseCourt$Part") ∈ lw_all := lw_g (lw_at lw_m4 189 rfl) rfl
theorem q1067 : (Jvm.Cond.methodLink "ClauseCourt$Reader" (33 : Nat) ({ cls := "ClauseCourt$Part", name := "<init>", desc := "(II)V" } : Jvm.MethodName)) ∈ lw_all := lw_g (lw_at lw_m4 191 rfl) rfl
theorem q1076 : (Jvm.Cond.fieldLinkNest "ClauseCourt$Reader" (40 : Nat) "ClauseCourt$Part" "number" "I" "ClauseCourt") ∈ lw_tbl := lw_at lw_m4 200 rfl
theorem q1078 : (Jvm.Cond.fieldLinkNest "ClauseCourt$Reader" (48 : Nat) "ClauseCourt$Part" "parts" "I" "ClauseCourt") ∈ lw_tbl := lw_at lw_m4 202 rfl
theorem q1081 : (Jvm.Cond.fieldLinkNest "ClauseCourt$Reader" (51 : Nat) "ClauseCourt$Part" "part" "[LClauseCourt$Part;" "ClauseCourt") ∈ lw_tbl := lw_at lw_m4 205 rfl
theorem q1091 : (Jvm.Cond.methodLink "ClauseCourt$Reader" (62 : Nat) ({ cls := "ClauseCourt$Reader", name := "several", desc := "(I)LClauseCourt$Part;" } : Jvm.MethodName)) ∈ lw_all := lw_g (lw_at lw_m4 215 rfl) rfl
theorem q1092 : (Jvm.Cond.privateMethod ({ cls := "ClauseCourt$Reader", name := "several", desc := "(I)LClauseCourt$Part;" } : Jvm.MethodName)) ∈ lw_tbl := lw_at lw_m4 216 rfl
theorem q1093 : (Jvm.Cond.instanceMethod ({ cls := "ClauseCourt$Reader", name := "several", desc := "(I)LClauseCourt$Part;" } : Jvm.MethodName)) ∈ lw_all := lw_g (lw_at lw_m4 217 rfl) rfl
theorem q1094 : (Jvm.Cond.code ({ cls := "ClauseCourt$Reader", name := "several", desc := "(I)LClauseCourt$Part;" } : Jvm.MethodName) prog_12_method_6_code (4 : Nat) (Option.some (Jvm.ClassFile.FieldType.object "ClauseCourt$Part"))) ∈ lw_all := lw_g (lw_at lw_m4 218 rfl) rfl
theorem q1095 : (Jvm.Cond.classLink "ClauseCourt$Reader" (23 : Nat) "ClauseCourt$Unread") ∈ lw_all := lw_g (lw_at lw_m4 219 rfl) rfl
theorem q1104 : (Jvm.Cond.methodLink "ClauseCourt$Reader" (25 : Nat) ({ cls := "ClauseCourt$Unread", name := "<init>", desc := "(I)V" } : Jvm.MethodName)) ∈ lw_all := lw_g (lw_at lw_m4 228 rfl) rfl
theorem q1120 : (Jvm.Cond.methodLink "ClauseCourt$Reader" (28 : Nat) ({ cls := "ClauseCourt$Reader", name := "take", desc := "(I)V" } : Jvm.MethodName)) ∈ lw_all := lw_g (lw_at lw_m5 4 rfl) rfl
theorem q1121 : (Jvm.Cond.privateMethod ({ cls := "ClauseCourt$Reader", name := "take", desc := "(I)V" } : Jvm.MethodName)) ∈ lw_tbl := lw_at lw_m5 5 rfl
theorem q1122 : (Jvm.Cond.instanceMethod ({ cls := "ClauseCourt$Reader", name := "take", desc := "(I)V" } : Jvm.MethodName)) ∈ lw_all := lw_g (lw_at lw_m5 6 rfl) rfl
theorem q1123 : (Jvm.Cond.code ({ cls := "ClauseCourt$Reader", name := "take", desc := "(I)V" } : Jvm.MethodName) prog_12_method_3_code (2 : Nat) (Option.none : Option Jvm.ClassFile.FieldType)) ∈ lw_all := lw_g (lw_at lw_m5 7 rfl) rfl
theorem q1124 : (Jvm.Cond.methodLink "ClauseCourt$Reader" (66 : Nat) ({ cls := "ClauseCourt$Reader", name := "name", desc := "()LClauseCourt$Part;" } : Jvm.MethodName)) ∈ lw_all := lw_g (lw_at lw_m5 8 rfl) rfl
theorem q1125 : (Jvm.Cond.privateMethod ({ cls := "ClauseCourt$Reader", name := "name", desc := "()LClauseCourt$Part;" } : Jvm.MethodName)) ∈ lw_tbl := lw_at lw_m5 9 rfl
theorem q1126 : (Jvm.Cond.instanceMethod ({ cls := "ClauseCourt$Reader", name := "name", desc := "()LClauseCourt$Part;" } : Jvm.MethodName)) ∈ lw_all := lw_g (lw_at lw_m5 10 rfl) rfl
theorem q1127 : (Jvm.Cond.code ({ cls := "ClauseCourt$Reader", name := "name", desc := "()LClauseCourt$Part;" } : Jvm.MethodName) prog_12_method_5_code (3 : Nat) (Option.some (Jvm.ClassFile.FieldType.object "ClauseCourt$Part"))) ∈ lw_all := lw_g (lw_at lw_m5 11 rfl) rfl
theorem q1128 : (Jvm.Cond.methodLink "ClauseCourt$Reader" (36 : Nat) ({ cls := "ClauseCourt$Reader", name := "isDigit", desc := "()Z" } : Jvm.MethodName)) ∈ lw_all := lw_g (lw_at lw_m5 12 rfl) rfl
theorem q1129 : (Jvm.Cond.privateMethod ({ cls := "ClauseCourt$Reader", name := "isDigit", desc := "()Z" } : Jvm.MethodName)) ∈ lw_tbl := lw_at lw_m5 13 rfl
theorem q1130 : (Jvm.Cond.instanceMethod ({ cls := "ClauseCourt$Reader", name := "isDigit", desc := "()Z" } : Jvm.MethodName)) ∈ lw_all := lw_g (lw_at lw_m5 14 rfl) rfl
theorem q1131 : (Jvm.Cond.code ({ cls := "ClauseCourt$Reader", name := "isDigit", desc := "()Z" } : Jvm.MethodName) prog_12_method_4_code (1 : Nat) (Option.some Jvm.ClassFile.FieldType.boolean)) ∈ lw_all := lw_g (lw_at lw_m5 15 rfl) rfl
theorem in_X10 : ∀ w ∈ wsX100, w ∈ lw_all := lw_in wsX100 [1042, 1044, 1046, 1048, 1050] (by decide +kernel) (by decide +kernel)

/-! ClauseCourt$Part -/
set_option maxRecDepth 100000
def RX11 : String := "ClauseCourt$Part"
def TX11 : u_T := fun k => match k with
  | 0 => ("ClauseCourt$Part", "sign", "I", true)
  | 1 => ("ClauseCourt$Part", "number", "I", false)
  | 2 => ("ClauseCourt$Part", "parts", "I", false)
  | _ => ("ClauseCourt$Part", "part", "[LClauseCourt$Part;", true)
def tyX11 : Nat → FieldType := fun k => match k with
  | 0 => .int
  | 1 => .int
  | 2 => .int
  | _ => .array (.object "ClauseCourt$Part")
abbrev wsX110 : List Cond := u_ws RX11 TX11 4
theorem nmX11 : ∀ a, a < 4 → ∀ b, b < 4 → a ≠ b → (TX11 a).2.1 ≠ (TX11 b).2.1 := by decide +kernel
theorem tyX11_ok : ∀ k, k < 4 → parseFieldDescriptor (TX11 k).2.2.1 = some (tyX11 k) := by decide +kernel
abbrev cX11_init : ByteArray := prog_10_method_1_code
def yX11_init : MethodName := ⟨RX11, "<init>", "(II)V"⟩
def dkwX11_init_0 : List UInt8 := [42, 183, 0, 1, 42, 27, 181, 0, 7, 42, 28, 189, 0, 8, 181, 0, 13, 177]
abbrev dktX11_init_0 : List UInt8 := dkwX11_init_0 ++ []
theorem dksX11_init_0 : cX11_init.data.toList.drop 0 = dktX11_init_0 := by decide +kernel
theorem dX11_init_0 : decode cX11_init 0 = .ok (.aload_n 0, 1) := dk_42 (dk_at dksX11_init_0 0 rfl rfl)
theorem dX11_init_1 : decode cX11_init 1 = .ok (.invokespecial 1, 3) := dk_183 0 1 (dk_at dksX11_init_0 1 rfl rfl)
theorem dX11_init_4 : decode cX11_init 4 = .ok (.aload_n 0, 1) := dk_42 (dk_at dksX11_init_0 4 rfl rfl)
theorem dX11_init_5 : decode cX11_init 5 = .ok (.iload_n 1, 1) := dk_27 (dk_at dksX11_init_0 5 rfl rfl)
theorem dX11_init_6 : decode cX11_init 6 = .ok (.putfield 7, 3) := dk_181 0 7 (dk_at dksX11_init_0 6 rfl rfl)
theorem dX11_init_9 : decode cX11_init 9 = .ok (.aload_n 0, 1) := dk_42 (dk_at dksX11_init_0 9 rfl rfl)
theorem dX11_init_10 : decode cX11_init 10 = .ok (.iload_n 2, 1) := dk_28 (dk_at dksX11_init_0 10 rfl rfl)
theorem dX11_init_11 : decode cX11_init 11 = .ok (.anewarray 8, 3) := dk_189 0 8 (dk_at dksX11_init_0 11 rfl rfl)
theorem dX11_init_14 : decode cX11_init 14 = .ok (.putfield 13, 3) := dk_181 0 13 (dk_at dksX11_init_0 14 rfl rfl)
theorem dX11_init_17 : decode cX11_init 17 = .ok (.return_, 1) := dk_177 (dk_at dksX11_init_0 17 rfl rfl)
theorem q178 : (Jvm.Cond.initialized "ClauseCourt$Part") ∈ lw_all := lw_g (lw_at lw_m1 22 rfl) rfl
theorem q1066 : (Jvm.Cond.instantiable "ClauseCourt$Part" (4 : Nat)) ∈ lw_all := lw_g (lw_at lw_m4 190 rfl) rfl
theorem q1068 : (Jvm.Cond.instanceMethod ({ cls := "ClauseCourt$Part", name := "<init>", desc := "(II)V" } : Jvm.MethodName)) ∈ lw_all := lw_g (lw_at lw_m4 192 rfl) rfl
theorem q1069 : (Jvm.Cond.code ({ cls := "ClauseCourt$Part", name := "<init>", desc := "(II)V" } : Jvm.MethodName) prog_10_method_1_code (3 : Nat) (Option.none : Option Jvm.ClassFile.FieldType)) ∈ lw_all := lw_g (lw_at lw_m4 193 rfl) rfl
theorem q1070 : (Jvm.Cond.methodLink "ClauseCourt$Part" (1 : Nat) ({ cls := "java/lang/Object", name := "<init>", desc := "()V" } : Jvm.MethodName)) ∈ lw_all := lw_g (lw_at lw_m4 194 rfl) rfl
theorem q1071 : (Jvm.Cond.classLink "ClauseCourt$Part" (8 : Nat) "ClauseCourt$Part") ∈ lw_all := lw_g (lw_at lw_m4 195 rfl) rfl
theorem q1073 : (Jvm.Cond.fieldLink "ClauseCourt$Part" (7 : Nat) "ClauseCourt$Part" "sign" "I") ∈ lw_all := lw_g (lw_at lw_m4 197 rfl) rfl
theorem q1079 : (Jvm.Cond.fieldLink "ClauseCourt$Part" (13 : Nat) "ClauseCourt$Part" "part" "[LClauseCourt$Part;") ∈ lw_all := lw_g (lw_at lw_m4 203 rfl) rfl
theorem q1082 : (Jvm.Cond.laysFinal "ClauseCourt$Part" "ClauseCourt$Part" "sign" "I") ∈ lw_all := lw_g (lw_at lw_m4 206 rfl) rfl
theorem q1083 : (Jvm.Cond.soleField "ClauseCourt$Part" "sign") ∈ lw_all := lw_g (lw_at lw_m4 207 rfl) rfl
theorem q1084 : (Jvm.Cond.lays "ClauseCourt$Part" "ClauseCourt$Part" "number" "I") ∈ lw_all := lw_g (lw_at lw_m4 208 rfl) rfl
theorem q1085 : (Jvm.Cond.soleField "ClauseCourt$Part" "number") ∈ lw_all := lw_g (lw_at lw_m4 209 rfl) rfl
theorem q1086 : (Jvm.Cond.lays "ClauseCourt$Part" "ClauseCourt$Part" "parts" "I") ∈ lw_all := lw_g (lw_at lw_m4 210 rfl) rfl
theorem q1087 : (Jvm.Cond.soleField "ClauseCourt$Part" "parts") ∈ lw_all := lw_g (lw_at lw_m4 211 rfl) rfl
theorem q1088 : (Jvm.Cond.laysFinal "ClauseCourt$Part" "ClauseCourt$Part" "part" "[LClauseCourt$Part;") ∈ lw_all := lw_g (lw_at lw_m4 212 rfl) rfl
theorem q1089 : (Jvm.Cond.soleField "ClauseCourt$Part" "part") ∈ lw_all := lw_g (lw_at lw_m4 213 rfl) rfl
theorem q1090 : (Jvm.Cond.superclass "ClauseCourt$Part" "java/lang/Object") ∈ lw_all := lw_g (lw_at lw_m4 214 rfl) rfl
theorem in_X11 : ∀ w ∈ wsX110, w ∈ lw_all := lw_in wsX110 [1082, 1084, 1086, 1088] (by decide +kernel) (by decide +kernel)

/-! ClauseCourt$Unread -/
set_option maxRecDepth 100000
def RX12 : String := "ClauseCourt$Unread"
def TX12 : u_T := fun k => match k with
  | 0 => ("java/lang/Throwable", "cause", "Ljava/lang/Throwable;", false)
  | 1 => ("java/lang/Throwable", "stackTrace", "[Ljava/lang/StackTraceElement;", false)
  | 2 => ("java/lang/Throwable", "suppressedExceptions", "Ljava/util/List;", false)
  | 3 => ("java/lang/Throwable", "detailMessage", "Ljava/lang/String;", false)
  | 4 => ("java/lang/Throwable", "backtrace", "Ljava/lang/Object;", false)
  | 5 => ("java/lang/Throwable", "depth", "I", false)
  | _ => ("ClauseCourt$Unread", "place", "I", true)
def tyX12 : Nat → FieldType := fun k => match k with
  | 0 => .object "java/lang/Throwable"
  | 1 => .array (.object "java/lang/StackTraceElement")
  | 2 => .object "java/util/List"
  | 3 => .object "java/lang/String"
  | 4 => .object "java/lang/Object"
  | 5 => .int
  | _ => .int
abbrev wsX120 : List Cond := u_ws RX12 TX12 7
theorem nmX12 : ∀ a, a < 7 → ∀ b, b < 7 → a ≠ b → (TX12 a).2.1 ≠ (TX12 b).2.1 := by decide +kernel
theorem tyX12_ok : ∀ k, k < 7 → parseFieldDescriptor (TX12 k).2.2.1 = some (tyX12 k) := by decide +kernel
abbrev cX12_init : ByteArray := prog_16_method_1_code
def yX12_init : MethodName := ⟨RX12, "<init>", "(I)V"⟩
def dkwX12_init_0 : List UInt8 := [42, 18, 1, 1, 3, 3, 183, 0, 3, 42, 27, 181, 0, 9, 177]
abbrev dktX12_init_0 : List UInt8 := dkwX12_init_0 ++ []
theorem dksX12_init_0 : cX12_init.data.toList.drop 0 = dktX12_init_0 := by decide +kernel
theorem dX12_init_0 : decode cX12_init 0 = .ok (.aload_n 0, 1) := dk_42 (dk_at dksX12_init_0 0 rfl rfl)
theorem dX12_init_1 : decode cX12_init 1 = .ok (.ldc 1, 2) := dk_18 1 (dk_at dksX12_init_0 1 rfl rfl)
theorem dX12_init_3 : decode cX12_init 3 = .ok (.aconst_null, 1) := dk_1 (dk_at dksX12_init_0 3 rfl rfl)
theorem dX12_init_4 : decode cX12_init 4 = .ok (.iconst 0, 1) := dk_3 (dk_at dksX12_init_0 4 rfl rfl)
theorem dX12_init_5 : decode cX12_init 5 = .ok (.iconst 0, 1) := dk_3 (dk_at dksX12_init_0 5 rfl rfl)
theorem dX12_init_6 : decode cX12_init 6 = .ok (.invokespecial 3, 3) := dk_183 0 3 (dk_at dksX12_init_0 6 rfl rfl)
theorem dX12_init_9 : decode cX12_init 9 = .ok (.aload_n 0, 1) := dk_42 (dk_at dksX12_init_0 9 rfl rfl)
theorem dX12_init_10 : decode cX12_init 10 = .ok (.iload_n 1, 1) := dk_27 (dk_at dksX12_init_0 10 rfl rfl)
theorem dX12_init_11 : decode cX12_init 11 = .ok (.putfield 9, 3) := dk_181 0 9 (dk_at dksX12_init_0 11 rfl rfl)
theorem dX12_init_14 : decode cX12_init 14 = .ok (.return_, 1) := dk_177 (dk_at dksX12_init_0 14 rfl rfl)
theorem q179 : (Jvm.Cond.initialized "ClauseCourt$Unread") ∈ lw_all := lw_g (lw_at lw_m1 23 rfl) rfl
theorem q628 : (Jvm.Cond.selects "ClauseCourt$Unread" ({ cls := "java/lang/Throwable", name := "fillInStackTrace", desc := "()Ljava/lang/Throwable;" } : Jvm.MethodName) ({ cls := "java/lang/Throwable", name := "fillInStackTrace", desc := "()Ljava/lang/Throwable;" } : Jvm.MethodName)) ∈ lw_all := lw_g (lw_at lw_m2 232 rfl) rfl
theorem q1096 : (Jvm.Cond.instantiable "ClauseCourt$Unread" (7 : Nat)) ∈ lw_all := lw_g (lw_at lw_m4 220 rfl) rfl
theorem q1097 : (Jvm.Cond.castable "ClauseCourt$Unread" "ClauseCourt$Unread") ∈ lw_tbl := lw_at lw_m4 221 rfl
theorem q1098 : (Jvm.Cond.selects "ClauseCourt$Unread" ({ cls := "java/lang/Throwable", name := "fillInStackTrace", desc := "(I)Ljava/lang/Throwable;" } : Jvm.MethodName) ({ cls := "java/lang/Throwable", name := "fillInStackTrace", desc := "(I)Ljava/lang/Throwable;" } : Jvm.MethodName)) ∈ lw_all := lw_g (lw_at lw_m4 222 rfl) rfl
theorem q1099 : (Jvm.Cond.lays "ClauseCourt$Unread" "java/lang/Throwable" "cause" "Ljava/lang/Throwable;") ∈ lw_all := lw_g (lw_at lw_m4 223 rfl) rfl
theorem q1100 : (Jvm.Cond.lays "ClauseCourt$Unread" "java/lang/Throwable" "stackTrace" "[Ljava/lang/StackTraceElement;") ∈ lw_all := lw_g (lw_at lw_m4 224 rfl) rfl
theorem q1101 : (Jvm.Cond.lays "ClauseCourt$Unread" "java/lang/Throwable" "suppressedExceptions" "Ljava/util/List;") ∈ lw_all := lw_g (lw_at lw_m4 225 rfl) rfl
theorem q1102 : (Jvm.Cond.lays "ClauseCourt$Unread" "java/lang/Throwable" "detailMessage" "Ljava/lang/String;") ∈ lw_all := lw_g (lw_at lw_m4 226 rfl) rfl
theorem q1103 : (Jvm.Cond.lays "ClauseCourt$Unread" "java/lang/Throwable" "backtrace" "Ljava/lang/Object;") ∈ lw_all := lw_g (lw_at lw_m4 227 rfl) rfl
theorem q1105 : (Jvm.Cond.instanceMethod ({ cls := "ClauseCourt$Unread", name := "<init>", desc := "(I)V" } : Jvm.MethodName)) ∈ lw_all := lw_g (lw_at lw_m4 229 rfl) rfl
theorem q1106 : (Jvm.Cond.code ({ cls := "ClauseCourt$Unread", name := "<init>", desc := "(I)V" } : Jvm.MethodName) prog_16_method_1_code (2 : Nat) (Option.none : Option Jvm.ClassFile.FieldType)) ∈ lw_all := lw_g (lw_at lw_m4 230 rfl) rfl
theorem q1107 : (Jvm.Cond.stringRef "ClauseCourt$Unread" (1 : Nat) "unread") ∈ lw_tbl := lw_at lw_m4 231 rfl
theorem q1108 : (Jvm.Cond.methodLink "ClauseCourt$Unread" (3 : Nat) ({ cls := "java/lang/Exception", name := "<init>", desc := "(Ljava/lang/String;Ljava/lang/Throwable;ZZ)V" } : Jvm.MethodName)) ∈ lw_all := lw_g (lw_at lw_m4 232 rfl) rfl
theorem q1114 : (Jvm.Cond.fieldLink "ClauseCourt$Unread" (9 : Nat) "ClauseCourt$Unread" "place" "I") ∈ lw_all := lw_g (lw_at lw_m4 238 rfl) rfl
theorem q1116 : (Jvm.Cond.laysFinal "ClauseCourt$Unread" "ClauseCourt$Unread" "place" "I") ∈ lw_all := lw_g (lw_at lw_m5 0 rfl) rfl
theorem q1117 : (Jvm.Cond.soleField "ClauseCourt$Unread" "place") ∈ lw_all := lw_g (lw_at lw_m5 1 rfl) rfl
theorem q1118 : (Jvm.Cond.lays "ClauseCourt$Unread" "java/lang/Throwable" "depth" "I") ∈ lw_all := lw_g (lw_at lw_m5 2 rfl) rfl
theorem q1119 : (Jvm.Cond.superclass "ClauseCourt$Unread" "java/lang/Exception") ∈ lw_all := lw_g (lw_at lw_m5 3 rfl) rfl
theorem in_X12 : ∀ w ∈ wsX120, w ∈ lw_all := lw_in wsX120 [1099, 1100, 1101, 1102, 1103, 1118, 1116] (by decide +kernel) (by decide +kernel)

/-! ClauseCourt$Told -/
set_option maxRecDepth 100000
def RX13 : String := "ClauseCourt$Told"
def TX13 : u_T := fun k => match k with
  | 0 => ("ClauseCourt$Rule", "kind", "I", true)
  | 1 => ("ClauseCourt$Rule", "items", "[I", true)
  | 2 => ("ClauseCourt$Rule", "first", "I", false)
  | 3 => ("ClauseCourt$Rule", "many", "I", false)
  | 4 => ("ClauseCourt$Rule", "this$0", "LClauseCourt;", true)
  | 5 => ("ClauseCourt$Clause", "this$0", "LClauseCourt;", true)
  | 6 => ("ClauseCourt$Told", "text", "[B", true)
  | 7 => ("ClauseCourt$Told", "whole", "LClauseCourt$Part;", true)
  | _ => ("ClauseCourt$Told", "this$0", "LClauseCourt;", true)
def tyX13 : Nat → FieldType := fun k => match k with
  | 0 => .int
  | 1 => .array .int
  | 2 => .int
  | 3 => .int
  | 4 => .object "ClauseCourt"
  | 5 => .object "ClauseCourt"
  | 6 => .array .byte
  | 7 => .object "ClauseCourt$Part"
  | _ => .object "ClauseCourt"
abbrev wsX130 : List Cond := u_ws RX13 TX13 9
-- two fields of one name: no nmX13
theorem tyX13_ok : ∀ k, k < 9 → parseFieldDescriptor (TX13 k).2.2.1 = some (tyX13 k) := by decide +kernel
abbrev cX13_lay : ByteArray := prog_14_method_11_code
def yX13_lay : MethodName := ⟨RX13, "lay", "()V"⟩
def dkwX13_lay_0 : List UInt8 := [42, 180, 0, 3, 42, 42, 180, 0, 19, 182, 0, 56, 182, 0, 92, 177]
abbrev dktX13_lay_0 : List UInt8 := dkwX13_lay_0 ++ []
theorem dksX13_lay_0 : cX13_lay.data.toList.drop 0 = dktX13_lay_0 := by decide +kernel
theorem dX13_lay_0 : decode cX13_lay 0 = .ok (.aload_n 0, 1) := dk_42 (dk_at dksX13_lay_0 0 rfl rfl)
theorem dX13_lay_1 : decode cX13_lay 1 = .ok (.getfield 3, 3) := dk_180 0 3 (dk_at dksX13_lay_0 1 rfl rfl)
theorem dX13_lay_4 : decode cX13_lay 4 = .ok (.aload_n 0, 1) := dk_42 (dk_at dksX13_lay_0 4 rfl rfl)
theorem dX13_lay_5 : decode cX13_lay 5 = .ok (.aload_n 0, 1) := dk_42 (dk_at dksX13_lay_0 5 rfl rfl)
theorem dX13_lay_6 : decode cX13_lay 6 = .ok (.getfield 19, 3) := dk_180 0 19 (dk_at dksX13_lay_0 6 rfl rfl)
theorem dX13_lay_9 : decode cX13_lay 9 = .ok (.invokevirtual 56, 3) := dk_182 0 56 (dk_at dksX13_lay_0 9 rfl rfl)
theorem dX13_lay_12 : decode cX13_lay 12 = .ok (.invokevirtual 92, 3) := dk_182 0 92 (dk_at dksX13_lay_0 12 rfl rfl)
theorem dX13_lay_15 : decode cX13_lay 15 = .ok (.return_, 1) := dk_177 (dk_at dksX13_lay_0 15 rfl rfl)
abbrev cX13_layPart : ByteArray := prog_14_method_6_code
def yX13_layPart : MethodName := ⟨RX13, "layPart", "(LClauseCourt$Part;)I"⟩
def dkwX13_layPart_7 : List UInt8 := [29, 172]
abbrev dktX13_layPart_7 : List UInt8 := dkwX13_layPart_7 ++ []
def dkwX13_layPart_6 : List UInt8 := [180, 0, 3, 44, 3, 46, 116, 44, 4, 46, 29, 116, 182, 0, 76, 167, 0, 9, 42, 44, 29, 182, 0, 79]
abbrev dktX13_layPart_6 : List UInt8 := dkwX13_layPart_6 ++ dktX13_layPart_7
def dkwX13_layPart_5 : List UInt8 := [180, 0, 3, 44, 3, 46, 29, 182, 0, 72, 42, 180, 0, 3, 44, 4, 46, 116, 29, 182, 0, 72, 42]
abbrev dktX13_layPart_5 : List UInt8 := dkwX13_layPart_5 ++ dktX13_layPart_6
def dkwX13_layPart_4 : List UInt8 := [160, 0, 12, 42, 44, 29, 182, 0, 68, 167, 0, 60, 43, 180, 0, 37, 16, 62, 160, 0, 45, 42]
abbrev dktX13_layPart_4 : List UInt8 := dkwX13_layPart_4 ++ dktX13_layPart_5
def dkwX13_layPart_3 : List UInt8 := [180, 0, 37, 16, 38, 160, 0, 13, 42, 44, 29, 4, 182, 0, 64, 167, 0, 78, 43, 180, 0, 37, 16, 124]
abbrev dktX13_layPart_3 : List UInt8 := dkwX13_layPart_3 ++ dktX13_layPart_4
def dkwX13_layPart_2 : List UInt8 := [43, 180, 0, 37, 16, 33, 160, 0, 8, 44, 3, 46, 116, 172, 42, 180, 0, 3, 182, 0, 60, 62, 43]
abbrev dktX13_layPart_2 : List UInt8 := dkwX13_layPart_2 ++ dktX13_layPart_3
def dkwX13_layPart_1 : List UInt8 := [44, 190, 162, 0, 22, 44, 29, 42, 43, 180, 0, 29, 29, 50, 182, 0, 56, 79, 132, 3, 1, 167, 255, 234]
abbrev dktX13_layPart_1 : List UInt8 := dkwX13_layPart_1 ++ dktX13_layPart_2
def dkwX13_layPart_0 : List UInt8 := [43, 180, 0, 37, 16, 120, 160, 0, 8, 43, 180, 0, 40, 172, 43, 180, 0, 23, 188, 10, 77, 3, 62, 29]
abbrev dktX13_layPart_0 : List UInt8 := dkwX13_layPart_0 ++ dktX13_layPart_1
theorem dksX13_layPart_0 : cX13_layPart.data.toList.drop 0 = dktX13_layPart_0 := by decide +kernel
theorem dksX13_layPart_1 : cX13_layPart.data.toList.drop 24 = dktX13_layPart_1 := dk_seg dksX13_layPart_0 24 rfl rfl
theorem dksX13_layPart_2 : cX13_layPart.data.toList.drop 48 = dktX13_layPart_2 := dk_seg dksX13_layPart_1 24 rfl rfl
theorem dksX13_layPart_3 : cX13_layPart.data.toList.drop 71 = dktX13_layPart_3 := dk_seg dksX13_layPart_2 23 rfl rfl
theorem dksX13_layPart_4 : cX13_layPart.data.toList.drop 95 = dktX13_layPart_4 := dk_seg dksX13_layPart_3 24 rfl rfl
theorem dksX13_layPart_5 : cX13_layPart.data.toList.drop 117 = dktX13_layPart_5 := dk_seg dksX13_layPart_4 22 rfl rfl
theorem dksX13_layPart_6 : cX13_layPart.data.toList.drop 140 = dktX13_layPart_6 := dk_seg dksX13_layPart_5 23 rfl rfl
theorem dksX13_layPart_7 : cX13_layPart.data.toList.drop 164 = dktX13_layPart_7 := dk_seg dksX13_layPart_6 24 rfl rfl
theorem dX13_layPart_0 : decode cX13_layPart 0 = .ok (.aload_n 1, 1) := dk_43 (dk_at dksX13_layPart_0 0 rfl rfl)
theorem dX13_layPart_1 : decode cX13_layPart 1 = .ok (.getfield 37, 3) := dk_180 0 37 (dk_at dksX13_layPart_0 1 rfl rfl)
theorem dX13_layPart_4 : decode cX13_layPart 4 = .ok (.bipush 120, 2) := dk_16 120 (dk_at dksX13_layPart_0 4 rfl rfl)
theorem dX13_layPart_6 : decode cX13_layPart 6 = .ok (.if_icmp .ne 8, 3) := dk_160 0 8 (dk_at dksX13_layPart_0 6 rfl rfl)
theorem dX13_layPart_9 : decode cX13_layPart 9 = .ok (.aload_n 1, 1) := dk_43 (dk_at dksX13_layPart_0 9 rfl rfl)
theorem dX13_layPart_10 : decode cX13_layPart 10 = .ok (.getfield 40, 3) := dk_180 0 40 (dk_at dksX13_layPart_0 10 rfl rfl)
theorem dX13_layPart_13 : decode cX13_layPart 13 = .ok (.ireturn, 1) := dk_172 (dk_at dksX13_layPart_0 13 rfl rfl)
theorem dX13_layPart_14 : decode cX13_layPart 14 = .ok (.aload_n 1, 1) := dk_43 (dk_at dksX13_layPart_0 14 rfl rfl)
theorem dX13_layPart_15 : decode cX13_layPart 15 = .ok (.getfield 23, 3) := dk_180 0 23 (dk_at dksX13_layPart_0 15 rfl rfl)
theorem dX13_layPart_18 : decode cX13_layPart 18 = .ok (.newarray .int, 2) := dk_188_10 (dk_at dksX13_layPart_0 18 rfl rfl)
theorem dX13_layPart_20 : decode cX13_layPart 20 = .ok (.astore_n 2, 1) := dk_77 (dk_at dksX13_layPart_0 20 rfl rfl)
theorem dX13_layPart_21 : decode cX13_layPart 21 = .ok (.iconst 0, 1) := dk_3 (dk_at dksX13_layPart_0 21 rfl rfl)
theorem dX13_layPart_22 : decode cX13_layPart 22 = .ok (.istore_n 3, 1) := dk_62 (dk_at dksX13_layPart_0 22 rfl rfl)
theorem dX13_layPart_23 : decode cX13_layPart 23 = .ok (.iload_n 3, 1) := dk_29 (dk_at dksX13_layPart_0 23 rfl rfl)
theorem dX13_layPart_24 : decode cX13_layPart 24 = .ok (.aload_n 2, 1) := dk_44 (dk_at dksX13_layPart_1 0 rfl rfl)
theorem dX13_layPart_25 : decode cX13_layPart 25 = .ok (.arraylength, 1) := dk_190 (dk_at dksX13_layPart_1 1 rfl rfl)
theorem dX13_layPart_26 : decode cX13_layPart 26 = .ok (.if_icmp .ge 22, 3) := dk_162 0 22 (dk_at dksX13_layPart_1 2 rfl rfl)
theorem dX13_layPart_29 : decode cX13_layPart 29 = .ok (.aload_n 2, 1) := dk_44 (dk_at dksX13_layPart_1 5 rfl rfl)
theorem dX13_layPart_30 : decode cX13_layPart 30 = .ok (.iload_n 3, 1) := dk_29 (dk_at dksX13_layPart_1 6 rfl rfl)
theorem dX13_layPart_31 : decode cX13_layPart 31 = .ok (.aload_n 0, 1) := dk_42 (dk_at dksX13_layPart_1 7 rfl rfl)
theorem dX13_layPart_32 : decode cX13_layPart 32 = .ok (.aload_n 1, 1) := dk_43 (dk_at dksX13_layPart_1 8 rfl rfl)
theorem dX13_layPart_33 : decode cX13_layPart 33 = .ok (.getfield 29, 3) := dk_180 0 29 (dk_at dksX13_layPart_1 9 rfl rfl)
theorem dX13_layPart_36 : decode cX13_layPart 36 = .ok (.iload_n 3, 1) := dk_29 (dk_at dksX13_layPart_1 12 rfl rfl)
theorem dX13_layPart_37 : decode cX13_layPart 37 = .ok (.aaload, 1) := dk_50 (dk_at dksX13_layPart_1 13 rfl rfl)
theorem dX13_layPart_38 : decode cX13_layPart 38 = .ok (.invokevirtual 56, 3) := dk_182 0 56 (dk_at dksX13_layPart_1 14 rfl rfl)
theorem dX13_layPart_41 : decode cX13_layPart 41 = .ok (.iastore, 1) := dk_79 (dk_at dksX13_layPart_1 17 rfl rfl)
theorem dX13_layPart_42 : decode cX13_layPart 42 = .ok (.iinc 3 1, 3) := dk_132 3 1 (dk_at dksX13_layPart_1 18 rfl rfl)
theorem dX13_layPart_45 : decode cX13_layPart 45 = .ok (.goto (-22), 3) := dk_167 255 234 (dk_at dksX13_layPart_1 21 rfl rfl)
theorem dX13_layPart_48 : decode cX13_layPart 48 = .ok (.aload_n 1, 1) := dk_43 (dk_at dksX13_layPart_2 0 rfl rfl)
theorem dX13_layPart_49 : decode cX13_layPart 49 = .ok (.getfield 37, 3) := dk_180 0 37 (dk_at dksX13_layPart_2 1 rfl rfl)
theorem dX13_layPart_52 : decode cX13_layPart 52 = .ok (.bipush 33, 2) := dk_16 33 (dk_at dksX13_layPart_2 4 rfl rfl)
theorem dX13_layPart_54 : decode cX13_layPart 54 = .ok (.if_icmp .ne 8, 3) := dk_160 0 8 (dk_at dksX13_layPart_2 6 rfl rfl)
theorem dX13_layPart_57 : decode cX13_layPart 57 = .ok (.aload_n 2, 1) := dk_44 (dk_at dksX13_layPart_2 9 rfl rfl)
theorem dX13_layPart_58 : decode cX13_layPart 58 = .ok (.iconst 0, 1) := dk_3 (dk_at dksX13_layPart_2 10 rfl rfl)
theorem dX13_layPart_59 : decode cX13_layPart 59 = .ok (.iaload, 1) := dk_46 (dk_at dksX13_layPart_2 11 rfl rfl)
theorem dX13_layPart_60 : decode cX13_layPart 60 = .ok (.ineg, 1) := dk_116 (dk_at dksX13_layPart_2 12 rfl rfl)
theorem dX13_layPart_61 : decode cX13_layPart 61 = .ok (.ireturn, 1) := dk_172 (dk_at dksX13_layPart_2 13 rfl rfl)
theorem dX13_layPart_62 : decode cX13_layPart 62 = .ok (.aload_n 0, 1) := dk_42 (dk_at dksX13_layPart_2 14 rfl rfl)
theorem dX13_layPart_63 : decode cX13_layPart 63 = .ok (.getfield 3, 3) := dk_180 0 3 (dk_at dksX13_layPart_2 15 rfl rfl)
theorem dX13_layPart_66 : decode cX13_layPart 66 = .ok (.invokevirtual 60, 3) := dk_182 0 60 (dk_at dksX13_layPart_2 18 rfl rfl)
theorem dX13_layPart_69 : decode cX13_layPart 69 = .ok (.istore_n 3, 1) := dk_62 (dk_at dksX13_layPart_2 21 rfl rfl)
theorem dX13_layPart_70 : decode cX13_layPart 70 = .ok (.aload_n 1, 1) := dk_43 (dk_at dksX13_layPart_2 22 rfl rfl)
theorem dX13_layPart_71 : decode cX13_layPart 71 = .ok (.getfield 37, 3) := dk_180 0 37 (dk_at dksX13_layPart_3 0 rfl rfl)
theorem dX13_layPart_74 : decode cX13_layPart 74 = .ok (.bipush 38, 2) := dk_16 38 (dk_at dksX13_layPart_3 3 rfl rfl)
theorem dX13_layPart_76 : decode cX13_layPart 76 = .ok (.if_icmp .ne 13, 3) := dk_160 0 13 (dk_at dksX13_layPart_3 5 rfl rfl)
theorem dX13_layPart_79 : decode cX13_layPart 79 = .ok (.aload_n 0, 1) := dk_42 (dk_at dksX13_layPart_3 8 rfl rfl)
theorem dX13_layPart_80 : decode cX13_layPart 80 = .ok (.aload_n 2, 1) := dk_44 (dk_at dksX13_layPart_3 9 rfl rfl)
theorem dX13_layPart_81 : decode cX13_layPart 81 = .ok (.iload_n 3, 1) := dk_29 (dk_at dksX13_layPart_3 10 rfl rfl)
theorem dX13_layPart_82 : decode cX13_layPart 82 = .ok (.iconst 1, 1) := dk_4 (dk_at dksX13_layPart_3 11 rfl rfl)
theorem dX13_layPart_83 : decode cX13_layPart 83 = .ok (.invokevirtual 64, 3) := dk_182 0 64 (dk_at dksX13_layPart_3 12 rfl rfl)
theorem dX13_layPart_86 : decode cX13_layPart 86 = .ok (.goto 78, 3) := dk_167 0 78 (dk_at dksX13_layPart_3 15 rfl rfl)
theorem dX13_layPart_89 : decode cX13_layPart 89 = .ok (.aload_n 1, 1) := dk_43 (dk_at dksX13_layPart_3 18 rfl rfl)
theorem dX13_layPart_90 : decode cX13_layPart 90 = .ok (.getfield 37, 3) := dk_180 0 37 (dk_at dksX13_layPart_3 19 rfl rfl)
theorem dX13_layPart_93 : decode cX13_layPart 93 = .ok (.bipush 124, 2) := dk_16 124 (dk_at dksX13_layPart_3 22 rfl rfl)
theorem dX13_layPart_95 : decode cX13_layPart 95 = .ok (.if_icmp .ne 12, 3) := dk_160 0 12 (dk_at dksX13_layPart_4 0 rfl rfl)
theorem dX13_layPart_98 : decode cX13_layPart 98 = .ok (.aload_n 0, 1) := dk_42 (dk_at dksX13_layPart_4 3 rfl rfl)
theorem dX13_layPart_99 : decode cX13_layPart 99 = .ok (.aload_n 2, 1) := dk_44 (dk_at dksX13_layPart_4 4 rfl rfl)
theorem dX13_layPart_100 : decode cX13_layPart 100 = .ok (.iload_n 3, 1) := dk_29 (dk_at dksX13_layPart_4 5 rfl rfl)
theorem dX13_layPart_101 : decode cX13_layPart 101 = .ok (.invokevirtual 68, 3) := dk_182 0 68 (dk_at dksX13_layPart_4 6 rfl rfl)
theorem dX13_layPart_104 : decode cX13_layPart 104 = .ok (.goto 60, 3) := dk_167 0 60 (dk_at dksX13_layPart_4 9 rfl rfl)
theorem dX13_layPart_107 : decode cX13_layPart 107 = .ok (.aload_n 1, 1) := dk_43 (dk_at dksX13_layPart_4 12 rfl rfl)
theorem dX13_layPart_108 : decode cX13_layPart 108 = .ok (.getfield 37, 3) := dk_180 0 37 (dk_at dksX13_layPart_4 13 rfl rfl)
theorem dX13_layPart_111 : decode cX13_layPart 111 = .ok (.bipush 62, 2) := dk_16 62 (dk_at dksX13_layPart_4 16 rfl rfl)
theorem dX13_layPart_113 : decode cX13_layPart 113 = .ok (.if_icmp .ne 45, 3) := dk_160 0 45 (dk_at dksX13_layPart_4 18 rfl rfl)
theorem dX13_layPart_116 : decode cX13_layPart 116 = .ok (.aload_n 0, 1) := dk_42 (dk_at dksX13_layPart_4 21 rfl rfl)
theorem dX13_layPart_117 : decode cX13_layPart 117 = .ok (.getfield 3, 3) := dk_180 0 3 (dk_at dksX13_layPart_5 0 rfl rfl)
theorem dX13_layPart_120 : decode cX13_layPart 120 = .ok (.aload_n 2, 1) := dk_44 (dk_at dksX13_layPart_5 3 rfl rfl)
theorem dX13_layPart_121 : decode cX13_layPart 121 = .ok (.iconst 0, 1) := dk_3 (dk_at dksX13_layPart_5 4 rfl rfl)
theorem dX13_layPart_122 : decode cX13_layPart 122 = .ok (.iaload, 1) := dk_46 (dk_at dksX13_layPart_5 5 rfl rfl)
theorem dX13_layPart_123 : decode cX13_layPart 123 = .ok (.iload_n 3, 1) := dk_29 (dk_at dksX13_layPart_5 6 rfl rfl)
theorem dX13_layPart_124 : decode cX13_layPart 124 = .ok (.invokevirtual 72, 3) := dk_182 0 72 (dk_at dksX13_layPart_5 7 rfl rfl)
theorem dX13_layPart_127 : decode cX13_layPart 127 = .ok (.aload_n 0, 1) := dk_42 (dk_at dksX13_layPart_5 10 rfl rfl)
theorem dX13_layPart_128 : decode cX13_layPart 128 = .ok (.getfield 3, 3) := dk_180 0 3 (dk_at dksX13_layPart_5 11 rfl rfl)
theorem dX13_layPart_131 : decode cX13_layPart 131 = .ok (.aload_n 2, 1) := dk_44 (dk_at dksX13_layPart_5 14 rfl rfl)
theorem dX13_layPart_132 : decode cX13_layPart 132 = .ok (.iconst 1, 1) := dk_4 (dk_at dksX13_layPart_5 15 rfl rfl)
theorem dX13_layPart_133 : decode cX13_layPart 133 = .ok (.iaload, 1) := dk_46 (dk_at dksX13_layPart_5 16 rfl rfl)
theorem dX13_layPart_134 : decode cX13_layPart 134 = .ok (.ineg, 1) := dk_116 (dk_at dksX13_layPart_5 17 rfl rfl)
theorem dX13_layPart_135 : decode cX13_layPart 135 = .ok (.iload_n 3, 1) := dk_29 (dk_at dksX13_layPart_5 18 rfl rfl)
theorem dX13_layPart_136 : decode cX13_layPart 136 = .ok (.invokevirtual 72, 3) := dk_182 0 72 (dk_at dksX13_layPart_5 19 rfl rfl)
theorem dX13_layPart_139 : decode cX13_layPart 139 = .ok (.aload_n 0, 1) := dk_42 (dk_at dksX13_layPart_5 22 rfl rfl)
theorem dX13_layPart_140 : decode cX13_layPart 140 = .ok (.getfield 3, 3) := dk_180 0 3 (dk_at dksX13_layPart_6 0 rfl rfl)
theorem dX13_layPart_143 : decode cX13_layPart 143 = .ok (.aload_n 2, 1) := dk_44 (dk_at dksX13_layPart_6 3 rfl rfl)
theorem dX13_layPart_144 : decode cX13_layPart 144 = .ok (.iconst 0, 1) := dk_3 (dk_at dksX13_layPart_6 4 rfl rfl)
theorem dX13_layPart_145 : decode cX13_layPart 145 = .ok (.iaload, 1) := dk_46 (dk_at dksX13_layPart_6 5 rfl rfl)
theorem dX13_layPart_146 : decode cX13_layPart 146 = .ok (.ineg, 1) := dk_116 (dk_at dksX13_layPart_6 6 rfl rfl)
theorem dX13_layPart_147 : decode cX13_layPart 147 = .ok (.aload_n 2, 1) := dk_44 (dk_at dksX13_layPart_6 7 rfl rfl)
theorem dX13_layPart_148 : decode cX13_layPart 148 = .ok (.iconst 1, 1) := dk_4 (dk_at dksX13_layPart_6 8 rfl rfl)
theorem dX13_layPart_149 : decode cX13_layPart 149 = .ok (.iaload, 1) := dk_46 (dk_at dksX13_layPart_6 9 rfl rfl)
theorem dX13_layPart_150 : decode cX13_layPart 150 = .ok (.iload_n 3, 1) := dk_29 (dk_at dksX13_layPart_6 10 rfl rfl)
theorem dX13_layPart_151 : decode cX13_layPart 151 = .ok (.ineg, 1) := dk_116 (dk_at dksX13_layPart_6 11 rfl rfl)
theorem dX13_layPart_152 : decode cX13_layPart 152 = .ok (.invokevirtual 76, 3) := dk_182 0 76 (dk_at dksX13_layPart_6 12 rfl rfl)
theorem dX13_layPart_155 : decode cX13_layPart 155 = .ok (.goto 9, 3) := dk_167 0 9 (dk_at dksX13_layPart_6 15 rfl rfl)
theorem dX13_layPart_158 : decode cX13_layPart 158 = .ok (.aload_n 0, 1) := dk_42 (dk_at dksX13_layPart_6 18 rfl rfl)
theorem dX13_layPart_159 : decode cX13_layPart 159 = .ok (.aload_n 2, 1) := dk_44 (dk_at dksX13_layPart_6 19 rfl rfl)
theorem dX13_layPart_160 : decode cX13_layPart 160 = .ok (.iload_n 3, 1) := dk_29 (dk_at dksX13_layPart_6 20 rfl rfl)
theorem dX13_layPart_161 : decode cX13_layPart 161 = .ok (.invokevirtual 79, 3) := dk_182 0 79 (dk_at dksX13_layPart_6 21 rfl rfl)
theorem dX13_layPart_164 : decode cX13_layPart 164 = .ok (.iload_n 3, 1) := dk_29 (dk_at dksX13_layPart_7 0 rfl rfl)
theorem dX13_layPart_165 : decode cX13_layPart 165 = .ok (.ireturn, 1) := dk_172 (dk_at dksX13_layPart_7 1 rfl rfl)
abbrev cX13_all : ByteArray := prog_14_method_7_code
def yX13_all : MethodName := ⟨RX13, "all", "([III)V"⟩
def dkwX13_all_4 : List UInt8 := [180, 0, 3, 182, 0, 85, 177]
abbrev dktX13_all_4 : List UInt8 := dkwX13_all_4 ++ []
def dkwX13_all_3 : List UInt8 := [21, 6, 46, 54, 7, 42, 180, 0, 3, 21, 7, 116, 182, 0, 82, 132, 6, 1, 167, 255, 229, 42]
abbrev dktX13_all_3 : List UInt8 := dkwX13_all_3 ++ dktX13_all_4
def dkwX13_all_2 : List UInt8 := [182, 0, 82, 43, 58, 4, 25, 4, 190, 54, 5, 3, 54, 6, 21, 6, 21, 5, 162, 0, 26, 25, 4]
abbrev dktX13_all_2 : List UInt8 := dkwX13_all_2 ++ dktX13_all_3
def dkwX13_all_1 : List UInt8 := [54, 7, 42, 180, 0, 3, 21, 7, 28, 116, 182, 0, 72, 132, 6, 1, 167, 255, 228, 42, 180, 0, 3, 28]
abbrev dktX13_all_1 : List UInt8 := dkwX13_all_1 ++ dktX13_all_2
def dkwX13_all_0 : List UInt8 := [43, 58, 4, 25, 4, 190, 54, 5, 3, 54, 6, 21, 6, 21, 5, 162, 0, 27, 25, 4, 21, 6, 46]
abbrev dktX13_all_0 : List UInt8 := dkwX13_all_0 ++ dktX13_all_1
theorem dksX13_all_0 : cX13_all.data.toList.drop 0 = dktX13_all_0 := by decide +kernel
theorem dksX13_all_1 : cX13_all.data.toList.drop 23 = dktX13_all_1 := dk_seg dksX13_all_0 23 rfl rfl
theorem dksX13_all_2 : cX13_all.data.toList.drop 47 = dktX13_all_2 := dk_seg dksX13_all_1 24 rfl rfl
theorem dksX13_all_3 : cX13_all.data.toList.drop 70 = dktX13_all_3 := dk_seg dksX13_all_2 23 rfl rfl
theorem dksX13_all_4 : cX13_all.data.toList.drop 92 = dktX13_all_4 := dk_seg dksX13_all_3 22 rfl rfl
theorem dX13_all_0 : decode cX13_all 0 = .ok (.aload_n 1, 1) := dk_43 (dk_at dksX13_all_0 0 rfl rfl)
theorem dX13_all_1 : decode cX13_all 1 = .ok (.astore 4, 2) := dk_58 4 (dk_at dksX13_all_0 1 rfl rfl)
theorem dX13_all_3 : decode cX13_all 3 = .ok (.aload 4, 2) := dk_25 4 (dk_at dksX13_all_0 3 rfl rfl)
theorem dX13_all_5 : decode cX13_all 5 = .ok (.arraylength, 1) := dk_190 (dk_at dksX13_all_0 5 rfl rfl)
theorem dX13_all_6 : decode cX13_all 6 = .ok (.istore 5, 2) := dk_54 5 (dk_at dksX13_all_0 6 rfl rfl)
theorem dX13_all_8 : decode cX13_all 8 = .ok (.iconst 0, 1) := dk_3 (dk_at dksX13_all_0 8 rfl rfl)
theorem dX13_all_9 : decode cX13_all 9 = .ok (.istore 6, 2) := dk_54 6 (dk_at dksX13_all_0 9 rfl rfl)
theorem dX13_all_11 : decode cX13_all 11 = .ok (.iload 6, 2) := dk_21 6 (dk_at dksX13_all_0 11 rfl rfl)
theorem dX13_all_13 : decode cX13_all 13 = .ok (.iload 5, 2) := dk_21 5 (dk_at dksX13_all_0 13 rfl rfl)
theorem dX13_all_15 : decode cX13_all 15 = .ok (.if_icmp .ge 27, 3) := dk_162 0 27 (dk_at dksX13_all_0 15 rfl rfl)
theorem dX13_all_18 : decode cX13_all 18 = .ok (.aload 4, 2) := dk_25 4 (dk_at dksX13_all_0 18 rfl rfl)
theorem dX13_all_20 : decode cX13_all 20 = .ok (.iload 6, 2) := dk_21 6 (dk_at dksX13_all_0 20 rfl rfl)
theorem dX13_all_22 : decode cX13_all 22 = .ok (.iaload, 1) := dk_46 (dk_at dksX13_all_0 22 rfl rfl)
theorem dX13_all_23 : decode cX13_all 23 = .ok (.istore 7, 2) := dk_54 7 (dk_at dksX13_all_1 0 rfl rfl)
theorem dX13_all_25 : decode cX13_all 25 = .ok (.aload_n 0, 1) := dk_42 (dk_at dksX13_all_1 2 rfl rfl)
theorem dX13_all_26 : decode cX13_all 26 = .ok (.getfield 3, 3) := dk_180 0 3 (dk_at dksX13_all_1 3 rfl rfl)
theorem dX13_all_29 : decode cX13_all 29 = .ok (.iload 7, 2) := dk_21 7 (dk_at dksX13_all_1 6 rfl rfl)
theorem dX13_all_31 : decode cX13_all 31 = .ok (.iload_n 2, 1) := dk_28 (dk_at dksX13_all_1 8 rfl rfl)
theorem dX13_all_32 : decode cX13_all 32 = .ok (.ineg, 1) := dk_116 (dk_at dksX13_all_1 9 rfl rfl)
theorem dX13_all_33 : decode cX13_all 33 = .ok (.invokevirtual 72, 3) := dk_182 0 72 (dk_at dksX13_all_1 10 rfl rfl)
theorem dX13_all_36 : decode cX13_all 36 = .ok (.iinc 6 1, 3) := dk_132 6 1 (dk_at dksX13_all_1 13 rfl rfl)
theorem dX13_all_39 : decode cX13_all 39 = .ok (.goto (-28), 3) := dk_167 255 228 (dk_at dksX13_all_1 16 rfl rfl)
theorem dX13_all_42 : decode cX13_all 42 = .ok (.aload_n 0, 1) := dk_42 (dk_at dksX13_all_1 19 rfl rfl)
theorem dX13_all_43 : decode cX13_all 43 = .ok (.getfield 3, 3) := dk_180 0 3 (dk_at dksX13_all_1 20 rfl rfl)
theorem dX13_all_46 : decode cX13_all 46 = .ok (.iload_n 2, 1) := dk_28 (dk_at dksX13_all_1 23 rfl rfl)
theorem dX13_all_47 : decode cX13_all 47 = .ok (.invokevirtual 82, 3) := dk_182 0 82 (dk_at dksX13_all_2 0 rfl rfl)
theorem dX13_all_50 : decode cX13_all 50 = .ok (.aload_n 1, 1) := dk_43 (dk_at dksX13_all_2 3 rfl rfl)
theorem dX13_all_51 : decode cX13_all 51 = .ok (.astore 4, 2) := dk_58 4 (dk_at dksX13_all_2 4 rfl rfl)
theorem dX13_all_53 : decode cX13_all 53 = .ok (.aload 4, 2) := dk_25 4 (dk_at dksX13_all_2 6 rfl rfl)
theorem dX13_all_55 : decode cX13_all 55 = .ok (.arraylength, 1) := dk_190 (dk_at dksX13_all_2 8 rfl rfl)
theorem dX13_all_56 : decode cX13_all 56 = .ok (.istore 5, 2) := dk_54 5 (dk_at dksX13_all_2 9 rfl rfl)
theorem dX13_all_58 : decode cX13_all 58 = .ok (.iconst 0, 1) := dk_3 (dk_at dksX13_all_2 11 rfl rfl)
theorem dX13_all_59 : decode cX13_all 59 = .ok (.istore 6, 2) := dk_54 6 (dk_at dksX13_all_2 12 rfl rfl)
theorem dX13_all_61 : decode cX13_all 61 = .ok (.iload 6, 2) := dk_21 6 (dk_at dksX13_all_2 14 rfl rfl)
theorem dX13_all_63 : decode cX13_all 63 = .ok (.iload 5, 2) := dk_21 5 (dk_at dksX13_all_2 16 rfl rfl)
theorem dX13_all_65 : decode cX13_all 65 = .ok (.if_icmp .ge 26, 3) := dk_162 0 26 (dk_at dksX13_all_2 18 rfl rfl)
theorem dX13_all_68 : decode cX13_all 68 = .ok (.aload 4, 2) := dk_25 4 (dk_at dksX13_all_2 21 rfl rfl)
theorem dX13_all_70 : decode cX13_all 70 = .ok (.iload 6, 2) := dk_21 6 (dk_at dksX13_all_3 0 rfl rfl)
theorem dX13_all_72 : decode cX13_all 72 = .ok (.iaload, 1) := dk_46 (dk_at dksX13_all_3 2 rfl rfl)
theorem dX13_all_73 : decode cX13_all 73 = .ok (.istore 7, 2) := dk_54 7 (dk_at dksX13_all_3 3 rfl rfl)
theorem dX13_all_75 : decode cX13_all 75 = .ok (.aload_n 0, 1) := dk_42 (dk_at dksX13_all_3 5 rfl rfl)
theorem dX13_all_76 : decode cX13_all 76 = .ok (.getfield 3, 3) := dk_180 0 3 (dk_at dksX13_all_3 6 rfl rfl)
theorem dX13_all_79 : decode cX13_all 79 = .ok (.iload 7, 2) := dk_21 7 (dk_at dksX13_all_3 9 rfl rfl)
theorem dX13_all_81 : decode cX13_all 81 = .ok (.ineg, 1) := dk_116 (dk_at dksX13_all_3 11 rfl rfl)
theorem dX13_all_82 : decode cX13_all 82 = .ok (.invokevirtual 82, 3) := dk_182 0 82 (dk_at dksX13_all_3 12 rfl rfl)
theorem dX13_all_85 : decode cX13_all 85 = .ok (.iinc 6 1, 3) := dk_132 6 1 (dk_at dksX13_all_3 15 rfl rfl)
theorem dX13_all_88 : decode cX13_all 88 = .ok (.goto (-27), 3) := dk_167 255 229 (dk_at dksX13_all_3 18 rfl rfl)
theorem dX13_all_91 : decode cX13_all 91 = .ok (.aload_n 0, 1) := dk_42 (dk_at dksX13_all_3 21 rfl rfl)
theorem dX13_all_92 : decode cX13_all 92 = .ok (.getfield 3, 3) := dk_180 0 3 (dk_at dksX13_all_4 0 rfl rfl)
theorem dX13_all_95 : decode cX13_all 95 = .ok (.invokevirtual 85, 3) := dk_182 0 85 (dk_at dksX13_all_4 3 rfl rfl)
theorem dX13_all_98 : decode cX13_all 98 = .ok (.return_, 1) := dk_177 (dk_at dksX13_all_4 6 rfl rfl)
abbrev cX13_some : ByteArray := prog_14_method_8_code
def yX13_some : MethodName := ⟨RX13, "some", "([II)V"⟩
def dkwX13_some_1 : List UInt8 := [180, 0, 3, 21, 6, 116, 28, 182, 0, 72, 132, 5, 1, 167, 255, 229, 42, 43, 28, 182, 0, 89, 177]
abbrev dktX13_some_1 : List UInt8 := dkwX13_some_1 ++ []
def dkwX13_some_0 : List UInt8 := [43, 78, 45, 190, 54, 4, 3, 54, 5, 21, 5, 21, 4, 162, 0, 26, 45, 21, 5, 46, 54, 6, 42]
abbrev dktX13_some_0 : List UInt8 := dkwX13_some_0 ++ dktX13_some_1
theorem dksX13_some_0 : cX13_some.data.toList.drop 0 = dktX13_some_0 := by decide +kernel
theorem dksX13_some_1 : cX13_some.data.toList.drop 23 = dktX13_some_1 := dk_seg dksX13_some_0 23 rfl rfl
theorem dX13_some_0 : decode cX13_some 0 = .ok (.aload_n 1, 1) := dk_43 (dk_at dksX13_some_0 0 rfl rfl)
theorem dX13_some_1 : decode cX13_some 1 = .ok (.astore_n 3, 1) := dk_78 (dk_at dksX13_some_0 1 rfl rfl)
theorem dX13_some_2 : decode cX13_some 2 = .ok (.aload_n 3, 1) := dk_45 (dk_at dksX13_some_0 2 rfl rfl)
theorem dX13_some_3 : decode cX13_some 3 = .ok (.arraylength, 1) := dk_190 (dk_at dksX13_some_0 3 rfl rfl)
theorem dX13_some_4 : decode cX13_some 4 = .ok (.istore 4, 2) := dk_54 4 (dk_at dksX13_some_0 4 rfl rfl)
theorem dX13_some_6 : decode cX13_some 6 = .ok (.iconst 0, 1) := dk_3 (dk_at dksX13_some_0 6 rfl rfl)
theorem dX13_some_7 : decode cX13_some 7 = .ok (.istore 5, 2) := dk_54 5 (dk_at dksX13_some_0 7 rfl rfl)
theorem dX13_some_9 : decode cX13_some 9 = .ok (.iload 5, 2) := dk_21 5 (dk_at dksX13_some_0 9 rfl rfl)
theorem dX13_some_11 : decode cX13_some 11 = .ok (.iload 4, 2) := dk_21 4 (dk_at dksX13_some_0 11 rfl rfl)
theorem dX13_some_13 : decode cX13_some 13 = .ok (.if_icmp .ge 26, 3) := dk_162 0 26 (dk_at dksX13_some_0 13 rfl rfl)
theorem dX13_some_16 : decode cX13_some 16 = .ok (.aload_n 3, 1) := dk_45 (dk_at dksX13_some_0 16 rfl rfl)
theorem dX13_some_17 : decode cX13_some 17 = .ok (.iload 5, 2) := dk_21 5 (dk_at dksX13_some_0 17 rfl rfl)
theorem dX13_some_19 : decode cX13_some 19 = .ok (.iaload, 1) := dk_46 (dk_at dksX13_some_0 19 rfl rfl)
theorem dX13_some_20 : decode cX13_some 20 = .ok (.istore 6, 2) := dk_54 6 (dk_at dksX13_some_0 20 rfl rfl)
theorem dX13_some_22 : decode cX13_some 22 = .ok (.aload_n 0, 1) := dk_42 (dk_at dksX13_some_0 22 rfl rfl)
theorem dX13_some_23 : decode cX13_some 23 = .ok (.getfield 3, 3) := dk_180 0 3 (dk_at dksX13_some_1 0 rfl rfl)
theorem dX13_some_26 : decode cX13_some 26 = .ok (.iload 6, 2) := dk_21 6 (dk_at dksX13_some_1 3 rfl rfl)
theorem dX13_some_28 : decode cX13_some 28 = .ok (.ineg, 1) := dk_116 (dk_at dksX13_some_1 5 rfl rfl)
theorem dX13_some_29 : decode cX13_some 29 = .ok (.iload_n 2, 1) := dk_28 (dk_at dksX13_some_1 6 rfl rfl)
theorem dX13_some_30 : decode cX13_some 30 = .ok (.invokevirtual 72, 3) := dk_182 0 72 (dk_at dksX13_some_1 7 rfl rfl)
theorem dX13_some_33 : decode cX13_some 33 = .ok (.iinc 5 1, 3) := dk_132 5 1 (dk_at dksX13_some_1 10 rfl rfl)
theorem dX13_some_36 : decode cX13_some 36 = .ok (.goto (-27), 3) := dk_167 255 229 (dk_at dksX13_some_1 13 rfl rfl)
theorem dX13_some_39 : decode cX13_some 39 = .ok (.aload_n 0, 1) := dk_42 (dk_at dksX13_some_1 16 rfl rfl)
theorem dX13_some_40 : decode cX13_some 40 = .ok (.aload_n 1, 1) := dk_43 (dk_at dksX13_some_1 17 rfl rfl)
theorem dX13_some_41 : decode cX13_some 41 = .ok (.iload_n 2, 1) := dk_28 (dk_at dksX13_some_1 18 rfl rfl)
theorem dX13_some_42 : decode cX13_some 42 = .ok (.invokevirtual 89, 3) := dk_182 0 89 (dk_at dksX13_some_1 19 rfl rfl)
theorem dX13_some_45 : decode cX13_some 45 = .ok (.return_, 1) := dk_177 (dk_at dksX13_some_1 22 rfl rfl)
abbrev cX13_row : ByteArray := prog_14_method_9_code
def yX13_row : MethodName := ⟨RX13, "row", "([II)V"⟩
def dkwX13_row_2 : List UInt8 := [180, 0, 3, 182, 0, 85, 177]
abbrev dktX13_row_2 : List UInt8 := dkwX13_row_2 ++ []
def dkwX13_row_1 : List UInt8 := [180, 0, 3, 21, 6, 182, 0, 82, 132, 5, 1, 167, 255, 231, 42, 180, 0, 3, 28, 116, 182, 0, 82, 42]
abbrev dktX13_row_1 : List UInt8 := dkwX13_row_1 ++ dktX13_row_2
def dkwX13_row_0 : List UInt8 := [43, 78, 45, 190, 54, 4, 3, 54, 5, 21, 5, 21, 4, 162, 0, 24, 45, 21, 5, 46, 54, 6, 42]
abbrev dktX13_row_0 : List UInt8 := dkwX13_row_0 ++ dktX13_row_1
theorem dksX13_row_0 : cX13_row.data.toList.drop 0 = dktX13_row_0 := by decide +kernel
theorem dksX13_row_1 : cX13_row.data.toList.drop 23 = dktX13_row_1 := dk_seg dksX13_row_0 23 rfl rfl
theorem dksX13_row_2 : cX13_row.data.toList.drop 47 = dktX13_row_2 := dk_seg dksX13_row_1 24 rfl rfl
theorem dX13_row_0 : decode cX13_row 0 = .ok (.aload_n 1, 1) := dk_43 (dk_at dksX13_row_0 0 rfl rfl)
theorem dX13_row_1 : decode cX13_row 1 = .ok (.astore_n 3, 1) := dk_78 (dk_at dksX13_row_0 1 rfl rfl)
theorem dX13_row_2 : decode cX13_row 2 = .ok (.aload_n 3, 1) := dk_45 (dk_at dksX13_row_0 2 rfl rfl)
theorem dX13_row_3 : decode cX13_row 3 = .ok (.arraylength, 1) := dk_190 (dk_at dksX13_row_0 3 rfl rfl)
theorem dX13_row_4 : decode cX13_row 4 = .ok (.istore 4, 2) := dk_54 4 (dk_at dksX13_row_0 4 rfl rfl)
theorem dX13_row_6 : decode cX13_row 6 = .ok (.iconst 0, 1) := dk_3 (dk_at dksX13_row_0 6 rfl rfl)
theorem dX13_row_7 : decode cX13_row 7 = .ok (.istore 5, 2) := dk_54 5 (dk_at dksX13_row_0 7 rfl rfl)
theorem dX13_row_9 : decode cX13_row 9 = .ok (.iload 5, 2) := dk_21 5 (dk_at dksX13_row_0 9 rfl rfl)
theorem dX13_row_11 : decode cX13_row 11 = .ok (.iload 4, 2) := dk_21 4 (dk_at dksX13_row_0 11 rfl rfl)
theorem dX13_row_13 : decode cX13_row 13 = .ok (.if_icmp .ge 24, 3) := dk_162 0 24 (dk_at dksX13_row_0 13 rfl rfl)
theorem dX13_row_16 : decode cX13_row 16 = .ok (.aload_n 3, 1) := dk_45 (dk_at dksX13_row_0 16 rfl rfl)
theorem dX13_row_17 : decode cX13_row 17 = .ok (.iload 5, 2) := dk_21 5 (dk_at dksX13_row_0 17 rfl rfl)
theorem dX13_row_19 : decode cX13_row 19 = .ok (.iaload, 1) := dk_46 (dk_at dksX13_row_0 19 rfl rfl)
theorem dX13_row_20 : decode cX13_row 20 = .ok (.istore 6, 2) := dk_54 6 (dk_at dksX13_row_0 20 rfl rfl)
theorem dX13_row_22 : decode cX13_row 22 = .ok (.aload_n 0, 1) := dk_42 (dk_at dksX13_row_0 22 rfl rfl)
theorem dX13_row_23 : decode cX13_row 23 = .ok (.getfield 3, 3) := dk_180 0 3 (dk_at dksX13_row_1 0 rfl rfl)
theorem dX13_row_26 : decode cX13_row 26 = .ok (.iload 6, 2) := dk_21 6 (dk_at dksX13_row_1 3 rfl rfl)
theorem dX13_row_28 : decode cX13_row 28 = .ok (.invokevirtual 82, 3) := dk_182 0 82 (dk_at dksX13_row_1 5 rfl rfl)
theorem dX13_row_31 : decode cX13_row 31 = .ok (.iinc 5 1, 3) := dk_132 5 1 (dk_at dksX13_row_1 8 rfl rfl)
theorem dX13_row_34 : decode cX13_row 34 = .ok (.goto (-25), 3) := dk_167 255 231 (dk_at dksX13_row_1 11 rfl rfl)
theorem dX13_row_37 : decode cX13_row 37 = .ok (.aload_n 0, 1) := dk_42 (dk_at dksX13_row_1 14 rfl rfl)
theorem dX13_row_38 : decode cX13_row 38 = .ok (.getfield 3, 3) := dk_180 0 3 (dk_at dksX13_row_1 15 rfl rfl)
theorem dX13_row_41 : decode cX13_row 41 = .ok (.iload_n 2, 1) := dk_28 (dk_at dksX13_row_1 18 rfl rfl)
theorem dX13_row_42 : decode cX13_row 42 = .ok (.ineg, 1) := dk_116 (dk_at dksX13_row_1 19 rfl rfl)
theorem dX13_row_43 : decode cX13_row 43 = .ok (.invokevirtual 82, 3) := dk_182 0 82 (dk_at dksX13_row_1 20 rfl rfl)
theorem dX13_row_46 : decode cX13_row 46 = .ok (.aload_n 0, 1) := dk_42 (dk_at dksX13_row_1 23 rfl rfl)
theorem dX13_row_47 : decode cX13_row 47 = .ok (.getfield 3, 3) := dk_180 0 3 (dk_at dksX13_row_2 0 rfl rfl)
theorem dX13_row_50 : decode cX13_row 50 = .ok (.invokevirtual 85, 3) := dk_182 0 85 (dk_at dksX13_row_2 3 rfl rfl)
theorem dX13_row_53 : decode cX13_row 53 = .ok (.return_, 1) := dk_177 (dk_at dksX13_row_2 6 rfl rfl)
abbrev cX13_justOne : ByteArray := prog_14_method_10_code
def yX13_justOne : MethodName := ⟨RX13, "justOne", "([II)V"⟩
def dkwX13_justOne_5 : List UInt8 := [180, 0, 3, 182, 0, 85, 132, 3, 1, 167, 255, 188, 177]
abbrev dktX13_justOne_5 : List UInt8 := dkwX13_justOne_5 ++ []
def dkwX13_justOne_4 : List UInt8 := [21, 4, 29, 159, 0, 14, 42, 180, 0, 3, 43, 21, 4, 46, 182, 0, 82, 132, 4, 1, 167, 255, 229, 42]
abbrev dktX13_justOne_4 : List UInt8 := dkwX13_justOne_4 ++ dktX13_justOne_5
def dkwX13_justOne_3 : List UInt8 := [182, 0, 82, 42, 180, 0, 3, 43, 29, 46, 116, 182, 0, 82, 3, 54, 4, 21, 4, 43, 190, 162, 0, 26]
abbrev dktX13_justOne_3 : List UInt8 := dkwX13_justOne_3 ++ dktX13_justOne_4
def dkwX13_justOne_2 : List UInt8 := [167, 255, 228, 132, 3, 1, 167, 255, 211, 3, 62, 29, 43, 190, 162, 0, 68, 42, 180, 0, 3, 28]
abbrev dktX13_justOne_2 : List UInt8 := dkwX13_justOne_2 ++ dktX13_justOne_3
def dkwX13_justOne_1 : List UInt8 := [162, 0, 27, 42, 180, 0, 3, 43, 29, 46, 116, 43, 21, 4, 46, 116, 28, 116, 182, 0, 76, 132, 4, 1]
abbrev dktX13_justOne_1 : List UInt8 := dkwX13_justOne_1 ++ dktX13_justOne_2
def dkwX13_justOne_0 : List UInt8 := [42, 43, 28, 182, 0, 89, 3, 62, 29, 43, 190, 162, 0, 45, 29, 4, 96, 54, 4, 21, 4, 43, 190]
abbrev dktX13_justOne_0 : List UInt8 := dkwX13_justOne_0 ++ dktX13_justOne_1
theorem dksX13_justOne_0 : cX13_justOne.data.toList.drop 0 = dktX13_justOne_0 := by decide +kernel
theorem dksX13_justOne_1 : cX13_justOne.data.toList.drop 23 = dktX13_justOne_1 := dk_seg dksX13_justOne_0 23 rfl rfl
theorem dksX13_justOne_2 : cX13_justOne.data.toList.drop 47 = dktX13_justOne_2 := dk_seg dksX13_justOne_1 24 rfl rfl
theorem dksX13_justOne_3 : cX13_justOne.data.toList.drop 69 = dktX13_justOne_3 := dk_seg dksX13_justOne_2 22 rfl rfl
theorem dksX13_justOne_4 : cX13_justOne.data.toList.drop 93 = dktX13_justOne_4 := dk_seg dksX13_justOne_3 24 rfl rfl
theorem dksX13_justOne_5 : cX13_justOne.data.toList.drop 117 = dktX13_justOne_5 := dk_seg dksX13_justOne_4 24 rfl rfl
theorem dX13_justOne_0 : decode cX13_justOne 0 = .ok (.aload_n 0, 1) := dk_42 (dk_at dksX13_justOne_0 0 rfl rfl)
theorem dX13_justOne_1 : decode cX13_justOne 1 = .ok (.aload_n 1, 1) := dk_43 (dk_at dksX13_justOne_0 1 rfl rfl)
theorem dX13_justOne_2 : decode cX13_justOne 2 = .ok (.iload_n 2, 1) := dk_28 (dk_at dksX13_justOne_0 2 rfl rfl)
theorem dX13_justOne_3 : decode cX13_justOne 3 = .ok (.invokevirtual 89, 3) := dk_182 0 89 (dk_at dksX13_justOne_0 3 rfl rfl)
theorem dX13_justOne_6 : decode cX13_justOne 6 = .ok (.iconst 0, 1) := dk_3 (dk_at dksX13_justOne_0 6 rfl rfl)
theorem dX13_justOne_7 : decode cX13_justOne 7 = .ok (.istore_n 3, 1) := dk_62 (dk_at dksX13_justOne_0 7 rfl rfl)
theorem dX13_justOne_8 : decode cX13_justOne 8 = .ok (.iload_n 3, 1) := dk_29 (dk_at dksX13_justOne_0 8 rfl rfl)
theorem dX13_justOne_9 : decode cX13_justOne 9 = .ok (.aload_n 1, 1) := dk_43 (dk_at dksX13_justOne_0 9 rfl rfl)
theorem dX13_justOne_10 : decode cX13_justOne 10 = .ok (.arraylength, 1) := dk_190 (dk_at dksX13_justOne_0 10 rfl rfl)
theorem dX13_justOne_11 : decode cX13_justOne 11 = .ok (.if_icmp .ge 45, 3) := dk_162 0 45 (dk_at dksX13_justOne_0 11 rfl rfl)
theorem dX13_justOne_14 : decode cX13_justOne 14 = .ok (.iload_n 3, 1) := dk_29 (dk_at dksX13_justOne_0 14 rfl rfl)
theorem dX13_justOne_15 : decode cX13_justOne 15 = .ok (.iconst 1, 1) := dk_4 (dk_at dksX13_justOne_0 15 rfl rfl)
theorem dX13_justOne_16 : decode cX13_justOne 16 = .ok (.iadd, 1) := dk_96 (dk_at dksX13_justOne_0 16 rfl rfl)
theorem dX13_justOne_17 : decode cX13_justOne 17 = .ok (.istore 4, 2) := dk_54 4 (dk_at dksX13_justOne_0 17 rfl rfl)
theorem dX13_justOne_19 : decode cX13_justOne 19 = .ok (.iload 4, 2) := dk_21 4 (dk_at dksX13_justOne_0 19 rfl rfl)
theorem dX13_justOne_21 : decode cX13_justOne 21 = .ok (.aload_n 1, 1) := dk_43 (dk_at dksX13_justOne_0 21 rfl rfl)
theorem dX13_justOne_22 : decode cX13_justOne 22 = .ok (.arraylength, 1) := dk_190 (dk_at dksX13_justOne_0 22 rfl rfl)
theorem dX13_justOne_23 : decode cX13_justOne 23 = .ok (.if_icmp .ge 27, 3) := dk_162 0 27 (dk_at dksX13_justOne_1 0 rfl rfl)
theorem dX13_justOne_26 : decode cX13_justOne 26 = .ok (.aload_n 0, 1) := dk_42 (dk_at dksX13_justOne_1 3 rfl rfl)
theorem dX13_justOne_27 : decode cX13_justOne 27 = .ok (.getfield 3, 3) := dk_180 0 3 (dk_at dksX13_justOne_1 4 rfl rfl)
theorem dX13_justOne_30 : decode cX13_justOne 30 = .ok (.aload_n 1, 1) := dk_43 (dk_at dksX13_justOne_1 7 rfl rfl)
theorem dX13_justOne_31 : decode cX13_justOne 31 = .ok (.iload_n 3, 1) := dk_29 (dk_at dksX13_justOne_1 8 rfl rfl)
theorem dX13_justOne_32 : decode cX13_justOne 32 = .ok (.iaload, 1) := dk_46 (dk_at dksX13_justOne_1 9 rfl rfl)
theorem dX13_justOne_33 : decode cX13_justOne 33 = .ok (.ineg, 1) := dk_116 (dk_at dksX13_justOne_1 10 rfl rfl)
theorem dX13_justOne_34 : decode cX13_justOne 34 = .ok (.aload_n 1, 1) := dk_43 (dk_at dksX13_justOne_1 11 rfl rfl)
theorem dX13_justOne_35 : decode cX13_justOne 35 = .ok (.iload 4, 2) := dk_21 4 (dk_at dksX13_justOne_1 12 rfl rfl)
theorem dX13_justOne_37 : decode cX13_justOne 37 = .ok (.iaload, 1) := dk_46 (dk_at dksX13_justOne_1 14 rfl rfl)
theorem dX13_justOne_38 : decode cX13_justOne 38 = .ok (.ineg, 1) := dk_116 (dk_at dksX13_justOne_1 15 rfl rfl)
theorem dX13_justOne_39 : decode cX13_justOne 39 = .ok (.iload_n 2, 1) := dk_28 (dk_at dksX13_justOne_1 16 rfl rfl)
theorem dX13_justOne_40 : decode cX13_justOne 40 = .ok (.ineg, 1) := dk_116 (dk_at dksX13_justOne_1 17 rfl rfl)
theorem dX13_justOne_41 : decode cX13_justOne 41 = .ok (.invokevirtual 76, 3) := dk_182 0 76 (dk_at dksX13_justOne_1 18 rfl rfl)
theorem dX13_justOne_44 : decode cX13_justOne 44 = .ok (.iinc 4 1, 3) := dk_132 4 1 (dk_at dksX13_justOne_1 21 rfl rfl)
theorem dX13_justOne_47 : decode cX13_justOne 47 = .ok (.goto (-28), 3) := dk_167 255 228 (dk_at dksX13_justOne_2 0 rfl rfl)
theorem dX13_justOne_50 : decode cX13_justOne 50 = .ok (.iinc 3 1, 3) := dk_132 3 1 (dk_at dksX13_justOne_2 3 rfl rfl)
theorem dX13_justOne_53 : decode cX13_justOne 53 = .ok (.goto (-45), 3) := dk_167 255 211 (dk_at dksX13_justOne_2 6 rfl rfl)
theorem dX13_justOne_56 : decode cX13_justOne 56 = .ok (.iconst 0, 1) := dk_3 (dk_at dksX13_justOne_2 9 rfl rfl)
theorem dX13_justOne_57 : decode cX13_justOne 57 = .ok (.istore_n 3, 1) := dk_62 (dk_at dksX13_justOne_2 10 rfl rfl)
theorem dX13_justOne_58 : decode cX13_justOne 58 = .ok (.iload_n 3, 1) := dk_29 (dk_at dksX13_justOne_2 11 rfl rfl)
theorem dX13_justOne_59 : decode cX13_justOne 59 = .ok (.aload_n 1, 1) := dk_43 (dk_at dksX13_justOne_2 12 rfl rfl)
theorem dX13_justOne_60 : decode cX13_justOne 60 = .ok (.arraylength, 1) := dk_190 (dk_at dksX13_justOne_2 13 rfl rfl)
theorem dX13_justOne_61 : decode cX13_justOne 61 = .ok (.if_icmp .ge 68, 3) := dk_162 0 68 (dk_at dksX13_justOne_2 14 rfl rfl)
theorem dX13_justOne_64 : decode cX13_justOne 64 = .ok (.aload_n 0, 1) := dk_42 (dk_at dksX13_justOne_2 17 rfl rfl)
theorem dX13_justOne_65 : decode cX13_justOne 65 = .ok (.getfield 3, 3) := dk_180 0 3 (dk_at dksX13_justOne_2 18 rfl rfl)
theorem dX13_justOne_68 : decode cX13_justOne 68 = .ok (.iload_n 2, 1) := dk_28 (dk_at dksX13_justOne_2 21 rfl rfl)
theorem dX13_justOne_69 : decode cX13_justOne 69 = .ok (.invokevirtual 82, 3) := dk_182 0 82 (dk_at dksX13_justOne_3 0 rfl rfl)
theorem dX13_justOne_72 : decode cX13_justOne 72 = .ok (.aload_n 0, 1) := dk_42 (dk_at dksX13_justOne_3 3 rfl rfl)
theorem dX13_justOne_73 : decode cX13_justOne 73 = .ok (.getfield 3, 3) := dk_180 0 3 (dk_at dksX13_justOne_3 4 rfl rfl)
theorem dX13_justOne_76 : decode cX13_justOne 76 = .ok (.aload_n 1, 1) := dk_43 (dk_at dksX13_justOne_3 7 rfl rfl)
theorem dX13_justOne_77 : decode cX13_justOne 77 = .ok (.iload_n 3, 1) := dk_29 (dk_at dksX13_justOne_3 8 rfl rfl)
theorem dX13_justOne_78 : decode cX13_justOne 78 = .ok (.iaload, 1) := dk_46 (dk_at dksX13_justOne_3 9 rfl rfl)
theorem dX13_justOne_79 : decode cX13_justOne 79 = .ok (.ineg, 1) := dk_116 (dk_at dksX13_justOne_3 10 rfl rfl)
theorem dX13_justOne_80 : decode cX13_justOne 80 = .ok (.invokevirtual 82, 3) := dk_182 0 82 (dk_at dksX13_justOne_3 11 rfl rfl)
theorem dX13_justOne_83 : decode cX13_justOne 83 = .ok (.iconst 0, 1) := dk_3 (dk_at dksX13_justOne_3 14 rfl rfl)
theorem dX13_justOne_84 : decode cX13_justOne 84 = .ok (.istore 4, 2) := dk_54 4 (dk_at dksX13_justOne_3 15 rfl rfl)
theorem dX13_justOne_86 : decode cX13_justOne 86 = .ok (.iload 4, 2) := dk_21 4 (dk_at dksX13_justOne_3 17 rfl rfl)
theorem dX13_justOne_88 : decode cX13_justOne 88 = .ok (.aload_n 1, 1) := dk_43 (dk_at dksX13_justOne_3 19 rfl rfl)
theorem dX13_justOne_89 : decode cX13_justOne 89 = .ok (.arraylength, 1) := dk_190 (dk_at dksX13_justOne_3 20 rfl rfl)
theorem dX13_justOne_90 : decode cX13_justOne 90 = .ok (.if_icmp .ge 26, 3) := dk_162 0 26 (dk_at dksX13_justOne_3 21 rfl rfl)
theorem dX13_justOne_93 : decode cX13_justOne 93 = .ok (.iload 4, 2) := dk_21 4 (dk_at dksX13_justOne_4 0 rfl rfl)
theorem dX13_justOne_95 : decode cX13_justOne 95 = .ok (.iload_n 3, 1) := dk_29 (dk_at dksX13_justOne_4 2 rfl rfl)
theorem dX13_justOne_96 : decode cX13_justOne 96 = .ok (.if_icmp .eq 14, 3) := dk_159 0 14 (dk_at dksX13_justOne_4 3 rfl rfl)
theorem dX13_justOne_99 : decode cX13_justOne 99 = .ok (.aload_n 0, 1) := dk_42 (dk_at dksX13_justOne_4 6 rfl rfl)
theorem dX13_justOne_100 : decode cX13_justOne 100 = .ok (.getfield 3, 3) := dk_180 0 3 (dk_at dksX13_justOne_4 7 rfl rfl)
theorem dX13_justOne_103 : decode cX13_justOne 103 = .ok (.aload_n 1, 1) := dk_43 (dk_at dksX13_justOne_4 10 rfl rfl)
theorem dX13_justOne_104 : decode cX13_justOne 104 = .ok (.iload 4, 2) := dk_21 4 (dk_at dksX13_justOne_4 11 rfl rfl)
theorem dX13_justOne_106 : decode cX13_justOne 106 = .ok (.iaload, 1) := dk_46 (dk_at dksX13_justOne_4 13 rfl rfl)
theorem dX13_justOne_107 : decode cX13_justOne 107 = .ok (.invokevirtual 82, 3) := dk_182 0 82 (dk_at dksX13_justOne_4 14 rfl rfl)
theorem dX13_justOne_110 : decode cX13_justOne 110 = .ok (.iinc 4 1, 3) := dk_132 4 1 (dk_at dksX13_justOne_4 17 rfl rfl)
theorem dX13_justOne_113 : decode cX13_justOne 113 = .ok (.goto (-27), 3) := dk_167 255 229 (dk_at dksX13_justOne_4 20 rfl rfl)
theorem dX13_justOne_116 : decode cX13_justOne 116 = .ok (.aload_n 0, 1) := dk_42 (dk_at dksX13_justOne_4 23 rfl rfl)
theorem dX13_justOne_117 : decode cX13_justOne 117 = .ok (.getfield 3, 3) := dk_180 0 3 (dk_at dksX13_justOne_5 0 rfl rfl)
theorem dX13_justOne_120 : decode cX13_justOne 120 = .ok (.invokevirtual 85, 3) := dk_182 0 85 (dk_at dksX13_justOne_5 3 rfl rfl)
theorem dX13_justOne_123 : decode cX13_justOne 123 = .ok (.iinc 3 1, 3) := dk_132 3 1 (dk_at dksX13_justOne_5 6 rfl rfl)
theorem dX13_justOne_126 : decode cX13_justOne 126 = .ok (.goto (-68), 3) := dk_167 255 188 (dk_at dksX13_justOne_5 9 rfl rfl)
theorem dX13_justOne_129 : decode cX13_justOne 129 = .ok (.return_, 1) := dk_177 (dk_at dksX13_justOne_5 12 rfl rfl)
abbrev cX13_init : ByteArray := prog_14_method_1_code
def yX13_init : MethodName := ⟨RX13, "<init>", "(LClauseCourt;[I[BLClauseCourt$Part;)V"⟩
def dkwX13_init_0 : List UInt8 := [42, 43, 181, 0, 3, 42, 43, 7, 44, 183, 0, 9, 42, 45, 181, 0, 15, 42, 25, 4, 181, 0, 19, 177]
abbrev dktX13_init_0 : List UInt8 := dkwX13_init_0 ++ []
theorem dksX13_init_0 : cX13_init.data.toList.drop 0 = dktX13_init_0 := by decide +kernel
theorem dX13_init_0 : decode cX13_init 0 = .ok (.aload_n 0, 1) := dk_42 (dk_at dksX13_init_0 0 rfl rfl)
theorem dX13_init_1 : decode cX13_init 1 = .ok (.aload_n 1, 1) := dk_43 (dk_at dksX13_init_0 1 rfl rfl)
theorem dX13_init_2 : decode cX13_init 2 = .ok (.putfield 3, 3) := dk_181 0 3 (dk_at dksX13_init_0 2 rfl rfl)
theorem dX13_init_5 : decode cX13_init 5 = .ok (.aload_n 0, 1) := dk_42 (dk_at dksX13_init_0 5 rfl rfl)
theorem dX13_init_6 : decode cX13_init 6 = .ok (.aload_n 1, 1) := dk_43 (dk_at dksX13_init_0 6 rfl rfl)
theorem dX13_init_7 : decode cX13_init 7 = .ok (.iconst 4, 1) := dk_7 (dk_at dksX13_init_0 7 rfl rfl)
theorem dX13_init_8 : decode cX13_init 8 = .ok (.aload_n 2, 1) := dk_44 (dk_at dksX13_init_0 8 rfl rfl)
theorem dX13_init_9 : decode cX13_init 9 = .ok (.invokespecial 9, 3) := dk_183 0 9 (dk_at dksX13_init_0 9 rfl rfl)
theorem dX13_init_12 : decode cX13_init 12 = .ok (.aload_n 0, 1) := dk_42 (dk_at dksX13_init_0 12 rfl rfl)
theorem dX13_init_13 : decode cX13_init 13 = .ok (.aload_n 3, 1) := dk_45 (dk_at dksX13_init_0 13 rfl rfl)
theorem dX13_init_14 : decode cX13_init 14 = .ok (.putfield 15, 3) := dk_181 0 15 (dk_at dksX13_init_0 14 rfl rfl)
theorem dX13_init_17 : decode cX13_init 17 = .ok (.aload_n 0, 1) := dk_42 (dk_at dksX13_init_0 17 rfl rfl)
theorem dX13_init_18 : decode cX13_init 18 = .ok (.aload 4, 2) := dk_25 4 (dk_at dksX13_init_0 18 rfl rfl)
theorem dX13_init_20 : decode cX13_init 20 = .ok (.putfield 19, 3) := dk_181 0 19 (dk_at dksX13_init_0 20 rfl rfl)
theorem dX13_init_23 : decode cX13_init 23 = .ok (.return_, 1) := dk_177 (dk_at dksX13_init_0 23 rfl rfl)
abbrev cX13_holds : ByteArray := prog_14_method_3_code
def yX13_holds : MethodName := ⟨RX13, "holds", "(LClauseCourt$Truth;)Z"⟩
def dkwX13_holds_0 : List UInt8 := [42, 180, 0, 3, 16, 40, 182, 0, 49, 42, 42, 180, 0, 19, 43, 182, 0, 33, 172]
abbrev dktX13_holds_0 : List UInt8 := dkwX13_holds_0 ++ []
theorem dksX13_holds_0 : cX13_holds.data.toList.drop 0 = dktX13_holds_0 := by decide +kernel
theorem dX13_holds_0 : decode cX13_holds 0 = .ok (.aload_n 0, 1) := dk_42 (dk_at dksX13_holds_0 0 rfl rfl)
theorem dX13_holds_1 : decode cX13_holds 1 = .ok (.getfield 3, 3) := dk_180 0 3 (dk_at dksX13_holds_0 1 rfl rfl)
theorem dX13_holds_4 : decode cX13_holds 4 = .ok (.bipush 40, 2) := dk_16 40 (dk_at dksX13_holds_0 4 rfl rfl)
theorem dX13_holds_6 : decode cX13_holds 6 = .ok (.invokevirtual 49, 3) := dk_182 0 49 (dk_at dksX13_holds_0 6 rfl rfl)
theorem dX13_holds_9 : decode cX13_holds 9 = .ok (.aload_n 0, 1) := dk_42 (dk_at dksX13_holds_0 9 rfl rfl)
theorem dX13_holds_10 : decode cX13_holds 10 = .ok (.aload_n 0, 1) := dk_42 (dk_at dksX13_holds_0 10 rfl rfl)
theorem dX13_holds_11 : decode cX13_holds 11 = .ok (.getfield 19, 3) := dk_180 0 19 (dk_at dksX13_holds_0 11 rfl rfl)
theorem dX13_holds_14 : decode cX13_holds 14 = .ok (.aload_n 1, 1) := dk_43 (dk_at dksX13_holds_0 14 rfl rfl)
theorem dX13_holds_15 : decode cX13_holds 15 = .ok (.invokevirtual 33, 3) := dk_182 0 33 (dk_at dksX13_holds_0 15 rfl rfl)
theorem dX13_holds_18 : decode cX13_holds 18 = .ok (.ireturn, 1) := dk_172 (dk_at dksX13_holds_0 18 rfl rfl)
abbrev cX13_isSo : ByteArray := prog_14_method_2_code
def yX13_isSo : MethodName := ⟨RX13, "isSo", "(LClauseCourt$Part;LClauseCourt$Truth;)Z"⟩
def dkwX13_isSo_6 : List UInt8 := [4, 167, 0, 4, 3, 172]
abbrev dktX13_isSo_6 : List UInt8 := dkwX13_isSo_6 ++ []
def dkwX13_isSo_5 : List UInt8 := [4, 167, 0, 4, 3, 172, 42, 43, 180, 0, 29, 4, 50, 44, 182, 0, 33, 154, 0, 7, 29, 154, 0, 7]
abbrev dktX13_isSo_5 : List UInt8 := dkwX13_isSo_5 ++ dktX13_isSo_6
def dkwX13_isSo_4 : List UInt8 := [160, 0, 7, 4, 167, 0, 4, 3, 172, 29, 158, 0, 7, 4, 167, 0, 4, 3, 172, 29, 4, 160, 0, 7]
abbrev dktX13_isSo_4 : List UInt8 := dkwX13_isSo_4 ++ dktX13_isSo_5
def dkwX13_isSo_3 : List UInt8 := [44, 43, 180, 0, 40, 182, 0, 43, 172, 29, 154, 0, 7, 4, 167, 0, 4, 3, 172, 29, 43, 180, 0, 23]
abbrev dktX13_isSo_3 : List UInt8 := dkwX13_isSo_3 ++ dktX13_isSo_4
def dkwX13_isSo_2 : List UInt8 := [171, 0, 0, 0, 103, 0, 0, 0, 5, 0, 0, 0, 33, 0, 0, 0, 58, 0, 0, 0, 38, 0, 0, 0, 68, 0, 0, 0, 106, 0, 0, 0, 92, 0, 0, 0, 120, 0, 0, 0, 49, 0, 0, 0, 124, 0, 0, 0, 82]
abbrev dktX13_isSo_2 : List UInt8 := dkwX13_isSo_2 ++ dktX13_isSo_3
def dkwX13_isSo_1 : List UInt8 := [182, 0, 33, 153, 0, 7, 4, 167, 0, 4, 3, 96, 62, 132, 4, 1, 167, 255, 221, 43, 180, 0, 37]
abbrev dktX13_isSo_1 : List UInt8 := dkwX13_isSo_1 ++ dktX13_isSo_2
def dkwX13_isSo_0 : List UInt8 := [3, 62, 3, 54, 4, 21, 4, 43, 180, 0, 23, 162, 0, 32, 29, 42, 43, 180, 0, 29, 21, 4, 50, 44]
abbrev dktX13_isSo_0 : List UInt8 := dkwX13_isSo_0 ++ dktX13_isSo_1
theorem dksX13_isSo_0 : cX13_isSo.data.toList.drop 0 = dktX13_isSo_0 := by decide +kernel
theorem dksX13_isSo_1 : cX13_isSo.data.toList.drop 24 = dktX13_isSo_1 := dk_seg dksX13_isSo_0 24 rfl rfl
theorem dksX13_isSo_2 : cX13_isSo.data.toList.drop 47 = dktX13_isSo_2 := dk_seg dksX13_isSo_1 23 rfl rfl
theorem dksX13_isSo_3 : cX13_isSo.data.toList.drop 96 = dktX13_isSo_3 := dk_seg dksX13_isSo_2 49 rfl rfl
theorem dksX13_isSo_4 : cX13_isSo.data.toList.drop 120 = dktX13_isSo_4 := dk_seg dksX13_isSo_3 24 rfl rfl
theorem dksX13_isSo_5 : cX13_isSo.data.toList.drop 144 = dktX13_isSo_5 := dk_seg dksX13_isSo_4 24 rfl rfl
theorem dksX13_isSo_6 : cX13_isSo.data.toList.drop 168 = dktX13_isSo_6 := dk_seg dksX13_isSo_5 24 rfl rfl
theorem dX13_isSo_0 : decode cX13_isSo 0 = .ok (.iconst 0, 1) := dk_3 (dk_at dksX13_isSo_0 0 rfl rfl)
theorem dX13_isSo_1 : decode cX13_isSo 1 = .ok (.istore_n 3, 1) := dk_62 (dk_at dksX13_isSo_0 1 rfl rfl)
theorem dX13_isSo_2 : decode cX13_isSo 2 = .ok (.iconst 0, 1) := dk_3 (dk_at dksX13_isSo_0 2 rfl rfl)
theorem dX13_isSo_3 : decode cX13_isSo 3 = .ok (.istore 4, 2) := dk_54 4 (dk_at dksX13_isSo_0 3 rfl rfl)
theorem dX13_isSo_5 : decode cX13_isSo 5 = .ok (.iload 4, 2) := dk_21 4 (dk_at dksX13_isSo_0 5 rfl rfl)
theorem dX13_isSo_7 : decode cX13_isSo 7 = .ok (.aload_n 1, 1) := dk_43 (dk_at dksX13_isSo_0 7 rfl rfl)
theorem dX13_isSo_8 : decode cX13_isSo 8 = .ok (.getfield 23, 3) := dk_180 0 23 (dk_at dksX13_isSo_0 8 rfl rfl)
theorem dX13_isSo_11 : decode cX13_isSo 11 = .ok (.if_icmp .ge 32, 3) := dk_162 0 32 (dk_at dksX13_isSo_0 11 rfl rfl)
theorem dX13_isSo_14 : decode cX13_isSo 14 = .ok (.iload_n 3, 1) := dk_29 (dk_at dksX13_isSo_0 14 rfl rfl)
theorem dX13_isSo_15 : decode cX13_isSo 15 = .ok (.aload_n 0, 1) := dk_42 (dk_at dksX13_isSo_0 15 rfl rfl)
theorem dX13_isSo_16 : decode cX13_isSo 16 = .ok (.aload_n 1, 1) := dk_43 (dk_at dksX13_isSo_0 16 rfl rfl)
theorem dX13_isSo_17 : decode cX13_isSo 17 = .ok (.getfield 29, 3) := dk_180 0 29 (dk_at dksX13_isSo_0 17 rfl rfl)
theorem dX13_isSo_20 : decode cX13_isSo 20 = .ok (.iload 4, 2) := dk_21 4 (dk_at dksX13_isSo_0 20 rfl rfl)
theorem dX13_isSo_22 : decode cX13_isSo 22 = .ok (.aaload, 1) := dk_50 (dk_at dksX13_isSo_0 22 rfl rfl)
theorem dX13_isSo_23 : decode cX13_isSo 23 = .ok (.aload_n 2, 1) := dk_44 (dk_at dksX13_isSo_0 23 rfl rfl)
theorem dX13_isSo_24 : decode cX13_isSo 24 = .ok (.invokevirtual 33, 3) := dk_182 0 33 (dk_at dksX13_isSo_1 0 rfl rfl)
theorem dX13_isSo_27 : decode cX13_isSo 27 = .ok (.ifCond .eq 7, 3) := dk_153 0 7 (dk_at dksX13_isSo_1 3 rfl rfl)
theorem dX13_isSo_30 : decode cX13_isSo 30 = .ok (.iconst 1, 1) := dk_4 (dk_at dksX13_isSo_1 6 rfl rfl)
theorem dX13_isSo_31 : decode cX13_isSo 31 = .ok (.goto 4, 3) := dk_167 0 4 (dk_at dksX13_isSo_1 7 rfl rfl)
theorem dX13_isSo_34 : decode cX13_isSo 34 = .ok (.iconst 0, 1) := dk_3 (dk_at dksX13_isSo_1 10 rfl rfl)
theorem dX13_isSo_35 : decode cX13_isSo 35 = .ok (.iadd, 1) := dk_96 (dk_at dksX13_isSo_1 11 rfl rfl)
theorem dX13_isSo_36 : decode cX13_isSo 36 = .ok (.istore_n 3, 1) := dk_62 (dk_at dksX13_isSo_1 12 rfl rfl)
theorem dX13_isSo_37 : decode cX13_isSo 37 = .ok (.iinc 4 1, 3) := dk_132 4 1 (dk_at dksX13_isSo_1 13 rfl rfl)
theorem dX13_isSo_40 : decode cX13_isSo 40 = .ok (.goto (-35), 3) := dk_167 255 221 (dk_at dksX13_isSo_1 16 rfl rfl)
theorem dX13_isSo_43 : decode cX13_isSo 43 = .ok (.aload_n 1, 1) := dk_43 (dk_at dksX13_isSo_1 19 rfl rfl)
theorem dX13_isSo_44 : decode cX13_isSo 44 = .ok (.getfield 37, 3) := dk_180 0 37 (dk_at dksX13_isSo_1 20 rfl rfl)
theorem dX13_isSo_47 : decode cX13_isSo 47 = .ok (.lookupswitch 103 #[(33, 58), (38, 68), (106, 92), (120, 49), (124, 82)], 49) := by decide +kernel
theorem dX13_isSo_96 : decode cX13_isSo 96 = .ok (.aload_n 2, 1) := dk_44 (dk_at dksX13_isSo_3 0 rfl rfl)
theorem dX13_isSo_97 : decode cX13_isSo 97 = .ok (.aload_n 1, 1) := dk_43 (dk_at dksX13_isSo_3 1 rfl rfl)
theorem dX13_isSo_98 : decode cX13_isSo 98 = .ok (.getfield 40, 3) := dk_180 0 40 (dk_at dksX13_isSo_3 2 rfl rfl)
theorem dX13_isSo_101 : decode cX13_isSo 101 = .ok (.invokevirtual 43, 3) := dk_182 0 43 (dk_at dksX13_isSo_3 5 rfl rfl)
theorem dX13_isSo_104 : decode cX13_isSo 104 = .ok (.ireturn, 1) := dk_172 (dk_at dksX13_isSo_3 8 rfl rfl)
theorem dX13_isSo_105 : decode cX13_isSo 105 = .ok (.iload_n 3, 1) := dk_29 (dk_at dksX13_isSo_3 9 rfl rfl)
theorem dX13_isSo_106 : decode cX13_isSo 106 = .ok (.ifCond .ne 7, 3) := dk_154 0 7 (dk_at dksX13_isSo_3 10 rfl rfl)
theorem dX13_isSo_109 : decode cX13_isSo 109 = .ok (.iconst 1, 1) := dk_4 (dk_at dksX13_isSo_3 13 rfl rfl)
theorem dX13_isSo_110 : decode cX13_isSo 110 = .ok (.goto 4, 3) := dk_167 0 4 (dk_at dksX13_isSo_3 14 rfl rfl)
theorem dX13_isSo_113 : decode cX13_isSo 113 = .ok (.iconst 0, 1) := dk_3 (dk_at dksX13_isSo_3 17 rfl rfl)
theorem dX13_isSo_114 : decode cX13_isSo 114 = .ok (.ireturn, 1) := dk_172 (dk_at dksX13_isSo_3 18 rfl rfl)
theorem dX13_isSo_115 : decode cX13_isSo 115 = .ok (.iload_n 3, 1) := dk_29 (dk_at dksX13_isSo_3 19 rfl rfl)
theorem dX13_isSo_116 : decode cX13_isSo 116 = .ok (.aload_n 1, 1) := dk_43 (dk_at dksX13_isSo_3 20 rfl rfl)
theorem dX13_isSo_117 : decode cX13_isSo 117 = .ok (.getfield 23, 3) := dk_180 0 23 (dk_at dksX13_isSo_3 21 rfl rfl)
theorem dX13_isSo_120 : decode cX13_isSo 120 = .ok (.if_icmp .ne 7, 3) := dk_160 0 7 (dk_at dksX13_isSo_4 0 rfl rfl)
theorem dX13_isSo_123 : decode cX13_isSo 123 = .ok (.iconst 1, 1) := dk_4 (dk_at dksX13_isSo_4 3 rfl rfl)
theorem dX13_isSo_124 : decode cX13_isSo 124 = .ok (.goto 4, 3) := dk_167 0 4 (dk_at dksX13_isSo_4 4 rfl rfl)
theorem dX13_isSo_127 : decode cX13_isSo 127 = .ok (.iconst 0, 1) := dk_3 (dk_at dksX13_isSo_4 7 rfl rfl)
theorem dX13_isSo_128 : decode cX13_isSo 128 = .ok (.ireturn, 1) := dk_172 (dk_at dksX13_isSo_4 8 rfl rfl)
theorem dX13_isSo_129 : decode cX13_isSo 129 = .ok (.iload_n 3, 1) := dk_29 (dk_at dksX13_isSo_4 9 rfl rfl)
theorem dX13_isSo_130 : decode cX13_isSo 130 = .ok (.ifCond .le 7, 3) := dk_158 0 7 (dk_at dksX13_isSo_4 10 rfl rfl)
theorem dX13_isSo_133 : decode cX13_isSo 133 = .ok (.iconst 1, 1) := dk_4 (dk_at dksX13_isSo_4 13 rfl rfl)
theorem dX13_isSo_134 : decode cX13_isSo 134 = .ok (.goto 4, 3) := dk_167 0 4 (dk_at dksX13_isSo_4 14 rfl rfl)
theorem dX13_isSo_137 : decode cX13_isSo 137 = .ok (.iconst 0, 1) := dk_3 (dk_at dksX13_isSo_4 17 rfl rfl)
theorem dX13_isSo_138 : decode cX13_isSo 138 = .ok (.ireturn, 1) := dk_172 (dk_at dksX13_isSo_4 18 rfl rfl)
theorem dX13_isSo_139 : decode cX13_isSo 139 = .ok (.iload_n 3, 1) := dk_29 (dk_at dksX13_isSo_4 19 rfl rfl)
theorem dX13_isSo_140 : decode cX13_isSo 140 = .ok (.iconst 1, 1) := dk_4 (dk_at dksX13_isSo_4 20 rfl rfl)
theorem dX13_isSo_141 : decode cX13_isSo 141 = .ok (.if_icmp .ne 7, 3) := dk_160 0 7 (dk_at dksX13_isSo_4 21 rfl rfl)
theorem dX13_isSo_144 : decode cX13_isSo 144 = .ok (.iconst 1, 1) := dk_4 (dk_at dksX13_isSo_5 0 rfl rfl)
theorem dX13_isSo_145 : decode cX13_isSo 145 = .ok (.goto 4, 3) := dk_167 0 4 (dk_at dksX13_isSo_5 1 rfl rfl)
theorem dX13_isSo_148 : decode cX13_isSo 148 = .ok (.iconst 0, 1) := dk_3 (dk_at dksX13_isSo_5 4 rfl rfl)
theorem dX13_isSo_149 : decode cX13_isSo 149 = .ok (.ireturn, 1) := dk_172 (dk_at dksX13_isSo_5 5 rfl rfl)
theorem dX13_isSo_150 : decode cX13_isSo 150 = .ok (.aload_n 0, 1) := dk_42 (dk_at dksX13_isSo_5 6 rfl rfl)
theorem dX13_isSo_151 : decode cX13_isSo 151 = .ok (.aload_n 1, 1) := dk_43 (dk_at dksX13_isSo_5 7 rfl rfl)
theorem dX13_isSo_152 : decode cX13_isSo 152 = .ok (.getfield 29, 3) := dk_180 0 29 (dk_at dksX13_isSo_5 8 rfl rfl)
theorem dX13_isSo_155 : decode cX13_isSo 155 = .ok (.iconst 1, 1) := dk_4 (dk_at dksX13_isSo_5 11 rfl rfl)
theorem dX13_isSo_156 : decode cX13_isSo 156 = .ok (.aaload, 1) := dk_50 (dk_at dksX13_isSo_5 12 rfl rfl)
theorem dX13_isSo_157 : decode cX13_isSo 157 = .ok (.aload_n 2, 1) := dk_44 (dk_at dksX13_isSo_5 13 rfl rfl)
theorem dX13_isSo_158 : decode cX13_isSo 158 = .ok (.invokevirtual 33, 3) := dk_182 0 33 (dk_at dksX13_isSo_5 14 rfl rfl)
theorem dX13_isSo_161 : decode cX13_isSo 161 = .ok (.ifCond .ne 7, 3) := dk_154 0 7 (dk_at dksX13_isSo_5 17 rfl rfl)
theorem dX13_isSo_164 : decode cX13_isSo 164 = .ok (.iload_n 3, 1) := dk_29 (dk_at dksX13_isSo_5 20 rfl rfl)
theorem dX13_isSo_165 : decode cX13_isSo 165 = .ok (.ifCond .ne 7, 3) := dk_154 0 7 (dk_at dksX13_isSo_5 21 rfl rfl)
theorem dX13_isSo_168 : decode cX13_isSo 168 = .ok (.iconst 1, 1) := dk_4 (dk_at dksX13_isSo_6 0 rfl rfl)
theorem dX13_isSo_169 : decode cX13_isSo 169 = .ok (.goto 4, 3) := dk_167 0 4 (dk_at dksX13_isSo_6 1 rfl rfl)
theorem dX13_isSo_172 : decode cX13_isSo 172 = .ok (.iconst 0, 1) := dk_3 (dk_at dksX13_isSo_6 4 rfl rfl)
theorem dX13_isSo_173 : decode cX13_isSo 173 = .ok (.ireturn, 1) := dk_172 (dk_at dksX13_isSo_6 5 rfl rfl)
abbrev cX13_most : ByteArray := prog_14_method_4_code
def yX13_most : MethodName := ⟨RX13, "most", "()I"⟩
def dkwX13_most_0 : List UInt8 := [42, 180, 0, 3, 16, 42, 182, 0, 49, 4, 172]
abbrev dktX13_most_0 : List UInt8 := dkwX13_most_0 ++ []
theorem dksX13_most_0 : cX13_most.data.toList.drop 0 = dktX13_most_0 := by decide +kernel
theorem dX13_most_0 : decode cX13_most 0 = .ok (.aload_n 0, 1) := dk_42 (dk_at dksX13_most_0 0 rfl rfl)
theorem dX13_most_1 : decode cX13_most 1 = .ok (.getfield 3, 3) := dk_180 0 3 (dk_at dksX13_most_0 1 rfl rfl)
theorem dX13_most_4 : decode cX13_most 4 = .ok (.bipush 42, 2) := dk_16 42 (dk_at dksX13_most_0 4 rfl rfl)
theorem dX13_most_6 : decode cX13_most 6 = .ok (.invokevirtual 49, 3) := dk_182 0 49 (dk_at dksX13_most_0 6 rfl rfl)
theorem dX13_most_9 : decode cX13_most 9 = .ok (.iconst 1, 1) := dk_4 (dk_at dksX13_most_0 9 rfl rfl)
theorem dX13_most_10 : decode cX13_most 10 = .ok (.ireturn, 1) := dk_172 (dk_at dksX13_most_0 10 rfl rfl)
abbrev cX13_print : ByteArray := prog_14_method_5_code
def yX13_print : MethodName := ⟨RX13, "print", "()V"⟩
def dkwX13_print_1 : List UInt8 := [43, 29, 51, 54, 4, 42, 180, 0, 3, 21, 4, 182, 0, 53, 132, 3, 1, 167, 255, 234, 177]
abbrev dktX13_print_1 : List UInt8 := dkwX13_print_1 ++ []
def dkwX13_print_0 : List UInt8 := [42, 180, 0, 3, 16, 44, 182, 0, 49, 42, 180, 0, 15, 76, 43, 190, 61, 3, 62, 29, 28, 162, 0, 23]
abbrev dktX13_print_0 : List UInt8 := dkwX13_print_0 ++ dktX13_print_1
theorem dksX13_print_0 : cX13_print.data.toList.drop 0 = dktX13_print_0 := by decide +kernel
theorem dksX13_print_1 : cX13_print.data.toList.drop 24 = dktX13_print_1 := dk_seg dksX13_print_0 24 rfl rfl
theorem dX13_print_0 : decode cX13_print 0 = .ok (.aload_n 0, 1) := dk_42 (dk_at dksX13_print_0 0 rfl rfl)
theorem dX13_print_1 : decode cX13_print 1 = .ok (.getfield 3, 3) := dk_180 0 3 (dk_at dksX13_print_0 1 rfl rfl)
theorem dX13_print_4 : decode cX13_print 4 = .ok (.bipush 44, 2) := dk_16 44 (dk_at dksX13_print_0 4 rfl rfl)
theorem dX13_print_6 : decode cX13_print 6 = .ok (.invokevirtual 49, 3) := dk_182 0 49 (dk_at dksX13_print_0 6 rfl rfl)
theorem dX13_print_9 : decode cX13_print 9 = .ok (.aload_n 0, 1) := dk_42 (dk_at dksX13_print_0 9 rfl rfl)
theorem dX13_print_10 : decode cX13_print 10 = .ok (.getfield 15, 3) := dk_180 0 15 (dk_at dksX13_print_0 10 rfl rfl)
theorem dX13_print_13 : decode cX13_print 13 = .ok (.astore_n 1, 1) := dk_76 (dk_at dksX13_print_0 13 rfl rfl)
theorem dX13_print_14 : decode cX13_print 14 = .ok (.aload_n 1, 1) := dk_43 (dk_at dksX13_print_0 14 rfl rfl)
theorem dX13_print_15 : decode cX13_print 15 = .ok (.arraylength, 1) := dk_190 (dk_at dksX13_print_0 15 rfl rfl)
theorem dX13_print_16 : decode cX13_print 16 = .ok (.istore_n 2, 1) := dk_61 (dk_at dksX13_print_0 16 rfl rfl)
theorem dX13_print_17 : decode cX13_print 17 = .ok (.iconst 0, 1) := dk_3 (dk_at dksX13_print_0 17 rfl rfl)
theorem dX13_print_18 : decode cX13_print 18 = .ok (.istore_n 3, 1) := dk_62 (dk_at dksX13_print_0 18 rfl rfl)
theorem dX13_print_19 : decode cX13_print 19 = .ok (.iload_n 3, 1) := dk_29 (dk_at dksX13_print_0 19 rfl rfl)
theorem dX13_print_20 : decode cX13_print 20 = .ok (.iload_n 2, 1) := dk_28 (dk_at dksX13_print_0 20 rfl rfl)
theorem dX13_print_21 : decode cX13_print 21 = .ok (.if_icmp .ge 23, 3) := dk_162 0 23 (dk_at dksX13_print_0 21 rfl rfl)
theorem dX13_print_24 : decode cX13_print 24 = .ok (.aload_n 1, 1) := dk_43 (dk_at dksX13_print_1 0 rfl rfl)
theorem dX13_print_25 : decode cX13_print 25 = .ok (.iload_n 3, 1) := dk_29 (dk_at dksX13_print_1 1 rfl rfl)
theorem dX13_print_26 : decode cX13_print 26 = .ok (.baload, 1) := dk_51 (dk_at dksX13_print_1 2 rfl rfl)
theorem dX13_print_27 : decode cX13_print 27 = .ok (.istore 4, 2) := dk_54 4 (dk_at dksX13_print_1 3 rfl rfl)
theorem dX13_print_29 : decode cX13_print 29 = .ok (.aload_n 0, 1) := dk_42 (dk_at dksX13_print_1 5 rfl rfl)
theorem dX13_print_30 : decode cX13_print 30 = .ok (.getfield 3, 3) := dk_180 0 3 (dk_at dksX13_print_1 6 rfl rfl)
theorem dX13_print_33 : decode cX13_print 33 = .ok (.iload 4, 2) := dk_21 4 (dk_at dksX13_print_1 9 rfl rfl)
theorem dX13_print_35 : decode cX13_print 35 = .ok (.invokevirtual 53, 3) := dk_182 0 53 (dk_at dksX13_print_1 11 rfl rfl)
theorem dX13_print_38 : decode cX13_print 38 = .ok (.iinc 3 1, 3) := dk_132 3 1 (dk_at dksX13_print_1 14 rfl rfl)
theorem dX13_print_41 : decode cX13_print 41 = .ok (.goto (-22), 3) := dk_167 255 234 (dk_at dksX13_print_1 17 rfl rfl)
theorem dX13_print_44 : decode cX13_print 44 = .ok (.return_, 1) := dk_177 (dk_at dksX13_print_1 20 rfl rfl)
theorem q180 : (Jvm.Cond.initialized "ClauseCourt$Told") ∈ lw_all := lw_g (lw_at lw_m1 24 rfl) rfl
theorem q978 : (Jvm.Cond.selects "ClauseCourt$Told" ({ cls := "ClauseCourt$Rule", name := "lay", desc := "()V" } : Jvm.MethodName) ({ cls := "ClauseCourt$Told", name := "lay", desc := "()V" } : Jvm.MethodName)) ∈ lw_all := lw_g (lw_at lw_m4 102 rfl) rfl
theorem q979 : (Jvm.Cond.instanceMethod ({ cls := "ClauseCourt$Told", name := "lay", desc := "()V" } : Jvm.MethodName)) ∈ lw_all := lw_g (lw_at lw_m4 103 rfl) rfl
theorem q980 : (Jvm.Cond.code ({ cls := "ClauseCourt$Told", name := "lay", desc := "()V" } : Jvm.MethodName) prog_14_method_11_code (1 : Nat) (Option.none : Option Jvm.ClassFile.FieldType)) ∈ lw_all := lw_g (lw_at lw_m4 104 rfl) rfl
theorem q981 : (Jvm.Cond.methodLink "ClauseCourt$Told" (56 : Nat) ({ cls := "ClauseCourt$Told", name := "layPart", desc := "(LClauseCourt$Part;)I" } : Jvm.MethodName)) ∈ lw_all := lw_g (lw_at lw_m4 105 rfl) rfl
theorem q982 : (Jvm.Cond.privateMethod ({ cls := "ClauseCourt$Told", name := "layPart", desc := "(LClauseCourt$Part;)I" } : Jvm.MethodName)) ∈ lw_tbl := lw_at lw_m4 106 rfl
theorem q983 : (Jvm.Cond.instanceMethod ({ cls := "ClauseCourt$Told", name := "layPart", desc := "(LClauseCourt$Part;)I" } : Jvm.MethodName)) ∈ lw_all := lw_g (lw_at lw_m4 107 rfl) rfl
theorem q984 : (Jvm.Cond.instantiable "ClauseCourt$Told" (9 : Nat)) ∈ lw_all := lw_g (lw_at lw_m4 108 rfl) rfl
theorem q985 : (Jvm.Cond.code ({ cls := "ClauseCourt$Told", name := "layPart", desc := "(LClauseCourt$Part;)I" } : Jvm.MethodName) prog_14_method_6_code (4 : Nat) (Option.some Jvm.ClassFile.FieldType.int)) ∈ lw_all := lw_g (lw_at lw_m4 109 rfl) rfl
theorem q986 : (Jvm.Cond.methodLinkNest "ClauseCourt$Told" (60 : Nat) ({ cls := "ClauseCourt", name := "newName", desc := "()I" } : Jvm.MethodName) "ClauseCourt") ∈ lw_tbl := lw_at lw_m4 110 rfl
theorem q987 : (Jvm.Cond.methodLink "ClauseCourt$Told" (64 : Nat) ({ cls := "ClauseCourt$Told", name := "all", desc := "([III)V" } : Jvm.MethodName)) ∈ lw_all := lw_g (lw_at lw_m4 111 rfl) rfl
theorem q988 : (Jvm.Cond.privateMethod ({ cls := "ClauseCourt$Told", name := "all", desc := "([III)V" } : Jvm.MethodName)) ∈ lw_tbl := lw_at lw_m4 112 rfl
theorem q989 : (Jvm.Cond.instanceMethod ({ cls := "ClauseCourt$Told", name := "all", desc := "([III)V" } : Jvm.MethodName)) ∈ lw_all := lw_g (lw_at lw_m4 113 rfl) rfl
theorem q990 : (Jvm.Cond.code ({ cls := "ClauseCourt$Told", name := "all", desc := "([III)V" } : Jvm.MethodName) prog_14_method_7_code (8 : Nat) (Option.none : Option Jvm.ClassFile.FieldType)) ∈ lw_all := lw_g (lw_at lw_m4 114 rfl) rfl
theorem q991 : (Jvm.Cond.methodLinkNest "ClauseCourt$Told" (72 : Nat) ({ cls := "ClauseCourt", name := "plan", desc := "(II)V" } : Jvm.MethodName) "ClauseCourt") ∈ lw_tbl := lw_at lw_m4 115 rfl
theorem q992 : (Jvm.Cond.methodLinkNest "ClauseCourt$Told" (82 : Nat) ({ cls := "ClauseCourt", name := "also", desc := "(I)V" } : Jvm.MethodName) "ClauseCourt") ∈ lw_tbl := lw_at lw_m4 116 rfl
theorem q993 : (Jvm.Cond.methodLinkNest "ClauseCourt$Told" (85 : Nat) ({ cls := "ClauseCourt", name := "endRow", desc := "()V" } : Jvm.MethodName) "ClauseCourt") ∈ lw_tbl := lw_at lw_m4 117 rfl
theorem q994 : (Jvm.Cond.methodLink "ClauseCourt$Told" (68 : Nat) ({ cls := "ClauseCourt$Told", name := "some", desc := "([II)V" } : Jvm.MethodName)) ∈ lw_all := lw_g (lw_at lw_m4 118 rfl) rfl
theorem q995 : (Jvm.Cond.privateMethod ({ cls := "ClauseCourt$Told", name := "some", desc := "([II)V" } : Jvm.MethodName)) ∈ lw_tbl := lw_at lw_m4 119 rfl
theorem q996 : (Jvm.Cond.instanceMethod ({ cls := "ClauseCourt$Told", name := "some", desc := "([II)V" } : Jvm.MethodName)) ∈ lw_all := lw_g (lw_at lw_m4 120 rfl) rfl
theorem q997 : (Jvm.Cond.code ({ cls := "ClauseCourt$Told", name := "some", desc := "([II)V" } : Jvm.MethodName) prog_14_method_8_code (7 : Nat) (Option.none : Option Jvm.ClassFile.FieldType)) ∈ lw_all := lw_g (lw_at lw_m4 121 rfl) rfl
theorem q998 : (Jvm.Cond.methodLink "ClauseCourt$Told" (89 : Nat) ({ cls := "ClauseCourt$Told", name := "row", desc := "([II)V" } : Jvm.MethodName)) ∈ lw_all := lw_g (lw_at lw_m4 122 rfl) rfl
theorem q999 : (Jvm.Cond.privateMethod ({ cls := "ClauseCourt$Told", name := "row", desc := "([II)V" } : Jvm.MethodName)) ∈ lw_tbl := lw_at lw_m4 123 rfl
theorem q1000 : (Jvm.Cond.instanceMethod ({ cls := "ClauseCourt$Told", name := "row", desc := "([II)V" } : Jvm.MethodName)) ∈ lw_all := lw_g (lw_at lw_m4 124 rfl) rfl
theorem q1001 : (Jvm.Cond.code ({ cls := "ClauseCourt$Told", name := "row", desc := "([II)V" } : Jvm.MethodName) prog_14_method_9_code (7 : Nat) (Option.none : Option Jvm.ClassFile.FieldType)) ∈ lw_all := lw_g (lw_at lw_m4 125 rfl) rfl
theorem q1002 : (Jvm.Cond.methodLinkNest "ClauseCourt$Told" (76 : Nat) ({ cls := "ClauseCourt", name := "plan", desc := "(III)V" } : Jvm.MethodName) "ClauseCourt") ∈ lw_tbl := lw_at lw_m4 126 rfl
theorem q1003 : (Jvm.Cond.methodLink "ClauseCourt$Told" (79 : Nat) ({ cls := "ClauseCourt$Told", name := "justOne", desc := "([II)V" } : Jvm.MethodName)) ∈ lw_all := lw_g (lw_at lw_m4 127 rfl) rfl
theorem q1004 : (Jvm.Cond.privateMethod ({ cls := "ClauseCourt$Told", name := "justOne", desc := "([II)V" } : Jvm.MethodName)) ∈ lw_tbl := lw_at lw_m4 128 rfl
theorem q1005 : (Jvm.Cond.instanceMethod ({ cls := "ClauseCourt$Told", name := "justOne", desc := "([II)V" } : Jvm.MethodName)) ∈ lw_all := lw_g (lw_at lw_m4 129 rfl) rfl
theorem q1006 : (Jvm.Cond.code ({ cls := "ClauseCourt$Told", name := "justOne", desc := "([II)V" } : Jvm.MethodName) prog_14_method_10_code (5 : Nat) (Option.none : Option Jvm.ClassFile.FieldType)) ∈ lw_all := lw_g (lw_at lw_m4 130 rfl) rfl
theorem q1007 : (Jvm.Cond.methodLinkNest "ClauseCourt$Told" (92 : Nat) ({ cls := "ClauseCourt", name := "plan", desc := "(I)V" } : Jvm.MethodName) "ClauseCourt") ∈ lw_tbl := lw_at lw_m4 131 rfl
theorem q1074 : (Jvm.Cond.fieldLinkNest "ClauseCourt$Told" (37 : Nat) "ClauseCourt$Part" "sign" "I" "ClauseCourt") ∈ lw_tbl := lw_at lw_m4 198 rfl
theorem q1075 : (Jvm.Cond.fieldLinkNest "ClauseCourt$Told" (40 : Nat) "ClauseCourt$Part" "number" "I" "ClauseCourt") ∈ lw_tbl := lw_at lw_m4 199 rfl
theorem q1077 : (Jvm.Cond.fieldLinkNest "ClauseCourt$Told" (23 : Nat) "ClauseCourt$Part" "parts" "I" "ClauseCourt") ∈ lw_tbl := lw_at lw_m4 201 rfl
theorem q1080 : (Jvm.Cond.fieldLinkNest "ClauseCourt$Told" (29 : Nat) "ClauseCourt$Part" "part" "[LClauseCourt$Part;" "ClauseCourt") ∈ lw_tbl := lw_at lw_m4 204 rfl
theorem q1134 : (Jvm.Cond.instanceMethod ({ cls := "ClauseCourt$Told", name := "<init>", desc := "(LClauseCourt;[I[BLClauseCourt$Part;)V" } : Jvm.MethodName)) ∈ lw_all := lw_g (lw_at lw_m5 18 rfl) rfl
theorem q1135 : (Jvm.Cond.code ({ cls := "ClauseCourt$Told", name := "<init>", desc := "(LClauseCourt;[I[BLClauseCourt$Part;)V" } : Jvm.MethodName) prog_14_method_1_code (5 : Nat) (Option.none : Option Jvm.ClassFile.FieldType)) ∈ lw_all := lw_g (lw_at lw_m5 19 rfl) rfl
theorem q1136 : (Jvm.Cond.methodLink "ClauseCourt$Told" (9 : Nat) ({ cls := "ClauseCourt$Clause", name := "<init>", desc := "(LClauseCourt;I[I)V" } : Jvm.MethodName)) ∈ lw_all := lw_g (lw_at lw_m5 20 rfl) rfl
theorem q1137 : (Jvm.Cond.fieldLink "ClauseCourt$Told" (15 : Nat) "ClauseCourt$Told" "text" "[B") ∈ lw_all := lw_g (lw_at lw_m5 21 rfl) rfl
theorem q1138 : (Jvm.Cond.fieldLink "ClauseCourt$Told" (19 : Nat) "ClauseCourt$Told" "whole" "LClauseCourt$Part;") ∈ lw_all := lw_g (lw_at lw_m5 22 rfl) rfl
theorem q1139 : (Jvm.Cond.fieldLink "ClauseCourt$Told" (3 : Nat) "ClauseCourt$Told" "this$0" "LClauseCourt;") ∈ lw_all := lw_g (lw_at lw_m5 23 rfl) rfl
theorem q1140 : (Jvm.Cond.laysFinal "ClauseCourt$Told" "ClauseCourt$Told" "text" "[B") ∈ lw_all := lw_g (lw_at lw_m5 24 rfl) rfl
theorem q1141 : (Jvm.Cond.soleField "ClauseCourt$Told" "text") ∈ lw_all := lw_g (lw_at lw_m5 25 rfl) rfl
theorem q1142 : (Jvm.Cond.laysFinal "ClauseCourt$Told" "ClauseCourt$Told" "whole" "LClauseCourt$Part;") ∈ lw_all := lw_g (lw_at lw_m5 26 rfl) rfl
theorem q1143 : (Jvm.Cond.soleField "ClauseCourt$Told" "whole") ∈ lw_all := lw_g (lw_at lw_m5 27 rfl) rfl
theorem q1144 : (Jvm.Cond.laysFinal "ClauseCourt$Told" "ClauseCourt$Told" "this$0" "LClauseCourt;") ∈ lw_all := lw_g (lw_at lw_m5 28 rfl) rfl
theorem q1145 : (Jvm.Cond.soleField "ClauseCourt$Told" "this$0") ∈ lw_all := lw_g (lw_at lw_m5 29 rfl) rfl
theorem q1146 : (Jvm.Cond.laysFinal "ClauseCourt$Told" "ClauseCourt$Clause" "this$0" "LClauseCourt;") ∈ lw_all := lw_g (lw_at lw_m5 30 rfl) rfl
theorem q1147 : (Jvm.Cond.laysFinal "ClauseCourt$Told" "ClauseCourt$Rule" "kind" "I") ∈ lw_all := lw_g (lw_at lw_m5 31 rfl) rfl
theorem q1148 : (Jvm.Cond.laysFinal "ClauseCourt$Told" "ClauseCourt$Rule" "items" "[I") ∈ lw_all := lw_g (lw_at lw_m5 32 rfl) rfl
theorem q1149 : (Jvm.Cond.lays "ClauseCourt$Told" "ClauseCourt$Rule" "first" "I") ∈ lw_all := lw_g (lw_at lw_m5 33 rfl) rfl
theorem q1150 : (Jvm.Cond.lays "ClauseCourt$Told" "ClauseCourt$Rule" "many" "I") ∈ lw_all := lw_g (lw_at lw_m5 34 rfl) rfl
theorem q1151 : (Jvm.Cond.laysFinal "ClauseCourt$Told" "ClauseCourt$Rule" "this$0" "LClauseCourt;") ∈ lw_all := lw_g (lw_at lw_m5 35 rfl) rfl
theorem q1152 : (Jvm.Cond.superclass "ClauseCourt$Told" "ClauseCourt$Clause") ∈ lw_all := lw_g (lw_at lw_m5 36 rfl) rfl
theorem q1227 : (Jvm.Cond.selects "ClauseCourt$Told" ({ cls := "ClauseCourt$Clause", name := "trues", desc := "(LClauseCourt$Truth;)I" } : Jvm.MethodName) ({ cls := "ClauseCourt$Rule", name := "trues", desc := "(LClauseCourt$Truth;)I" } : Jvm.MethodName)) ∈ lw_all := lw_g (lw_at lw_m5 111 rfl) rfl
theorem q1243 : (Jvm.Cond.selects "ClauseCourt$Told" ({ cls := "ClauseCourt$Rule", name := "holds", desc := "(LClauseCourt$Truth;)Z" } : Jvm.MethodName) ({ cls := "ClauseCourt$Told", name := "holds", desc := "(LClauseCourt$Truth;)Z" } : Jvm.MethodName)) ∈ lw_all := lw_g (lw_at lw_m5 127 rfl) rfl
theorem q1244 : (Jvm.Cond.instanceMethod ({ cls := "ClauseCourt$Told", name := "holds", desc := "(LClauseCourt$Truth;)Z" } : Jvm.MethodName)) ∈ lw_all := lw_g (lw_at lw_m5 128 rfl) rfl
theorem q1245 : (Jvm.Cond.code ({ cls := "ClauseCourt$Told", name := "holds", desc := "(LClauseCourt$Truth;)Z" } : Jvm.MethodName) prog_14_method_3_code (2 : Nat) (Option.some Jvm.ClassFile.FieldType.boolean)) ∈ lw_all := lw_g (lw_at lw_m5 129 rfl) rfl
theorem q1246 : (Jvm.Cond.methodLinkNest "ClauseCourt$Told" (49 : Nat) ({ cls := "ClauseCourt", name := "body", desc := "(I)V" } : Jvm.MethodName) "ClauseCourt") ∈ lw_tbl := lw_at lw_m5 130 rfl
theorem q1247 : (Jvm.Cond.methodLink "ClauseCourt$Told" (33 : Nat) ({ cls := "ClauseCourt$Told", name := "isSo", desc := "(LClauseCourt$Part;LClauseCourt$Truth;)Z" } : Jvm.MethodName)) ∈ lw_all := lw_g (lw_at lw_m5 131 rfl) rfl
theorem q1248 : (Jvm.Cond.privateMethod ({ cls := "ClauseCourt$Told", name := "isSo", desc := "(LClauseCourt$Part;LClauseCourt$Truth;)Z" } : Jvm.MethodName)) ∈ lw_tbl := lw_at lw_m5 132 rfl
theorem q1249 : (Jvm.Cond.instanceMethod ({ cls := "ClauseCourt$Told", name := "isSo", desc := "(LClauseCourt$Part;LClauseCourt$Truth;)Z" } : Jvm.MethodName)) ∈ lw_all := lw_g (lw_at lw_m5 133 rfl) rfl
theorem q1250 : (Jvm.Cond.code ({ cls := "ClauseCourt$Told", name := "isSo", desc := "(LClauseCourt$Part;LClauseCourt$Truth;)Z" } : Jvm.MethodName) prog_14_method_2_code (5 : Nat) (Option.some Jvm.ClassFile.FieldType.boolean)) ∈ lw_all := lw_g (lw_at lw_m5 134 rfl) rfl
theorem q1251 : (Jvm.Cond.methodLink "ClauseCourt$Told" (43 : Nat) ({ cls := "ClauseCourt$Truth", name := "isTrue", desc := "(I)Z" } : Jvm.MethodName)) ∈ lw_all := lw_g (lw_at lw_m5 135 rfl) rfl
theorem q1270 : (Jvm.Cond.selects "ClauseCourt$Told" ({ cls := "ClauseCourt$Rule", name := "least", desc := "()I" } : Jvm.MethodName) ({ cls := "ClauseCourt$Clause", name := "least", desc := "()I" } : Jvm.MethodName)) ∈ lw_all := lw_g (lw_at lw_m5 154 rfl) rfl
theorem q1288 : (Jvm.Cond.selects "ClauseCourt$Told" ({ cls := "ClauseCourt$Rule", name := "most", desc := "()I" } : Jvm.MethodName) ({ cls := "ClauseCourt$Told", name := "most", desc := "()I" } : Jvm.MethodName)) ∈ lw_all := lw_g (lw_at lw_m5 172 rfl) rfl
theorem q1289 : (Jvm.Cond.instanceMethod ({ cls := "ClauseCourt$Told", name := "most", desc := "()I" } : Jvm.MethodName)) ∈ lw_all := lw_g (lw_at lw_m5 173 rfl) rfl
theorem q1290 : (Jvm.Cond.code ({ cls := "ClauseCourt$Told", name := "most", desc := "()I" } : Jvm.MethodName) prog_14_method_4_code (1 : Nat) (Option.some Jvm.ClassFile.FieldType.int)) ∈ lw_all := lw_g (lw_at lw_m5 174 rfl) rfl
theorem q1299 : (Jvm.Cond.selects "ClauseCourt$Told" ({ cls := "ClauseCourt$Rule", name := "laid", desc := "()I" } : Jvm.MethodName) ({ cls := "ClauseCourt$Rule", name := "laid", desc := "()I" } : Jvm.MethodName)) ∈ lw_all := lw_g (lw_at lw_m5 183 rfl) rfl
theorem q1406 : (Jvm.Cond.castable "ClauseCourt$Told" "ClauseCourt$Prints") ∈ lw_tbl := lw_at lw_m6 50 rfl
theorem q1407 : (Jvm.Cond.selects "ClauseCourt$Told" ({ cls := "ClauseCourt$Prints", name := "court", desc := "()LClauseCourt;" } : Jvm.MethodName) ({ cls := "ClauseCourt$Rule", name := "court", desc := "()LClauseCourt;" } : Jvm.MethodName)) ∈ lw_all := lw_g (lw_at lw_m6 51 rfl) rfl
theorem q1408 : (Jvm.Cond.unhidden "ClauseCourt$Told" "court" "()LClauseCourt;") ∈ lw_tbl := lw_at lw_m6 52 rfl
theorem q1426 : (Jvm.Cond.selects "ClauseCourt$Told" ({ cls := "ClauseCourt$Prints", name := "size", desc := "()I" } : Jvm.MethodName) ({ cls := "ClauseCourt$Rule", name := "size", desc := "()I" } : Jvm.MethodName)) ∈ lw_all := lw_g (lw_at lw_m6 70 rfl) rfl
theorem q1427 : (Jvm.Cond.unhidden "ClauseCourt$Told" "size" "()I") ∈ lw_tbl := lw_at lw_m6 71 rfl
theorem q1443 : (Jvm.Cond.selects "ClauseCourt$Told" ({ cls := "ClauseCourt$Prints", name := "at", desc := "(I)I" } : Jvm.MethodName) ({ cls := "ClauseCourt$Rule", name := "at", desc := "(I)I" } : Jvm.MethodName)) ∈ lw_all := lw_g (lw_at lw_m6 87 rfl) rfl
theorem q1444 : (Jvm.Cond.unhidden "ClauseCourt$Told" "at" "(I)I") ∈ lw_tbl := lw_at lw_m6 88 rfl
theorem q1449 : (Jvm.Cond.unhidden "ClauseCourt$Told" "list" "()V") ∈ lw_tbl := lw_at lw_m6 93 rfl
theorem q1460 : (Jvm.Cond.selects "ClauseCourt$Told" ({ cls := "ClauseCourt$Clause", name := "sayList", desc := "()V" } : Jvm.MethodName) ({ cls := "ClauseCourt$Rule", name := "sayList", desc := "()V" } : Jvm.MethodName)) ∈ lw_all := lw_g (lw_at lw_m6 104 rfl) rfl
theorem q1476 : (Jvm.Cond.selects "ClauseCourt$Told" ({ cls := "ClauseCourt$Rule", name := "print", desc := "()V" } : Jvm.MethodName) ({ cls := "ClauseCourt$Told", name := "print", desc := "()V" } : Jvm.MethodName)) ∈ lw_all := lw_g (lw_at lw_m6 120 rfl) rfl
theorem q1477 : (Jvm.Cond.instanceMethod ({ cls := "ClauseCourt$Told", name := "print", desc := "()V" } : Jvm.MethodName)) ∈ lw_all := lw_g (lw_at lw_m6 121 rfl) rfl
theorem q1478 : (Jvm.Cond.code ({ cls := "ClauseCourt$Told", name := "print", desc := "()V" } : Jvm.MethodName) prog_14_method_5_code (5 : Nat) (Option.none : Option Jvm.ClassFile.FieldType)) ∈ lw_all := lw_g (lw_at lw_m6 122 rfl) rfl
theorem q1479 : (Jvm.Cond.methodLinkNest "ClauseCourt$Told" (53 : Nat) ({ cls := "ClauseCourt", name := "say", desc := "(I)V" } : Jvm.MethodName) "ClauseCourt") ∈ lw_tbl := lw_at lw_m6 123 rfl
theorem q2787 : (Jvm.Cond.castable "ClauseCourt$Told" "ClauseCourt$Clause") ∈ lw_tbl := lw_at lw_m11 231 rfl
theorem q2793 : (Jvm.Cond.castable "ClauseCourt$Told" "ClauseCourt$Rule") ∈ lw_tbl := lw_at lw_m11 237 rfl
theorem in_X13 : ∀ w ∈ wsX130, w ∈ lw_all := lw_in wsX130 [1147, 1148, 1149, 1150, 1151, 1146, 1140, 1142, 1144] (by decide +kernel) (by decide +kernel)

/-! ClauseCourt$Prints -/
set_option maxRecDepth 100000
def RX14 : String := "ClauseCourt$Prints"
abbrev cX14_list : ByteArray := prog_11_method_5_code
def yX14_list : MethodName := ⟨RX14, "list", "()V"⟩
def dkwX14_list_2 : List UInt8 := [185, 0, 20, 2, 0, 182, 0, 24, 132, 2, 1, 167, 255, 222, 43, 16, 41, 182, 0, 13, 177]
abbrev dktX14_list_2 : List UInt8 := dkwX14_list_2 ++ []
def dkwX14_list_1 : List UInt8 := [185, 0, 16, 1, 0, 162, 0, 30, 28, 158, 0, 9, 43, 16, 44, 182, 0, 13, 43, 42, 28]
abbrev dktX14_list_1 : List UInt8 := dkwX14_list_1 ++ dktX14_list_2
def dkwX14_list_0 : List UInt8 := [42, 185, 0, 3, 1, 0, 76, 43, 16, 64, 182, 0, 9, 43, 16, 40, 182, 0, 13, 3, 61, 28, 42]
abbrev dktX14_list_0 : List UInt8 := dkwX14_list_0 ++ dktX14_list_1
theorem dksX14_list_0 : cX14_list.data.toList.drop 0 = dktX14_list_0 := by decide +kernel
theorem dksX14_list_1 : cX14_list.data.toList.drop 23 = dktX14_list_1 := dk_seg dksX14_list_0 23 rfl rfl
theorem dksX14_list_2 : cX14_list.data.toList.drop 44 = dktX14_list_2 := dk_seg dksX14_list_1 21 rfl rfl
theorem dX14_list_0 : decode cX14_list 0 = .ok (.aload_n 0, 1) := dk_42 (dk_at dksX14_list_0 0 rfl rfl)
theorem dX14_list_1 : decode cX14_list 1 = .ok (.invokeinterface 3 1, 5) := by decide +kernel
theorem dX14_list_6 : decode cX14_list 6 = .ok (.astore_n 1, 1) := dk_76 (dk_at dksX14_list_0 6 rfl rfl)
theorem dX14_list_7 : decode cX14_list 7 = .ok (.aload_n 1, 1) := dk_43 (dk_at dksX14_list_0 7 rfl rfl)
theorem dX14_list_8 : decode cX14_list 8 = .ok (.bipush 64, 2) := dk_16 64 (dk_at dksX14_list_0 8 rfl rfl)
theorem dX14_list_10 : decode cX14_list 10 = .ok (.invokevirtual 9, 3) := dk_182 0 9 (dk_at dksX14_list_0 10 rfl rfl)
theorem dX14_list_13 : decode cX14_list 13 = .ok (.aload_n 1, 1) := dk_43 (dk_at dksX14_list_0 13 rfl rfl)
theorem dX14_list_14 : decode cX14_list 14 = .ok (.bipush 40, 2) := dk_16 40 (dk_at dksX14_list_0 14 rfl rfl)
theorem dX14_list_16 : decode cX14_list 16 = .ok (.invokevirtual 13, 3) := dk_182 0 13 (dk_at dksX14_list_0 16 rfl rfl)
theorem dX14_list_19 : decode cX14_list 19 = .ok (.iconst 0, 1) := dk_3 (dk_at dksX14_list_0 19 rfl rfl)
theorem dX14_list_20 : decode cX14_list 20 = .ok (.istore_n 2, 1) := dk_61 (dk_at dksX14_list_0 20 rfl rfl)
theorem dX14_list_21 : decode cX14_list 21 = .ok (.iload_n 2, 1) := dk_28 (dk_at dksX14_list_0 21 rfl rfl)
theorem dX14_list_22 : decode cX14_list 22 = .ok (.aload_n 0, 1) := dk_42 (dk_at dksX14_list_0 22 rfl rfl)
theorem dX14_list_23 : decode cX14_list 23 = .ok (.invokeinterface 16 1, 5) := by decide +kernel
theorem dX14_list_28 : decode cX14_list 28 = .ok (.if_icmp .ge 30, 3) := dk_162 0 30 (dk_at dksX14_list_1 5 rfl rfl)
theorem dX14_list_31 : decode cX14_list 31 = .ok (.iload_n 2, 1) := dk_28 (dk_at dksX14_list_1 8 rfl rfl)
theorem dX14_list_32 : decode cX14_list 32 = .ok (.ifCond .le 9, 3) := dk_158 0 9 (dk_at dksX14_list_1 9 rfl rfl)
theorem dX14_list_35 : decode cX14_list 35 = .ok (.aload_n 1, 1) := dk_43 (dk_at dksX14_list_1 12 rfl rfl)
theorem dX14_list_36 : decode cX14_list 36 = .ok (.bipush 44, 2) := dk_16 44 (dk_at dksX14_list_1 13 rfl rfl)
theorem dX14_list_38 : decode cX14_list 38 = .ok (.invokevirtual 13, 3) := dk_182 0 13 (dk_at dksX14_list_1 15 rfl rfl)
theorem dX14_list_41 : decode cX14_list 41 = .ok (.aload_n 1, 1) := dk_43 (dk_at dksX14_list_1 18 rfl rfl)
theorem dX14_list_42 : decode cX14_list 42 = .ok (.aload_n 0, 1) := dk_42 (dk_at dksX14_list_1 19 rfl rfl)
theorem dX14_list_43 : decode cX14_list 43 = .ok (.iload_n 2, 1) := dk_28 (dk_at dksX14_list_1 20 rfl rfl)
theorem dX14_list_44 : decode cX14_list 44 = .ok (.invokeinterface 20 2, 5) := by decide +kernel
theorem dX14_list_49 : decode cX14_list 49 = .ok (.invokevirtual 24, 3) := dk_182 0 24 (dk_at dksX14_list_2 5 rfl rfl)
theorem dX14_list_52 : decode cX14_list 52 = .ok (.iinc 2 1, 3) := dk_132 2 1 (dk_at dksX14_list_2 8 rfl rfl)
theorem dX14_list_55 : decode cX14_list 55 = .ok (.goto (-34), 3) := dk_167 255 222 (dk_at dksX14_list_2 11 rfl rfl)
theorem dX14_list_58 : decode cX14_list 58 = .ok (.aload_n 1, 1) := dk_43 (dk_at dksX14_list_2 14 rfl rfl)
theorem dX14_list_59 : decode cX14_list 59 = .ok (.bipush 41, 2) := dk_16 41 (dk_at dksX14_list_2 15 rfl rfl)
theorem dX14_list_61 : decode cX14_list 61 = .ok (.invokevirtual 13, 3) := dk_182 0 13 (dk_at dksX14_list_2 17 rfl rfl)
theorem dX14_list_64 : decode cX14_list 64 = .ok (.return_, 1) := dk_177 (dk_at dksX14_list_2 20 rfl rfl)
theorem q1381 : (Jvm.Cond.interfaceMethod "ClauseCourt$Prints" "ClauseCourt$Prints" "list" "()V") ∈ lw_tbl := lw_at lw_m6 25 rfl
theorem q1382 : (Jvm.Cond.declares ({ cls := "ClauseCourt$Prints", name := "list", desc := "()V" } : Jvm.MethodName)) ∈ lw_tbl := lw_at lw_m6 26 rfl
theorem q1385 : (Jvm.Cond.instanceMethod ({ cls := "ClauseCourt$Prints", name := "list", desc := "()V" } : Jvm.MethodName)) ∈ lw_all := lw_g (lw_at lw_m6 29 rfl) rfl
theorem q1386 : (Jvm.Cond.publicMethod ({ cls := "ClauseCourt$Prints", name := "list", desc := "()V" } : Jvm.MethodName)) ∈ lw_tbl := lw_at lw_m6 30 rfl
theorem q1387 : (Jvm.Cond.code ({ cls := "ClauseCourt$Prints", name := "list", desc := "()V" } : Jvm.MethodName) prog_11_method_5_code (3 : Nat) (Option.none : Option Jvm.ClassFile.FieldType)) ∈ lw_all := lw_g (lw_at lw_m6 31 rfl) rfl
theorem q1388 : (Jvm.Cond.interfaceEntry "ClauseCourt$Prints" (3 : Nat)) ∈ lw_tbl := lw_at lw_m6 32 rfl
theorem q1389 : (Jvm.Cond.methodLink "ClauseCourt$Prints" (3 : Nat) ({ cls := "ClauseCourt$Prints", name := "court", desc := "()LClauseCourt;" } : Jvm.MethodName)) ∈ lw_all := lw_g (lw_at lw_m6 33 rfl) rfl
theorem q1390 : (Jvm.Cond.interfaceMethod "ClauseCourt$Prints" "ClauseCourt$Prints" "court" "()LClauseCourt;") ∈ lw_tbl := lw_at lw_m6 34 rfl
theorem q1391 : (Jvm.Cond.declares ({ cls := "ClauseCourt$Prints", name := "court", desc := "()LClauseCourt;" } : Jvm.MethodName)) ∈ lw_tbl := lw_at lw_m6 35 rfl
theorem q1409 : (Jvm.Cond.methodLinkNest "ClauseCourt$Prints" (9 : Nat) ({ cls := "ClauseCourt", name := "body", desc := "(I)V" } : Jvm.MethodName) "ClauseCourt") ∈ lw_tbl := lw_at lw_m6 53 rfl
theorem q1410 : (Jvm.Cond.methodLinkNest "ClauseCourt$Prints" (13 : Nat) ({ cls := "ClauseCourt", name := "say", desc := "(I)V" } : Jvm.MethodName) "ClauseCourt") ∈ lw_tbl := lw_at lw_m6 54 rfl
theorem q1411 : (Jvm.Cond.interfaceEntry "ClauseCourt$Prints" (16 : Nat)) ∈ lw_tbl := lw_at lw_m6 55 rfl
theorem q1412 : (Jvm.Cond.methodLink "ClauseCourt$Prints" (16 : Nat) ({ cls := "ClauseCourt$Prints", name := "size", desc := "()I" } : Jvm.MethodName)) ∈ lw_all := lw_g (lw_at lw_m6 56 rfl) rfl
theorem q1413 : (Jvm.Cond.interfaceMethod "ClauseCourt$Prints" "ClauseCourt$Prints" "size" "()I") ∈ lw_tbl := lw_at lw_m6 57 rfl
theorem q1414 : (Jvm.Cond.declares ({ cls := "ClauseCourt$Prints", name := "size", desc := "()I" } : Jvm.MethodName)) ∈ lw_tbl := lw_at lw_m6 58 rfl
theorem q1428 : (Jvm.Cond.interfaceEntry "ClauseCourt$Prints" (20 : Nat)) ∈ lw_tbl := lw_at lw_m6 72 rfl
theorem q1429 : (Jvm.Cond.methodLink "ClauseCourt$Prints" (20 : Nat) ({ cls := "ClauseCourt$Prints", name := "at", desc := "(I)I" } : Jvm.MethodName)) ∈ lw_all := lw_g (lw_at lw_m6 73 rfl) rfl
theorem q1430 : (Jvm.Cond.interfaceMethod "ClauseCourt$Prints" "ClauseCourt$Prints" "at" "(I)I") ∈ lw_tbl := lw_at lw_m6 74 rfl
theorem q1431 : (Jvm.Cond.declares ({ cls := "ClauseCourt$Prints", name := "at", desc := "(I)I" } : Jvm.MethodName)) ∈ lw_tbl := lw_at lw_m6 75 rfl
theorem q1445 : (Jvm.Cond.methodLinkNest "ClauseCourt$Prints" (24 : Nat) ({ cls := "ClauseCourt", name := "sayNumber", desc := "(I)V" } : Jvm.MethodName) "ClauseCourt") ∈ lw_tbl := lw_at lw_m6 89 rfl

theorem q156 : (Jvm.Cond.initialized "ClauseCourtLaw") ∈ lw_all := lw_g (lw_at lw_m1 0 rfl) rfl
set_option maxRecDepth 100000
theorem q187 : (Jvm.Cond.classLink "ClauseCourtLaw" (7 : Nat) "ClauseCourt") ∈ lw_all := lw_g (lw_at lw_m1 31 rfl) rfl
theorem q189 : (Jvm.Cond.methodLink "ClauseCourtLaw" (9 : Nat) ({ cls := "ClauseCourt", name := "<init>", desc := "()V" } : Jvm.MethodName)) ∈ lw_all := lw_g (lw_at lw_m1 33 rfl) rfl
theorem q570 : (Jvm.Cond.methodLink "ClauseCourtLaw" (13 : Nat) ({ cls := "ClauseCourt", name := "names", desc := "(I)I" } : Jvm.MethodName)) ∈ lw_all := lw_g (lw_at lw_m2 174 rfl) rfl
theorem q603 : (Jvm.Cond.methodLink "ClauseCourtLaw" (18 : Nat) ({ cls := "ClauseCourt", name := "row", desc := "(II)I" } : Jvm.MethodName)) ∈ lw_all := lw_g (lw_at lw_m2 207 rfl) rfl
theorem q696 : (Jvm.Cond.methodLink "ClauseCourtLaw" (23 : Nat) ({ cls := "ClauseCourt", name := "drop", desc := "(I)I" } : Jvm.MethodName)) ∈ lw_all := lw_g (lw_at lw_m3 60 rfl) rfl
theorem q700 : (Jvm.Cond.methodLink "ClauseCourtLaw" (27 : Nat) ({ cls := "ClauseCourt", name := "put", desc := "(III)I" } : Jvm.MethodName)) ∈ lw_all := lw_g (lw_at lw_m3 64 rfl) rfl
theorem q748 : (Jvm.Cond.methodLink "ClauseCourtLaw" (32 : Nat) ({ cls := "ClauseCourt", name := "get", desc := "(II)J" } : Jvm.MethodName)) ∈ lw_all := lw_g (lw_at lw_m3 112 rfl) rfl
theorem q753 : (Jvm.Cond.methodLink "ClauseCourtLaw" (37 : Nat) ({ cls := "ClauseCourt", name := "copy", desc := "(IIIII)I" } : Jvm.MethodName)) ∈ lw_all := lw_g (lw_at lw_m3 117 rfl) rfl
theorem q760 : (Jvm.Cond.methodLink "ClauseCourtLaw" (42 : Nat) ({ cls := "ClauseCourt", name := "cut", desc := "(II)I" } : Jvm.MethodName)) ∈ lw_all := lw_g (lw_at lw_m3 124 rfl) rfl
theorem q764 : (Jvm.Cond.methodLink "ClauseCourtLaw" (48 : Nat) ({ cls := "ClauseCourt", name := "feed", desc := "(JI)I" } : Jvm.MethodName)) ∈ lw_all := lw_g (lw_at lw_m3 128 rfl) rfl
theorem q769 : (Jvm.Cond.methodLink "ClauseCourtLaw" (53 : Nat) ({ cls := "ClauseCourt", name := "wipe", desc := "()I" } : Jvm.MethodName)) ∈ lw_all := lw_g (lw_at lw_m3 133 rfl) rfl
theorem q773 : (Jvm.Cond.methodLink "ClauseCourtLaw" (228 : Nat) ({ cls := "ClauseCourt", name := "trace", desc := "(I)I" } : Jvm.MethodName)) ∈ lw_all := lw_g (lw_at lw_m3 137 rfl) rfl
theorem q780 : (Jvm.Cond.methodLink "ClauseCourtLaw" (111 : Nat) ({ cls := "ClauseCourt", name := "out", desc := "(I)I" } : Jvm.MethodName)) ∈ lw_all := lw_g (lw_at lw_m3 144 rfl) rfl
theorem q784 : (Jvm.Cond.methodLink "ClauseCourtLaw" (58 : Nat) ({ cls := "ClauseCourt", name := "clause", desc := "(I)I" } : Jvm.MethodName)) ∈ lw_all := lw_g (lw_at lw_m3 148 rfl) rfl
theorem q1012 : (Jvm.Cond.methodLink "ClauseCourtLaw" (62 : Nat) ({ cls := "ClauseCourt", name := "atMost", desc := "(II)I" } : Jvm.MethodName)) ∈ lw_all := lw_g (lw_at lw_m4 136 rfl) rfl
theorem q1016 : (Jvm.Cond.methodLink "ClauseCourtLaw" (66 : Nat) ({ cls := "ClauseCourt", name := "group", desc := "(II)I" } : Jvm.MethodName)) ∈ lw_all := lw_g (lw_at lw_m4 140 rfl) rfl
theorem q1020 : (Jvm.Cond.methodLink "ClauseCourtLaw" (70 : Nat) ({ cls := "ClauseCourt", name := "parity", desc := "(IZ)I" } : Jvm.MethodName)) ∈ lw_all := lw_g (lw_at lw_m4 144 rfl) rfl
theorem q1024 : (Jvm.Cond.methodLink "ClauseCourtLaw" (75 : Nat) ({ cls := "ClauseCourt", name := "told", desc := "()I" } : Jvm.MethodName)) ∈ lw_all := lw_g (lw_at lw_m4 148 rfl) rfl
theorem q1153 : (Jvm.Cond.methodLink "ClauseCourtLaw" (79 : Nat) ({ cls := "ClauseCourt", name := "kind", desc := "(I)I" } : Jvm.MethodName)) ∈ lw_all := lw_g (lw_at lw_m5 37 rfl) rfl
theorem q1161 : (Jvm.Cond.methodLink "ClauseCourtLaw" (83 : Nat) ({ cls := "ClauseCourt", name := "as", desc := "(II)I" } : Jvm.MethodName)) ∈ lw_all := lw_g (lw_at lw_m5 45 rfl) rfl
theorem q1183 : (Jvm.Cond.methodLink "ClauseCourtLaw" (87 : Nat) ({ cls := "ClauseCourt", name := "item", desc := "(II)I" } : Jvm.MethodName)) ∈ lw_all := lw_g (lw_at lw_m5 67 rfl) rfl
theorem q1187 : (Jvm.Cond.methodLink "ClauseCourtLaw" (91 : Nat) ({ cls := "ClauseCourt", name := "rows", desc := "(II)I" } : Jvm.MethodName)) ∈ lw_all := lw_g (lw_at lw_m5 71 rfl) rfl
theorem q1191 : (Jvm.Cond.methodLink "ClauseCourtLaw" (99 : Nat) ({ cls := "ClauseCourt", name := "ask", desc := "(II)I" } : Jvm.MethodName)) ∈ lw_all := lw_g (lw_at lw_m5 75 rfl) rfl
theorem q1301 : (Jvm.Cond.methodLink "ClauseCourtLaw" (103 : Nat) ({ cls := "ClauseCourt", name := "print", desc := "(I)I" } : Jvm.MethodName)) ∈ lw_all := lw_g (lw_at lw_m5 185 rfl) rfl
theorem q1480 : (Jvm.Cond.methodLink "ClauseCourtLaw" (107 : Nat) ({ cls := "ClauseCourt", name := "export", desc := "()I" } : Jvm.MethodName)) ∈ lw_all := lw_g (lw_at lw_m6 124 rfl) rfl
theorem q1485 : (Jvm.Cond.methodLink "ClauseCourtLaw" (115 : Nat) ({ cls := "ClauseCourt", name := "assume", desc := "(I)I" } : Jvm.MethodName)) ∈ lw_all := lw_g (lw_at lw_m6 129 rfl) rfl
theorem q1489 : (Jvm.Cond.methodLink "ClauseCourtLaw" (119 : Nat) ({ cls := "ClauseCourt", name := "free", desc := "()I" } : Jvm.MethodName)) ∈ lw_all := lw_g (lw_at lw_m6 133 rfl) rfl
theorem q1493 : (Jvm.Cond.methodLink "ClauseCourtLaw" (123 : Nat) ({ cls := "ClauseCourt", name := "weight", desc := "(II)I" } : Jvm.MethodName)) ∈ lw_all := lw_g (lw_at lw_m6 137 rfl) rfl
theorem q1502 : (Jvm.Cond.methodLink "ClauseCourtLaw" (127 : Nat) ({ cls := "ClauseCourt", name := "weighs", desc := "(I)J" } : Jvm.MethodName)) ∈ lw_all := lw_g (lw_at lw_m6 146 rfl) rfl
theorem q1506 : (Jvm.Cond.methodLink "ClauseCourtLaw" (132 : Nat) ({ cls := "ClauseCourt", name := "begin", desc := "(I)I" } : Jvm.MethodName)) ∈ lw_all := lw_g (lw_at lw_m6 150 rfl) rfl
theorem q1511 : (Jvm.Cond.methodLink "ClauseCourtLaw" (136 : Nat) ({ cls := "ClauseCourt", name := "forget", desc := "(I)I" } : Jvm.MethodName)) ∈ lw_all := lw_g (lw_at lw_m6 155 rfl) rfl
theorem q1516 : (Jvm.Cond.methodLink "ClauseCourtLaw" (140 : Nat) ({ cls := "ClauseCourt", name := "solve", desc := "(I)I" } : Jvm.MethodName)) ∈ lw_all := lw_g (lw_at lw_m6 160 rfl) rfl
theorem q1701 : (Jvm.Cond.methodLink "ClauseCourtLaw" (144 : Nat) ({ cls := "ClauseCourt", name := "goOn", desc := "(I)I" } : Jvm.MethodName)) ∈ lw_all := lw_g (lw_at lw_m7 105 rfl) rfl
theorem q1705 : (Jvm.Cond.methodLink "ClauseCourtLaw" (148 : Nat) ({ cls := "ClauseCourt", name := "truth", desc := "(I)I" } : Jvm.MethodName)) ∈ lw_all := lw_g (lw_at lw_m7 109 rfl) rfl
theorem q1709 : (Jvm.Cond.methodLink "ClauseCourtLaw" (152 : Nat) ({ cls := "ClauseCourt", name := "solved", desc := "(I)I" } : Jvm.MethodName)) ∈ lw_all := lw_g (lw_at lw_m7 113 rfl) rfl
theorem q1713 : (Jvm.Cond.methodLink "ClauseCourtLaw" (156 : Nat) ({ cls := "ClauseCourt", name := "quarrel", desc := "(I)I" } : Jvm.MethodName)) ∈ lw_all := lw_g (lw_at lw_m7 117 rfl) rfl
theorem q1717 : (Jvm.Cond.methodLink "ClauseCourtLaw" (95 : Nat) ({ cls := "ClauseCourt", name := "line", desc := "(II)I" } : Jvm.MethodName)) ∈ lw_all := lw_g (lw_at lw_m7 121 rfl) rfl
theorem q1725 : (Jvm.Cond.methodLink "ClauseCourtLaw" (160 : Nat) ({ cls := "ClauseCourt", name := "core", desc := "(I)I" } : Jvm.MethodName)) ∈ lw_all := lw_g (lw_at lw_m7 129 rfl) rfl
theorem q1741 : (Jvm.Cond.methodLink "ClauseCourtLaw" (164 : Nat) ({ cls := "ClauseCourt", name := "coreAt", desc := "(II)I" } : Jvm.MethodName)) ∈ lw_all := lw_g (lw_at lw_m7 145 rfl) rfl
theorem q1745 : (Jvm.Cond.methodLink "ClauseCourtLaw" (168 : Nat) ({ cls := "ClauseCourt", name := "shrink", desc := "(I)I" } : Jvm.MethodName)) ∈ lw_all := lw_g (lw_at lw_m7 149 rfl) rfl
theorem q1758 : (Jvm.Cond.methodLink "ClauseCourtLaw" (172 : Nat) ({ cls := "ClauseCourt", name := "least", desc := "(I)I" } : Jvm.MethodName)) ∈ lw_all := lw_g (lw_at lw_m7 162 rfl) rfl
theorem q1769 : (Jvm.Cond.methodLink "ClauseCourtLaw" (176 : Nat) ({ cls := "ClauseCourt", name := "take", desc := "()I" } : Jvm.MethodName)) ∈ lw_all := lw_g (lw_at lw_m7 173 rfl) rfl
theorem q1773 : (Jvm.Cond.methodLink "ClauseCourtLaw" (180 : Nat) ({ cls := "ClauseCourt", name := "claim", desc := "(I)I" } : Jvm.MethodName)) ∈ lw_all := lw_g (lw_at lw_m7 177 rfl) rfl
theorem q1777 : (Jvm.Cond.methodLink "ClauseCourtLaw" (184 : Nat) ({ cls := "ClauseCourt", name := "strike", desc := "(I)I" } : Jvm.MethodName)) ∈ lw_all := lw_g (lw_at lw_m7 181 rfl) rfl
theorem q1781 : (Jvm.Cond.methodLink "ClauseCourtLaw" (188 : Nat) ({ cls := "ClauseCourt", name := "proof", desc := "(II)I" } : Jvm.MethodName)) ∈ lw_all := lw_g (lw_at lw_m7 185 rfl) rfl
theorem q1785 : (Jvm.Cond.methodLink "ClauseCourtLaw" (192 : Nat) ({ cls := "ClauseCourt", name := "check", desc := "()I" } : Jvm.MethodName)) ∈ lw_all := lw_g (lw_at lw_m7 189 rfl) rfl
theorem q1803 : (Jvm.Cond.methodLink "ClauseCourtLaw" (196 : Nat) ({ cls := "ClauseCourt", name := "refusedAt", desc := "()I" } : Jvm.MethodName)) ∈ lw_all := lw_g (lw_at lw_m7 207 rfl) rfl
theorem q1807 : (Jvm.Cond.methodLink "ClauseCourtLaw" (200 : Nat) ({ cls := "ClauseCourt", name := "counted", desc := "(IZ)I" } : Jvm.MethodName)) ∈ lw_all := lw_g (lw_at lw_m7 211 rfl) rfl
theorem q1815 : (Jvm.Cond.methodLink "ClauseCourtLaw" (204 : Nat) ({ cls := "ClauseCourt", name := "next", desc := "(I)I" } : Jvm.MethodName)) ∈ lw_all := lw_g (lw_at lw_m7 219 rfl) rfl
theorem q1823 : (Jvm.Cond.methodLink "ClauseCourtLaw" (208 : Nat) ({ cls := "ClauseCourt", name := "unbar", desc := "()I" } : Jvm.MethodName)) ∈ lw_all := lw_g (lw_at lw_m7 227 rfl) rfl
theorem q1827 : (Jvm.Cond.methodLink "ClauseCourtLaw" (212 : Nat) ({ cls := "ClauseCourt", name := "count", desc := "(II)I" } : Jvm.MethodName)) ∈ lw_all := lw_g (lw_at lw_m7 231 rfl) rfl
theorem q1832 : (Jvm.Cond.methodLink "ClauseCourtLaw" (216 : Nat) ({ cls := "ClauseCourt", name := "forced", desc := "()I" } : Jvm.MethodName)) ∈ lw_all := lw_g (lw_at lw_m7 236 rfl) rfl
theorem q1840 : (Jvm.Cond.methodLink "ClauseCourtLaw" (220 : Nat) ({ cls := "ClauseCourt", name := "forcedAt", desc := "(I)I" } : Jvm.MethodName)) ∈ lw_all := lw_g (lw_at lw_m8 4 rfl) rfl
theorem q1844 : (Jvm.Cond.methodLink "ClauseCourtLaw" (224 : Nat) ({ cls := "ClauseCourt", name := "why", desc := "(I)I" } : Jvm.MethodName)) ∈ lw_all := lw_g (lw_at lw_m8 8 rfl) rfl
theorem q1848 : (Jvm.Cond.methodLink "ClauseCourtLaw" (232 : Nat) ({ cls := "ClauseCourt", name := "digest", desc := "()J" } : Jvm.MethodName)) ∈ lw_all := lw_g (lw_at lw_m8 12 rfl) rfl
theorem q1858 : (Jvm.Cond.methodLink "ClauseCourtLaw" (237 : Nat) ({ cls := "ClauseCourt", name := "status", desc := "()I" } : Jvm.MethodName)) ∈ lw_all := lw_g (lw_at lw_m8 22 rfl) rfl
theorem q1862 : (Jvm.Cond.methodLink "ClauseCourtLaw" (241 : Nat) ({ cls := "ClauseCourt", name := "about", desc := "(I)I" } : Jvm.MethodName)) ∈ lw_all := lw_g (lw_at lw_m8 26 rfl) rfl
theorem q1866 : (Jvm.Cond.classLink "ClauseCourtLaw" (10 : Nat) "ClauseCourtModel") ∈ lw_all := lw_g (lw_at lw_m8 30 rfl) rfl
theorem q1868 : (Jvm.Cond.methodLink "ClauseCourtLaw" (12 : Nat) ({ cls := "ClauseCourtModel", name := "<init>", desc := "()V" } : Jvm.MethodName)) ∈ lw_all := lw_g (lw_at lw_m8 32 rfl) rfl
theorem q2221 : (Jvm.Cond.methodLink "ClauseCourtLaw" (17 : Nat) ({ cls := "ClauseCourtModel", name := "names", desc := "(I)I" } : Jvm.MethodName)) ∈ lw_all := lw_g (lw_at lw_m9 145 rfl) rfl
theorem q2232 : (Jvm.Cond.methodLink "ClauseCourtLaw" (22 : Nat) ({ cls := "ClauseCourtModel", name := "row", desc := "(II)I" } : Jvm.MethodName)) ∈ lw_all := lw_g (lw_at lw_m9 156 rfl) rfl
theorem q2239 : (Jvm.Cond.methodLink "ClauseCourtLaw" (26 : Nat) ({ cls := "ClauseCourtModel", name := "drop", desc := "(I)I" } : Jvm.MethodName)) ∈ lw_all := lw_g (lw_at lw_m9 163 rfl) rfl
theorem q2243 : (Jvm.Cond.methodLink "ClauseCourtLaw" (31 : Nat) ({ cls := "ClauseCourtModel", name := "put", desc := "(III)I" } : Jvm.MethodName)) ∈ lw_all := lw_g (lw_at lw_m9 167 rfl) rfl
theorem q2247 : (Jvm.Cond.methodLink "ClauseCourtLaw" (36 : Nat) ({ cls := "ClauseCourtModel", name := "get", desc := "(II)J" } : Jvm.MethodName)) ∈ lw_all := lw_g (lw_at lw_m9 171 rfl) rfl
theorem q2252 : (Jvm.Cond.methodLink "ClauseCourtLaw" (41 : Nat) ({ cls := "ClauseCourtModel", name := "copy", desc := "(IIIII)I" } : Jvm.MethodName)) ∈ lw_all := lw_g (lw_at lw_m9 176 rfl) rfl
theorem q2256 : (Jvm.Cond.methodLink "ClauseCourtLaw" (45 : Nat) ({ cls := "ClauseCourtModel", name := "cut", desc := "(II)I" } : Jvm.MethodName)) ∈ lw_all := lw_g (lw_at lw_m9 180 rfl) rfl
theorem q2260 : (Jvm.Cond.methodLink "ClauseCourtLaw" (52 : Nat) ({ cls := "ClauseCourtModel", name := "feed", desc := "(JI)I" } : Jvm.MethodName)) ∈ lw_all := lw_g (lw_at lw_m9 184 rfl) rfl
theorem q2265 : (Jvm.Cond.methodLink "ClauseCourtLaw" (57 : Nat) ({ cls := "ClauseCourtModel", name := "wipe", desc := "()I" } : Jvm.MethodName)) ∈ lw_all := lw_g (lw_at lw_m9 189 rfl) rfl
theorem q2269 : (Jvm.Cond.methodLink "ClauseCourtLaw" (61 : Nat) ({ cls := "ClauseCourtModel", name := "clause", desc := "(I)I" } : Jvm.MethodName)) ∈ lw_all := lw_g (lw_at lw_m9 193 rfl) rfl
theorem q2300 : (Jvm.Cond.methodLink "ClauseCourtLaw" (65 : Nat) ({ cls := "ClauseCourtModel", name := "atMost", desc := "(II)I" } : Jvm.MethodName)) ∈ lw_all := lw_g (lw_at lw_m9 224 rfl) rfl
theorem q2324 : (Jvm.Cond.methodLink "ClauseCourtLaw" (69 : Nat) ({ cls := "ClauseCourtModel", name := "group", desc := "(II)I" } : Jvm.MethodName)) ∈ lw_all := lw_g (lw_at lw_m10 8 rfl) rfl
theorem q2328 : (Jvm.Cond.methodLink "ClauseCourtLaw" (74 : Nat) ({ cls := "ClauseCourtModel", name := "parity", desc := "(IZ)I" } : Jvm.MethodName)) ∈ lw_all := lw_g (lw_at lw_m10 12 rfl) rfl
theorem q2336 : (Jvm.Cond.methodLink "ClauseCourtLaw" (78 : Nat) ({ cls := "ClauseCourtModel", name := "told", desc := "()I" } : Jvm.MethodName)) ∈ lw_all := lw_g (lw_at lw_m10 20 rfl) rfl
theorem q2367 : (Jvm.Cond.methodLink "ClauseCourtLaw" (82 : Nat) ({ cls := "ClauseCourtModel", name := "kind", desc := "(I)I" } : Jvm.MethodName)) ∈ lw_all := lw_g (lw_at lw_m10 51 rfl) rfl
theorem q2375 : (Jvm.Cond.methodLink "ClauseCourtLaw" (86 : Nat) ({ cls := "ClauseCourtModel", name := "as", desc := "(II)I" } : Jvm.MethodName)) ∈ lw_all := lw_g (lw_at lw_m10 59 rfl) rfl
theorem q2379 : (Jvm.Cond.methodLink "ClauseCourtLaw" (90 : Nat) ({ cls := "ClauseCourtModel", name := "item", desc := "(II)I" } : Jvm.MethodName)) ∈ lw_all := lw_g (lw_at lw_m10 63 rfl) rfl
theorem q2383 : (Jvm.Cond.methodLink "ClauseCourtLaw" (94 : Nat) ({ cls := "ClauseCourtModel", name := "rows", desc := "(II)I" } : Jvm.MethodName)) ∈ lw_all := lw_g (lw_at lw_m10 67 rfl) rfl
theorem q2387 : (Jvm.Cond.methodLink "ClauseCourtLaw" (98 : Nat) ({ cls := "ClauseCourtModel", name := "line", desc := "(II)I" } : Jvm.MethodName)) ∈ lw_all := lw_g (lw_at lw_m10 71 rfl) rfl
theorem q2399 : (Jvm.Cond.methodLink "ClauseCourtLaw" (102 : Nat) ({ cls := "ClauseCourtModel", name := "ask", desc := "(II)I" } : Jvm.MethodName)) ∈ lw_all := lw_g (lw_at lw_m10 83 rfl) rfl
theorem q2431 : (Jvm.Cond.methodLink "ClauseCourtLaw" (106 : Nat) ({ cls := "ClauseCourtModel", name := "print", desc := "(I)I" } : Jvm.MethodName)) ∈ lw_all := lw_g (lw_at lw_m10 115 rfl) rfl
theorem q2451 : (Jvm.Cond.methodLink "ClauseCourtLaw" (110 : Nat) ({ cls := "ClauseCourtModel", name := "export", desc := "()I" } : Jvm.MethodName)) ∈ lw_all := lw_g (lw_at lw_m10 135 rfl) rfl
theorem q2455 : (Jvm.Cond.methodLink "ClauseCourtLaw" (114 : Nat) ({ cls := "ClauseCourtModel", name := "out", desc := "(I)I" } : Jvm.MethodName)) ∈ lw_all := lw_g (lw_at lw_m10 139 rfl) rfl
theorem q2459 : (Jvm.Cond.methodLink "ClauseCourtLaw" (231 : Nat) ({ cls := "ClauseCourtModel", name := "trace", desc := "(I)I" } : Jvm.MethodName)) ∈ lw_all := lw_g (lw_at lw_m10 143 rfl) rfl
theorem q2463 : (Jvm.Cond.methodLink "ClauseCourtLaw" (118 : Nat) ({ cls := "ClauseCourtModel", name := "assume", desc := "(I)I" } : Jvm.MethodName)) ∈ lw_all := lw_g (lw_at lw_m10 147 rfl) rfl
theorem q2471 : (Jvm.Cond.methodLink "ClauseCourtLaw" (122 : Nat) ({ cls := "ClauseCourtModel", name := "free", desc := "()I" } : Jvm.MethodName)) ∈ lw_all := lw_g (lw_at lw_m10 155 rfl) rfl
theorem q2475 : (Jvm.Cond.methodLink "ClauseCourtLaw" (126 : Nat) ({ cls := "ClauseCourtModel", name := "weight", desc := "(II)I" } : Jvm.MethodName)) ∈ lw_all := lw_g (lw_at lw_m10 159 rfl) rfl
theorem q2483 : (Jvm.Cond.methodLink "ClauseCourtLaw" (131 : Nat) ({ cls := "ClauseCourtModel", name := "weighs", desc := "(I)J" } : Jvm.MethodName)) ∈ lw_all := lw_g (lw_at lw_m10 167 rfl) rfl
theorem q2487 : (Jvm.Cond.methodLink "ClauseCourtLaw" (135 : Nat) ({ cls := "ClauseCourtModel", name := "begin", desc := "(I)I" } : Jvm.MethodName)) ∈ lw_all := lw_g (lw_at lw_m10 171 rfl) rfl
theorem q2491 : (Jvm.Cond.methodLink "ClauseCourtLaw" (139 : Nat) ({ cls := "ClauseCourtModel", name := "forget", desc := "(I)I" } : Jvm.MethodName)) ∈ lw_all := lw_g (lw_at lw_m10 175 rfl) rfl
theorem q2495 : (Jvm.Cond.methodLink "ClauseCourtLaw" (143 : Nat) ({ cls := "ClauseCourtModel", name := "solve", desc := "(I)I" } : Jvm.MethodName)) ∈ lw_all := lw_g (lw_at lw_m10 179 rfl) rfl
theorem q2637 : (Jvm.Cond.methodLink "ClauseCourtLaw" (147 : Nat) ({ cls := "ClauseCourtModel", name := "goOn", desc := "(I)I" } : Jvm.MethodName)) ∈ lw_all := lw_g (lw_at lw_m11 81 rfl) rfl
theorem q2641 : (Jvm.Cond.methodLink "ClauseCourtLaw" (151 : Nat) ({ cls := "ClauseCourtModel", name := "truth", desc := "(I)I" } : Jvm.MethodName)) ∈ lw_all := lw_g (lw_at lw_m11 85 rfl) rfl
theorem q2645 : (Jvm.Cond.methodLink "ClauseCourtLaw" (155 : Nat) ({ cls := "ClauseCourtModel", name := "solved", desc := "(I)I" } : Jvm.MethodName)) ∈ lw_all := lw_g (lw_at lw_m11 89 rfl) rfl
theorem q2649 : (Jvm.Cond.methodLink "ClauseCourtLaw" (159 : Nat) ({ cls := "ClauseCourtModel", name := "quarrel", desc := "(I)I" } : Jvm.MethodName)) ∈ lw_all := lw_g (lw_at lw_m11 93 rfl) rfl
theorem q2653 : (Jvm.Cond.methodLink "ClauseCourtLaw" (163 : Nat) ({ cls := "ClauseCourtModel", name := "core", desc := "(I)I" } : Jvm.MethodName)) ∈ lw_all := lw_g (lw_at lw_m11 97 rfl) rfl
theorem q2661 : (Jvm.Cond.methodLink "ClauseCourtLaw" (167 : Nat) ({ cls := "ClauseCourtModel", name := "coreAt", desc := "(II)I" } : Jvm.MethodName)) ∈ lw_all := lw_g (lw_at lw_m11 105 rfl) rfl
theorem q2666 : (Jvm.Cond.methodLink "ClauseCourtLaw" (171 : Nat) ({ cls := "ClauseCourtModel", name := "shrink", desc := "(I)I" } : Jvm.MethodName)) ∈ lw_all := lw_g (lw_at lw_m11 110 rfl) rfl
theorem q2674 : (Jvm.Cond.methodLink "ClauseCourtLaw" (175 : Nat) ({ cls := "ClauseCourtModel", name := "least", desc := "(I)I" } : Jvm.MethodName)) ∈ lw_all := lw_g (lw_at lw_m11 118 rfl) rfl
theorem q2681 : (Jvm.Cond.methodLink "ClauseCourtLaw" (179 : Nat) ({ cls := "ClauseCourtModel", name := "take", desc := "()I" } : Jvm.MethodName)) ∈ lw_all := lw_g (lw_at lw_m11 125 rfl) rfl
theorem q2685 : (Jvm.Cond.methodLink "ClauseCourtLaw" (183 : Nat) ({ cls := "ClauseCourtModel", name := "claim", desc := "(I)I" } : Jvm.MethodName)) ∈ lw_all := lw_g (lw_at lw_m11 129 rfl) rfl
theorem q2689 : (Jvm.Cond.methodLink "ClauseCourtLaw" (187 : Nat) ({ cls := "ClauseCourtModel", name := "strike", desc := "(I)I" } : Jvm.MethodName)) ∈ lw_all := lw_g (lw_at lw_m11 133 rfl) rfl
theorem q2693 : (Jvm.Cond.methodLink "ClauseCourtLaw" (191 : Nat) ({ cls := "ClauseCourtModel", name := "proof", desc := "(II)I" } : Jvm.MethodName)) ∈ lw_all := lw_g (lw_at lw_m11 137 rfl) rfl
theorem q2697 : (Jvm.Cond.methodLink "ClauseCourtLaw" (195 : Nat) ({ cls := "ClauseCourtModel", name := "check", desc := "()I" } : Jvm.MethodName)) ∈ lw_all := lw_g (lw_at lw_m11 141 rfl) rfl
theorem q2721 : (Jvm.Cond.methodLink "ClauseCourtLaw" (199 : Nat) ({ cls := "ClauseCourtModel", name := "refusedAt", desc := "()I" } : Jvm.MethodName)) ∈ lw_all := lw_g (lw_at lw_m11 165 rfl) rfl
theorem q2725 : (Jvm.Cond.methodLink "ClauseCourtLaw" (203 : Nat) ({ cls := "ClauseCourtModel", name := "counted", desc := "(IZ)I" } : Jvm.MethodName)) ∈ lw_all := lw_g (lw_at lw_m11 169 rfl) rfl
theorem q2729 : (Jvm.Cond.methodLink "ClauseCourtLaw" (207 : Nat) ({ cls := "ClauseCourtModel", name := "next", desc := "(I)I" } : Jvm.MethodName)) ∈ lw_all := lw_g (lw_at lw_m11 173 rfl) rfl
theorem q2737 : (Jvm.Cond.methodLink "ClauseCourtLaw" (211 : Nat) ({ cls := "ClauseCourtModel", name := "unbar", desc := "()I" } : Jvm.MethodName)) ∈ lw_all := lw_g (lw_at lw_m11 181 rfl) rfl
theorem q2741 : (Jvm.Cond.methodLink "ClauseCourtLaw" (215 : Nat) ({ cls := "ClauseCourtModel", name := "count", desc := "(II)I" } : Jvm.MethodName)) ∈ lw_all := lw_g (lw_at lw_m11 185 rfl) rfl
theorem q2745 : (Jvm.Cond.methodLink "ClauseCourtLaw" (219 : Nat) ({ cls := "ClauseCourtModel", name := "forced", desc := "()I" } : Jvm.MethodName)) ∈ lw_all := lw_g (lw_at lw_m11 189 rfl) rfl
theorem q2753 : (Jvm.Cond.methodLink "ClauseCourtLaw" (223 : Nat) ({ cls := "ClauseCourtModel", name := "forcedAt", desc := "(I)I" } : Jvm.MethodName)) ∈ lw_all := lw_g (lw_at lw_m11 197 rfl) rfl
theorem q2757 : (Jvm.Cond.methodLink "ClauseCourtLaw" (227 : Nat) ({ cls := "ClauseCourtModel", name := "why", desc := "(I)I" } : Jvm.MethodName)) ∈ lw_all := lw_g (lw_at lw_m11 201 rfl) rfl
theorem q2761 : (Jvm.Cond.methodLink "ClauseCourtLaw" (236 : Nat) ({ cls := "ClauseCourtModel", name := "digest", desc := "()J" } : Jvm.MethodName)) ∈ lw_all := lw_g (lw_at lw_m11 205 rfl) rfl
theorem q2771 : (Jvm.Cond.methodLink "ClauseCourtLaw" (240 : Nat) ({ cls := "ClauseCourtModel", name := "status", desc := "()I" } : Jvm.MethodName)) ∈ lw_all := lw_g (lw_at lw_m11 215 rfl) rfl
theorem q2775 : (Jvm.Cond.methodLink "ClauseCourtLaw" (244 : Nat) ({ cls := "ClauseCourtModel", name := "about", desc := "(I)I" } : Jvm.MethodName)) ∈ lw_all := lw_g (lw_at lw_m11 219 rfl) rfl
theorem q2779 : (Jvm.Cond.constantLong "ClauseCourtLaw" (46 : Nat) (4294967295 : Int64)) ∈ lw_all := lw_g (lw_at lw_m11 223 rfl) rfl

theorem q170 : (Jvm.Cond.initialized "java/lang/System") ∈ lw_all := lw_g (lw_at lw_m1 14 rfl) rfl
set_option maxRecDepth 100000
theorem q758 : (Jvm.Cond.static ({ cls := "java/lang/System", name := "arraycopy", desc := "(Ljava/lang/Object;ILjava/lang/Object;II)V" } : Jvm.MethodName)) ∈ lw_all := lw_g (lw_at lw_m3 122 rfl) rfl
theorem q759 : (Jvm.Cond.native ({ cls := "java/lang/System", name := "arraycopy", desc := "(Ljava/lang/Object;ILjava/lang/Object;II)V" } : Jvm.MethodName)) ∈ lw_all := lw_g (lw_at lw_m3 123 rfl) rfl

theorem q196 : (Jvm.Cond.arrayOver (Jvm.ClassFile.FieldType.object "ClauseCourt$Name")) ∈ lw_tbl := lw_at lw_m1 40 rfl
set_option maxRecDepth 100000
theorem q198 : (Jvm.Cond.arrayOver (Jvm.ClassFile.FieldType.array Jvm.ClassFile.FieldType.int)) ∈ lw_tbl := lw_at lw_m1 42 rfl
theorem q200 : (Jvm.Cond.arrayOver (Jvm.ClassFile.FieldType.object "ClauseCourt$Rule")) ∈ lw_tbl := lw_at lw_m1 44 rfl
theorem q412 : (Jvm.Cond.arrayClass Jvm.ClassFile.FieldType.byte) ∈ lw_all := lw_g (lw_at lw_m2 16 rfl) rfl
theorem q413 : (Jvm.Cond.arrayClass Jvm.ClassFile.FieldType.int) ∈ lw_all := lw_g (lw_at lw_m2 17 rfl) rfl
theorem q414 : (Jvm.Cond.arrayClass Jvm.ClassFile.FieldType.boolean) ∈ lw_all := lw_g (lw_at lw_m2 18 rfl) rfl
theorem q415 : (Jvm.Cond.arrayClass Jvm.ClassFile.FieldType.long) ∈ lw_all := lw_g (lw_at lw_m2 19 rfl) rfl
theorem q1072 : (Jvm.Cond.arrayOver (Jvm.ClassFile.FieldType.object "ClauseCourt$Part")) ∈ lw_tbl := lw_at lw_m4 196 rfl
