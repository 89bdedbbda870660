set_option maxRecDepth 100000
/-! DECODE ROWS BY BYTES: one lemma an opcode; a method's code is cut into short pieces once, and a row reads its own piece alone. -/
/-- the code has just these bytes from pc on -/
def DkAt (code : ByteArray) (pc : Nat) (bs : List UInt8) : Prop := ∀ (j : Nat) (b : UInt8), bs[j]? = some b → code.data.toList[pc + j]? = some b
/-- the piece W has the bytes bs from its place j on -/
def dkIn (W : List UInt8) (j : Nat) (bs : List UInt8) : Bool := decide ((W.drop j).take bs.length = bs)
theorem dk_seg {l W T : List UInt8} {o o2 : Nat} (h : l.drop o = W ++ T) (n : Nat) (hn : W.length = n) (ho : o + n = o2) : l.drop o2 = T := by
  subst ho
  rw [← List.drop_drop, h, List.drop_left' hn]
theorem dk_at {code : ByteArray} {W T bs : List UInt8} {o pc : Nat} (h : code.data.toList.drop o = W ++ T) (j : Nat) (hp : o + j = pc) (hw : dkIn W j bs = true) : DkAt code pc bs := by
  subst hp
  intro i b e
  have h1 := of_decide_eq_true hw
  have h2 : i < bs.length := (List.getElem?_eq_some_iff.mp e).1
  have h3 : W[j + i]? = some b := by
    rw [← h1, List.getElem?_take, if_pos h2, List.getElem?_drop] at e
    exact e
  have h4 : j + i < W.length := (List.getElem?_eq_some_iff.mp h3).1
  have h5 : (code.data.toList.drop o)[j + i]? = some b := by
    rw [h, List.getElem?_append_left h4]
    exact h3
  rw [List.getElem?_drop, ← Nat.add_assoc] at h5
  exact h5
theorem dk_u1 {A : ByteArray} {p : Nat} {b : UInt8} (h : A.data.toList[p]? = some b) : (Reader.u1 : Reader DecodeError Nat) A p = .ok (b.toNat, p + 1) := by
  obtain ⟨h1, h2⟩ := List.getElem?_eq_some_iff.mp h
  have h3 : p < A.size := by simpa using h1
  have h4 : A[p]'h3 = b := h2
  have e : (Reader.u1 : Reader DecodeError Nat) A p = (if h : p < A.size then .ok (A[p].toNat, p + 1) else .error (HasTruncated.truncated p)) := by
    show (do if h : p < A.size then do set (p + 1); Pure.pure A[p].toNat else MonadExcept.throw (HasTruncated.truncated p) : Reader DecodeError Nat) A p = _
    by_cases hi : p < A.size
    · rw [dif_pos hi, dif_pos hi]; rfl
    · rw [dif_neg hi, dif_neg hi]; rfl
  rw [e, dif_pos h3, h4]
theorem dk_bind {α β : Type} {r : Reader DecodeError α} {f : α → Reader DecodeError β} {A : ByteArray} {p s : Nat} {a : α} (h : r A p = .ok (a, s)) : (r >>= f) A p = f a A s := by
  show (do let (a, s) ← r A p; f a A s : Except DecodeError (β × Nat)) = _
  rw [h]
  rfl
theorem dk_map {α β : Type} {r : Reader DecodeError α} {g : α → β} {A : ByteArray} {p s : Nat} {a : α} (h : r A p = .ok (a, s)) : (g <$> r) A p = .ok (g a, s) := by
  show (do let (a, s) ← r A p; .ok (g a, s) : Except DecodeError (β × Nat)) = _
  rw [h]
  rfl
theorem dk_u2 {A : ByteArray} {p : Nat} {a b : UInt8} (h : A.data.toList[p]? = some a) (h2 : A.data.toList[p + 1]? = some b) : (Reader.u2 : Reader DecodeError Nat) A p = .ok (a.toNat * 256 + b.toNat, p + 2) := by
  show (Reader.u1 >>= fun hi => Reader.u1 >>= fun lo => Pure.pure (hi * 256 + lo) : Reader DecodeError Nat) A p = _
  rw [dk_bind (dk_u1 h), dk_bind (dk_u1 h2)]
  rfl
theorem dk_of {code : ByteArray} {pc n : Nat} {i : Instr} (h : Decoder.instr pc code pc = .ok (i, pc + n)) : decode code pc = .ok (i, n) := by
  have e : decode code pc = (match Decoder.instr pc code pc with | .error x => .error x | .ok (j, s) => .ok (j, s - pc)) := by
    show (do let (j, s) ← Decoder.instr pc code pc; Pure.pure (j, s - pc) : Except DecodeError (Instr × Nat)) = _
    cases Decoder.instr pc code pc <;> rfl
  rw [e, h]
  show Except.ok (i, pc + n - pc) = _
  rw [Nat.add_sub_cancel_left]
theorem dk_1 {code : ByteArray} {pc : Nat} (h : DkAt code pc [1]) : decode code pc = .ok (.aconst_null, 1) := dk_of ((dk_bind (dk_u1 (h 0 _ rfl))).trans rfl)
theorem dk_2 {code : ByteArray} {pc : Nat} (h : DkAt code pc [2]) : decode code pc = .ok (.iconst (-1), 1) := dk_of ((dk_bind (dk_u1 (h 0 _ rfl))).trans rfl)
theorem dk_3 {code : ByteArray} {pc : Nat} (h : DkAt code pc [3]) : decode code pc = .ok (.iconst 0, 1) := dk_of ((dk_bind (dk_u1 (h 0 _ rfl))).trans rfl)
theorem dk_4 {code : ByteArray} {pc : Nat} (h : DkAt code pc [4]) : decode code pc = .ok (.iconst 1, 1) := dk_of ((dk_bind (dk_u1 (h 0 _ rfl))).trans rfl)
theorem dk_5 {code : ByteArray} {pc : Nat} (h : DkAt code pc [5]) : decode code pc = .ok (.iconst 2, 1) := dk_of ((dk_bind (dk_u1 (h 0 _ rfl))).trans rfl)
theorem dk_6 {code : ByteArray} {pc : Nat} (h : DkAt code pc [6]) : decode code pc = .ok (.iconst 3, 1) := dk_of ((dk_bind (dk_u1 (h 0 _ rfl))).trans rfl)
theorem dk_7 {code : ByteArray} {pc : Nat} (h : DkAt code pc [7]) : decode code pc = .ok (.iconst 4, 1) := dk_of ((dk_bind (dk_u1 (h 0 _ rfl))).trans rfl)
theorem dk_8 {code : ByteArray} {pc : Nat} (h : DkAt code pc [8]) : decode code pc = .ok (.iconst 5, 1) := dk_of ((dk_bind (dk_u1 (h 0 _ rfl))).trans rfl)
theorem dk_9 {code : ByteArray} {pc : Nat} (h : DkAt code pc [9]) : decode code pc = .ok (.lconst 0, 1) := dk_of ((dk_bind (dk_u1 (h 0 _ rfl))).trans rfl)
theorem dk_10 {code : ByteArray} {pc : Nat} (h : DkAt code pc [10]) : decode code pc = .ok (.lconst 1, 1) := dk_of ((dk_bind (dk_u1 (h 0 _ rfl))).trans rfl)
theorem dk_16 {code : ByteArray} {pc : Nat} (a : UInt8) (h : DkAt code pc [16, a]) : decode code pc = .ok (.bipush (Reader.signed 8 a.toNat), 2) := dk_of ((dk_bind (dk_u1 (h 0 _ rfl))).trans ((dk_bind (dk_map (dk_u1 (h 1 _ rfl)))).trans rfl))
theorem dk_17 {code : ByteArray} {pc : Nat} (a b : UInt8) (h : DkAt code pc [17, a, b]) : decode code pc = .ok (.sipush (Reader.signed 16 (a.toNat * 256 + b.toNat)), 3) := dk_of ((dk_bind (dk_u1 (h 0 _ rfl))).trans ((dk_bind (dk_map (dk_u2 (h 1 _ rfl) (h 2 _ rfl)))).trans rfl))
theorem dk_18 {code : ByteArray} {pc : Nat} (a : UInt8) (h : DkAt code pc [18, a]) : decode code pc = .ok (.ldc a.toNat, 2) := dk_of ((dk_bind (dk_u1 (h 0 _ rfl))).trans ((dk_bind (dk_u1 (h 1 _ rfl))).trans rfl))
theorem dk_19 {code : ByteArray} {pc : Nat} (a b : UInt8) (h : DkAt code pc [19, a, b]) : decode code pc = .ok (.ldc_w (a.toNat * 256 + b.toNat), 3) := dk_of ((dk_bind (dk_u1 (h 0 _ rfl))).trans ((dk_bind (dk_u2 (h 1 _ rfl) (h 2 _ rfl))).trans rfl))
theorem dk_20 {code : ByteArray} {pc : Nat} (a b : UInt8) (h : DkAt code pc [20, a, b]) : decode code pc = .ok (.ldc2_w (a.toNat * 256 + b.toNat), 3) := dk_of ((dk_bind (dk_u1 (h 0 _ rfl))).trans ((dk_bind (dk_u2 (h 1 _ rfl) (h 2 _ rfl))).trans rfl))
theorem dk_21 {code : ByteArray} {pc : Nat} (a : UInt8) (h : DkAt code pc [21, a]) : decode code pc = .ok (.iload a.toNat, 2) := dk_of ((dk_bind (dk_u1 (h 0 _ rfl))).trans ((dk_bind (dk_u1 (h 1 _ rfl))).trans rfl))
theorem dk_22 {code : ByteArray} {pc : Nat} (a : UInt8) (h : DkAt code pc [22, a]) : decode code pc = .ok (.lload a.toNat, 2) := dk_of ((dk_bind (dk_u1 (h 0 _ rfl))).trans ((dk_bind (dk_u1 (h 1 _ rfl))).trans rfl))
theorem dk_25 {code : ByteArray} {pc : Nat} (a : UInt8) (h : DkAt code pc [25, a]) : decode code pc = .ok (.aload a.toNat, 2) := dk_of ((dk_bind (dk_u1 (h 0 _ rfl))).trans ((dk_bind (dk_u1 (h 1 _ rfl))).trans rfl))
theorem dk_26 {code : ByteArray} {pc : Nat} (h : DkAt code pc [26]) : decode code pc = .ok (.iload_n 0, 1) := dk_of ((dk_bind (dk_u1 (h 0 _ rfl))).trans rfl)
theorem dk_27 {code : ByteArray} {pc : Nat} (h : DkAt code pc [27]) : decode code pc = .ok (.iload_n 1, 1) := dk_of ((dk_bind (dk_u1 (h 0 _ rfl))).trans rfl)
theorem dk_28 {code : ByteArray} {pc : Nat} (h : DkAt code pc [28]) : decode code pc = .ok (.iload_n 2, 1) := dk_of ((dk_bind (dk_u1 (h 0 _ rfl))).trans rfl)
theorem dk_29 {code : ByteArray} {pc : Nat} (h : DkAt code pc [29]) : decode code pc = .ok (.iload_n 3, 1) := dk_of ((dk_bind (dk_u1 (h 0 _ rfl))).trans rfl)
theorem dk_30 {code : ByteArray} {pc : Nat} (h : DkAt code pc [30]) : decode code pc = .ok (.lload_n 0, 1) := dk_of ((dk_bind (dk_u1 (h 0 _ rfl))).trans rfl)
theorem dk_42 {code : ByteArray} {pc : Nat} (h : DkAt code pc [42]) : decode code pc = .ok (.aload_n 0, 1) := dk_of ((dk_bind (dk_u1 (h 0 _ rfl))).trans rfl)
theorem dk_43 {code : ByteArray} {pc : Nat} (h : DkAt code pc [43]) : decode code pc = .ok (.aload_n 1, 1) := dk_of ((dk_bind (dk_u1 (h 0 _ rfl))).trans rfl)
theorem dk_44 {code : ByteArray} {pc : Nat} (h : DkAt code pc [44]) : decode code pc = .ok (.aload_n 2, 1) := dk_of ((dk_bind (dk_u1 (h 0 _ rfl))).trans rfl)
theorem dk_45 {code : ByteArray} {pc : Nat} (h : DkAt code pc [45]) : decode code pc = .ok (.aload_n 3, 1) := dk_of ((dk_bind (dk_u1 (h 0 _ rfl))).trans rfl)
theorem dk_46 {code : ByteArray} {pc : Nat} (h : DkAt code pc [46]) : decode code pc = .ok (.iaload, 1) := dk_of ((dk_bind (dk_u1 (h 0 _ rfl))).trans rfl)
theorem dk_47 {code : ByteArray} {pc : Nat} (h : DkAt code pc [47]) : decode code pc = .ok (.laload, 1) := dk_of ((dk_bind (dk_u1 (h 0 _ rfl))).trans rfl)
theorem dk_50 {code : ByteArray} {pc : Nat} (h : DkAt code pc [50]) : decode code pc = .ok (.aaload, 1) := dk_of ((dk_bind (dk_u1 (h 0 _ rfl))).trans rfl)
theorem dk_51 {code : ByteArray} {pc : Nat} (h : DkAt code pc [51]) : decode code pc = .ok (.baload, 1) := dk_of ((dk_bind (dk_u1 (h 0 _ rfl))).trans rfl)
theorem dk_54 {code : ByteArray} {pc : Nat} (a : UInt8) (h : DkAt code pc [54, a]) : decode code pc = .ok (.istore a.toNat, 2) := dk_of ((dk_bind (dk_u1 (h 0 _ rfl))).trans ((dk_bind (dk_u1 (h 1 _ rfl))).trans rfl))
theorem dk_55 {code : ByteArray} {pc : Nat} (a : UInt8) (h : DkAt code pc [55, a]) : decode code pc = .ok (.lstore a.toNat, 2) := dk_of ((dk_bind (dk_u1 (h 0 _ rfl))).trans ((dk_bind (dk_u1 (h 1 _ rfl))).trans rfl))
theorem dk_58 {code : ByteArray} {pc : Nat} (a : UInt8) (h : DkAt code pc [58, a]) : decode code pc = .ok (.astore a.toNat, 2) := dk_of ((dk_bind (dk_u1 (h 0 _ rfl))).trans ((dk_bind (dk_u1 (h 1 _ rfl))).trans rfl))
theorem dk_59 {code : ByteArray} {pc : Nat} (h : DkAt code pc [59]) : decode code pc = .ok (.istore_n 0, 1) := dk_of ((dk_bind (dk_u1 (h 0 _ rfl))).trans rfl)
theorem dk_60 {code : ByteArray} {pc : Nat} (h : DkAt code pc [60]) : decode code pc = .ok (.istore_n 1, 1) := dk_of ((dk_bind (dk_u1 (h 0 _ rfl))).trans rfl)
theorem dk_61 {code : ByteArray} {pc : Nat} (h : DkAt code pc [61]) : decode code pc = .ok (.istore_n 2, 1) := dk_of ((dk_bind (dk_u1 (h 0 _ rfl))).trans rfl)
theorem dk_62 {code : ByteArray} {pc : Nat} (h : DkAt code pc [62]) : decode code pc = .ok (.istore_n 3, 1) := dk_of ((dk_bind (dk_u1 (h 0 _ rfl))).trans rfl)
theorem dk_76 {code : ByteArray} {pc : Nat} (h : DkAt code pc [76]) : decode code pc = .ok (.astore_n 1, 1) := dk_of ((dk_bind (dk_u1 (h 0 _ rfl))).trans rfl)
theorem dk_77 {code : ByteArray} {pc : Nat} (h : DkAt code pc [77]) : decode code pc = .ok (.astore_n 2, 1) := dk_of ((dk_bind (dk_u1 (h 0 _ rfl))).trans rfl)
theorem dk_78 {code : ByteArray} {pc : Nat} (h : DkAt code pc [78]) : decode code pc = .ok (.astore_n 3, 1) := dk_of ((dk_bind (dk_u1 (h 0 _ rfl))).trans rfl)
theorem dk_79 {code : ByteArray} {pc : Nat} (h : DkAt code pc [79]) : decode code pc = .ok (.iastore, 1) := dk_of ((dk_bind (dk_u1 (h 0 _ rfl))).trans rfl)
theorem dk_80 {code : ByteArray} {pc : Nat} (h : DkAt code pc [80]) : decode code pc = .ok (.lastore, 1) := dk_of ((dk_bind (dk_u1 (h 0 _ rfl))).trans rfl)
theorem dk_83 {code : ByteArray} {pc : Nat} (h : DkAt code pc [83]) : decode code pc = .ok (.aastore, 1) := dk_of ((dk_bind (dk_u1 (h 0 _ rfl))).trans rfl)
theorem dk_84 {code : ByteArray} {pc : Nat} (h : DkAt code pc [84]) : decode code pc = .ok (.bastore, 1) := dk_of ((dk_bind (dk_u1 (h 0 _ rfl))).trans rfl)
theorem dk_87 {code : ByteArray} {pc : Nat} (h : DkAt code pc [87]) : decode code pc = .ok (.pop, 1) := dk_of ((dk_bind (dk_u1 (h 0 _ rfl))).trans rfl)
theorem dk_89 {code : ByteArray} {pc : Nat} (h : DkAt code pc [89]) : decode code pc = .ok (.dup, 1) := dk_of ((dk_bind (dk_u1 (h 0 _ rfl))).trans rfl)
theorem dk_90 {code : ByteArray} {pc : Nat} (h : DkAt code pc [90]) : decode code pc = .ok (.dup_x1, 1) := dk_of ((dk_bind (dk_u1 (h 0 _ rfl))).trans rfl)
theorem dk_92 {code : ByteArray} {pc : Nat} (h : DkAt code pc [92]) : decode code pc = .ok (.dup2, 1) := dk_of ((dk_bind (dk_u1 (h 0 _ rfl))).trans rfl)
theorem dk_96 {code : ByteArray} {pc : Nat} (h : DkAt code pc [96]) : decode code pc = .ok (.iadd, 1) := dk_of ((dk_bind (dk_u1 (h 0 _ rfl))).trans rfl)
theorem dk_97 {code : ByteArray} {pc : Nat} (h : DkAt code pc [97]) : decode code pc = .ok (.ladd, 1) := dk_of ((dk_bind (dk_u1 (h 0 _ rfl))).trans rfl)
theorem dk_100 {code : ByteArray} {pc : Nat} (h : DkAt code pc [100]) : decode code pc = .ok (.isub, 1) := dk_of ((dk_bind (dk_u1 (h 0 _ rfl))).trans rfl)
theorem dk_101 {code : ByteArray} {pc : Nat} (h : DkAt code pc [101]) : decode code pc = .ok (.lsub, 1) := dk_of ((dk_bind (dk_u1 (h 0 _ rfl))).trans rfl)
theorem dk_104 {code : ByteArray} {pc : Nat} (h : DkAt code pc [104]) : decode code pc = .ok (.imul, 1) := dk_of ((dk_bind (dk_u1 (h 0 _ rfl))).trans rfl)
theorem dk_105 {code : ByteArray} {pc : Nat} (h : DkAt code pc [105]) : decode code pc = .ok (.lmul, 1) := dk_of ((dk_bind (dk_u1 (h 0 _ rfl))).trans rfl)
theorem dk_108 {code : ByteArray} {pc : Nat} (h : DkAt code pc [108]) : decode code pc = .ok (.idiv, 1) := dk_of ((dk_bind (dk_u1 (h 0 _ rfl))).trans rfl)
theorem dk_112 {code : ByteArray} {pc : Nat} (h : DkAt code pc [112]) : decode code pc = .ok (.irem, 1) := dk_of ((dk_bind (dk_u1 (h 0 _ rfl))).trans rfl)
theorem dk_113 {code : ByteArray} {pc : Nat} (h : DkAt code pc [113]) : decode code pc = .ok (.lrem, 1) := dk_of ((dk_bind (dk_u1 (h 0 _ rfl))).trans rfl)
theorem dk_116 {code : ByteArray} {pc : Nat} (h : DkAt code pc [116]) : decode code pc = .ok (.ineg, 1) := dk_of ((dk_bind (dk_u1 (h 0 _ rfl))).trans rfl)
theorem dk_120 {code : ByteArray} {pc : Nat} (h : DkAt code pc [120]) : decode code pc = .ok (.ishl, 1) := dk_of ((dk_bind (dk_u1 (h 0 _ rfl))).trans rfl)
theorem dk_121 {code : ByteArray} {pc : Nat} (h : DkAt code pc [121]) : decode code pc = .ok (.lshl, 1) := dk_of ((dk_bind (dk_u1 (h 0 _ rfl))).trans rfl)
theorem dk_122 {code : ByteArray} {pc : Nat} (h : DkAt code pc [122]) : decode code pc = .ok (.ishr, 1) := dk_of ((dk_bind (dk_u1 (h 0 _ rfl))).trans rfl)
theorem dk_123 {code : ByteArray} {pc : Nat} (h : DkAt code pc [123]) : decode code pc = .ok (.lshr, 1) := dk_of ((dk_bind (dk_u1 (h 0 _ rfl))).trans rfl)
theorem dk_124 {code : ByteArray} {pc : Nat} (h : DkAt code pc [124]) : decode code pc = .ok (.iushr, 1) := dk_of ((dk_bind (dk_u1 (h 0 _ rfl))).trans rfl)
theorem dk_125 {code : ByteArray} {pc : Nat} (h : DkAt code pc [125]) : decode code pc = .ok (.lushr, 1) := dk_of ((dk_bind (dk_u1 (h 0 _ rfl))).trans rfl)
theorem dk_126 {code : ByteArray} {pc : Nat} (h : DkAt code pc [126]) : decode code pc = .ok (.iand, 1) := dk_of ((dk_bind (dk_u1 (h 0 _ rfl))).trans rfl)
theorem dk_127 {code : ByteArray} {pc : Nat} (h : DkAt code pc [127]) : decode code pc = .ok (.land, 1) := dk_of ((dk_bind (dk_u1 (h 0 _ rfl))).trans rfl)
theorem dk_128 {code : ByteArray} {pc : Nat} (h : DkAt code pc [128]) : decode code pc = .ok (.ior, 1) := dk_of ((dk_bind (dk_u1 (h 0 _ rfl))).trans rfl)
theorem dk_129 {code : ByteArray} {pc : Nat} (h : DkAt code pc [129]) : decode code pc = .ok (.lor, 1) := dk_of ((dk_bind (dk_u1 (h 0 _ rfl))).trans rfl)
theorem dk_130 {code : ByteArray} {pc : Nat} (h : DkAt code pc [130]) : decode code pc = .ok (.ixor, 1) := dk_of ((dk_bind (dk_u1 (h 0 _ rfl))).trans rfl)
theorem dk_131 {code : ByteArray} {pc : Nat} (h : DkAt code pc [131]) : decode code pc = .ok (.lxor, 1) := dk_of ((dk_bind (dk_u1 (h 0 _ rfl))).trans rfl)
theorem dk_132 {code : ByteArray} {pc : Nat} (a b : UInt8) (h : DkAt code pc [132, a, b]) : decode code pc = .ok (.iinc a.toNat (Reader.signed 8 b.toNat), 3) := dk_of ((dk_bind (dk_u1 (h 0 _ rfl))).trans ((dk_bind (dk_u1 (h 1 _ rfl))).trans ((dk_bind (dk_map (dk_u1 (h 2 _ rfl)))).trans rfl)))
theorem dk_133 {code : ByteArray} {pc : Nat} (h : DkAt code pc [133]) : decode code pc = .ok (.i2l, 1) := dk_of ((dk_bind (dk_u1 (h 0 _ rfl))).trans rfl)
theorem dk_136 {code : ByteArray} {pc : Nat} (h : DkAt code pc [136]) : decode code pc = .ok (.l2i, 1) := dk_of ((dk_bind (dk_u1 (h 0 _ rfl))).trans rfl)
theorem dk_145 {code : ByteArray} {pc : Nat} (h : DkAt code pc [145]) : decode code pc = .ok (.i2b, 1) := dk_of ((dk_bind (dk_u1 (h 0 _ rfl))).trans rfl)
theorem dk_146 {code : ByteArray} {pc : Nat} (h : DkAt code pc [146]) : decode code pc = .ok (.i2c, 1) := dk_of ((dk_bind (dk_u1 (h 0 _ rfl))).trans rfl)
theorem dk_148 {code : ByteArray} {pc : Nat} (h : DkAt code pc [148]) : decode code pc = .ok (.lcmp, 1) := dk_of ((dk_bind (dk_u1 (h 0 _ rfl))).trans rfl)
theorem dk_153 {code : ByteArray} {pc : Nat} (a b : UInt8) (h : DkAt code pc [153, a, b]) : decode code pc = .ok (.ifCond .eq (Reader.signed 16 (a.toNat * 256 + b.toNat)), 3) := dk_of ((dk_bind (dk_u1 (h 0 _ rfl))).trans ((dk_bind (dk_map (dk_u2 (h 1 _ rfl) (h 2 _ rfl)))).trans rfl))
theorem dk_154 {code : ByteArray} {pc : Nat} (a b : UInt8) (h : DkAt code pc [154, a, b]) : decode code pc = .ok (.ifCond .ne (Reader.signed 16 (a.toNat * 256 + b.toNat)), 3) := dk_of ((dk_bind (dk_u1 (h 0 _ rfl))).trans ((dk_bind (dk_map (dk_u2 (h 1 _ rfl) (h 2 _ rfl)))).trans rfl))
theorem dk_155 {code : ByteArray} {pc : Nat} (a b : UInt8) (h : DkAt code pc [155, a, b]) : decode code pc = .ok (.ifCond .lt (Reader.signed 16 (a.toNat * 256 + b.toNat)), 3) := dk_of ((dk_bind (dk_u1 (h 0 _ rfl))).trans ((dk_bind (dk_map (dk_u2 (h 1 _ rfl) (h 2 _ rfl)))).trans rfl))
theorem dk_156 {code : ByteArray} {pc : Nat} (a b : UInt8) (h : DkAt code pc [156, a, b]) : decode code pc = .ok (.ifCond .ge (Reader.signed 16 (a.toNat * 256 + b.toNat)), 3) := dk_of ((dk_bind (dk_u1 (h 0 _ rfl))).trans ((dk_bind (dk_map (dk_u2 (h 1 _ rfl) (h 2 _ rfl)))).trans rfl))
theorem dk_157 {code : ByteArray} {pc : Nat} (a b : UInt8) (h : DkAt code pc [157, a, b]) : decode code pc = .ok (.ifCond .gt (Reader.signed 16 (a.toNat * 256 + b.toNat)), 3) := dk_of ((dk_bind (dk_u1 (h 0 _ rfl))).trans ((dk_bind (dk_map (dk_u2 (h 1 _ rfl) (h 2 _ rfl)))).trans rfl))
theorem dk_158 {code : ByteArray} {pc : Nat} (a b : UInt8) (h : DkAt code pc [158, a, b]) : decode code pc = .ok (.ifCond .le (Reader.signed 16 (a.toNat * 256 + b.toNat)), 3) := dk_of ((dk_bind (dk_u1 (h 0 _ rfl))).trans ((dk_bind (dk_map (dk_u2 (h 1 _ rfl) (h 2 _ rfl)))).trans rfl))
theorem dk_159 {code : ByteArray} {pc : Nat} (a b : UInt8) (h : DkAt code pc [159, a, b]) : decode code pc = .ok (.if_icmp .eq (Reader.signed 16 (a.toNat * 256 + b.toNat)), 3) := dk_of ((dk_bind (dk_u1 (h 0 _ rfl))).trans ((dk_bind (dk_map (dk_u2 (h 1 _ rfl) (h 2 _ rfl)))).trans rfl))
theorem dk_160 {code : ByteArray} {pc : Nat} (a b : UInt8) (h : DkAt code pc [160, a, b]) : decode code pc = .ok (.if_icmp .ne (Reader.signed 16 (a.toNat * 256 + b.toNat)), 3) := dk_of ((dk_bind (dk_u1 (h 0 _ rfl))).trans ((dk_bind (dk_map (dk_u2 (h 1 _ rfl) (h 2 _ rfl)))).trans rfl))
theorem dk_161 {code : ByteArray} {pc : Nat} (a b : UInt8) (h : DkAt code pc [161, a, b]) : decode code pc = .ok (.if_icmp .lt (Reader.signed 16 (a.toNat * 256 + b.toNat)), 3) := dk_of ((dk_bind (dk_u1 (h 0 _ rfl))).trans ((dk_bind (dk_map (dk_u2 (h 1 _ rfl) (h 2 _ rfl)))).trans rfl))
theorem dk_162 {code : ByteArray} {pc : Nat} (a b : UInt8) (h : DkAt code pc [162, a, b]) : decode code pc = .ok (.if_icmp .ge (Reader.signed 16 (a.toNat * 256 + b.toNat)), 3) := dk_of ((dk_bind (dk_u1 (h 0 _ rfl))).trans ((dk_bind (dk_map (dk_u2 (h 1 _ rfl) (h 2 _ rfl)))).trans rfl))
theorem dk_163 {code : ByteArray} {pc : Nat} (a b : UInt8) (h : DkAt code pc [163, a, b]) : decode code pc = .ok (.if_icmp .gt (Reader.signed 16 (a.toNat * 256 + b.toNat)), 3) := dk_of ((dk_bind (dk_u1 (h 0 _ rfl))).trans ((dk_bind (dk_map (dk_u2 (h 1 _ rfl) (h 2 _ rfl)))).trans rfl))
theorem dk_164 {code : ByteArray} {pc : Nat} (a b : UInt8) (h : DkAt code pc [164, a, b]) : decode code pc = .ok (.if_icmp .le (Reader.signed 16 (a.toNat * 256 + b.toNat)), 3) := dk_of ((dk_bind (dk_u1 (h 0 _ rfl))).trans ((dk_bind (dk_map (dk_u2 (h 1 _ rfl) (h 2 _ rfl)))).trans rfl))
theorem dk_165 {code : ByteArray} {pc : Nat} (a b : UInt8) (h : DkAt code pc [165, a, b]) : decode code pc = .ok (.if_acmp .eq (Reader.signed 16 (a.toNat * 256 + b.toNat)), 3) := dk_of ((dk_bind (dk_u1 (h 0 _ rfl))).trans ((dk_bind (dk_map (dk_u2 (h 1 _ rfl) (h 2 _ rfl)))).trans rfl))
theorem dk_166 {code : ByteArray} {pc : Nat} (a b : UInt8) (h : DkAt code pc [166, a, b]) : decode code pc = .ok (.if_acmp .ne (Reader.signed 16 (a.toNat * 256 + b.toNat)), 3) := dk_of ((dk_bind (dk_u1 (h 0 _ rfl))).trans ((dk_bind (dk_map (dk_u2 (h 1 _ rfl) (h 2 _ rfl)))).trans rfl))
theorem dk_167 {code : ByteArray} {pc : Nat} (a b : UInt8) (h : DkAt code pc [167, a, b]) : decode code pc = .ok (.goto (Reader.signed 16 (a.toNat * 256 + b.toNat)), 3) := dk_of ((dk_bind (dk_u1 (h 0 _ rfl))).trans ((dk_bind (dk_map (dk_u2 (h 1 _ rfl) (h 2 _ rfl)))).trans rfl))
theorem dk_172 {code : ByteArray} {pc : Nat} (h : DkAt code pc [172]) : decode code pc = .ok (.ireturn, 1) := dk_of ((dk_bind (dk_u1 (h 0 _ rfl))).trans rfl)
theorem dk_173 {code : ByteArray} {pc : Nat} (h : DkAt code pc [173]) : decode code pc = .ok (.lreturn, 1) := dk_of ((dk_bind (dk_u1 (h 0 _ rfl))).trans rfl)
theorem dk_176 {code : ByteArray} {pc : Nat} (h : DkAt code pc [176]) : decode code pc = .ok (.areturn, 1) := dk_of ((dk_bind (dk_u1 (h 0 _ rfl))).trans rfl)
theorem dk_177 {code : ByteArray} {pc : Nat} (h : DkAt code pc [177]) : decode code pc = .ok (.return_, 1) := dk_of ((dk_bind (dk_u1 (h 0 _ rfl))).trans rfl)
theorem dk_178 {code : ByteArray} {pc : Nat} (a b : UInt8) (h : DkAt code pc [178, a, b]) : decode code pc = .ok (.getstatic (a.toNat * 256 + b.toNat), 3) := dk_of ((dk_bind (dk_u1 (h 0 _ rfl))).trans ((dk_bind (dk_u2 (h 1 _ rfl) (h 2 _ rfl))).trans rfl))
theorem dk_180 {code : ByteArray} {pc : Nat} (a b : UInt8) (h : DkAt code pc [180, a, b]) : decode code pc = .ok (.getfield (a.toNat * 256 + b.toNat), 3) := dk_of ((dk_bind (dk_u1 (h 0 _ rfl))).trans ((dk_bind (dk_u2 (h 1 _ rfl) (h 2 _ rfl))).trans rfl))
theorem dk_181 {code : ByteArray} {pc : Nat} (a b : UInt8) (h : DkAt code pc [181, a, b]) : decode code pc = .ok (.putfield (a.toNat * 256 + b.toNat), 3) := dk_of ((dk_bind (dk_u1 (h 0 _ rfl))).trans ((dk_bind (dk_u2 (h 1 _ rfl) (h 2 _ rfl))).trans rfl))
theorem dk_182 {code : ByteArray} {pc : Nat} (a b : UInt8) (h : DkAt code pc [182, a, b]) : decode code pc = .ok (.invokevirtual (a.toNat * 256 + b.toNat), 3) := dk_of ((dk_bind (dk_u1 (h 0 _ rfl))).trans ((dk_bind (dk_u2 (h 1 _ rfl) (h 2 _ rfl))).trans rfl))
theorem dk_183 {code : ByteArray} {pc : Nat} (a b : UInt8) (h : DkAt code pc [183, a, b]) : decode code pc = .ok (.invokespecial (a.toNat * 256 + b.toNat), 3) := dk_of ((dk_bind (dk_u1 (h 0 _ rfl))).trans ((dk_bind (dk_u2 (h 1 _ rfl) (h 2 _ rfl))).trans rfl))
theorem dk_184 {code : ByteArray} {pc : Nat} (a b : UInt8) (h : DkAt code pc [184, a, b]) : decode code pc = .ok (.invokestatic (a.toNat * 256 + b.toNat), 3) := dk_of ((dk_bind (dk_u1 (h 0 _ rfl))).trans ((dk_bind (dk_u2 (h 1 _ rfl) (h 2 _ rfl))).trans rfl))
theorem dk_187 {code : ByteArray} {pc : Nat} (a b : UInt8) (h : DkAt code pc [187, a, b]) : decode code pc = .ok (.new (a.toNat * 256 + b.toNat), 3) := dk_of ((dk_bind (dk_u1 (h 0 _ rfl))).trans ((dk_bind (dk_u2 (h 1 _ rfl) (h 2 _ rfl))).trans rfl))
theorem dk_188_4 {code : ByteArray} {pc : Nat} (h : DkAt code pc [188, 4]) : decode code pc = .ok (.newarray .boolean, 2) := dk_of ((dk_bind (dk_u1 (h 0 _ rfl))).trans ((dk_bind (dk_u1 (h 1 _ rfl))).trans rfl))
theorem dk_188_8 {code : ByteArray} {pc : Nat} (h : DkAt code pc [188, 8]) : decode code pc = .ok (.newarray .byte, 2) := dk_of ((dk_bind (dk_u1 (h 0 _ rfl))).trans ((dk_bind (dk_u1 (h 1 _ rfl))).trans rfl))
theorem dk_188_10 {code : ByteArray} {pc : Nat} (h : DkAt code pc [188, 10]) : decode code pc = .ok (.newarray .int, 2) := dk_of ((dk_bind (dk_u1 (h 0 _ rfl))).trans ((dk_bind (dk_u1 (h 1 _ rfl))).trans rfl))
theorem dk_188_11 {code : ByteArray} {pc : Nat} (h : DkAt code pc [188, 11]) : decode code pc = .ok (.newarray .long, 2) := dk_of ((dk_bind (dk_u1 (h 0 _ rfl))).trans ((dk_bind (dk_u1 (h 1 _ rfl))).trans rfl))
theorem dk_189 {code : ByteArray} {pc : Nat} (a b : UInt8) (h : DkAt code pc [189, a, b]) : decode code pc = .ok (.anewarray (a.toNat * 256 + b.toNat), 3) := dk_of ((dk_bind (dk_u1 (h 0 _ rfl))).trans ((dk_bind (dk_u2 (h 1 _ rfl) (h 2 _ rfl))).trans rfl))
theorem dk_190 {code : ByteArray} {pc : Nat} (h : DkAt code pc [190]) : decode code pc = .ok (.arraylength, 1) := dk_of ((dk_bind (dk_u1 (h 0 _ rfl))).trans rfl)
theorem dk_191 {code : ByteArray} {pc : Nat} (h : DkAt code pc [191]) : decode code pc = .ok (.athrow, 1) := dk_of ((dk_bind (dk_u1 (h 0 _ rfl))).trans rfl)
theorem dk_192 {code : ByteArray} {pc : Nat} (a b : UInt8) (h : DkAt code pc [192, a, b]) : decode code pc = .ok (.checkcast (a.toNat * 256 + b.toNat), 3) := dk_of ((dk_bind (dk_u1 (h 0 _ rfl))).trans ((dk_bind (dk_u2 (h 1 _ rfl) (h 2 _ rfl))).trans rfl))
theorem dk_193 {code : ByteArray} {pc : Nat} (a b : UInt8) (h : DkAt code pc [193, a, b]) : decode code pc = .ok (.instanceof (a.toNat * 256 + b.toNat), 3) := dk_of ((dk_bind (dk_u1 (h 0 _ rfl))).trans ((dk_bind (dk_u2 (h 1 _ rfl) (h 2 _ rfl))).trans rfl))
theorem dk_198 {code : ByteArray} {pc : Nat} (a b : UInt8) (h : DkAt code pc [198, a, b]) : decode code pc = .ok (.ifnull (Reader.signed 16 (a.toNat * 256 + b.toNat)), 3) := dk_of ((dk_bind (dk_u1 (h 0 _ rfl))).trans ((dk_bind (dk_map (dk_u2 (h 1 _ rfl) (h 2 _ rfl)))).trans rfl))
theorem dk_199 {code : ByteArray} {pc : Nat} (a b : UInt8) (h : DkAt code pc [199, a, b]) : decode code pc = .ok (.ifnonnull (Reader.signed 16 (a.toNat * 256 + b.toNat)), 3) := dk_of ((dk_bind (dk_u1 (h 0 _ rfl))).trans ((dk_bind (dk_map (dk_u2 (h 1 _ rfl) (h 2 _ rfl)))).trans rfl))

/-! java/util/AbstractCollection -/
def RJ0 : String := "java/util/AbstractCollection"
abbrev cJ0_init : ByteArray := prog_54_method_1_code
def yJ0_init : MethodName := ⟨RJ0, "<init>", "()V"⟩
theorem dJ0_init_0 : decode cJ0_init 0 = .ok (.aload_n 0, 1) := by decide +kernel
theorem dJ0_init_1 : decode cJ0_init 1 = .ok (.invokespecial 1, 3) := by decide +kernel
theorem dJ0_init_4 : decode cJ0_init 4 = .ok (.return_, 1) := by decide +kernel
theorem q119 : (Jvm.Cond.initialized "java/util/AbstractCollection") ∈ lw_all := lw_g (lw_at lw_m1 2 rfl) rfl
theorem q200 : (Jvm.Cond.instanceMethod ({ cls := "java/util/AbstractCollection", name := "<init>", desc := "()V" } : Jvm.MethodName)) ∈ lw_all := lw_g (lw_at lw_m1 83 rfl) rfl
theorem q201 : (Jvm.Cond.code ({ cls := "java/util/AbstractCollection", name := "<init>", desc := "()V" } : Jvm.MethodName) prog_54_method_1_code (1 : Nat) (Option.none : Option Jvm.ClassFile.FieldType)) ∈ lw_all := lw_g (lw_at lw_m1 84 rfl) rfl
theorem q202 : (Jvm.Cond.methodLink "java/util/AbstractCollection" (1 : Nat) ({ cls := "java/lang/Object", name := "<init>", desc := "()V" } : Jvm.MethodName)) ∈ lw_all := lw_g (lw_at lw_m1 85 rfl) rfl
theorem q1507 : (Jvm.Cond.declares ({ cls := "java/util/AbstractCollection", name := "size", desc := "()I" } : Jvm.MethodName)) ∈ lw_tbl := lw_at lw_m6 190 rfl

/-! java/util/AbstractList -/
def RJ1 : String := "java/util/AbstractList"
abbrev cJ1_init : ByteArray := prog_55_method_1_code
def yJ1_init : MethodName := ⟨RJ1, "<init>", "()V"⟩
def dkwJ1_init_0 : List UInt8 := [42, 183, 0, 1, 42, 3, 181, 0, 7, 177]
abbrev dktJ1_init_0 : List UInt8 := dkwJ1_init_0 ++ []
theorem dksJ1_init_0 : cJ1_init.data.toList.drop 0 = dktJ1_init_0 := by decide +kernel
theorem dJ1_init_0 : decode cJ1_init 0 = .ok (.aload_n 0, 1) := dk_42 (dk_at dksJ1_init_0 0 rfl rfl)
theorem dJ1_init_1 : decode cJ1_init 1 = .ok (.invokespecial 1, 3) := dk_183 0 1 (dk_at dksJ1_init_0 1 rfl rfl)
theorem dJ1_init_4 : decode cJ1_init 4 = .ok (.aload_n 0, 1) := dk_42 (dk_at dksJ1_init_0 4 rfl rfl)
theorem dJ1_init_5 : decode cJ1_init 5 = .ok (.iconst 0, 1) := dk_3 (dk_at dksJ1_init_0 5 rfl rfl)
theorem dJ1_init_6 : decode cJ1_init 6 = .ok (.putfield 7, 3) := dk_181 0 7 (dk_at dksJ1_init_0 6 rfl rfl)
theorem dJ1_init_9 : decode cJ1_init 9 = .ok (.return_, 1) := dk_177 (dk_at dksJ1_init_0 9 rfl rfl)
abbrev cJ1_listIterator : ByteArray := prog_55_method_12_code
def yJ1_listIterator : MethodName := ⟨RJ1, "listIterator", "()Ljava/util/ListIterator;"⟩
def dkwJ1_listIterator_0 : List UInt8 := [42, 3, 182, 0, 47, 176]
abbrev dktJ1_listIterator_0 : List UInt8 := dkwJ1_listIterator_0 ++ []
theorem dksJ1_listIterator_0 : cJ1_listIterator.data.toList.drop 0 = dktJ1_listIterator_0 := by decide +kernel
theorem dJ1_listIterator_0 : decode cJ1_listIterator 0 = .ok (.aload_n 0, 1) := dk_42 (dk_at dksJ1_listIterator_0 0 rfl rfl)
theorem dJ1_listIterator_1 : decode cJ1_listIterator 1 = .ok (.iconst 0, 1) := dk_3 (dk_at dksJ1_listIterator_0 1 rfl rfl)
theorem dJ1_listIterator_2 : decode cJ1_listIterator 2 = .ok (.invokevirtual 47, 3) := dk_182 0 47 (dk_at dksJ1_listIterator_0 2 rfl rfl)
theorem dJ1_listIterator_5 : decode cJ1_listIterator 5 = .ok (.areturn, 1) := dk_176 (dk_at dksJ1_listIterator_0 5 rfl rfl)
theorem q120 : (Jvm.Cond.initialized "java/util/AbstractList") ∈ lw_all := lw_g (lw_at lw_m1 3 rfl) rfl
theorem q197 : (Jvm.Cond.instanceMethod ({ cls := "java/util/AbstractList", name := "<init>", desc := "()V" } : Jvm.MethodName)) ∈ lw_all := lw_g (lw_at lw_m1 80 rfl) rfl
theorem q198 : (Jvm.Cond.code ({ cls := "java/util/AbstractList", name := "<init>", desc := "()V" } : Jvm.MethodName) prog_55_method_1_code (1 : Nat) (Option.none : Option Jvm.ClassFile.FieldType)) ∈ lw_all := lw_g (lw_at lw_m1 81 rfl) rfl
theorem q199 : (Jvm.Cond.methodLink "java/util/AbstractList" (1 : Nat) ({ cls := "java/util/AbstractCollection", name := "<init>", desc := "()V" } : Jvm.MethodName)) ∈ lw_all := lw_g (lw_at lw_m1 82 rfl) rfl
theorem q210 : (Jvm.Cond.fieldLink "java/util/AbstractList" (7 : Nat) "java/util/AbstractList" "modCount" "I") ∈ lw_all := lw_g (lw_at lw_m1 93 rfl) rfl
theorem q225 : (Jvm.Cond.soleField "java/util/AbstractList" "modCount") ∈ lw_all := lw_g (lw_at lw_m1 108 rfl) rfl
theorem q1419 : (Jvm.Cond.declares ({ cls := "java/util/AbstractList", name := "listIterator", desc := "()Ljava/util/ListIterator;" } : Jvm.MethodName)) ∈ lw_tbl := lw_at lw_m6 102 rfl
theorem q1421 : (Jvm.Cond.instanceMethod ({ cls := "java/util/AbstractList", name := "listIterator", desc := "()Ljava/util/ListIterator;" } : Jvm.MethodName)) ∈ lw_all := lw_g (lw_at lw_m6 104 rfl) rfl
theorem q1422 : (Jvm.Cond.code ({ cls := "java/util/AbstractList", name := "listIterator", desc := "()Ljava/util/ListIterator;" } : Jvm.MethodName) prog_55_method_12_code (1 : Nat) (Option.some (Jvm.ClassFile.FieldType.object "java/util/ListIterator"))) ∈ lw_all := lw_g (lw_at lw_m6 105 rfl) rfl
theorem q1423 : (Jvm.Cond.methodLink "java/util/AbstractList" (47 : Nat) ({ cls := "java/util/AbstractList", name := "listIterator", desc := "(I)Ljava/util/ListIterator;" } : Jvm.MethodName)) ∈ lw_all := lw_g (lw_at lw_m6 106 rfl) rfl
theorem q1424 : (Jvm.Cond.instanceMethod ({ cls := "java/util/AbstractList", name := "listIterator", desc := "(I)Ljava/util/ListIterator;" } : Jvm.MethodName)) ∈ lw_all := lw_g (lw_at lw_m6 107 rfl) rfl
theorem q1425 : (Jvm.Cond.sameMethod "java/util/AbstractList" "java/util/AbstractList" "listIterator" "(I)Ljava/util/ListIterator;") ∈ lw_all := lw_g (lw_at lw_m6 108 rfl) rfl
theorem q1494 : (Jvm.Cond.declares ({ cls := "java/util/AbstractList", name := "listIterator", desc := "(I)Ljava/util/ListIterator;" } : Jvm.MethodName)) ∈ lw_tbl := lw_at lw_m6 177 rfl
theorem q1506 : (Jvm.Cond.sameMethod "java/util/AbstractList" "java/util/AbstractCollection" "size" "()I") ∈ lw_all := lw_g (lw_at lw_m6 189 rfl) rfl
theorem q1546 : (Jvm.Cond.declares ({ cls := "java/util/AbstractList", name := "get", desc := "(I)Ljava/lang/Object;" } : Jvm.MethodName)) ∈ lw_tbl := lw_at lw_m6 229 rfl
theorem q1547 : (Jvm.Cond.sameMethod "java/util/AbstractList" "java/util/AbstractList" "get" "(I)Ljava/lang/Object;") ∈ lw_all := lw_g (lw_at lw_m6 230 rfl) rfl
theorem q2421 : (Jvm.Cond.instanceMethod ({ cls := "java/util/AbstractList", name := "add", desc := "(ILjava/lang/Object;)V" } : Jvm.MethodName)) ∈ lw_all := lw_g (lw_at lw_m10 144 rfl) rfl
theorem q2422 : (Jvm.Cond.sameMethod "java/util/AbstractList" "java/util/AbstractList" "add" "(ILjava/lang/Object;)V") ∈ lw_all := lw_g (lw_at lw_m10 145 rfl) rfl
theorem q2434 : (Jvm.Cond.declares ({ cls := "java/util/AbstractList", name := "add", desc := "(ILjava/lang/Object;)V" } : Jvm.MethodName)) ∈ lw_tbl := lw_at lw_m10 157 rfl

/-! java/lang/IllegalStateException -/
def RJ10 : String := "java/lang/IllegalStateException"
def TJ10 : u_T := fun k => match k with
  | 0 => ("java/lang/Throwable", "cause", "Ljava/lang/Throwable;", false)
  | 1 => ("java/lang/Throwable", "stackTrace", "[Ljava/lang/StackTraceElement;", false)
  | 2 => ("java/lang/Throwable", "suppressedExceptions", "Ljava/util/List;", false)
  | 3 => ("java/lang/Throwable", "detailMessage", "Ljava/lang/String;", false)
  | 4 => ("java/lang/Throwable", "backtrace", "Ljava/lang/Object;", false)
  | _ => ("java/lang/Throwable", "depth", "I", false)
def tyJ10 : Nat → FieldType := fun k => match k with
  | 0 => .object "java/lang/Throwable"
  | 1 => .array (.object "java/lang/StackTraceElement")
  | 2 => .object "java/util/List"
  | 3 => .object "java/lang/String"
  | 4 => .object "java/lang/Object"
  | _ => .int
abbrev wsJ100 : List Cond := u_ws RJ10 TJ10 6
theorem nmJ10 : ∀ a, a < 6 → ∀ b, b < 6 → a ≠ b → (TJ10 a).2.1 ≠ (TJ10 b).2.1 := by decide +kernel
theorem tyJ10_ok : ∀ k, k < 6 → parseFieldDescriptor (TJ10 k).2.2.1 = some (tyJ10 k) := by decide +kernel
abbrev cJ10_init : ByteArray := prog_38_method_2_code
def yJ10_init : MethodName := ⟨RJ10, "<init>", "(Ljava/lang/String;)V"⟩
def dkwJ10_init_0 : List UInt8 := [42, 43, 183, 0, 7, 177]
abbrev dktJ10_init_0 : List UInt8 := dkwJ10_init_0 ++ []
theorem dksJ10_init_0 : cJ10_init.data.toList.drop 0 = dktJ10_init_0 := by decide +kernel
theorem dJ10_init_0 : decode cJ10_init 0 = .ok (.aload_n 0, 1) := dk_42 (dk_at dksJ10_init_0 0 rfl rfl)
theorem dJ10_init_1 : decode cJ10_init 1 = .ok (.aload_n 1, 1) := dk_43 (dk_at dksJ10_init_0 1 rfl rfl)
theorem dJ10_init_2 : decode cJ10_init 2 = .ok (.invokespecial 7, 3) := dk_183 0 7 (dk_at dksJ10_init_0 2 rfl rfl)
theorem dJ10_init_5 : decode cJ10_init 5 = .ok (.return_, 1) := dk_177 (dk_at dksJ10_init_0 5 rfl rfl)
abbrev cJ10_init_2 : ByteArray := prog_38_method_3_code
def yJ10_init_2 : MethodName := ⟨RJ10, "<init>", "(Ljava/lang/String;Ljava/lang/Throwable;)V"⟩
def dkwJ10_init_2_0 : List UInt8 := [42, 43, 44, 183, 0, 10, 177]
abbrev dktJ10_init_2_0 : List UInt8 := dkwJ10_init_2_0 ++ []
theorem dksJ10_init_2_0 : cJ10_init_2.data.toList.drop 0 = dktJ10_init_2_0 := by decide +kernel
theorem dJ10_init_2_0 : decode cJ10_init_2 0 = .ok (.aload_n 0, 1) := dk_42 (dk_at dksJ10_init_2_0 0 rfl rfl)
theorem dJ10_init_2_1 : decode cJ10_init_2 1 = .ok (.aload_n 1, 1) := dk_43 (dk_at dksJ10_init_2_0 1 rfl rfl)
theorem dJ10_init_2_2 : decode cJ10_init_2 2 = .ok (.aload_n 2, 1) := dk_44 (dk_at dksJ10_init_2_0 2 rfl rfl)
theorem dJ10_init_2_3 : decode cJ10_init_2 3 = .ok (.invokespecial 10, 3) := dk_183 0 10 (dk_at dksJ10_init_2_0 3 rfl rfl)
theorem dJ10_init_2_6 : decode cJ10_init_2 6 = .ok (.return_, 1) := dk_177 (dk_at dksJ10_init_2_0 6 rfl rfl)
theorem q133 : (Jvm.Cond.initialized "java/lang/IllegalStateException") ∈ lw_all := lw_g (lw_at lw_m1 16 rfl) rfl
theorem q512 : (Jvm.Cond.selects "java/lang/IllegalStateException" ({ cls := "java/lang/Throwable", name := "fillInStackTrace", desc := "()Ljava/lang/Throwable;" } : Jvm.MethodName) ({ cls := "java/lang/Throwable", name := "fillInStackTrace", desc := "()Ljava/lang/Throwable;" } : Jvm.MethodName)) ∈ lw_all := lw_g (lw_at lw_m2 155 rfl) rfl
theorem q1073 : (Jvm.Cond.selects "java/lang/IllegalStateException" ({ cls := "java/lang/Object", name := "getClass", desc := "()Ljava/lang/Class;" } : Jvm.MethodName) ({ cls := "java/lang/Object", name := "getClass", desc := "()Ljava/lang/Class;" } : Jvm.MethodName)) ∈ lw_all := lw_g (lw_at lw_m4 236 rfl) rfl
theorem q1581 : (Jvm.Cond.selects "java/lang/IllegalStateException" ({ cls := "java/lang/Throwable", name := "toString", desc := "()Ljava/lang/String;" } : Jvm.MethodName) ({ cls := "java/lang/Throwable", name := "toString", desc := "()Ljava/lang/String;" } : Jvm.MethodName)) ∈ lw_all := lw_g (lw_at lw_m7 24 rfl) rfl
theorem q1597 : (Jvm.Cond.selects "java/lang/IllegalStateException" ({ cls := "java/lang/Throwable", name := "getLocalizedMessage", desc := "()Ljava/lang/String;" } : Jvm.MethodName) ({ cls := "java/lang/Throwable", name := "getLocalizedMessage", desc := "()Ljava/lang/String;" } : Jvm.MethodName)) ∈ lw_all := lw_g (lw_at lw_m7 40 rfl) rfl
theorem q1612 : (Jvm.Cond.selects "java/lang/IllegalStateException" ({ cls := "java/lang/Throwable", name := "getMessage", desc := "()Ljava/lang/String;" } : Jvm.MethodName) ({ cls := "java/lang/Throwable", name := "getMessage", desc := "()Ljava/lang/String;" } : Jvm.MethodName)) ∈ lw_all := lw_g (lw_at lw_m7 55 rfl) rfl
theorem q1718 : (Jvm.Cond.instantiable "java/lang/IllegalStateException" (6 : Nat)) ∈ lw_all := lw_g (lw_at lw_m7 161 rfl) rfl
theorem q1719 : (Jvm.Cond.castable "java/lang/IllegalStateException" "java/lang/IllegalStateException") ∈ lw_tbl := lw_at lw_m7 162 rfl
theorem q1720 : (Jvm.Cond.selects "java/lang/IllegalStateException" ({ cls := "java/lang/Throwable", name := "fillInStackTrace", desc := "(I)Ljava/lang/Throwable;" } : Jvm.MethodName) ({ cls := "java/lang/Throwable", name := "fillInStackTrace", desc := "(I)Ljava/lang/Throwable;" } : Jvm.MethodName)) ∈ lw_all := lw_g (lw_at lw_m7 163 rfl) rfl
theorem q1721 : (Jvm.Cond.lays "java/lang/IllegalStateException" "java/lang/Throwable" "cause" "Ljava/lang/Throwable;") ∈ lw_all := lw_g (lw_at lw_m7 164 rfl) rfl
theorem q1722 : (Jvm.Cond.lays "java/lang/IllegalStateException" "java/lang/Throwable" "stackTrace" "[Ljava/lang/StackTraceElement;") ∈ lw_all := lw_g (lw_at lw_m7 165 rfl) rfl
theorem q1723 : (Jvm.Cond.lays "java/lang/IllegalStateException" "java/lang/Throwable" "suppressedExceptions" "Ljava/util/List;") ∈ lw_all := lw_g (lw_at lw_m7 166 rfl) rfl
theorem q1724 : (Jvm.Cond.lays "java/lang/IllegalStateException" "java/lang/Throwable" "detailMessage" "Ljava/lang/String;") ∈ lw_all := lw_g (lw_at lw_m7 167 rfl) rfl
theorem q1725 : (Jvm.Cond.lays "java/lang/IllegalStateException" "java/lang/Throwable" "backtrace" "Ljava/lang/Object;") ∈ lw_all := lw_g (lw_at lw_m7 168 rfl) rfl
theorem q1728 : (Jvm.Cond.instanceMethod ({ cls := "java/lang/IllegalStateException", name := "<init>", desc := "(Ljava/lang/String;)V" } : Jvm.MethodName)) ∈ lw_all := lw_g (lw_at lw_m7 171 rfl) rfl
theorem q1729 : (Jvm.Cond.code ({ cls := "java/lang/IllegalStateException", name := "<init>", desc := "(Ljava/lang/String;)V" } : Jvm.MethodName) prog_38_method_2_code (2 : Nat) (Option.none : Option Jvm.ClassFile.FieldType)) ∈ lw_all := lw_g (lw_at lw_m7 172 rfl) rfl
theorem q1730 : (Jvm.Cond.methodLink "java/lang/IllegalStateException" (7 : Nat) ({ cls := "java/lang/RuntimeException", name := "<init>", desc := "(Ljava/lang/String;)V" } : Jvm.MethodName)) ∈ lw_all := lw_g (lw_at lw_m7 173 rfl) rfl
theorem q1731 : (Jvm.Cond.lays "java/lang/IllegalStateException" "java/lang/Throwable" "depth" "I") ∈ lw_all := lw_g (lw_at lw_m7 174 rfl) rfl
theorem q1732 : (Jvm.Cond.superclass "java/lang/IllegalStateException" "java/lang/RuntimeException") ∈ lw_all := lw_g (lw_at lw_m7 175 rfl) rfl
theorem q1938 : (Jvm.Cond.instanceMethod ({ cls := "java/lang/IllegalStateException", name := "<init>", desc := "(Ljava/lang/String;Ljava/lang/Throwable;)V" } : Jvm.MethodName)) ∈ lw_all := lw_g (lw_at lw_m8 141 rfl) rfl
theorem q1939 : (Jvm.Cond.code ({ cls := "java/lang/IllegalStateException", name := "<init>", desc := "(Ljava/lang/String;Ljava/lang/Throwable;)V" } : Jvm.MethodName) prog_38_method_3_code (3 : Nat) (Option.none : Option Jvm.ClassFile.FieldType)) ∈ lw_all := lw_g (lw_at lw_m8 142 rfl) rfl
theorem q1940 : (Jvm.Cond.methodLink "java/lang/IllegalStateException" (10 : Nat) ({ cls := "java/lang/RuntimeException", name := "<init>", desc := "(Ljava/lang/String;Ljava/lang/Throwable;)V" } : Jvm.MethodName)) ∈ lw_all := lw_g (lw_at lw_m8 143 rfl) rfl
theorem q3484 : (Jvm.Cond.castable "java/lang/IllegalStateException" "java/lang/Object") ∈ lw_tbl := lw_at lw_m15 7 rfl
theorem in_J10 : ∀ w ∈ wsJ100, w ∈ lw_all := lw_in wsJ100 [1721, 1722, 1723, 1724, 1725, 1731] (by decide +kernel) (by decide +kernel)

/-! jdk/internal/util/ArraysSupport -/
def RJ11 : String := "jdk/internal/util/ArraysSupport"
abbrev cJ11_newLength : ByteArray := prog_81_method_27_code
def yJ11_newLength : MethodName := ⟨RJ11, "newLength", "(III)I"⟩
def dkwJ11_newLength_1 : List UInt8 := [184, 0, 201, 172]
abbrev dktJ11_newLength_1 : List UInt8 := dkwJ11_newLength_1 ++ []
def dkwJ11_newLength_0 : List UInt8 := [26, 27, 28, 184, 0, 194, 96, 62, 3, 29, 162, 0, 11, 29, 18, 200, 163, 0, 5, 29, 172, 26, 27]
abbrev dktJ11_newLength_0 : List UInt8 := dkwJ11_newLength_0 ++ dktJ11_newLength_1
theorem dksJ11_newLength_0 : cJ11_newLength.data.toList.drop 0 = dktJ11_newLength_0 := by decide +kernel
theorem dksJ11_newLength_1 : cJ11_newLength.data.toList.drop 23 = dktJ11_newLength_1 := dk_seg dksJ11_newLength_0 23 rfl rfl
theorem dJ11_newLength_0 : decode cJ11_newLength 0 = .ok (.iload_n 0, 1) := dk_26 (dk_at dksJ11_newLength_0 0 rfl rfl)
theorem dJ11_newLength_1 : decode cJ11_newLength 1 = .ok (.iload_n 1, 1) := dk_27 (dk_at dksJ11_newLength_0 1 rfl rfl)
theorem dJ11_newLength_2 : decode cJ11_newLength 2 = .ok (.iload_n 2, 1) := dk_28 (dk_at dksJ11_newLength_0 2 rfl rfl)
theorem dJ11_newLength_3 : decode cJ11_newLength 3 = .ok (.invokestatic 194, 3) := dk_184 0 194 (dk_at dksJ11_newLength_0 3 rfl rfl)
theorem dJ11_newLength_6 : decode cJ11_newLength 6 = .ok (.iadd, 1) := dk_96 (dk_at dksJ11_newLength_0 6 rfl rfl)
theorem dJ11_newLength_7 : decode cJ11_newLength 7 = .ok (.istore_n 3, 1) := dk_62 (dk_at dksJ11_newLength_0 7 rfl rfl)
theorem dJ11_newLength_8 : decode cJ11_newLength 8 = .ok (.iconst 0, 1) := dk_3 (dk_at dksJ11_newLength_0 8 rfl rfl)
theorem dJ11_newLength_9 : decode cJ11_newLength 9 = .ok (.iload_n 3, 1) := dk_29 (dk_at dksJ11_newLength_0 9 rfl rfl)
theorem dJ11_newLength_10 : decode cJ11_newLength 10 = .ok (.if_icmp .ge 11, 3) := dk_162 0 11 (dk_at dksJ11_newLength_0 10 rfl rfl)
theorem dJ11_newLength_13 : decode cJ11_newLength 13 = .ok (.iload_n 3, 1) := dk_29 (dk_at dksJ11_newLength_0 13 rfl rfl)
theorem dJ11_newLength_14 : decode cJ11_newLength 14 = .ok (.ldc 200, 2) := dk_18 200 (dk_at dksJ11_newLength_0 14 rfl rfl)
theorem dJ11_newLength_16 : decode cJ11_newLength 16 = .ok (.if_icmp .gt 5, 3) := dk_163 0 5 (dk_at dksJ11_newLength_0 16 rfl rfl)
theorem dJ11_newLength_19 : decode cJ11_newLength 19 = .ok (.iload_n 3, 1) := dk_29 (dk_at dksJ11_newLength_0 19 rfl rfl)
theorem dJ11_newLength_20 : decode cJ11_newLength 20 = .ok (.ireturn, 1) := dk_172 (dk_at dksJ11_newLength_0 20 rfl rfl)
theorem dJ11_newLength_21 : decode cJ11_newLength 21 = .ok (.iload_n 0, 1) := dk_26 (dk_at dksJ11_newLength_0 21 rfl rfl)
theorem dJ11_newLength_22 : decode cJ11_newLength 22 = .ok (.iload_n 1, 1) := dk_27 (dk_at dksJ11_newLength_0 22 rfl rfl)
theorem dJ11_newLength_23 : decode cJ11_newLength 23 = .ok (.invokestatic 201, 3) := dk_184 0 201 (dk_at dksJ11_newLength_1 0 rfl rfl)
theorem dJ11_newLength_26 : decode cJ11_newLength 26 = .ok (.ireturn, 1) := dk_172 (dk_at dksJ11_newLength_1 3 rfl rfl)
abbrev cJ11_hugeLength : ByteArray := prog_81_method_28_code
def yJ11_hugeLength : MethodName := ⟨RJ11, "hugeLength", "(II)I"⟩
def dkwJ11_hugeLength_2 : List UInt8 := [191, 28, 18, 200, 163, 0, 6, 18, 200, 172, 28, 172]
abbrev dktJ11_hugeLength_2 : List UInt8 := dkwJ11_hugeLength_2 ++ []
def dkwJ11_hugeLength_1 : List UInt8 := [26, 182, 0, 98, 18, 208, 182, 0, 94, 27, 182, 0, 98, 18, 210, 182, 0, 94, 182, 0, 101, 183, 0, 212]
abbrev dktJ11_hugeLength_1 : List UInt8 := dkwJ11_hugeLength_1 ++ dktJ11_hugeLength_2
def dkwJ11_hugeLength_0 : List UInt8 := [26, 27, 96, 61, 28, 156, 0, 44, 187, 0, 204, 89, 187, 0, 89, 89, 183, 0, 91, 18, 206, 182, 0, 94]
abbrev dktJ11_hugeLength_0 : List UInt8 := dkwJ11_hugeLength_0 ++ dktJ11_hugeLength_1
theorem dksJ11_hugeLength_0 : cJ11_hugeLength.data.toList.drop 0 = dktJ11_hugeLength_0 := by decide +kernel
theorem dksJ11_hugeLength_1 : cJ11_hugeLength.data.toList.drop 24 = dktJ11_hugeLength_1 := dk_seg dksJ11_hugeLength_0 24 rfl rfl
theorem dksJ11_hugeLength_2 : cJ11_hugeLength.data.toList.drop 48 = dktJ11_hugeLength_2 := dk_seg dksJ11_hugeLength_1 24 rfl rfl
theorem dJ11_hugeLength_0 : decode cJ11_hugeLength 0 = .ok (.iload_n 0, 1) := dk_26 (dk_at dksJ11_hugeLength_0 0 rfl rfl)
theorem dJ11_hugeLength_1 : decode cJ11_hugeLength 1 = .ok (.iload_n 1, 1) := dk_27 (dk_at dksJ11_hugeLength_0 1 rfl rfl)
theorem dJ11_hugeLength_2 : decode cJ11_hugeLength 2 = .ok (.iadd, 1) := dk_96 (dk_at dksJ11_hugeLength_0 2 rfl rfl)
theorem dJ11_hugeLength_3 : decode cJ11_hugeLength 3 = .ok (.istore_n 2, 1) := dk_61 (dk_at dksJ11_hugeLength_0 3 rfl rfl)
theorem dJ11_hugeLength_4 : decode cJ11_hugeLength 4 = .ok (.iload_n 2, 1) := dk_28 (dk_at dksJ11_hugeLength_0 4 rfl rfl)
theorem dJ11_hugeLength_5 : decode cJ11_hugeLength 5 = .ok (.ifCond .ge 44, 3) := dk_156 0 44 (dk_at dksJ11_hugeLength_0 5 rfl rfl)
theorem dJ11_hugeLength_8 : decode cJ11_hugeLength 8 = .ok (.new 204, 3) := dk_187 0 204 (dk_at dksJ11_hugeLength_0 8 rfl rfl)
theorem dJ11_hugeLength_11 : decode cJ11_hugeLength 11 = .ok (.dup, 1) := dk_89 (dk_at dksJ11_hugeLength_0 11 rfl rfl)
theorem dJ11_hugeLength_12 : decode cJ11_hugeLength 12 = .ok (.new 89, 3) := dk_187 0 89 (dk_at dksJ11_hugeLength_0 12 rfl rfl)
theorem dJ11_hugeLength_15 : decode cJ11_hugeLength 15 = .ok (.dup, 1) := dk_89 (dk_at dksJ11_hugeLength_0 15 rfl rfl)
theorem dJ11_hugeLength_16 : decode cJ11_hugeLength 16 = .ok (.invokespecial 91, 3) := dk_183 0 91 (dk_at dksJ11_hugeLength_0 16 rfl rfl)
theorem dJ11_hugeLength_19 : decode cJ11_hugeLength 19 = .ok (.ldc 206, 2) := dk_18 206 (dk_at dksJ11_hugeLength_0 19 rfl rfl)
theorem dJ11_hugeLength_21 : decode cJ11_hugeLength 21 = .ok (.invokevirtual 94, 3) := dk_182 0 94 (dk_at dksJ11_hugeLength_0 21 rfl rfl)
theorem dJ11_hugeLength_24 : decode cJ11_hugeLength 24 = .ok (.iload_n 0, 1) := dk_26 (dk_at dksJ11_hugeLength_1 0 rfl rfl)
theorem dJ11_hugeLength_25 : decode cJ11_hugeLength 25 = .ok (.invokevirtual 98, 3) := dk_182 0 98 (dk_at dksJ11_hugeLength_1 1 rfl rfl)
theorem dJ11_hugeLength_28 : decode cJ11_hugeLength 28 = .ok (.ldc 208, 2) := dk_18 208 (dk_at dksJ11_hugeLength_1 4 rfl rfl)
theorem dJ11_hugeLength_30 : decode cJ11_hugeLength 30 = .ok (.invokevirtual 94, 3) := dk_182 0 94 (dk_at dksJ11_hugeLength_1 6 rfl rfl)
theorem dJ11_hugeLength_33 : decode cJ11_hugeLength 33 = .ok (.iload_n 1, 1) := dk_27 (dk_at dksJ11_hugeLength_1 9 rfl rfl)
theorem dJ11_hugeLength_34 : decode cJ11_hugeLength 34 = .ok (.invokevirtual 98, 3) := dk_182 0 98 (dk_at dksJ11_hugeLength_1 10 rfl rfl)
theorem dJ11_hugeLength_37 : decode cJ11_hugeLength 37 = .ok (.ldc 210, 2) := dk_18 210 (dk_at dksJ11_hugeLength_1 13 rfl rfl)
theorem dJ11_hugeLength_39 : decode cJ11_hugeLength 39 = .ok (.invokevirtual 94, 3) := dk_182 0 94 (dk_at dksJ11_hugeLength_1 15 rfl rfl)
theorem dJ11_hugeLength_42 : decode cJ11_hugeLength 42 = .ok (.invokevirtual 101, 3) := dk_182 0 101 (dk_at dksJ11_hugeLength_1 18 rfl rfl)
theorem dJ11_hugeLength_45 : decode cJ11_hugeLength 45 = .ok (.invokespecial 212, 3) := dk_183 0 212 (dk_at dksJ11_hugeLength_1 21 rfl rfl)
theorem dJ11_hugeLength_48 : decode cJ11_hugeLength 48 = .ok (.athrow, 1) := dk_191 (dk_at dksJ11_hugeLength_2 0 rfl rfl)
theorem dJ11_hugeLength_49 : decode cJ11_hugeLength 49 = .ok (.iload_n 2, 1) := dk_28 (dk_at dksJ11_hugeLength_2 1 rfl rfl)
theorem dJ11_hugeLength_50 : decode cJ11_hugeLength 50 = .ok (.ldc 200, 2) := dk_18 200 (dk_at dksJ11_hugeLength_2 2 rfl rfl)
theorem dJ11_hugeLength_52 : decode cJ11_hugeLength 52 = .ok (.if_icmp .gt 6, 3) := dk_163 0 6 (dk_at dksJ11_hugeLength_2 4 rfl rfl)
theorem dJ11_hugeLength_55 : decode cJ11_hugeLength 55 = .ok (.ldc 200, 2) := dk_18 200 (dk_at dksJ11_hugeLength_2 7 rfl rfl)
theorem dJ11_hugeLength_57 : decode cJ11_hugeLength 57 = .ok (.ireturn, 1) := dk_172 (dk_at dksJ11_hugeLength_2 9 rfl rfl)
theorem dJ11_hugeLength_58 : decode cJ11_hugeLength 58 = .ok (.iload_n 2, 1) := dk_28 (dk_at dksJ11_hugeLength_2 10 rfl rfl)
theorem dJ11_hugeLength_59 : decode cJ11_hugeLength 59 = .ok (.ireturn, 1) := dk_172 (dk_at dksJ11_hugeLength_2 11 rfl rfl)
theorem q134 : (Jvm.Cond.initialized "jdk/internal/util/ArraysSupport") ∈ lw_all := lw_g (lw_at lw_m1 17 rfl) rfl
theorem q578 : (Jvm.Cond.static ({ cls := "jdk/internal/util/ArraysSupport", name := "newLength", desc := "(III)I" } : Jvm.MethodName)) ∈ lw_all := lw_g (lw_at lw_m2 221 rfl) rfl
theorem q579 : (Jvm.Cond.code ({ cls := "jdk/internal/util/ArraysSupport", name := "newLength", desc := "(III)I" } : Jvm.MethodName) prog_81_method_27_code (4 : Nat) (Option.some Jvm.ClassFile.FieldType.int)) ∈ lw_all := lw_g (lw_at lw_m2 222 rfl) rfl
theorem q580 : (Jvm.Cond.methodLink "jdk/internal/util/ArraysSupport" (194 : Nat) ({ cls := "java/lang/Math", name := "max", desc := "(II)I" } : Jvm.MethodName)) ∈ lw_all := lw_g (lw_at lw_m2 223 rfl) rfl
theorem q583 : (Jvm.Cond.constant "jdk/internal/util/ArraysSupport" (200 : Nat) (2147483639 : Int32)) ∈ lw_all := lw_g (lw_at lw_m2 226 rfl) rfl
theorem q584 : (Jvm.Cond.methodLink "jdk/internal/util/ArraysSupport" (201 : Nat) ({ cls := "jdk/internal/util/ArraysSupport", name := "hugeLength", desc := "(II)I" } : Jvm.MethodName)) ∈ lw_all := lw_g (lw_at lw_m2 227 rfl) rfl
theorem q585 : (Jvm.Cond.static ({ cls := "jdk/internal/util/ArraysSupport", name := "hugeLength", desc := "(II)I" } : Jvm.MethodName)) ∈ lw_all := lw_g (lw_at lw_m2 228 rfl) rfl
theorem q586 : (Jvm.Cond.code ({ cls := "jdk/internal/util/ArraysSupport", name := "hugeLength", desc := "(II)I" } : Jvm.MethodName) prog_81_method_28_code (3 : Nat) (Option.some Jvm.ClassFile.FieldType.int)) ∈ lw_all := lw_g (lw_at lw_m2 229 rfl) rfl

/-! java/lang/Math -/
def RJ12 : String := "java/lang/Math"
abbrev cJ12_max : ByteArray := prog_43_method_65_code
def yJ12_max : MethodName := ⟨RJ12, "max", "(II)I"⟩
def dkwJ12_max_0 : List UInt8 := [26, 27, 161, 0, 7, 26, 167, 0, 4, 27, 172]
abbrev dktJ12_max_0 : List UInt8 := dkwJ12_max_0 ++ []
theorem dksJ12_max_0 : cJ12_max.data.toList.drop 0 = dktJ12_max_0 := by decide +kernel
theorem dJ12_max_0 : decode cJ12_max 0 = .ok (.iload_n 0, 1) := dk_26 (dk_at dksJ12_max_0 0 rfl rfl)
theorem dJ12_max_1 : decode cJ12_max 1 = .ok (.iload_n 1, 1) := dk_27 (dk_at dksJ12_max_0 1 rfl rfl)
theorem dJ12_max_2 : decode cJ12_max 2 = .ok (.if_icmp .lt 7, 3) := dk_161 0 7 (dk_at dksJ12_max_0 2 rfl rfl)
theorem dJ12_max_5 : decode cJ12_max 5 = .ok (.iload_n 0, 1) := dk_26 (dk_at dksJ12_max_0 5 rfl rfl)
theorem dJ12_max_6 : decode cJ12_max 6 = .ok (.goto 4, 3) := dk_167 0 4 (dk_at dksJ12_max_0 6 rfl rfl)
theorem dJ12_max_9 : decode cJ12_max 9 = .ok (.iload_n 1, 1) := dk_27 (dk_at dksJ12_max_0 9 rfl rfl)
theorem dJ12_max_10 : decode cJ12_max 10 = .ok (.ireturn, 1) := dk_172 (dk_at dksJ12_max_0 10 rfl rfl)
abbrev cJ12_min : ByteArray := prog_43_method_69_code
def yJ12_min : MethodName := ⟨RJ12, "min", "(II)I"⟩
def dkwJ12_min_0 : List UInt8 := [26, 27, 163, 0, 7, 26, 167, 0, 4, 27, 172]
abbrev dktJ12_min_0 : List UInt8 := dkwJ12_min_0 ++ []
theorem dksJ12_min_0 : cJ12_min.data.toList.drop 0 = dktJ12_min_0 := by decide +kernel
theorem dJ12_min_0 : decode cJ12_min 0 = .ok (.iload_n 0, 1) := dk_26 (dk_at dksJ12_min_0 0 rfl rfl)
theorem dJ12_min_1 : decode cJ12_min 1 = .ok (.iload_n 1, 1) := dk_27 (dk_at dksJ12_min_0 1 rfl rfl)
theorem dJ12_min_2 : decode cJ12_min 2 = .ok (.if_icmp .gt 7, 3) := dk_163 0 7 (dk_at dksJ12_min_0 2 rfl rfl)
theorem dJ12_min_5 : decode cJ12_min 5 = .ok (.iload_n 0, 1) := dk_26 (dk_at dksJ12_min_0 5 rfl rfl)
theorem dJ12_min_6 : decode cJ12_min 6 = .ok (.goto 4, 3) := dk_167 0 4 (dk_at dksJ12_min_0 6 rfl rfl)
theorem dJ12_min_9 : decode cJ12_min 9 = .ok (.iload_n 1, 1) := dk_27 (dk_at dksJ12_min_0 9 rfl rfl)
theorem dJ12_min_10 : decode cJ12_min 10 = .ok (.ireturn, 1) := dk_172 (dk_at dksJ12_min_0 10 rfl rfl)
theorem q135 : (Jvm.Cond.initialized "java/lang/Math") ∈ lw_all := lw_g (lw_at lw_m1 18 rfl) rfl
theorem q581 : (Jvm.Cond.static ({ cls := "java/lang/Math", name := "max", desc := "(II)I" } : Jvm.MethodName)) ∈ lw_all := lw_g (lw_at lw_m2 224 rfl) rfl
theorem q582 : (Jvm.Cond.code ({ cls := "java/lang/Math", name := "max", desc := "(II)I" } : Jvm.MethodName) prog_43_method_65_code (2 : Nat) (Option.some Jvm.ClassFile.FieldType.int)) ∈ lw_all := lw_g (lw_at lw_m2 225 rfl) rfl
theorem q599 : (Jvm.Cond.static ({ cls := "java/lang/Math", name := "min", desc := "(II)I" } : Jvm.MethodName)) ∈ lw_all := lw_g (lw_at lw_m3 2 rfl) rfl
theorem q600 : (Jvm.Cond.code ({ cls := "java/lang/Math", name := "min", desc := "(II)I" } : Jvm.MethodName) prog_43_method_69_code (2 : Nat) (Option.some Jvm.ClassFile.FieldType.int)) ∈ lw_all := lw_g (lw_at lw_m3 3 rfl) rfl

/-! java/util/Arrays -/
def RJ13 : String := "java/util/Arrays"
abbrev cJ13_copyOf : ByteArray := prog_65_method_121_code
def yJ13_copyOf : MethodName := ⟨RJ13, "copyOf", "([BI)[B"⟩
def dkwJ13_copyOf_1 : List UInt8 := [27, 184, 1, 48, 184, 0, 150, 44, 176]
abbrev dktJ13_copyOf_1 : List UInt8 := dkwJ13_copyOf_1 ++ []
def dkwJ13_copyOf_0 : List UInt8 := [27, 42, 190, 160, 0, 11, 42, 182, 1, 54, 192, 1, 55, 176, 27, 188, 8, 77, 42, 3, 44, 3, 42, 190]
abbrev dktJ13_copyOf_0 : List UInt8 := dkwJ13_copyOf_0 ++ dktJ13_copyOf_1
theorem dksJ13_copyOf_0 : cJ13_copyOf.data.toList.drop 0 = dktJ13_copyOf_0 := by decide +kernel
theorem dksJ13_copyOf_1 : cJ13_copyOf.data.toList.drop 24 = dktJ13_copyOf_1 := dk_seg dksJ13_copyOf_0 24 rfl rfl
theorem dJ13_copyOf_0 : decode cJ13_copyOf 0 = .ok (.iload_n 1, 1) := dk_27 (dk_at dksJ13_copyOf_0 0 rfl rfl)
theorem dJ13_copyOf_1 : decode cJ13_copyOf 1 = .ok (.aload_n 0, 1) := dk_42 (dk_at dksJ13_copyOf_0 1 rfl rfl)
theorem dJ13_copyOf_2 : decode cJ13_copyOf 2 = .ok (.arraylength, 1) := dk_190 (dk_at dksJ13_copyOf_0 2 rfl rfl)
theorem dJ13_copyOf_3 : decode cJ13_copyOf 3 = .ok (.if_icmp .ne 11, 3) := dk_160 0 11 (dk_at dksJ13_copyOf_0 3 rfl rfl)
theorem dJ13_copyOf_6 : decode cJ13_copyOf 6 = .ok (.aload_n 0, 1) := dk_42 (dk_at dksJ13_copyOf_0 6 rfl rfl)
theorem dJ13_copyOf_7 : decode cJ13_copyOf 7 = .ok (.invokevirtual 310, 3) := dk_182 1 54 (dk_at dksJ13_copyOf_0 7 rfl rfl)
theorem dJ13_copyOf_10 : decode cJ13_copyOf 10 = .ok (.checkcast 311, 3) := dk_192 1 55 (dk_at dksJ13_copyOf_0 10 rfl rfl)
theorem dJ13_copyOf_13 : decode cJ13_copyOf 13 = .ok (.areturn, 1) := dk_176 (dk_at dksJ13_copyOf_0 13 rfl rfl)
theorem dJ13_copyOf_14 : decode cJ13_copyOf 14 = .ok (.iload_n 1, 1) := dk_27 (dk_at dksJ13_copyOf_0 14 rfl rfl)
theorem dJ13_copyOf_15 : decode cJ13_copyOf 15 = .ok (.newarray .byte, 2) := dk_188_8 (dk_at dksJ13_copyOf_0 15 rfl rfl)
theorem dJ13_copyOf_17 : decode cJ13_copyOf 17 = .ok (.astore_n 2, 1) := dk_77 (dk_at dksJ13_copyOf_0 17 rfl rfl)
theorem dJ13_copyOf_18 : decode cJ13_copyOf 18 = .ok (.aload_n 0, 1) := dk_42 (dk_at dksJ13_copyOf_0 18 rfl rfl)
theorem dJ13_copyOf_19 : decode cJ13_copyOf 19 = .ok (.iconst 0, 1) := dk_3 (dk_at dksJ13_copyOf_0 19 rfl rfl)
theorem dJ13_copyOf_20 : decode cJ13_copyOf 20 = .ok (.aload_n 2, 1) := dk_44 (dk_at dksJ13_copyOf_0 20 rfl rfl)
theorem dJ13_copyOf_21 : decode cJ13_copyOf 21 = .ok (.iconst 0, 1) := dk_3 (dk_at dksJ13_copyOf_0 21 rfl rfl)
theorem dJ13_copyOf_22 : decode cJ13_copyOf 22 = .ok (.aload_n 0, 1) := dk_42 (dk_at dksJ13_copyOf_0 22 rfl rfl)
theorem dJ13_copyOf_23 : decode cJ13_copyOf 23 = .ok (.arraylength, 1) := dk_190 (dk_at dksJ13_copyOf_0 23 rfl rfl)
theorem dJ13_copyOf_24 : decode cJ13_copyOf 24 = .ok (.iload_n 1, 1) := dk_27 (dk_at dksJ13_copyOf_1 0 rfl rfl)
theorem dJ13_copyOf_25 : decode cJ13_copyOf 25 = .ok (.invokestatic 304, 3) := dk_184 1 48 (dk_at dksJ13_copyOf_1 1 rfl rfl)
theorem dJ13_copyOf_28 : decode cJ13_copyOf 28 = .ok (.invokestatic 150, 3) := dk_184 0 150 (dk_at dksJ13_copyOf_1 4 rfl rfl)
theorem dJ13_copyOf_31 : decode cJ13_copyOf 31 = .ok (.aload_n 2, 1) := dk_44 (dk_at dksJ13_copyOf_1 7 rfl rfl)
theorem dJ13_copyOf_32 : decode cJ13_copyOf 32 = .ok (.areturn, 1) := dk_176 (dk_at dksJ13_copyOf_1 8 rfl rfl)
abbrev cJ13_copyOfRange : ByteArray := prog_65_method_132_code
def yJ13_copyOfRange : MethodName := ⟨RJ13, "copyOfRange", "([BII)[B"⟩
def dkwJ13_copyOfRange_1 : List UInt8 := [176]
abbrev dktJ13_copyOfRange_1 : List UInt8 := dkwJ13_copyOfRange_1 ++ []
def dkwJ13_copyOfRange_0 : List UInt8 := [27, 154, 0, 9, 28, 42, 190, 159, 0, 10, 42, 27, 28, 184, 1, 83, 176, 42, 182, 1, 54, 192, 1, 55]
abbrev dktJ13_copyOfRange_0 : List UInt8 := dkwJ13_copyOfRange_0 ++ dktJ13_copyOfRange_1
theorem dksJ13_copyOfRange_0 : cJ13_copyOfRange.data.toList.drop 0 = dktJ13_copyOfRange_0 := by decide +kernel
theorem dksJ13_copyOfRange_1 : cJ13_copyOfRange.data.toList.drop 24 = dktJ13_copyOfRange_1 := dk_seg dksJ13_copyOfRange_0 24 rfl rfl
theorem dJ13_copyOfRange_0 : decode cJ13_copyOfRange 0 = .ok (.iload_n 1, 1) := dk_27 (dk_at dksJ13_copyOfRange_0 0 rfl rfl)
theorem dJ13_copyOfRange_1 : decode cJ13_copyOfRange 1 = .ok (.ifCond .ne 9, 3) := dk_154 0 9 (dk_at dksJ13_copyOfRange_0 1 rfl rfl)
theorem dJ13_copyOfRange_4 : decode cJ13_copyOfRange 4 = .ok (.iload_n 2, 1) := dk_28 (dk_at dksJ13_copyOfRange_0 4 rfl rfl)
theorem dJ13_copyOfRange_5 : decode cJ13_copyOfRange 5 = .ok (.aload_n 0, 1) := dk_42 (dk_at dksJ13_copyOfRange_0 5 rfl rfl)
theorem dJ13_copyOfRange_6 : decode cJ13_copyOfRange 6 = .ok (.arraylength, 1) := dk_190 (dk_at dksJ13_copyOfRange_0 6 rfl rfl)
theorem dJ13_copyOfRange_7 : decode cJ13_copyOfRange 7 = .ok (.if_icmp .eq 10, 3) := dk_159 0 10 (dk_at dksJ13_copyOfRange_0 7 rfl rfl)
theorem dJ13_copyOfRange_10 : decode cJ13_copyOfRange 10 = .ok (.aload_n 0, 1) := dk_42 (dk_at dksJ13_copyOfRange_0 10 rfl rfl)
theorem dJ13_copyOfRange_11 : decode cJ13_copyOfRange 11 = .ok (.iload_n 1, 1) := dk_27 (dk_at dksJ13_copyOfRange_0 11 rfl rfl)
theorem dJ13_copyOfRange_12 : decode cJ13_copyOfRange 12 = .ok (.iload_n 2, 1) := dk_28 (dk_at dksJ13_copyOfRange_0 12 rfl rfl)
theorem dJ13_copyOfRange_13 : decode cJ13_copyOfRange 13 = .ok (.invokestatic 339, 3) := dk_184 1 83 (dk_at dksJ13_copyOfRange_0 13 rfl rfl)
theorem dJ13_copyOfRange_16 : decode cJ13_copyOfRange 16 = .ok (.areturn, 1) := dk_176 (dk_at dksJ13_copyOfRange_0 16 rfl rfl)
theorem dJ13_copyOfRange_17 : decode cJ13_copyOfRange 17 = .ok (.aload_n 0, 1) := dk_42 (dk_at dksJ13_copyOfRange_0 17 rfl rfl)
theorem dJ13_copyOfRange_18 : decode cJ13_copyOfRange 18 = .ok (.invokevirtual 310, 3) := dk_182 1 54 (dk_at dksJ13_copyOfRange_0 18 rfl rfl)
theorem dJ13_copyOfRange_21 : decode cJ13_copyOfRange 21 = .ok (.checkcast 311, 3) := dk_192 1 55 (dk_at dksJ13_copyOfRange_0 21 rfl rfl)
theorem dJ13_copyOfRange_24 : decode cJ13_copyOfRange 24 = .ok (.areturn, 1) := dk_176 (dk_at dksJ13_copyOfRange_1 0 rfl rfl)
abbrev cJ13_copyOfRangeByte : ByteArray := prog_65_method_133_code
def yJ13_copyOfRangeByte : MethodName := ⟨RJ13, "copyOfRangeByte", "([BII)[B"⟩
def dkwJ13_copyOfRangeByte_1 : List UInt8 := [184, 1, 48, 184, 0, 150, 25, 4, 176]
abbrev dktJ13_copyOfRangeByte_1 : List UInt8 := dkwJ13_copyOfRangeByte_1 ++ []
def dkwJ13_copyOfRangeByte_0 : List UInt8 := [27, 28, 184, 1, 87, 28, 27, 100, 62, 29, 188, 8, 58, 4, 42, 27, 25, 4, 3, 42, 190, 27, 100, 29]
abbrev dktJ13_copyOfRangeByte_0 : List UInt8 := dkwJ13_copyOfRangeByte_0 ++ dktJ13_copyOfRangeByte_1
theorem dksJ13_copyOfRangeByte_0 : cJ13_copyOfRangeByte.data.toList.drop 0 = dktJ13_copyOfRangeByte_0 := by decide +kernel
theorem dksJ13_copyOfRangeByte_1 : cJ13_copyOfRangeByte.data.toList.drop 24 = dktJ13_copyOfRangeByte_1 := dk_seg dksJ13_copyOfRangeByte_0 24 rfl rfl
theorem dJ13_copyOfRangeByte_0 : decode cJ13_copyOfRangeByte 0 = .ok (.iload_n 1, 1) := dk_27 (dk_at dksJ13_copyOfRangeByte_0 0 rfl rfl)
theorem dJ13_copyOfRangeByte_1 : decode cJ13_copyOfRangeByte 1 = .ok (.iload_n 2, 1) := dk_28 (dk_at dksJ13_copyOfRangeByte_0 1 rfl rfl)
theorem dJ13_copyOfRangeByte_2 : decode cJ13_copyOfRangeByte 2 = .ok (.invokestatic 343, 3) := dk_184 1 87 (dk_at dksJ13_copyOfRangeByte_0 2 rfl rfl)
theorem dJ13_copyOfRangeByte_5 : decode cJ13_copyOfRangeByte 5 = .ok (.iload_n 2, 1) := dk_28 (dk_at dksJ13_copyOfRangeByte_0 5 rfl rfl)
theorem dJ13_copyOfRangeByte_6 : decode cJ13_copyOfRangeByte 6 = .ok (.iload_n 1, 1) := dk_27 (dk_at dksJ13_copyOfRangeByte_0 6 rfl rfl)
theorem dJ13_copyOfRangeByte_7 : decode cJ13_copyOfRangeByte 7 = .ok (.isub, 1) := dk_100 (dk_at dksJ13_copyOfRangeByte_0 7 rfl rfl)
theorem dJ13_copyOfRangeByte_8 : decode cJ13_copyOfRangeByte 8 = .ok (.istore_n 3, 1) := dk_62 (dk_at dksJ13_copyOfRangeByte_0 8 rfl rfl)
theorem dJ13_copyOfRangeByte_9 : decode cJ13_copyOfRangeByte 9 = .ok (.iload_n 3, 1) := dk_29 (dk_at dksJ13_copyOfRangeByte_0 9 rfl rfl)
theorem dJ13_copyOfRangeByte_10 : decode cJ13_copyOfRangeByte 10 = .ok (.newarray .byte, 2) := dk_188_8 (dk_at dksJ13_copyOfRangeByte_0 10 rfl rfl)
theorem dJ13_copyOfRangeByte_12 : decode cJ13_copyOfRangeByte 12 = .ok (.astore 4, 2) := dk_58 4 (dk_at dksJ13_copyOfRangeByte_0 12 rfl rfl)
theorem dJ13_copyOfRangeByte_14 : decode cJ13_copyOfRangeByte 14 = .ok (.aload_n 0, 1) := dk_42 (dk_at dksJ13_copyOfRangeByte_0 14 rfl rfl)
theorem dJ13_copyOfRangeByte_15 : decode cJ13_copyOfRangeByte 15 = .ok (.iload_n 1, 1) := dk_27 (dk_at dksJ13_copyOfRangeByte_0 15 rfl rfl)
theorem dJ13_copyOfRangeByte_16 : decode cJ13_copyOfRangeByte 16 = .ok (.aload 4, 2) := dk_25 4 (dk_at dksJ13_copyOfRangeByte_0 16 rfl rfl)
theorem dJ13_copyOfRangeByte_18 : decode cJ13_copyOfRangeByte 18 = .ok (.iconst 0, 1) := dk_3 (dk_at dksJ13_copyOfRangeByte_0 18 rfl rfl)
theorem dJ13_copyOfRangeByte_19 : decode cJ13_copyOfRangeByte 19 = .ok (.aload_n 0, 1) := dk_42 (dk_at dksJ13_copyOfRangeByte_0 19 rfl rfl)
theorem dJ13_copyOfRangeByte_20 : decode cJ13_copyOfRangeByte 20 = .ok (.arraylength, 1) := dk_190 (dk_at dksJ13_copyOfRangeByte_0 20 rfl rfl)
theorem dJ13_copyOfRangeByte_21 : decode cJ13_copyOfRangeByte 21 = .ok (.iload_n 1, 1) := dk_27 (dk_at dksJ13_copyOfRangeByte_0 21 rfl rfl)
theorem dJ13_copyOfRangeByte_22 : decode cJ13_copyOfRangeByte 22 = .ok (.isub, 1) := dk_100 (dk_at dksJ13_copyOfRangeByte_0 22 rfl rfl)
theorem dJ13_copyOfRangeByte_23 : decode cJ13_copyOfRangeByte 23 = .ok (.iload_n 3, 1) := dk_29 (dk_at dksJ13_copyOfRangeByte_0 23 rfl rfl)
theorem dJ13_copyOfRangeByte_24 : decode cJ13_copyOfRangeByte 24 = .ok (.invokestatic 304, 3) := dk_184 1 48 (dk_at dksJ13_copyOfRangeByte_1 0 rfl rfl)
theorem dJ13_copyOfRangeByte_27 : decode cJ13_copyOfRangeByte 27 = .ok (.invokestatic 150, 3) := dk_184 0 150 (dk_at dksJ13_copyOfRangeByte_1 3 rfl rfl)
theorem dJ13_copyOfRangeByte_30 : decode cJ13_copyOfRangeByte 30 = .ok (.aload 4, 2) := dk_25 4 (dk_at dksJ13_copyOfRangeByte_1 6 rfl rfl)
theorem dJ13_copyOfRangeByte_32 : decode cJ13_copyOfRangeByte 32 = .ok (.areturn, 1) := dk_176 (dk_at dksJ13_copyOfRangeByte_1 8 rfl rfl)
abbrev cJ13_checkLength : ByteArray := prog_65_method_131_code
def yJ13_checkLength : MethodName := ⟨RJ13, "checkLength", "(II)V"⟩
def dkwJ13_checkLength_1 : List UInt8 := [182, 0, 50, 27, 182, 0, 54, 182, 0, 61, 183, 0, 65, 191, 177]
abbrev dktJ13_checkLength_1 : List UInt8 := dkwJ13_checkLength_1 ++ []
def dkwJ13_checkLength_0 : List UInt8 := [27, 26, 162, 0, 35, 187, 0, 43, 89, 187, 0, 45, 89, 183, 0, 47, 26, 182, 0, 54, 19, 1, 81]
abbrev dktJ13_checkLength_0 : List UInt8 := dkwJ13_checkLength_0 ++ dktJ13_checkLength_1
theorem dksJ13_checkLength_0 : cJ13_checkLength.data.toList.drop 0 = dktJ13_checkLength_0 := by decide +kernel
theorem dksJ13_checkLength_1 : cJ13_checkLength.data.toList.drop 23 = dktJ13_checkLength_1 := dk_seg dksJ13_checkLength_0 23 rfl rfl
theorem dJ13_checkLength_0 : decode cJ13_checkLength 0 = .ok (.iload_n 1, 1) := dk_27 (dk_at dksJ13_checkLength_0 0 rfl rfl)
theorem dJ13_checkLength_1 : decode cJ13_checkLength 1 = .ok (.iload_n 0, 1) := dk_26 (dk_at dksJ13_checkLength_0 1 rfl rfl)
theorem dJ13_checkLength_2 : decode cJ13_checkLength 2 = .ok (.if_icmp .ge 35, 3) := dk_162 0 35 (dk_at dksJ13_checkLength_0 2 rfl rfl)
theorem dJ13_checkLength_5 : decode cJ13_checkLength 5 = .ok (.new 43, 3) := dk_187 0 43 (dk_at dksJ13_checkLength_0 5 rfl rfl)
theorem dJ13_checkLength_8 : decode cJ13_checkLength 8 = .ok (.dup, 1) := dk_89 (dk_at dksJ13_checkLength_0 8 rfl rfl)
theorem dJ13_checkLength_9 : decode cJ13_checkLength 9 = .ok (.new 45, 3) := dk_187 0 45 (dk_at dksJ13_checkLength_0 9 rfl rfl)
theorem dJ13_checkLength_12 : decode cJ13_checkLength 12 = .ok (.dup, 1) := dk_89 (dk_at dksJ13_checkLength_0 12 rfl rfl)
theorem dJ13_checkLength_13 : decode cJ13_checkLength 13 = .ok (.invokespecial 47, 3) := dk_183 0 47 (dk_at dksJ13_checkLength_0 13 rfl rfl)
theorem dJ13_checkLength_16 : decode cJ13_checkLength 16 = .ok (.iload_n 0, 1) := dk_26 (dk_at dksJ13_checkLength_0 16 rfl rfl)
theorem dJ13_checkLength_17 : decode cJ13_checkLength 17 = .ok (.invokevirtual 54, 3) := dk_182 0 54 (dk_at dksJ13_checkLength_0 17 rfl rfl)
theorem dJ13_checkLength_20 : decode cJ13_checkLength 20 = .ok (.ldc_w 337, 3) := dk_19 1 81 (dk_at dksJ13_checkLength_0 20 rfl rfl)
theorem dJ13_checkLength_23 : decode cJ13_checkLength 23 = .ok (.invokevirtual 50, 3) := dk_182 0 50 (dk_at dksJ13_checkLength_1 0 rfl rfl)
theorem dJ13_checkLength_26 : decode cJ13_checkLength 26 = .ok (.iload_n 1, 1) := dk_27 (dk_at dksJ13_checkLength_1 3 rfl rfl)
theorem dJ13_checkLength_27 : decode cJ13_checkLength 27 = .ok (.invokevirtual 54, 3) := dk_182 0 54 (dk_at dksJ13_checkLength_1 4 rfl rfl)
theorem dJ13_checkLength_30 : decode cJ13_checkLength 30 = .ok (.invokevirtual 61, 3) := dk_182 0 61 (dk_at dksJ13_checkLength_1 7 rfl rfl)
theorem dJ13_checkLength_33 : decode cJ13_checkLength 33 = .ok (.invokespecial 65, 3) := dk_183 0 65 (dk_at dksJ13_checkLength_1 10 rfl rfl)
theorem dJ13_checkLength_36 : decode cJ13_checkLength 36 = .ok (.athrow, 1) := dk_191 (dk_at dksJ13_checkLength_1 13 rfl rfl)
theorem dJ13_checkLength_37 : decode cJ13_checkLength 37 = .ok (.return_, 1) := dk_177 (dk_at dksJ13_checkLength_1 14 rfl rfl)
abbrev cJ13_copyOf_2 : ByteArray := prog_65_method_119_code
def yJ13_copyOf_2 : MethodName := ⟨RJ13, "copyOf", "([Ljava/lang/Object;I)[Ljava/lang/Object;"⟩
def dkwJ13_copyOf_2_0 : List UInt8 := [42, 27, 42, 182, 0, 86, 184, 1, 44, 176]
abbrev dktJ13_copyOf_2_0 : List UInt8 := dkwJ13_copyOf_2_0 ++ []
theorem dksJ13_copyOf_2_0 : cJ13_copyOf_2.data.toList.drop 0 = dktJ13_copyOf_2_0 := by decide +kernel
theorem dJ13_copyOf_2_0 : decode cJ13_copyOf_2 0 = .ok (.aload_n 0, 1) := dk_42 (dk_at dksJ13_copyOf_2_0 0 rfl rfl)
theorem dJ13_copyOf_2_1 : decode cJ13_copyOf_2 1 = .ok (.iload_n 1, 1) := dk_27 (dk_at dksJ13_copyOf_2_0 1 rfl rfl)
theorem dJ13_copyOf_2_2 : decode cJ13_copyOf_2 2 = .ok (.aload_n 0, 1) := dk_42 (dk_at dksJ13_copyOf_2_0 2 rfl rfl)
theorem dJ13_copyOf_2_3 : decode cJ13_copyOf_2 3 = .ok (.invokevirtual 86, 3) := dk_182 0 86 (dk_at dksJ13_copyOf_2_0 3 rfl rfl)
theorem dJ13_copyOf_2_6 : decode cJ13_copyOf_2 6 = .ok (.invokestatic 300, 3) := dk_184 1 44 (dk_at dksJ13_copyOf_2_0 6 rfl rfl)
theorem dJ13_copyOf_2_9 : decode cJ13_copyOf_2 9 = .ok (.areturn, 1) := dk_176 (dk_at dksJ13_copyOf_2_0 9 rfl rfl)
abbrev cJ13_copyOf_3 : ByteArray := prog_65_method_120_code
def yJ13_copyOf_3 : MethodName := ⟨RJ13, "copyOf", "([Ljava/lang/Object;ILjava/lang/Class;)[Ljava/lang/Object;"⟩
def dkwJ13_copyOf_3_1 : List UInt8 := [78, 42, 3, 45, 3, 42, 190, 27, 184, 1, 48, 184, 0, 150, 45, 176]
abbrev dktJ13_copyOf_3_1 : List UInt8 := dkwJ13_copyOf_3_1 ++ []
def dkwJ13_copyOf_3_0 : List UInt8 := [44, 18, 110, 166, 0, 10, 27, 189, 0, 2, 167, 0, 14, 44, 182, 0, 90, 27, 184, 0, 95, 192, 0, 110]
abbrev dktJ13_copyOf_3_0 : List UInt8 := dkwJ13_copyOf_3_0 ++ dktJ13_copyOf_3_1
theorem dksJ13_copyOf_3_0 : cJ13_copyOf_3.data.toList.drop 0 = dktJ13_copyOf_3_0 := by decide +kernel
theorem dksJ13_copyOf_3_1 : cJ13_copyOf_3.data.toList.drop 24 = dktJ13_copyOf_3_1 := dk_seg dksJ13_copyOf_3_0 24 rfl rfl
theorem dJ13_copyOf_3_0 : decode cJ13_copyOf_3 0 = .ok (.aload_n 2, 1) := dk_44 (dk_at dksJ13_copyOf_3_0 0 rfl rfl)
theorem dJ13_copyOf_3_1 : decode cJ13_copyOf_3 1 = .ok (.ldc 110, 2) := dk_18 110 (dk_at dksJ13_copyOf_3_0 1 rfl rfl)
theorem dJ13_copyOf_3_3 : decode cJ13_copyOf_3 3 = .ok (.if_acmp .ne 10, 3) := dk_166 0 10 (dk_at dksJ13_copyOf_3_0 3 rfl rfl)
theorem dJ13_copyOf_3_6 : decode cJ13_copyOf_3 6 = .ok (.iload_n 1, 1) := dk_27 (dk_at dksJ13_copyOf_3_0 6 rfl rfl)
theorem dJ13_copyOf_3_7 : decode cJ13_copyOf_3 7 = .ok (.anewarray 2, 3) := dk_189 0 2 (dk_at dksJ13_copyOf_3_0 7 rfl rfl)
theorem dJ13_copyOf_3_10 : decode cJ13_copyOf_3 10 = .ok (.goto 14, 3) := dk_167 0 14 (dk_at dksJ13_copyOf_3_0 10 rfl rfl)
theorem dJ13_copyOf_3_13 : decode cJ13_copyOf_3 13 = .ok (.aload_n 2, 1) := dk_44 (dk_at dksJ13_copyOf_3_0 13 rfl rfl)
theorem dJ13_copyOf_3_14 : decode cJ13_copyOf_3 14 = .ok (.invokevirtual 90, 3) := dk_182 0 90 (dk_at dksJ13_copyOf_3_0 14 rfl rfl)
theorem dJ13_copyOf_3_17 : decode cJ13_copyOf_3 17 = .ok (.iload_n 1, 1) := dk_27 (dk_at dksJ13_copyOf_3_0 17 rfl rfl)
theorem dJ13_copyOf_3_18 : decode cJ13_copyOf_3 18 = .ok (.invokestatic 95, 3) := dk_184 0 95 (dk_at dksJ13_copyOf_3_0 18 rfl rfl)
theorem dJ13_copyOf_3_21 : decode cJ13_copyOf_3 21 = .ok (.checkcast 110, 3) := dk_192 0 110 (dk_at dksJ13_copyOf_3_0 21 rfl rfl)
theorem dJ13_copyOf_3_24 : decode cJ13_copyOf_3 24 = .ok (.astore_n 3, 1) := dk_78 (dk_at dksJ13_copyOf_3_1 0 rfl rfl)
theorem dJ13_copyOf_3_25 : decode cJ13_copyOf_3 25 = .ok (.aload_n 0, 1) := dk_42 (dk_at dksJ13_copyOf_3_1 1 rfl rfl)
theorem dJ13_copyOf_3_26 : decode cJ13_copyOf_3 26 = .ok (.iconst 0, 1) := dk_3 (dk_at dksJ13_copyOf_3_1 2 rfl rfl)
theorem dJ13_copyOf_3_27 : decode cJ13_copyOf_3 27 = .ok (.aload_n 3, 1) := dk_45 (dk_at dksJ13_copyOf_3_1 3 rfl rfl)
theorem dJ13_copyOf_3_28 : decode cJ13_copyOf_3 28 = .ok (.iconst 0, 1) := dk_3 (dk_at dksJ13_copyOf_3_1 4 rfl rfl)
theorem dJ13_copyOf_3_29 : decode cJ13_copyOf_3 29 = .ok (.aload_n 0, 1) := dk_42 (dk_at dksJ13_copyOf_3_1 5 rfl rfl)
theorem dJ13_copyOf_3_30 : decode cJ13_copyOf_3 30 = .ok (.arraylength, 1) := dk_190 (dk_at dksJ13_copyOf_3_1 6 rfl rfl)
theorem dJ13_copyOf_3_31 : decode cJ13_copyOf_3 31 = .ok (.iload_n 1, 1) := dk_27 (dk_at dksJ13_copyOf_3_1 7 rfl rfl)
theorem dJ13_copyOf_3_32 : decode cJ13_copyOf_3 32 = .ok (.invokestatic 304, 3) := dk_184 1 48 (dk_at dksJ13_copyOf_3_1 8 rfl rfl)
theorem dJ13_copyOf_3_35 : decode cJ13_copyOf_3 35 = .ok (.invokestatic 150, 3) := dk_184 0 150 (dk_at dksJ13_copyOf_3_1 11 rfl rfl)
theorem dJ13_copyOf_3_38 : decode cJ13_copyOf_3 38 = .ok (.aload_n 3, 1) := dk_45 (dk_at dksJ13_copyOf_3_1 14 rfl rfl)
theorem dJ13_copyOf_3_39 : decode cJ13_copyOf_3 39 = .ok (.areturn, 1) := dk_176 (dk_at dksJ13_copyOf_3_1 15 rfl rfl)
abbrev cJ13_copyOf_4 : ByteArray := prog_65_method_124_code
def yJ13_copyOf_4 : MethodName := ⟨RJ13, "copyOf", "([JI)[J"⟩
def dkwJ13_copyOf_4_1 : List UInt8 := [27, 184, 1, 48, 184, 0, 150, 44, 176]
abbrev dktJ13_copyOf_4_1 : List UInt8 := dkwJ13_copyOf_4_1 ++ []
def dkwJ13_copyOf_4_0 : List UInt8 := [27, 42, 190, 160, 0, 11, 42, 182, 1, 63, 192, 1, 64, 176, 27, 188, 11, 77, 42, 3, 44, 3, 42, 190]
abbrev dktJ13_copyOf_4_0 : List UInt8 := dkwJ13_copyOf_4_0 ++ dktJ13_copyOf_4_1
theorem dksJ13_copyOf_4_0 : cJ13_copyOf_4.data.toList.drop 0 = dktJ13_copyOf_4_0 := by decide +kernel
theorem dksJ13_copyOf_4_1 : cJ13_copyOf_4.data.toList.drop 24 = dktJ13_copyOf_4_1 := dk_seg dksJ13_copyOf_4_0 24 rfl rfl
theorem dJ13_copyOf_4_0 : decode cJ13_copyOf_4 0 = .ok (.iload_n 1, 1) := dk_27 (dk_at dksJ13_copyOf_4_0 0 rfl rfl)
theorem dJ13_copyOf_4_1 : decode cJ13_copyOf_4 1 = .ok (.aload_n 0, 1) := dk_42 (dk_at dksJ13_copyOf_4_0 1 rfl rfl)
theorem dJ13_copyOf_4_2 : decode cJ13_copyOf_4 2 = .ok (.arraylength, 1) := dk_190 (dk_at dksJ13_copyOf_4_0 2 rfl rfl)
theorem dJ13_copyOf_4_3 : decode cJ13_copyOf_4 3 = .ok (.if_icmp .ne 11, 3) := dk_160 0 11 (dk_at dksJ13_copyOf_4_0 3 rfl rfl)
theorem dJ13_copyOf_4_6 : decode cJ13_copyOf_4 6 = .ok (.aload_n 0, 1) := dk_42 (dk_at dksJ13_copyOf_4_0 6 rfl rfl)
theorem dJ13_copyOf_4_7 : decode cJ13_copyOf_4 7 = .ok (.invokevirtual 319, 3) := dk_182 1 63 (dk_at dksJ13_copyOf_4_0 7 rfl rfl)
theorem dJ13_copyOf_4_10 : decode cJ13_copyOf_4 10 = .ok (.checkcast 320, 3) := dk_192 1 64 (dk_at dksJ13_copyOf_4_0 10 rfl rfl)
theorem dJ13_copyOf_4_13 : decode cJ13_copyOf_4 13 = .ok (.areturn, 1) := dk_176 (dk_at dksJ13_copyOf_4_0 13 rfl rfl)
theorem dJ13_copyOf_4_14 : decode cJ13_copyOf_4 14 = .ok (.iload_n 1, 1) := dk_27 (dk_at dksJ13_copyOf_4_0 14 rfl rfl)
theorem dJ13_copyOf_4_15 : decode cJ13_copyOf_4 15 = .ok (.newarray .long, 2) := dk_188_11 (dk_at dksJ13_copyOf_4_0 15 rfl rfl)
theorem dJ13_copyOf_4_17 : decode cJ13_copyOf_4 17 = .ok (.astore_n 2, 1) := dk_77 (dk_at dksJ13_copyOf_4_0 17 rfl rfl)
theorem dJ13_copyOf_4_18 : decode cJ13_copyOf_4 18 = .ok (.aload_n 0, 1) := dk_42 (dk_at dksJ13_copyOf_4_0 18 rfl rfl)
theorem dJ13_copyOf_4_19 : decode cJ13_copyOf_4 19 = .ok (.iconst 0, 1) := dk_3 (dk_at dksJ13_copyOf_4_0 19 rfl rfl)
theorem dJ13_copyOf_4_20 : decode cJ13_copyOf_4 20 = .ok (.aload_n 2, 1) := dk_44 (dk_at dksJ13_copyOf_4_0 20 rfl rfl)
theorem dJ13_copyOf_4_21 : decode cJ13_copyOf_4 21 = .ok (.iconst 0, 1) := dk_3 (dk_at dksJ13_copyOf_4_0 21 rfl rfl)
theorem dJ13_copyOf_4_22 : decode cJ13_copyOf_4 22 = .ok (.aload_n 0, 1) := dk_42 (dk_at dksJ13_copyOf_4_0 22 rfl rfl)
theorem dJ13_copyOf_4_23 : decode cJ13_copyOf_4 23 = .ok (.arraylength, 1) := dk_190 (dk_at dksJ13_copyOf_4_0 23 rfl rfl)
theorem dJ13_copyOf_4_24 : decode cJ13_copyOf_4 24 = .ok (.iload_n 1, 1) := dk_27 (dk_at dksJ13_copyOf_4_1 0 rfl rfl)
theorem dJ13_copyOf_4_25 : decode cJ13_copyOf_4 25 = .ok (.invokestatic 304, 3) := dk_184 1 48 (dk_at dksJ13_copyOf_4_1 1 rfl rfl)
theorem dJ13_copyOf_4_28 : decode cJ13_copyOf_4 28 = .ok (.invokestatic 150, 3) := dk_184 0 150 (dk_at dksJ13_copyOf_4_1 4 rfl rfl)
theorem dJ13_copyOf_4_31 : decode cJ13_copyOf_4 31 = .ok (.aload_n 2, 1) := dk_44 (dk_at dksJ13_copyOf_4_1 7 rfl rfl)
theorem dJ13_copyOf_4_32 : decode cJ13_copyOf_4 32 = .ok (.areturn, 1) := dk_176 (dk_at dksJ13_copyOf_4_1 8 rfl rfl)
theorem q136 : (Jvm.Cond.initialized "java/util/Arrays") ∈ lw_all := lw_g (lw_at lw_m1 19 rfl) rfl
theorem q589 : (Jvm.Cond.static ({ cls := "java/util/Arrays", name := "copyOf", desc := "([BI)[B" } : Jvm.MethodName)) ∈ lw_all := lw_g (lw_at lw_m2 232 rfl) rfl
theorem q590 : (Jvm.Cond.code ({ cls := "java/util/Arrays", name := "copyOf", desc := "([BI)[B" } : Jvm.MethodName) prog_65_method_121_code (3 : Nat) (Option.some (Jvm.ClassFile.FieldType.array Jvm.ClassFile.FieldType.byte))) ∈ lw_all := lw_g (lw_at lw_m2 233 rfl) rfl
theorem q591 : (Jvm.Cond.methodLink "java/util/Arrays" (310 : Nat) ({ cls := "[B", name := "clone", desc := "()Ljava/lang/Object;" } : Jvm.MethodName)) ∈ lw_all := lw_g (lw_at lw_m2 234 rfl) rfl
theorem q597 : (Jvm.Cond.classLink "java/util/Arrays" (311 : Nat) "[B") ∈ lw_all := lw_g (lw_at lw_m3 0 rfl) rfl
theorem q598 : (Jvm.Cond.methodLink "java/util/Arrays" (304 : Nat) ({ cls := "java/lang/Math", name := "min", desc := "(II)I" } : Jvm.MethodName)) ∈ lw_all := lw_g (lw_at lw_m3 1 rfl) rfl
theorem q601 : (Jvm.Cond.methodLink "java/util/Arrays" (150 : Nat) ({ cls := "java/lang/System", name := "arraycopy", desc := "(Ljava/lang/Object;ILjava/lang/Object;II)V" } : Jvm.MethodName)) ∈ lw_all := lw_g (lw_at lw_m3 4 rfl) rfl
theorem q732 : (Jvm.Cond.static ({ cls := "java/util/Arrays", name := "copyOfRange", desc := "([BII)[B" } : Jvm.MethodName)) ∈ lw_all := lw_g (lw_at lw_m3 135 rfl) rfl
theorem q733 : (Jvm.Cond.code ({ cls := "java/util/Arrays", name := "copyOfRange", desc := "([BII)[B" } : Jvm.MethodName) prog_65_method_132_code (3 : Nat) (Option.some (Jvm.ClassFile.FieldType.array Jvm.ClassFile.FieldType.byte))) ∈ lw_all := lw_g (lw_at lw_m3 136 rfl) rfl
theorem q734 : (Jvm.Cond.methodLink "java/util/Arrays" (339 : Nat) ({ cls := "java/util/Arrays", name := "copyOfRangeByte", desc := "([BII)[B" } : Jvm.MethodName)) ∈ lw_all := lw_g (lw_at lw_m3 137 rfl) rfl
theorem q735 : (Jvm.Cond.static ({ cls := "java/util/Arrays", name := "copyOfRangeByte", desc := "([BII)[B" } : Jvm.MethodName)) ∈ lw_all := lw_g (lw_at lw_m3 138 rfl) rfl
theorem q736 : (Jvm.Cond.code ({ cls := "java/util/Arrays", name := "copyOfRangeByte", desc := "([BII)[B" } : Jvm.MethodName) prog_65_method_133_code (5 : Nat) (Option.some (Jvm.ClassFile.FieldType.array Jvm.ClassFile.FieldType.byte))) ∈ lw_all := lw_g (lw_at lw_m3 139 rfl) rfl
theorem q737 : (Jvm.Cond.methodLink "java/util/Arrays" (343 : Nat) ({ cls := "java/util/Arrays", name := "checkLength", desc := "(II)V" } : Jvm.MethodName)) ∈ lw_all := lw_g (lw_at lw_m3 140 rfl) rfl
theorem q738 : (Jvm.Cond.static ({ cls := "java/util/Arrays", name := "checkLength", desc := "(II)V" } : Jvm.MethodName)) ∈ lw_all := lw_g (lw_at lw_m3 141 rfl) rfl
theorem q739 : (Jvm.Cond.code ({ cls := "java/util/Arrays", name := "checkLength", desc := "(II)V" } : Jvm.MethodName) prog_65_method_131_code (2 : Nat) (Option.none : Option Jvm.ClassFile.FieldType)) ∈ lw_all := lw_g (lw_at lw_m3 142 rfl) rfl
theorem q740 : (Jvm.Cond.classLink "java/util/Arrays" (43 : Nat) "java/lang/IllegalArgumentException") ∈ lw_all := lw_g (lw_at lw_m3 143 rfl) rfl
theorem q751 : (Jvm.Cond.classLink "java/util/Arrays" (45 : Nat) "java/lang/StringBuilder") ∈ lw_all := lw_g (lw_at lw_m3 154 rfl) rfl
theorem q752 : (Jvm.Cond.methodLink "java/util/Arrays" (47 : Nat) ({ cls := "java/lang/StringBuilder", name := "<init>", desc := "()V" } : Jvm.MethodName)) ∈ lw_all := lw_g (lw_at lw_m3 155 rfl) rfl
theorem q753 : (Jvm.Cond.methodLink "java/util/Arrays" (54 : Nat) ({ cls := "java/lang/StringBuilder", name := "append", desc := "(I)Ljava/lang/StringBuilder;" } : Jvm.MethodName)) ∈ lw_all := lw_g (lw_at lw_m3 156 rfl) rfl
theorem q754 : (Jvm.Cond.stringRef "java/util/Arrays" (337 : Nat) " > ") ∈ lw_tbl := lw_at lw_m3 157 rfl
theorem q755 : (Jvm.Cond.methodLink "java/util/Arrays" (50 : Nat) ({ cls := "java/lang/StringBuilder", name := "append", desc := "(Ljava/lang/String;)Ljava/lang/StringBuilder;" } : Jvm.MethodName)) ∈ lw_all := lw_g (lw_at lw_m3 158 rfl) rfl
theorem q756 : (Jvm.Cond.methodLink "java/util/Arrays" (61 : Nat) ({ cls := "java/lang/StringBuilder", name := "toString", desc := "()Ljava/lang/String;" } : Jvm.MethodName)) ∈ lw_all := lw_g (lw_at lw_m3 159 rfl) rfl
theorem q757 : (Jvm.Cond.methodLink "java/util/Arrays" (65 : Nat) ({ cls := "java/lang/IllegalArgumentException", name := "<init>", desc := "(Ljava/lang/String;)V" } : Jvm.MethodName)) ∈ lw_all := lw_g (lw_at lw_m3 160 rfl) rfl
theorem q1041 : (Jvm.Cond.static ({ cls := "java/util/Arrays", name := "copyOf", desc := "([Ljava/lang/Object;I)[Ljava/lang/Object;" } : Jvm.MethodName)) ∈ lw_all := lw_g (lw_at lw_m4 204 rfl) rfl
theorem q1042 : (Jvm.Cond.code ({ cls := "java/util/Arrays", name := "copyOf", desc := "([Ljava/lang/Object;I)[Ljava/lang/Object;" } : Jvm.MethodName) prog_65_method_119_code (2 : Nat) (Option.some (Jvm.ClassFile.FieldType.array (Jvm.ClassFile.FieldType.object "java/lang/Object")))) ∈ lw_all := lw_g (lw_at lw_m4 205 rfl) rfl
theorem q1043 : (Jvm.Cond.methodLink "java/util/Arrays" (86 : Nat) ({ cls := "java/lang/Object", name := "getClass", desc := "()Ljava/lang/Class;" } : Jvm.MethodName)) ∈ lw_all := lw_g (lw_at lw_m4 206 rfl) rfl
theorem q1091 : (Jvm.Cond.methodLink "java/util/Arrays" (300 : Nat) ({ cls := "java/util/Arrays", name := "copyOf", desc := "([Ljava/lang/Object;ILjava/lang/Class;)[Ljava/lang/Object;" } : Jvm.MethodName)) ∈ lw_all := lw_g (lw_at lw_m5 14 rfl) rfl
theorem q1092 : (Jvm.Cond.static ({ cls := "java/util/Arrays", name := "copyOf", desc := "([Ljava/lang/Object;ILjava/lang/Class;)[Ljava/lang/Object;" } : Jvm.MethodName)) ∈ lw_all := lw_g (lw_at lw_m5 15 rfl) rfl
theorem q1093 : (Jvm.Cond.code ({ cls := "java/util/Arrays", name := "copyOf", desc := "([Ljava/lang/Object;ILjava/lang/Class;)[Ljava/lang/Object;" } : Jvm.MethodName) prog_65_method_120_code (4 : Nat) (Option.some (Jvm.ClassFile.FieldType.array (Jvm.ClassFile.FieldType.object "java/lang/Object")))) ∈ lw_all := lw_g (lw_at lw_m5 16 rfl) rfl
theorem q1094 : (Jvm.Cond.classLink "java/util/Arrays" (110 : Nat) "[Ljava/lang/Object;") ∈ lw_all := lw_g (lw_at lw_m5 17 rfl) rfl
theorem q1095 : (Jvm.Cond.classLink "java/util/Arrays" (2 : Nat) "java/lang/Object") ∈ lw_all := lw_g (lw_at lw_m5 18 rfl) rfl
theorem q1341 : (Jvm.Cond.static ({ cls := "java/util/Arrays", name := "copyOf", desc := "([JI)[J" } : Jvm.MethodName)) ∈ lw_all := lw_g (lw_at lw_m6 24 rfl) rfl
theorem q1342 : (Jvm.Cond.code ({ cls := "java/util/Arrays", name := "copyOf", desc := "([JI)[J" } : Jvm.MethodName) prog_65_method_124_code (3 : Nat) (Option.some (Jvm.ClassFile.FieldType.array Jvm.ClassFile.FieldType.long))) ∈ lw_all := lw_g (lw_at lw_m6 25 rfl) rfl
theorem q1343 : (Jvm.Cond.methodLink "java/util/Arrays" (319 : Nat) ({ cls := "[J", name := "clone", desc := "()Ljava/lang/Object;" } : Jvm.MethodName)) ∈ lw_all := lw_g (lw_at lw_m6 26 rfl) rfl
theorem q1347 : (Jvm.Cond.classLink "java/util/Arrays" (320 : Nat) "[J") ∈ lw_all := lw_g (lw_at lw_m6 30 rfl) rfl

/-! java/util/LinkedList$Node -/
def RJ14 : String := "java/util/LinkedList$Node"
def TJ14 : u_T := fun k => match k with
  | 0 => ("java/util/LinkedList$Node", "item", "Ljava/lang/Object;", false)
  | 1 => ("java/util/LinkedList$Node", "next", "Ljava/util/LinkedList$Node;", false)
  | _ => ("java/util/LinkedList$Node", "prev", "Ljava/util/LinkedList$Node;", false)
def tyJ14 : Nat → FieldType := fun k => match k with
  | 0 => .object "java/lang/Object"
  | 1 => .object "java/util/LinkedList$Node"
  | _ => .object "java/util/LinkedList$Node"
abbrev wsJ140 : List Cond := u_ws RJ14 TJ14 3
theorem nmJ14 : ∀ a, a < 3 → ∀ b, b < 3 → a ≠ b → (TJ14 a).2.1 ≠ (TJ14 b).2.1 := by decide +kernel
theorem tyJ14_ok : ∀ k, k < 3 → parseFieldDescriptor (TJ14 k).2.2.1 = some (tyJ14 k) := by decide +kernel
abbrev cJ14_init : ByteArray := prog_73_method_1_code
def yJ14_init : MethodName := ⟨RJ14, "<init>", "(Ljava/util/LinkedList$Node;Ljava/lang/Object;Ljava/util/LinkedList$Node;)V"⟩
def dkwJ14_init_0 : List UInt8 := [42, 183, 0, 1, 42, 44, 181, 0, 7, 42, 45, 181, 0, 13, 42, 43, 181, 0, 17, 177]
abbrev dktJ14_init_0 : List UInt8 := dkwJ14_init_0 ++ []
theorem dksJ14_init_0 : cJ14_init.data.toList.drop 0 = dktJ14_init_0 := by decide +kernel
theorem dJ14_init_0 : decode cJ14_init 0 = .ok (.aload_n 0, 1) := dk_42 (dk_at dksJ14_init_0 0 rfl rfl)
theorem dJ14_init_1 : decode cJ14_init 1 = .ok (.invokespecial 1, 3) := dk_183 0 1 (dk_at dksJ14_init_0 1 rfl rfl)
theorem dJ14_init_4 : decode cJ14_init 4 = .ok (.aload_n 0, 1) := dk_42 (dk_at dksJ14_init_0 4 rfl rfl)
theorem dJ14_init_5 : decode cJ14_init 5 = .ok (.aload_n 2, 1) := dk_44 (dk_at dksJ14_init_0 5 rfl rfl)
theorem dJ14_init_6 : decode cJ14_init 6 = .ok (.putfield 7, 3) := dk_181 0 7 (dk_at dksJ14_init_0 6 rfl rfl)
theorem dJ14_init_9 : decode cJ14_init 9 = .ok (.aload_n 0, 1) := dk_42 (dk_at dksJ14_init_0 9 rfl rfl)
theorem dJ14_init_10 : decode cJ14_init 10 = .ok (.aload_n 3, 1) := dk_45 (dk_at dksJ14_init_0 10 rfl rfl)
theorem dJ14_init_11 : decode cJ14_init 11 = .ok (.putfield 13, 3) := dk_181 0 13 (dk_at dksJ14_init_0 11 rfl rfl)
theorem dJ14_init_14 : decode cJ14_init 14 = .ok (.aload_n 0, 1) := dk_42 (dk_at dksJ14_init_0 14 rfl rfl)
theorem dJ14_init_15 : decode cJ14_init 15 = .ok (.aload_n 1, 1) := dk_43 (dk_at dksJ14_init_0 15 rfl rfl)
theorem dJ14_init_16 : decode cJ14_init 16 = .ok (.putfield 17, 3) := dk_181 0 17 (dk_at dksJ14_init_0 16 rfl rfl)
theorem dJ14_init_19 : decode cJ14_init 19 = .ok (.return_, 1) := dk_177 (dk_at dksJ14_init_0 19 rfl rfl)
theorem q138 : (Jvm.Cond.initialized "java/util/LinkedList$Node") ∈ lw_all := lw_g (lw_at lw_m1 21 rfl) rfl
theorem q1088 : (Jvm.Cond.selects "java/util/LinkedList$Node" ({ cls := "java/lang/Object", name := "getClass", desc := "()Ljava/lang/Class;" } : Jvm.MethodName) ({ cls := "java/lang/Object", name := "getClass", desc := "()Ljava/lang/Class;" } : Jvm.MethodName)) ∈ lw_all := lw_g (lw_at lw_m5 11 rfl) rfl
theorem q1108 : (Jvm.Cond.instantiable "java/util/LinkedList$Node" (3 : Nat)) ∈ lw_all := lw_g (lw_at lw_m5 31 rfl) rfl
theorem q1110 : (Jvm.Cond.instanceMethod ({ cls := "java/util/LinkedList$Node", name := "<init>", desc := "(Ljava/util/LinkedList$Node;Ljava/lang/Object;Ljava/util/LinkedList$Node;)V" } : Jvm.MethodName)) ∈ lw_all := lw_g (lw_at lw_m5 33 rfl) rfl
theorem q1111 : (Jvm.Cond.code ({ cls := "java/util/LinkedList$Node", name := "<init>", desc := "(Ljava/util/LinkedList$Node;Ljava/lang/Object;Ljava/util/LinkedList$Node;)V" } : Jvm.MethodName) prog_73_method_1_code (4 : Nat) (Option.none : Option Jvm.ClassFile.FieldType)) ∈ lw_all := lw_g (lw_at lw_m5 34 rfl) rfl
theorem q1112 : (Jvm.Cond.methodLink "java/util/LinkedList$Node" (1 : Nat) ({ cls := "java/lang/Object", name := "<init>", desc := "()V" } : Jvm.MethodName)) ∈ lw_all := lw_g (lw_at lw_m5 35 rfl) rfl
theorem q1113 : (Jvm.Cond.fieldLink "java/util/LinkedList$Node" (7 : Nat) "java/util/LinkedList$Node" "item" "Ljava/lang/Object;") ∈ lw_all := lw_g (lw_at lw_m5 36 rfl) rfl
theorem q1116 : (Jvm.Cond.fieldLink "java/util/LinkedList$Node" (13 : Nat) "java/util/LinkedList$Node" "next" "Ljava/util/LinkedList$Node;") ∈ lw_all := lw_g (lw_at lw_m5 39 rfl) rfl
theorem q1119 : (Jvm.Cond.fieldLink "java/util/LinkedList$Node" (17 : Nat) "java/util/LinkedList$Node" "prev" "Ljava/util/LinkedList$Node;") ∈ lw_all := lw_g (lw_at lw_m5 42 rfl) rfl
theorem q1122 : (Jvm.Cond.lays "java/util/LinkedList$Node" "java/util/LinkedList$Node" "item" "Ljava/lang/Object;") ∈ lw_all := lw_g (lw_at lw_m5 45 rfl) rfl
theorem q1123 : (Jvm.Cond.soleField "java/util/LinkedList$Node" "item") ∈ lw_all := lw_g (lw_at lw_m5 46 rfl) rfl
theorem q1124 : (Jvm.Cond.lays "java/util/LinkedList$Node" "java/util/LinkedList$Node" "next" "Ljava/util/LinkedList$Node;") ∈ lw_all := lw_g (lw_at lw_m5 47 rfl) rfl
theorem q1125 : (Jvm.Cond.soleField "java/util/LinkedList$Node" "next") ∈ lw_all := lw_g (lw_at lw_m5 48 rfl) rfl
theorem q1126 : (Jvm.Cond.lays "java/util/LinkedList$Node" "java/util/LinkedList$Node" "prev" "Ljava/util/LinkedList$Node;") ∈ lw_all := lw_g (lw_at lw_m5 49 rfl) rfl
theorem q1127 : (Jvm.Cond.soleField "java/util/LinkedList$Node" "prev") ∈ lw_all := lw_g (lw_at lw_m5 50 rfl) rfl
theorem q1128 : (Jvm.Cond.superclass "java/util/LinkedList$Node" "java/lang/Object") ∈ lw_all := lw_g (lw_at lw_m5 51 rfl) rfl
theorem q3485 : (Jvm.Cond.castable "java/util/LinkedList$Node" "java/lang/Object") ∈ lw_tbl := lw_at lw_m15 8 rfl
theorem in_J14 : ∀ w ∈ wsJ140, w ∈ lw_all := lw_in wsJ140 [1122, 1124, 1126] (by decide +kernel) (by decide +kernel)

/-! java/lang/AbstractStringBuilder -/
def RJ15 : String := "java/lang/AbstractStringBuilder"
abbrev cJ15_init : ByteArray := prog_30_method_2_code
def yJ15_init : MethodName := ⟨RJ15, "<init>", "(I)V"⟩
def dkwJ15_init_1 : List UInt8 := [167, 0, 16, 42, 27, 184, 0, 26, 181, 0, 15, 42, 4, 181, 0, 22, 177]
abbrev dktJ15_init_1 : List UInt8 := dkwJ15_init_1 ++ []
def dkwJ15_init_0 : List UInt8 := [42, 183, 0, 3, 178, 0, 18, 153, 0, 18, 42, 27, 188, 8, 181, 0, 15, 42, 3, 181, 0, 22]
abbrev dktJ15_init_0 : List UInt8 := dkwJ15_init_0 ++ dktJ15_init_1
theorem dksJ15_init_0 : cJ15_init.data.toList.drop 0 = dktJ15_init_0 := by decide +kernel
theorem dksJ15_init_1 : cJ15_init.data.toList.drop 22 = dktJ15_init_1 := dk_seg dksJ15_init_0 22 rfl rfl
theorem dJ15_init_0 : decode cJ15_init 0 = .ok (.aload_n 0, 1) := dk_42 (dk_at dksJ15_init_0 0 rfl rfl)
theorem dJ15_init_1 : decode cJ15_init 1 = .ok (.invokespecial 3, 3) := dk_183 0 3 (dk_at dksJ15_init_0 1 rfl rfl)
theorem dJ15_init_4 : decode cJ15_init 4 = .ok (.getstatic 18, 3) := dk_178 0 18 (dk_at dksJ15_init_0 4 rfl rfl)
theorem dJ15_init_7 : decode cJ15_init 7 = .ok (.ifCond .eq 18, 3) := dk_153 0 18 (dk_at dksJ15_init_0 7 rfl rfl)
theorem dJ15_init_10 : decode cJ15_init 10 = .ok (.aload_n 0, 1) := dk_42 (dk_at dksJ15_init_0 10 rfl rfl)
theorem dJ15_init_11 : decode cJ15_init 11 = .ok (.iload_n 1, 1) := dk_27 (dk_at dksJ15_init_0 11 rfl rfl)
theorem dJ15_init_12 : decode cJ15_init 12 = .ok (.newarray .byte, 2) := dk_188_8 (dk_at dksJ15_init_0 12 rfl rfl)
theorem dJ15_init_14 : decode cJ15_init 14 = .ok (.putfield 15, 3) := dk_181 0 15 (dk_at dksJ15_init_0 14 rfl rfl)
theorem dJ15_init_17 : decode cJ15_init 17 = .ok (.aload_n 0, 1) := dk_42 (dk_at dksJ15_init_0 17 rfl rfl)
theorem dJ15_init_18 : decode cJ15_init 18 = .ok (.iconst 0, 1) := dk_3 (dk_at dksJ15_init_0 18 rfl rfl)
theorem dJ15_init_19 : decode cJ15_init 19 = .ok (.putfield 22, 3) := dk_181 0 22 (dk_at dksJ15_init_0 19 rfl rfl)
theorem dJ15_init_22 : decode cJ15_init 22 = .ok (.goto 16, 3) := dk_167 0 16 (dk_at dksJ15_init_1 0 rfl rfl)
theorem dJ15_init_25 : decode cJ15_init 25 = .ok (.aload_n 0, 1) := dk_42 (dk_at dksJ15_init_1 3 rfl rfl)
theorem dJ15_init_26 : decode cJ15_init 26 = .ok (.iload_n 1, 1) := dk_27 (dk_at dksJ15_init_1 4 rfl rfl)
theorem dJ15_init_27 : decode cJ15_init 27 = .ok (.invokestatic 26, 3) := dk_184 0 26 (dk_at dksJ15_init_1 5 rfl rfl)
theorem dJ15_init_30 : decode cJ15_init 30 = .ok (.putfield 15, 3) := dk_181 0 15 (dk_at dksJ15_init_1 8 rfl rfl)
theorem dJ15_init_33 : decode cJ15_init 33 = .ok (.aload_n 0, 1) := dk_42 (dk_at dksJ15_init_1 11 rfl rfl)
theorem dJ15_init_34 : decode cJ15_init 34 = .ok (.iconst 1, 1) := dk_4 (dk_at dksJ15_init_1 12 rfl rfl)
theorem dJ15_init_35 : decode cJ15_init 35 = .ok (.putfield 22, 3) := dk_181 0 22 (dk_at dksJ15_init_1 13 rfl rfl)
theorem dJ15_init_38 : decode cJ15_init 38 = .ok (.return_, 1) := dk_177 (dk_at dksJ15_init_1 16 rfl rfl)
abbrev cJ15_append : ByteArray := prog_30_method_22_code
def yJ15_append : MethodName := ⟨RJ15, "append", "(Ljava/lang/String;)Ljava/lang/AbstractStringBuilder;"⟩
def dkwJ15_append_1 : List UInt8 := [42, 42, 180, 0, 79, 43, 182, 0, 208, 42, 89, 180, 0, 79, 28, 96, 181, 0, 79, 42, 176]
abbrev dktJ15_append_1 : List UInt8 := dkwJ15_append_1 ++ []
def dkwJ15_append_0 : List UInt8 := [43, 199, 0, 8, 42, 182, 0, 204, 176, 43, 182, 0, 32, 61, 42, 42, 180, 0, 79, 28, 96, 182, 0, 100]
abbrev dktJ15_append_0 : List UInt8 := dkwJ15_append_0 ++ dktJ15_append_1
theorem dksJ15_append_0 : cJ15_append.data.toList.drop 0 = dktJ15_append_0 := by decide +kernel
theorem dksJ15_append_1 : cJ15_append.data.toList.drop 24 = dktJ15_append_1 := dk_seg dksJ15_append_0 24 rfl rfl
theorem dJ15_append_0 : decode cJ15_append 0 = .ok (.aload_n 1, 1) := dk_43 (dk_at dksJ15_append_0 0 rfl rfl)
theorem dJ15_append_1 : decode cJ15_append 1 = .ok (.ifnonnull 8, 3) := dk_199 0 8 (dk_at dksJ15_append_0 1 rfl rfl)
theorem dJ15_append_4 : decode cJ15_append 4 = .ok (.aload_n 0, 1) := dk_42 (dk_at dksJ15_append_0 4 rfl rfl)
theorem dJ15_append_5 : decode cJ15_append 5 = .ok (.invokevirtual 204, 3) := dk_182 0 204 (dk_at dksJ15_append_0 5 rfl rfl)
theorem dJ15_append_8 : decode cJ15_append 8 = .ok (.areturn, 1) := dk_176 (dk_at dksJ15_append_0 8 rfl rfl)
theorem dJ15_append_9 : decode cJ15_append 9 = .ok (.aload_n 1, 1) := dk_43 (dk_at dksJ15_append_0 9 rfl rfl)
theorem dJ15_append_10 : decode cJ15_append 10 = .ok (.invokevirtual 32, 3) := dk_182 0 32 (dk_at dksJ15_append_0 10 rfl rfl)
theorem dJ15_append_13 : decode cJ15_append 13 = .ok (.istore_n 2, 1) := dk_61 (dk_at dksJ15_append_0 13 rfl rfl)
theorem dJ15_append_14 : decode cJ15_append 14 = .ok (.aload_n 0, 1) := dk_42 (dk_at dksJ15_append_0 14 rfl rfl)
theorem dJ15_append_15 : decode cJ15_append 15 = .ok (.aload_n 0, 1) := dk_42 (dk_at dksJ15_append_0 15 rfl rfl)
theorem dJ15_append_16 : decode cJ15_append 16 = .ok (.getfield 79, 3) := dk_180 0 79 (dk_at dksJ15_append_0 16 rfl rfl)
theorem dJ15_append_19 : decode cJ15_append 19 = .ok (.iload_n 2, 1) := dk_28 (dk_at dksJ15_append_0 19 rfl rfl)
theorem dJ15_append_20 : decode cJ15_append 20 = .ok (.iadd, 1) := dk_96 (dk_at dksJ15_append_0 20 rfl rfl)
theorem dJ15_append_21 : decode cJ15_append 21 = .ok (.invokevirtual 100, 3) := dk_182 0 100 (dk_at dksJ15_append_0 21 rfl rfl)
theorem dJ15_append_24 : decode cJ15_append 24 = .ok (.aload_n 0, 1) := dk_42 (dk_at dksJ15_append_1 0 rfl rfl)
theorem dJ15_append_25 : decode cJ15_append 25 = .ok (.aload_n 0, 1) := dk_42 (dk_at dksJ15_append_1 1 rfl rfl)
theorem dJ15_append_26 : decode cJ15_append 26 = .ok (.getfield 79, 3) := dk_180 0 79 (dk_at dksJ15_append_1 2 rfl rfl)
theorem dJ15_append_29 : decode cJ15_append 29 = .ok (.aload_n 1, 1) := dk_43 (dk_at dksJ15_append_1 5 rfl rfl)
theorem dJ15_append_30 : decode cJ15_append 30 = .ok (.invokevirtual 208, 3) := dk_182 0 208 (dk_at dksJ15_append_1 6 rfl rfl)
theorem dJ15_append_33 : decode cJ15_append 33 = .ok (.aload_n 0, 1) := dk_42 (dk_at dksJ15_append_1 9 rfl rfl)
theorem dJ15_append_34 : decode cJ15_append 34 = .ok (.dup, 1) := dk_89 (dk_at dksJ15_append_1 10 rfl rfl)
theorem dJ15_append_35 : decode cJ15_append 35 = .ok (.getfield 79, 3) := dk_180 0 79 (dk_at dksJ15_append_1 11 rfl rfl)
theorem dJ15_append_38 : decode cJ15_append 38 = .ok (.iload_n 2, 1) := dk_28 (dk_at dksJ15_append_1 14 rfl rfl)
theorem dJ15_append_39 : decode cJ15_append 39 = .ok (.iadd, 1) := dk_96 (dk_at dksJ15_append_1 15 rfl rfl)
theorem dJ15_append_40 : decode cJ15_append 40 = .ok (.putfield 79, 3) := dk_181 0 79 (dk_at dksJ15_append_1 16 rfl rfl)
theorem dJ15_append_43 : decode cJ15_append 43 = .ok (.aload_n 0, 1) := dk_42 (dk_at dksJ15_append_1 19 rfl rfl)
theorem dJ15_append_44 : decode cJ15_append 44 = .ok (.areturn, 1) := dk_176 (dk_at dksJ15_append_1 20 rfl rfl)
abbrev cJ15_appendNull : ByteArray := prog_30_method_26_code
def yJ15_appendNull : MethodName := ⟨RJ15, "appendNull", "()Ljava/lang/AbstractStringBuilder;"⟩
def dkwJ15_appendNull_3 : List UInt8 := [184, 0, 226, 60, 42, 27, 181, 0, 79, 42, 176]
abbrev dktJ15_appendNull_3 : List UInt8 := dkwJ15_appendNull_3 ++ []
def dkwJ15_appendNull_2 : List UInt8 := [16, 108, 84, 44, 27, 132, 1, 1, 16, 108, 84, 167, 0, 17, 44, 27, 16, 110, 16, 117, 16, 108, 16, 108]
abbrev dktJ15_appendNull_2 : List UInt8 := dkwJ15_appendNull_2 ++ dktJ15_appendNull_3
def dkwJ15_appendNull_1 : List UInt8 := [153, 0, 38, 44, 27, 132, 1, 1, 16, 110, 84, 44, 27, 132, 1, 1, 16, 117, 84, 44, 27, 132, 1, 1]
abbrev dktJ15_appendNull_1 : List UInt8 := dkwJ15_appendNull_1 ++ dktJ15_appendNull_2
def dkwJ15_appendNull_0 : List UInt8 := [42, 42, 180, 0, 79, 7, 96, 182, 0, 100, 42, 180, 0, 79, 60, 42, 180, 0, 15, 77, 42, 182, 0, 83]
abbrev dktJ15_appendNull_0 : List UInt8 := dkwJ15_appendNull_0 ++ dktJ15_appendNull_1
theorem dksJ15_appendNull_0 : cJ15_appendNull.data.toList.drop 0 = dktJ15_appendNull_0 := by decide +kernel
theorem dksJ15_appendNull_1 : cJ15_appendNull.data.toList.drop 24 = dktJ15_appendNull_1 := dk_seg dksJ15_appendNull_0 24 rfl rfl
theorem dksJ15_appendNull_2 : cJ15_appendNull.data.toList.drop 48 = dktJ15_appendNull_2 := dk_seg dksJ15_appendNull_1 24 rfl rfl
theorem dksJ15_appendNull_3 : cJ15_appendNull.data.toList.drop 72 = dktJ15_appendNull_3 := dk_seg dksJ15_appendNull_2 24 rfl rfl
theorem dJ15_appendNull_0 : decode cJ15_appendNull 0 = .ok (.aload_n 0, 1) := dk_42 (dk_at dksJ15_appendNull_0 0 rfl rfl)
theorem dJ15_appendNull_1 : decode cJ15_appendNull 1 = .ok (.aload_n 0, 1) := dk_42 (dk_at dksJ15_appendNull_0 1 rfl rfl)
theorem dJ15_appendNull_2 : decode cJ15_appendNull 2 = .ok (.getfield 79, 3) := dk_180 0 79 (dk_at dksJ15_appendNull_0 2 rfl rfl)
theorem dJ15_appendNull_5 : decode cJ15_appendNull 5 = .ok (.iconst 4, 1) := dk_7 (dk_at dksJ15_appendNull_0 5 rfl rfl)
theorem dJ15_appendNull_6 : decode cJ15_appendNull 6 = .ok (.iadd, 1) := dk_96 (dk_at dksJ15_appendNull_0 6 rfl rfl)
theorem dJ15_appendNull_7 : decode cJ15_appendNull 7 = .ok (.invokevirtual 100, 3) := dk_182 0 100 (dk_at dksJ15_appendNull_0 7 rfl rfl)
theorem dJ15_appendNull_10 : decode cJ15_appendNull 10 = .ok (.aload_n 0, 1) := dk_42 (dk_at dksJ15_appendNull_0 10 rfl rfl)
theorem dJ15_appendNull_11 : decode cJ15_appendNull 11 = .ok (.getfield 79, 3) := dk_180 0 79 (dk_at dksJ15_appendNull_0 11 rfl rfl)
theorem dJ15_appendNull_14 : decode cJ15_appendNull 14 = .ok (.istore_n 1, 1) := dk_60 (dk_at dksJ15_appendNull_0 14 rfl rfl)
theorem dJ15_appendNull_15 : decode cJ15_appendNull 15 = .ok (.aload_n 0, 1) := dk_42 (dk_at dksJ15_appendNull_0 15 rfl rfl)
theorem dJ15_appendNull_16 : decode cJ15_appendNull 16 = .ok (.getfield 15, 3) := dk_180 0 15 (dk_at dksJ15_appendNull_0 16 rfl rfl)
theorem dJ15_appendNull_19 : decode cJ15_appendNull 19 = .ok (.astore_n 2, 1) := dk_77 (dk_at dksJ15_appendNull_0 19 rfl rfl)
theorem dJ15_appendNull_20 : decode cJ15_appendNull 20 = .ok (.aload_n 0, 1) := dk_42 (dk_at dksJ15_appendNull_0 20 rfl rfl)
theorem dJ15_appendNull_21 : decode cJ15_appendNull 21 = .ok (.invokevirtual 83, 3) := dk_182 0 83 (dk_at dksJ15_appendNull_0 21 rfl rfl)
theorem dJ15_appendNull_24 : decode cJ15_appendNull 24 = .ok (.ifCond .eq 38, 3) := dk_153 0 38 (dk_at dksJ15_appendNull_1 0 rfl rfl)
theorem dJ15_appendNull_27 : decode cJ15_appendNull 27 = .ok (.aload_n 2, 1) := dk_44 (dk_at dksJ15_appendNull_1 3 rfl rfl)
theorem dJ15_appendNull_28 : decode cJ15_appendNull 28 = .ok (.iload_n 1, 1) := dk_27 (dk_at dksJ15_appendNull_1 4 rfl rfl)
theorem dJ15_appendNull_29 : decode cJ15_appendNull 29 = .ok (.iinc 1 1, 3) := dk_132 1 1 (dk_at dksJ15_appendNull_1 5 rfl rfl)
theorem dJ15_appendNull_32 : decode cJ15_appendNull 32 = .ok (.bipush 110, 2) := dk_16 110 (dk_at dksJ15_appendNull_1 8 rfl rfl)
theorem dJ15_appendNull_34 : decode cJ15_appendNull 34 = .ok (.bastore, 1) := dk_84 (dk_at dksJ15_appendNull_1 10 rfl rfl)
theorem dJ15_appendNull_35 : decode cJ15_appendNull 35 = .ok (.aload_n 2, 1) := dk_44 (dk_at dksJ15_appendNull_1 11 rfl rfl)
theorem dJ15_appendNull_36 : decode cJ15_appendNull 36 = .ok (.iload_n 1, 1) := dk_27 (dk_at dksJ15_appendNull_1 12 rfl rfl)
theorem dJ15_appendNull_37 : decode cJ15_appendNull 37 = .ok (.iinc 1 1, 3) := dk_132 1 1 (dk_at dksJ15_appendNull_1 13 rfl rfl)
theorem dJ15_appendNull_40 : decode cJ15_appendNull 40 = .ok (.bipush 117, 2) := dk_16 117 (dk_at dksJ15_appendNull_1 16 rfl rfl)
theorem dJ15_appendNull_42 : decode cJ15_appendNull 42 = .ok (.bastore, 1) := dk_84 (dk_at dksJ15_appendNull_1 18 rfl rfl)
theorem dJ15_appendNull_43 : decode cJ15_appendNull 43 = .ok (.aload_n 2, 1) := dk_44 (dk_at dksJ15_appendNull_1 19 rfl rfl)
theorem dJ15_appendNull_44 : decode cJ15_appendNull 44 = .ok (.iload_n 1, 1) := dk_27 (dk_at dksJ15_appendNull_1 20 rfl rfl)
theorem dJ15_appendNull_45 : decode cJ15_appendNull 45 = .ok (.iinc 1 1, 3) := dk_132 1 1 (dk_at dksJ15_appendNull_1 21 rfl rfl)
theorem dJ15_appendNull_48 : decode cJ15_appendNull 48 = .ok (.bipush 108, 2) := dk_16 108 (dk_at dksJ15_appendNull_2 0 rfl rfl)
theorem dJ15_appendNull_50 : decode cJ15_appendNull 50 = .ok (.bastore, 1) := dk_84 (dk_at dksJ15_appendNull_2 2 rfl rfl)
theorem dJ15_appendNull_51 : decode cJ15_appendNull 51 = .ok (.aload_n 2, 1) := dk_44 (dk_at dksJ15_appendNull_2 3 rfl rfl)
theorem dJ15_appendNull_52 : decode cJ15_appendNull 52 = .ok (.iload_n 1, 1) := dk_27 (dk_at dksJ15_appendNull_2 4 rfl rfl)
theorem dJ15_appendNull_53 : decode cJ15_appendNull 53 = .ok (.iinc 1 1, 3) := dk_132 1 1 (dk_at dksJ15_appendNull_2 5 rfl rfl)
theorem dJ15_appendNull_56 : decode cJ15_appendNull 56 = .ok (.bipush 108, 2) := dk_16 108 (dk_at dksJ15_appendNull_2 8 rfl rfl)
theorem dJ15_appendNull_58 : decode cJ15_appendNull 58 = .ok (.bastore, 1) := dk_84 (dk_at dksJ15_appendNull_2 10 rfl rfl)
theorem dJ15_appendNull_59 : decode cJ15_appendNull 59 = .ok (.goto 17, 3) := dk_167 0 17 (dk_at dksJ15_appendNull_2 11 rfl rfl)
theorem dJ15_appendNull_62 : decode cJ15_appendNull 62 = .ok (.aload_n 2, 1) := dk_44 (dk_at dksJ15_appendNull_2 14 rfl rfl)
theorem dJ15_appendNull_63 : decode cJ15_appendNull 63 = .ok (.iload_n 1, 1) := dk_27 (dk_at dksJ15_appendNull_2 15 rfl rfl)
theorem dJ15_appendNull_64 : decode cJ15_appendNull 64 = .ok (.bipush 110, 2) := dk_16 110 (dk_at dksJ15_appendNull_2 16 rfl rfl)
theorem dJ15_appendNull_66 : decode cJ15_appendNull 66 = .ok (.bipush 117, 2) := dk_16 117 (dk_at dksJ15_appendNull_2 18 rfl rfl)
theorem dJ15_appendNull_68 : decode cJ15_appendNull 68 = .ok (.bipush 108, 2) := dk_16 108 (dk_at dksJ15_appendNull_2 20 rfl rfl)
theorem dJ15_appendNull_70 : decode cJ15_appendNull 70 = .ok (.bipush 108, 2) := dk_16 108 (dk_at dksJ15_appendNull_2 22 rfl rfl)
theorem dJ15_appendNull_72 : decode cJ15_appendNull 72 = .ok (.invokestatic 226, 3) := dk_184 0 226 (dk_at dksJ15_appendNull_3 0 rfl rfl)
theorem dJ15_appendNull_75 : decode cJ15_appendNull 75 = .ok (.istore_n 1, 1) := dk_60 (dk_at dksJ15_appendNull_3 3 rfl rfl)
theorem dJ15_appendNull_76 : decode cJ15_appendNull 76 = .ok (.aload_n 0, 1) := dk_42 (dk_at dksJ15_appendNull_3 4 rfl rfl)
theorem dJ15_appendNull_77 : decode cJ15_appendNull 77 = .ok (.iload_n 1, 1) := dk_27 (dk_at dksJ15_appendNull_3 5 rfl rfl)
theorem dJ15_appendNull_78 : decode cJ15_appendNull 78 = .ok (.putfield 79, 3) := dk_181 0 79 (dk_at dksJ15_appendNull_3 6 rfl rfl)
theorem dJ15_appendNull_81 : decode cJ15_appendNull 81 = .ok (.aload_n 0, 1) := dk_42 (dk_at dksJ15_appendNull_3 9 rfl rfl)
theorem dJ15_appendNull_82 : decode cJ15_appendNull 82 = .ok (.areturn, 1) := dk_176 (dk_at dksJ15_appendNull_3 10 rfl rfl)
abbrev cJ15_ensureCapacityInternal : ByteArray := prog_30_method_9_code
def yJ15_ensureCapacityInternal : MethodName := ⟨RJ15, "ensureCapacityInternal", "(I)V"⟩
def dkwJ15_ensureCapacityInternal_1 : List UInt8 := [182, 0, 104, 42, 180, 0, 22, 120, 184, 0, 108, 181, 0, 15, 177]
abbrev dktJ15_ensureCapacityInternal_1 : List UInt8 := dkwJ15_ensureCapacityInternal_1 ++ []
def dkwJ15_ensureCapacityInternal_0 : List UInt8 := [42, 180, 0, 15, 190, 42, 180, 0, 22, 122, 61, 27, 28, 100, 158, 0, 24, 42, 42, 180, 0, 15, 42, 27]
abbrev dktJ15_ensureCapacityInternal_0 : List UInt8 := dkwJ15_ensureCapacityInternal_0 ++ dktJ15_ensureCapacityInternal_1
theorem dksJ15_ensureCapacityInternal_0 : cJ15_ensureCapacityInternal.data.toList.drop 0 = dktJ15_ensureCapacityInternal_0 := by decide +kernel
theorem dksJ15_ensureCapacityInternal_1 : cJ15_ensureCapacityInternal.data.toList.drop 24 = dktJ15_ensureCapacityInternal_1 := dk_seg dksJ15_ensureCapacityInternal_0 24 rfl rfl
theorem dJ15_ensureCapacityInternal_0 : decode cJ15_ensureCapacityInternal 0 = .ok (.aload_n 0, 1) := dk_42 (dk_at dksJ15_ensureCapacityInternal_0 0 rfl rfl)
theorem dJ15_ensureCapacityInternal_1 : decode cJ15_ensureCapacityInternal 1 = .ok (.getfield 15, 3) := dk_180 0 15 (dk_at dksJ15_ensureCapacityInternal_0 1 rfl rfl)
theorem dJ15_ensureCapacityInternal_4 : decode cJ15_ensureCapacityInternal 4 = .ok (.arraylength, 1) := dk_190 (dk_at dksJ15_ensureCapacityInternal_0 4 rfl rfl)
theorem dJ15_ensureCapacityInternal_5 : decode cJ15_ensureCapacityInternal 5 = .ok (.aload_n 0, 1) := dk_42 (dk_at dksJ15_ensureCapacityInternal_0 5 rfl rfl)
theorem dJ15_ensureCapacityInternal_6 : decode cJ15_ensureCapacityInternal 6 = .ok (.getfield 22, 3) := dk_180 0 22 (dk_at dksJ15_ensureCapacityInternal_0 6 rfl rfl)
theorem dJ15_ensureCapacityInternal_9 : decode cJ15_ensureCapacityInternal 9 = .ok (.ishr, 1) := dk_122 (dk_at dksJ15_ensureCapacityInternal_0 9 rfl rfl)
theorem dJ15_ensureCapacityInternal_10 : decode cJ15_ensureCapacityInternal 10 = .ok (.istore_n 2, 1) := dk_61 (dk_at dksJ15_ensureCapacityInternal_0 10 rfl rfl)
theorem dJ15_ensureCapacityInternal_11 : decode cJ15_ensureCapacityInternal 11 = .ok (.iload_n 1, 1) := dk_27 (dk_at dksJ15_ensureCapacityInternal_0 11 rfl rfl)
theorem dJ15_ensureCapacityInternal_12 : decode cJ15_ensureCapacityInternal 12 = .ok (.iload_n 2, 1) := dk_28 (dk_at dksJ15_ensureCapacityInternal_0 12 rfl rfl)
theorem dJ15_ensureCapacityInternal_13 : decode cJ15_ensureCapacityInternal 13 = .ok (.isub, 1) := dk_100 (dk_at dksJ15_ensureCapacityInternal_0 13 rfl rfl)
theorem dJ15_ensureCapacityInternal_14 : decode cJ15_ensureCapacityInternal 14 = .ok (.ifCond .le 24, 3) := dk_158 0 24 (dk_at dksJ15_ensureCapacityInternal_0 14 rfl rfl)
theorem dJ15_ensureCapacityInternal_17 : decode cJ15_ensureCapacityInternal 17 = .ok (.aload_n 0, 1) := dk_42 (dk_at dksJ15_ensureCapacityInternal_0 17 rfl rfl)
theorem dJ15_ensureCapacityInternal_18 : decode cJ15_ensureCapacityInternal 18 = .ok (.aload_n 0, 1) := dk_42 (dk_at dksJ15_ensureCapacityInternal_0 18 rfl rfl)
theorem dJ15_ensureCapacityInternal_19 : decode cJ15_ensureCapacityInternal 19 = .ok (.getfield 15, 3) := dk_180 0 15 (dk_at dksJ15_ensureCapacityInternal_0 19 rfl rfl)
theorem dJ15_ensureCapacityInternal_22 : decode cJ15_ensureCapacityInternal 22 = .ok (.aload_n 0, 1) := dk_42 (dk_at dksJ15_ensureCapacityInternal_0 22 rfl rfl)
theorem dJ15_ensureCapacityInternal_23 : decode cJ15_ensureCapacityInternal 23 = .ok (.iload_n 1, 1) := dk_27 (dk_at dksJ15_ensureCapacityInternal_0 23 rfl rfl)
theorem dJ15_ensureCapacityInternal_24 : decode cJ15_ensureCapacityInternal 24 = .ok (.invokevirtual 104, 3) := dk_182 0 104 (dk_at dksJ15_ensureCapacityInternal_1 0 rfl rfl)
theorem dJ15_ensureCapacityInternal_27 : decode cJ15_ensureCapacityInternal 27 = .ok (.aload_n 0, 1) := dk_42 (dk_at dksJ15_ensureCapacityInternal_1 3 rfl rfl)
theorem dJ15_ensureCapacityInternal_28 : decode cJ15_ensureCapacityInternal 28 = .ok (.getfield 22, 3) := dk_180 0 22 (dk_at dksJ15_ensureCapacityInternal_1 4 rfl rfl)
theorem dJ15_ensureCapacityInternal_31 : decode cJ15_ensureCapacityInternal 31 = .ok (.ishl, 1) := dk_120 (dk_at dksJ15_ensureCapacityInternal_1 7 rfl rfl)
theorem dJ15_ensureCapacityInternal_32 : decode cJ15_ensureCapacityInternal 32 = .ok (.invokestatic 108, 3) := dk_184 0 108 (dk_at dksJ15_ensureCapacityInternal_1 8 rfl rfl)
theorem dJ15_ensureCapacityInternal_35 : decode cJ15_ensureCapacityInternal 35 = .ok (.putfield 15, 3) := dk_181 0 15 (dk_at dksJ15_ensureCapacityInternal_1 11 rfl rfl)
theorem dJ15_ensureCapacityInternal_38 : decode cJ15_ensureCapacityInternal 38 = .ok (.return_, 1) := dk_177 (dk_at dksJ15_ensureCapacityInternal_1 14 rfl rfl)
abbrev cJ15_newCapacity : ByteArray := prog_30_method_10_code
def yJ15_newCapacity : MethodName := ⟨RJ15, "newCapacity", "(I)I"⟩
def dkwJ15_newCapacity_2 : List UInt8 := [183, 0, 124, 191, 21, 5, 42, 180, 0, 22, 122, 172]
abbrev dktJ15_newCapacity_2 : List UInt8 := dkwJ15_newCapacity_2 ++ []
def dkwJ15_newCapacity_1 : List UInt8 := [180, 0, 22, 120, 96, 184, 0, 114, 54, 5, 21, 5, 18, 39, 160, 0, 13, 187, 0, 120, 89, 18, 122]
abbrev dktJ15_newCapacity_1 : List UInt8 := dkwJ15_newCapacity_1 ++ dktJ15_newCapacity_2
def dkwJ15_newCapacity_0 : List UInt8 := [42, 180, 0, 15, 190, 61, 27, 42, 180, 0, 22, 120, 62, 29, 28, 100, 54, 4, 28, 21, 4, 28, 5, 42]
abbrev dktJ15_newCapacity_0 : List UInt8 := dkwJ15_newCapacity_0 ++ dktJ15_newCapacity_1
theorem dksJ15_newCapacity_0 : cJ15_newCapacity.data.toList.drop 0 = dktJ15_newCapacity_0 := by decide +kernel
theorem dksJ15_newCapacity_1 : cJ15_newCapacity.data.toList.drop 24 = dktJ15_newCapacity_1 := dk_seg dksJ15_newCapacity_0 24 rfl rfl
theorem dksJ15_newCapacity_2 : cJ15_newCapacity.data.toList.drop 47 = dktJ15_newCapacity_2 := dk_seg dksJ15_newCapacity_1 23 rfl rfl
theorem dJ15_newCapacity_0 : decode cJ15_newCapacity 0 = .ok (.aload_n 0, 1) := dk_42 (dk_at dksJ15_newCapacity_0 0 rfl rfl)
theorem dJ15_newCapacity_1 : decode cJ15_newCapacity 1 = .ok (.getfield 15, 3) := dk_180 0 15 (dk_at dksJ15_newCapacity_0 1 rfl rfl)
theorem dJ15_newCapacity_4 : decode cJ15_newCapacity 4 = .ok (.arraylength, 1) := dk_190 (dk_at dksJ15_newCapacity_0 4 rfl rfl)
theorem dJ15_newCapacity_5 : decode cJ15_newCapacity 5 = .ok (.istore_n 2, 1) := dk_61 (dk_at dksJ15_newCapacity_0 5 rfl rfl)
theorem dJ15_newCapacity_6 : decode cJ15_newCapacity 6 = .ok (.iload_n 1, 1) := dk_27 (dk_at dksJ15_newCapacity_0 6 rfl rfl)
theorem dJ15_newCapacity_7 : decode cJ15_newCapacity 7 = .ok (.aload_n 0, 1) := dk_42 (dk_at dksJ15_newCapacity_0 7 rfl rfl)
theorem dJ15_newCapacity_8 : decode cJ15_newCapacity 8 = .ok (.getfield 22, 3) := dk_180 0 22 (dk_at dksJ15_newCapacity_0 8 rfl rfl)
theorem dJ15_newCapacity_11 : decode cJ15_newCapacity 11 = .ok (.ishl, 1) := dk_120 (dk_at dksJ15_newCapacity_0 11 rfl rfl)
theorem dJ15_newCapacity_12 : decode cJ15_newCapacity 12 = .ok (.istore_n 3, 1) := dk_62 (dk_at dksJ15_newCapacity_0 12 rfl rfl)
theorem dJ15_newCapacity_13 : decode cJ15_newCapacity 13 = .ok (.iload_n 3, 1) := dk_29 (dk_at dksJ15_newCapacity_0 13 rfl rfl)
theorem dJ15_newCapacity_14 : decode cJ15_newCapacity 14 = .ok (.iload_n 2, 1) := dk_28 (dk_at dksJ15_newCapacity_0 14 rfl rfl)
theorem dJ15_newCapacity_15 : decode cJ15_newCapacity 15 = .ok (.isub, 1) := dk_100 (dk_at dksJ15_newCapacity_0 15 rfl rfl)
theorem dJ15_newCapacity_16 : decode cJ15_newCapacity 16 = .ok (.istore 4, 2) := dk_54 4 (dk_at dksJ15_newCapacity_0 16 rfl rfl)
theorem dJ15_newCapacity_18 : decode cJ15_newCapacity 18 = .ok (.iload_n 2, 1) := dk_28 (dk_at dksJ15_newCapacity_0 18 rfl rfl)
theorem dJ15_newCapacity_19 : decode cJ15_newCapacity 19 = .ok (.iload 4, 2) := dk_21 4 (dk_at dksJ15_newCapacity_0 19 rfl rfl)
theorem dJ15_newCapacity_21 : decode cJ15_newCapacity 21 = .ok (.iload_n 2, 1) := dk_28 (dk_at dksJ15_newCapacity_0 21 rfl rfl)
theorem dJ15_newCapacity_22 : decode cJ15_newCapacity 22 = .ok (.iconst 2, 1) := dk_5 (dk_at dksJ15_newCapacity_0 22 rfl rfl)
theorem dJ15_newCapacity_23 : decode cJ15_newCapacity 23 = .ok (.aload_n 0, 1) := dk_42 (dk_at dksJ15_newCapacity_0 23 rfl rfl)
theorem dJ15_newCapacity_24 : decode cJ15_newCapacity 24 = .ok (.getfield 22, 3) := dk_180 0 22 (dk_at dksJ15_newCapacity_1 0 rfl rfl)
theorem dJ15_newCapacity_27 : decode cJ15_newCapacity 27 = .ok (.ishl, 1) := dk_120 (dk_at dksJ15_newCapacity_1 3 rfl rfl)
theorem dJ15_newCapacity_28 : decode cJ15_newCapacity 28 = .ok (.iadd, 1) := dk_96 (dk_at dksJ15_newCapacity_1 4 rfl rfl)
theorem dJ15_newCapacity_29 : decode cJ15_newCapacity 29 = .ok (.invokestatic 114, 3) := dk_184 0 114 (dk_at dksJ15_newCapacity_1 5 rfl rfl)
theorem dJ15_newCapacity_32 : decode cJ15_newCapacity 32 = .ok (.istore 5, 2) := dk_54 5 (dk_at dksJ15_newCapacity_1 8 rfl rfl)
theorem dJ15_newCapacity_34 : decode cJ15_newCapacity 34 = .ok (.iload 5, 2) := dk_21 5 (dk_at dksJ15_newCapacity_1 10 rfl rfl)
theorem dJ15_newCapacity_36 : decode cJ15_newCapacity 36 = .ok (.ldc 39, 2) := dk_18 39 (dk_at dksJ15_newCapacity_1 12 rfl rfl)
theorem dJ15_newCapacity_38 : decode cJ15_newCapacity 38 = .ok (.if_icmp .ne 13, 3) := dk_160 0 13 (dk_at dksJ15_newCapacity_1 14 rfl rfl)
theorem dJ15_newCapacity_41 : decode cJ15_newCapacity 41 = .ok (.new 120, 3) := dk_187 0 120 (dk_at dksJ15_newCapacity_1 17 rfl rfl)
theorem dJ15_newCapacity_44 : decode cJ15_newCapacity 44 = .ok (.dup, 1) := dk_89 (dk_at dksJ15_newCapacity_1 20 rfl rfl)
theorem dJ15_newCapacity_45 : decode cJ15_newCapacity 45 = .ok (.ldc 122, 2) := dk_18 122 (dk_at dksJ15_newCapacity_1 21 rfl rfl)
theorem dJ15_newCapacity_47 : decode cJ15_newCapacity 47 = .ok (.invokespecial 124, 3) := dk_183 0 124 (dk_at dksJ15_newCapacity_2 0 rfl rfl)
theorem dJ15_newCapacity_50 : decode cJ15_newCapacity 50 = .ok (.athrow, 1) := dk_191 (dk_at dksJ15_newCapacity_2 3 rfl rfl)
theorem dJ15_newCapacity_51 : decode cJ15_newCapacity 51 = .ok (.iload 5, 2) := dk_21 5 (dk_at dksJ15_newCapacity_2 4 rfl rfl)
theorem dJ15_newCapacity_53 : decode cJ15_newCapacity 53 = .ok (.aload_n 0, 1) := dk_42 (dk_at dksJ15_newCapacity_2 6 rfl rfl)
theorem dJ15_newCapacity_54 : decode cJ15_newCapacity 54 = .ok (.getfield 22, 3) := dk_180 0 22 (dk_at dksJ15_newCapacity_2 7 rfl rfl)
theorem dJ15_newCapacity_57 : decode cJ15_newCapacity 57 = .ok (.ishr, 1) := dk_122 (dk_at dksJ15_newCapacity_2 10 rfl rfl)
theorem dJ15_newCapacity_58 : decode cJ15_newCapacity 58 = .ok (.ireturn, 1) := dk_172 (dk_at dksJ15_newCapacity_2 11 rfl rfl)
abbrev cJ15_isLatin1 : ByteArray := prog_30_method_68_code
def yJ15_isLatin1 : MethodName := ⟨RJ15, "isLatin1", "()Z"⟩
def dkwJ15_isLatin1_0 : List UInt8 := [178, 0, 18, 153, 0, 14, 42, 180, 0, 22, 154, 0, 7, 4, 167, 0, 4, 3, 172]
abbrev dktJ15_isLatin1_0 : List UInt8 := dkwJ15_isLatin1_0 ++ []
theorem dksJ15_isLatin1_0 : cJ15_isLatin1.data.toList.drop 0 = dktJ15_isLatin1_0 := by decide +kernel
theorem dJ15_isLatin1_0 : decode cJ15_isLatin1 0 = .ok (.getstatic 18, 3) := dk_178 0 18 (dk_at dksJ15_isLatin1_0 0 rfl rfl)
theorem dJ15_isLatin1_3 : decode cJ15_isLatin1 3 = .ok (.ifCond .eq 14, 3) := dk_153 0 14 (dk_at dksJ15_isLatin1_0 3 rfl rfl)
theorem dJ15_isLatin1_6 : decode cJ15_isLatin1 6 = .ok (.aload_n 0, 1) := dk_42 (dk_at dksJ15_isLatin1_0 6 rfl rfl)
theorem dJ15_isLatin1_7 : decode cJ15_isLatin1 7 = .ok (.getfield 22, 3) := dk_180 0 22 (dk_at dksJ15_isLatin1_0 7 rfl rfl)
theorem dJ15_isLatin1_10 : decode cJ15_isLatin1 10 = .ok (.ifCond .ne 7, 3) := dk_154 0 7 (dk_at dksJ15_isLatin1_0 10 rfl rfl)
theorem dJ15_isLatin1_13 : decode cJ15_isLatin1 13 = .ok (.iconst 1, 1) := dk_4 (dk_at dksJ15_isLatin1_0 13 rfl rfl)
theorem dJ15_isLatin1_14 : decode cJ15_isLatin1 14 = .ok (.goto 4, 3) := dk_167 0 4 (dk_at dksJ15_isLatin1_0 14 rfl rfl)
theorem dJ15_isLatin1_17 : decode cJ15_isLatin1 17 = .ok (.iconst 0, 1) := dk_3 (dk_at dksJ15_isLatin1_0 17 rfl rfl)
theorem dJ15_isLatin1_18 : decode cJ15_isLatin1 18 = .ok (.ireturn, 1) := dk_172 (dk_at dksJ15_isLatin1_0 18 rfl rfl)
abbrev cJ15_putStringAt : ByteArray := prog_30_method_73_code
def yJ15_putStringAt : MethodName := ⟨RJ15, "putStringAt", "(ILjava/lang/String;)V"⟩
def dkwJ15_putStringAt_0 : List UInt8 := [42, 44, 182, 1, 141, 44, 42, 180, 0, 15, 27, 42, 180, 0, 22, 182, 1, 143, 177]
abbrev dktJ15_putStringAt_0 : List UInt8 := dkwJ15_putStringAt_0 ++ []
theorem dksJ15_putStringAt_0 : cJ15_putStringAt.data.toList.drop 0 = dktJ15_putStringAt_0 := by decide +kernel
theorem dJ15_putStringAt_0 : decode cJ15_putStringAt 0 = .ok (.aload_n 0, 1) := dk_42 (dk_at dksJ15_putStringAt_0 0 rfl rfl)
theorem dJ15_putStringAt_1 : decode cJ15_putStringAt 1 = .ok (.aload_n 2, 1) := dk_44 (dk_at dksJ15_putStringAt_0 1 rfl rfl)
theorem dJ15_putStringAt_2 : decode cJ15_putStringAt 2 = .ok (.invokevirtual 397, 3) := dk_182 1 141 (dk_at dksJ15_putStringAt_0 2 rfl rfl)
theorem dJ15_putStringAt_5 : decode cJ15_putStringAt 5 = .ok (.aload_n 2, 1) := dk_44 (dk_at dksJ15_putStringAt_0 5 rfl rfl)
theorem dJ15_putStringAt_6 : decode cJ15_putStringAt 6 = .ok (.aload_n 0, 1) := dk_42 (dk_at dksJ15_putStringAt_0 6 rfl rfl)
theorem dJ15_putStringAt_7 : decode cJ15_putStringAt 7 = .ok (.getfield 15, 3) := dk_180 0 15 (dk_at dksJ15_putStringAt_0 7 rfl rfl)
theorem dJ15_putStringAt_10 : decode cJ15_putStringAt 10 = .ok (.iload_n 1, 1) := dk_27 (dk_at dksJ15_putStringAt_0 10 rfl rfl)
theorem dJ15_putStringAt_11 : decode cJ15_putStringAt 11 = .ok (.aload_n 0, 1) := dk_42 (dk_at dksJ15_putStringAt_0 11 rfl rfl)
theorem dJ15_putStringAt_12 : decode cJ15_putStringAt 12 = .ok (.getfield 22, 3) := dk_180 0 22 (dk_at dksJ15_putStringAt_0 12 rfl rfl)
theorem dJ15_putStringAt_15 : decode cJ15_putStringAt 15 = .ok (.invokevirtual 399, 3) := dk_182 1 143 (dk_at dksJ15_putStringAt_0 15 rfl rfl)
theorem dJ15_putStringAt_18 : decode cJ15_putStringAt 18 = .ok (.return_, 1) := dk_177 (dk_at dksJ15_putStringAt_0 18 rfl rfl)
abbrev cJ15_inflateIfNeededFor : ByteArray := prog_30_method_71_code
def yJ15_inflateIfNeededFor : MethodName := ⟨RJ15, "inflateIfNeededFor", "(Ljava/lang/String;)V"⟩
def dkwJ15_inflateIfNeededFor_0 : List UInt8 := [178, 0, 18, 153, 0, 18, 42, 180, 0, 22, 43, 182, 0, 40, 159, 0, 7, 42, 182, 0, 195, 177]
abbrev dktJ15_inflateIfNeededFor_0 : List UInt8 := dkwJ15_inflateIfNeededFor_0 ++ []
theorem dksJ15_inflateIfNeededFor_0 : cJ15_inflateIfNeededFor.data.toList.drop 0 = dktJ15_inflateIfNeededFor_0 := by decide +kernel
theorem dJ15_inflateIfNeededFor_0 : decode cJ15_inflateIfNeededFor 0 = .ok (.getstatic 18, 3) := dk_178 0 18 (dk_at dksJ15_inflateIfNeededFor_0 0 rfl rfl)
theorem dJ15_inflateIfNeededFor_3 : decode cJ15_inflateIfNeededFor 3 = .ok (.ifCond .eq 18, 3) := dk_153 0 18 (dk_at dksJ15_inflateIfNeededFor_0 3 rfl rfl)
theorem dJ15_inflateIfNeededFor_6 : decode cJ15_inflateIfNeededFor 6 = .ok (.aload_n 0, 1) := dk_42 (dk_at dksJ15_inflateIfNeededFor_0 6 rfl rfl)
theorem dJ15_inflateIfNeededFor_7 : decode cJ15_inflateIfNeededFor 7 = .ok (.getfield 22, 3) := dk_180 0 22 (dk_at dksJ15_inflateIfNeededFor_0 7 rfl rfl)
theorem dJ15_inflateIfNeededFor_10 : decode cJ15_inflateIfNeededFor 10 = .ok (.aload_n 1, 1) := dk_43 (dk_at dksJ15_inflateIfNeededFor_0 10 rfl rfl)
theorem dJ15_inflateIfNeededFor_11 : decode cJ15_inflateIfNeededFor 11 = .ok (.invokevirtual 40, 3) := dk_182 0 40 (dk_at dksJ15_inflateIfNeededFor_0 11 rfl rfl)
theorem dJ15_inflateIfNeededFor_14 : decode cJ15_inflateIfNeededFor 14 = .ok (.if_icmp .eq 7, 3) := dk_159 0 7 (dk_at dksJ15_inflateIfNeededFor_0 14 rfl rfl)
theorem dJ15_inflateIfNeededFor_17 : decode cJ15_inflateIfNeededFor 17 = .ok (.aload_n 0, 1) := dk_42 (dk_at dksJ15_inflateIfNeededFor_0 17 rfl rfl)
theorem dJ15_inflateIfNeededFor_18 : decode cJ15_inflateIfNeededFor 18 = .ok (.invokevirtual 195, 3) := dk_182 0 195 (dk_at dksJ15_inflateIfNeededFor_0 18 rfl rfl)
theorem dJ15_inflateIfNeededFor_21 : decode cJ15_inflateIfNeededFor 21 = .ok (.return_, 1) := dk_177 (dk_at dksJ15_inflateIfNeededFor_0 21 rfl rfl)
abbrev cJ15_inflate : ByteArray := prog_30_method_11_code
def yJ15_inflate : MethodName := ⟨RJ15, "inflate", "()V"⟩
def dkwJ15_inflate_1 : List UInt8 := [42, 180, 0, 79, 184, 0, 125, 42, 43, 181, 0, 15, 42, 4, 181, 0, 22, 177]
abbrev dktJ15_inflate_1 : List UInt8 := dkwJ15_inflate_1 ++ []
def dkwJ15_inflate_0 : List UInt8 := [42, 182, 0, 83, 154, 0, 4, 177, 42, 180, 0, 15, 190, 184, 0, 26, 76, 42, 180, 0, 15, 3, 43, 3]
abbrev dktJ15_inflate_0 : List UInt8 := dkwJ15_inflate_0 ++ dktJ15_inflate_1
theorem dksJ15_inflate_0 : cJ15_inflate.data.toList.drop 0 = dktJ15_inflate_0 := by decide +kernel
theorem dksJ15_inflate_1 : cJ15_inflate.data.toList.drop 24 = dktJ15_inflate_1 := dk_seg dksJ15_inflate_0 24 rfl rfl
theorem dJ15_inflate_0 : decode cJ15_inflate 0 = .ok (.aload_n 0, 1) := dk_42 (dk_at dksJ15_inflate_0 0 rfl rfl)
theorem dJ15_inflate_1 : decode cJ15_inflate 1 = .ok (.invokevirtual 83, 3) := dk_182 0 83 (dk_at dksJ15_inflate_0 1 rfl rfl)
theorem dJ15_inflate_4 : decode cJ15_inflate 4 = .ok (.ifCond .ne 4, 3) := dk_154 0 4 (dk_at dksJ15_inflate_0 4 rfl rfl)
theorem dJ15_inflate_7 : decode cJ15_inflate 7 = .ok (.return_, 1) := dk_177 (dk_at dksJ15_inflate_0 7 rfl rfl)
theorem dJ15_inflate_8 : decode cJ15_inflate 8 = .ok (.aload_n 0, 1) := dk_42 (dk_at dksJ15_inflate_0 8 rfl rfl)
theorem dJ15_inflate_9 : decode cJ15_inflate 9 = .ok (.getfield 15, 3) := dk_180 0 15 (dk_at dksJ15_inflate_0 9 rfl rfl)
theorem dJ15_inflate_12 : decode cJ15_inflate 12 = .ok (.arraylength, 1) := dk_190 (dk_at dksJ15_inflate_0 12 rfl rfl)
theorem dJ15_inflate_13 : decode cJ15_inflate 13 = .ok (.invokestatic 26, 3) := dk_184 0 26 (dk_at dksJ15_inflate_0 13 rfl rfl)
theorem dJ15_inflate_16 : decode cJ15_inflate 16 = .ok (.astore_n 1, 1) := dk_76 (dk_at dksJ15_inflate_0 16 rfl rfl)
theorem dJ15_inflate_17 : decode cJ15_inflate 17 = .ok (.aload_n 0, 1) := dk_42 (dk_at dksJ15_inflate_0 17 rfl rfl)
theorem dJ15_inflate_18 : decode cJ15_inflate 18 = .ok (.getfield 15, 3) := dk_180 0 15 (dk_at dksJ15_inflate_0 18 rfl rfl)
theorem dJ15_inflate_21 : decode cJ15_inflate 21 = .ok (.iconst 0, 1) := dk_3 (dk_at dksJ15_inflate_0 21 rfl rfl)
theorem dJ15_inflate_22 : decode cJ15_inflate 22 = .ok (.aload_n 1, 1) := dk_43 (dk_at dksJ15_inflate_0 22 rfl rfl)
theorem dJ15_inflate_23 : decode cJ15_inflate 23 = .ok (.iconst 0, 1) := dk_3 (dk_at dksJ15_inflate_0 23 rfl rfl)
theorem dJ15_inflate_24 : decode cJ15_inflate 24 = .ok (.aload_n 0, 1) := dk_42 (dk_at dksJ15_inflate_1 0 rfl rfl)
theorem dJ15_inflate_25 : decode cJ15_inflate 25 = .ok (.getfield 79, 3) := dk_180 0 79 (dk_at dksJ15_inflate_1 1 rfl rfl)
theorem dJ15_inflate_28 : decode cJ15_inflate 28 = .ok (.invokestatic 125, 3) := dk_184 0 125 (dk_at dksJ15_inflate_1 4 rfl rfl)
theorem dJ15_inflate_31 : decode cJ15_inflate 31 = .ok (.aload_n 0, 1) := dk_42 (dk_at dksJ15_inflate_1 7 rfl rfl)
theorem dJ15_inflate_32 : decode cJ15_inflate 32 = .ok (.aload_n 1, 1) := dk_43 (dk_at dksJ15_inflate_1 8 rfl rfl)
theorem dJ15_inflate_33 : decode cJ15_inflate 33 = .ok (.putfield 15, 3) := dk_181 0 15 (dk_at dksJ15_inflate_1 9 rfl rfl)
theorem dJ15_inflate_36 : decode cJ15_inflate 36 = .ok (.aload_n 0, 1) := dk_42 (dk_at dksJ15_inflate_1 12 rfl rfl)
theorem dJ15_inflate_37 : decode cJ15_inflate 37 = .ok (.iconst 1, 1) := dk_4 (dk_at dksJ15_inflate_1 13 rfl rfl)
theorem dJ15_inflate_38 : decode cJ15_inflate 38 = .ok (.putfield 22, 3) := dk_181 0 22 (dk_at dksJ15_inflate_1 14 rfl rfl)
theorem dJ15_inflate_41 : decode cJ15_inflate 41 = .ok (.return_, 1) := dk_177 (dk_at dksJ15_inflate_1 17 rfl rfl)
abbrev cJ15_append_2 : ByteArray := prog_30_method_32_code
def yJ15_append_2 : MethodName := ⟨RJ15, "append", "(I)Ljava/lang/AbstractStringBuilder;"⟩
def dkwJ15_append_2_2 : List UInt8 := [42, 29, 181, 0, 79, 42, 176]
abbrev dktJ15_append_2_2 : List UInt8 := dkwJ15_append_2_2 ++ []
def dkwJ15_append_2_1 : List UInt8 := [27, 29, 42, 180, 0, 15, 184, 0, 248, 87, 167, 0, 14, 27, 28, 29, 42, 180, 0, 15, 184, 0, 251, 87]
abbrev dktJ15_append_2_1 : List UInt8 := dkwJ15_append_2_1 ++ dktJ15_append_2_2
def dkwJ15_append_2_0 : List UInt8 := [42, 180, 0, 79, 61, 28, 27, 184, 0, 245, 96, 62, 42, 29, 182, 0, 100, 42, 182, 0, 83, 153, 0, 16]
abbrev dktJ15_append_2_0 : List UInt8 := dkwJ15_append_2_0 ++ dktJ15_append_2_1
theorem dksJ15_append_2_0 : cJ15_append_2.data.toList.drop 0 = dktJ15_append_2_0 := by decide +kernel
theorem dksJ15_append_2_1 : cJ15_append_2.data.toList.drop 24 = dktJ15_append_2_1 := dk_seg dksJ15_append_2_0 24 rfl rfl
theorem dksJ15_append_2_2 : cJ15_append_2.data.toList.drop 48 = dktJ15_append_2_2 := dk_seg dksJ15_append_2_1 24 rfl rfl
theorem dJ15_append_2_0 : decode cJ15_append_2 0 = .ok (.aload_n 0, 1) := dk_42 (dk_at dksJ15_append_2_0 0 rfl rfl)
theorem dJ15_append_2_1 : decode cJ15_append_2 1 = .ok (.getfield 79, 3) := dk_180 0 79 (dk_at dksJ15_append_2_0 1 rfl rfl)
theorem dJ15_append_2_4 : decode cJ15_append_2 4 = .ok (.istore_n 2, 1) := dk_61 (dk_at dksJ15_append_2_0 4 rfl rfl)
theorem dJ15_append_2_5 : decode cJ15_append_2 5 = .ok (.iload_n 2, 1) := dk_28 (dk_at dksJ15_append_2_0 5 rfl rfl)
theorem dJ15_append_2_6 : decode cJ15_append_2 6 = .ok (.iload_n 1, 1) := dk_27 (dk_at dksJ15_append_2_0 6 rfl rfl)
theorem dJ15_append_2_7 : decode cJ15_append_2 7 = .ok (.invokestatic 245, 3) := dk_184 0 245 (dk_at dksJ15_append_2_0 7 rfl rfl)
theorem dJ15_append_2_10 : decode cJ15_append_2 10 = .ok (.iadd, 1) := dk_96 (dk_at dksJ15_append_2_0 10 rfl rfl)
theorem dJ15_append_2_11 : decode cJ15_append_2 11 = .ok (.istore_n 3, 1) := dk_62 (dk_at dksJ15_append_2_0 11 rfl rfl)
theorem dJ15_append_2_12 : decode cJ15_append_2 12 = .ok (.aload_n 0, 1) := dk_42 (dk_at dksJ15_append_2_0 12 rfl rfl)
theorem dJ15_append_2_13 : decode cJ15_append_2 13 = .ok (.iload_n 3, 1) := dk_29 (dk_at dksJ15_append_2_0 13 rfl rfl)
theorem dJ15_append_2_14 : decode cJ15_append_2 14 = .ok (.invokevirtual 100, 3) := dk_182 0 100 (dk_at dksJ15_append_2_0 14 rfl rfl)
theorem dJ15_append_2_17 : decode cJ15_append_2 17 = .ok (.aload_n 0, 1) := dk_42 (dk_at dksJ15_append_2_0 17 rfl rfl)
theorem dJ15_append_2_18 : decode cJ15_append_2 18 = .ok (.invokevirtual 83, 3) := dk_182 0 83 (dk_at dksJ15_append_2_0 18 rfl rfl)
theorem dJ15_append_2_21 : decode cJ15_append_2 21 = .ok (.ifCond .eq 16, 3) := dk_153 0 16 (dk_at dksJ15_append_2_0 21 rfl rfl)
theorem dJ15_append_2_24 : decode cJ15_append_2 24 = .ok (.iload_n 1, 1) := dk_27 (dk_at dksJ15_append_2_1 0 rfl rfl)
theorem dJ15_append_2_25 : decode cJ15_append_2 25 = .ok (.iload_n 3, 1) := dk_29 (dk_at dksJ15_append_2_1 1 rfl rfl)
theorem dJ15_append_2_26 : decode cJ15_append_2 26 = .ok (.aload_n 0, 1) := dk_42 (dk_at dksJ15_append_2_1 2 rfl rfl)
theorem dJ15_append_2_27 : decode cJ15_append_2 27 = .ok (.getfield 15, 3) := dk_180 0 15 (dk_at dksJ15_append_2_1 3 rfl rfl)
theorem dJ15_append_2_30 : decode cJ15_append_2 30 = .ok (.invokestatic 248, 3) := dk_184 0 248 (dk_at dksJ15_append_2_1 6 rfl rfl)
theorem dJ15_append_2_33 : decode cJ15_append_2 33 = .ok (.pop, 1) := dk_87 (dk_at dksJ15_append_2_1 9 rfl rfl)
theorem dJ15_append_2_34 : decode cJ15_append_2 34 = .ok (.goto 14, 3) := dk_167 0 14 (dk_at dksJ15_append_2_1 10 rfl rfl)
theorem dJ15_append_2_37 : decode cJ15_append_2 37 = .ok (.iload_n 1, 1) := dk_27 (dk_at dksJ15_append_2_1 13 rfl rfl)
theorem dJ15_append_2_38 : decode cJ15_append_2 38 = .ok (.iload_n 2, 1) := dk_28 (dk_at dksJ15_append_2_1 14 rfl rfl)
theorem dJ15_append_2_39 : decode cJ15_append_2 39 = .ok (.iload_n 3, 1) := dk_29 (dk_at dksJ15_append_2_1 15 rfl rfl)
theorem dJ15_append_2_40 : decode cJ15_append_2 40 = .ok (.aload_n 0, 1) := dk_42 (dk_at dksJ15_append_2_1 16 rfl rfl)
theorem dJ15_append_2_41 : decode cJ15_append_2 41 = .ok (.getfield 15, 3) := dk_180 0 15 (dk_at dksJ15_append_2_1 17 rfl rfl)
theorem dJ15_append_2_44 : decode cJ15_append_2 44 = .ok (.invokestatic 251, 3) := dk_184 0 251 (dk_at dksJ15_append_2_1 20 rfl rfl)
theorem dJ15_append_2_47 : decode cJ15_append_2 47 = .ok (.pop, 1) := dk_87 (dk_at dksJ15_append_2_1 23 rfl rfl)
theorem dJ15_append_2_48 : decode cJ15_append_2 48 = .ok (.aload_n 0, 1) := dk_42 (dk_at dksJ15_append_2_2 0 rfl rfl)
theorem dJ15_append_2_49 : decode cJ15_append_2 49 = .ok (.iload_n 3, 1) := dk_29 (dk_at dksJ15_append_2_2 1 rfl rfl)
theorem dJ15_append_2_50 : decode cJ15_append_2 50 = .ok (.putfield 79, 3) := dk_181 0 79 (dk_at dksJ15_append_2_2 2 rfl rfl)
theorem dJ15_append_2_53 : decode cJ15_append_2 53 = .ok (.aload_n 0, 1) := dk_42 (dk_at dksJ15_append_2_2 5 rfl rfl)
theorem dJ15_append_2_54 : decode cJ15_append_2 54 = .ok (.areturn, 1) := dk_176 (dk_at dksJ15_append_2_2 6 rfl rfl)
abbrev cJ15_getValue : ByteArray := prog_30_method_64_code
def yJ15_getValue : MethodName := ⟨RJ15, "getValue", "()[B"⟩
theorem dJ15_getValue_0 : decode cJ15_getValue 0 = .ok (.aload_n 0, 1) := by decide +kernel
theorem dJ15_getValue_1 : decode cJ15_getValue 1 = .ok (.getfield 15, 3) := by decide +kernel
theorem dJ15_getValue_4 : decode cJ15_getValue 4 = .ok (.areturn, 1) := by decide +kernel
abbrev cJ15_length : ByteArray := prog_30_method_6_code
def yJ15_length : MethodName := ⟨RJ15, "length", "()I"⟩
theorem dJ15_length_0 : decode cJ15_length 0 = .ok (.aload_n 0, 1) := by decide +kernel
theorem dJ15_length_1 : decode cJ15_length 1 = .ok (.getfield 79, 3) := by decide +kernel
theorem dJ15_length_4 : decode cJ15_length 4 = .ok (.ireturn, 1) := by decide +kernel
theorem q153 : (Jvm.Cond.initialized "java/lang/AbstractStringBuilder") ∈ lw_all := lw_g (lw_at lw_m1 36 rfl) rfl
theorem q531 : (Jvm.Cond.instanceMethod ({ cls := "java/lang/AbstractStringBuilder", name := "<init>", desc := "(I)V" } : Jvm.MethodName)) ∈ lw_all := lw_g (lw_at lw_m2 174 rfl) rfl
theorem q532 : (Jvm.Cond.code ({ cls := "java/lang/AbstractStringBuilder", name := "<init>", desc := "(I)V" } : Jvm.MethodName) prog_30_method_2_code (2 : Nat) (Option.none : Option Jvm.ClassFile.FieldType)) ∈ lw_all := lw_g (lw_at lw_m2 175 rfl) rfl
theorem q533 : (Jvm.Cond.methodLink "java/lang/AbstractStringBuilder" (3 : Nat) ({ cls := "java/lang/Object", name := "<init>", desc := "()V" } : Jvm.MethodName)) ∈ lw_all := lw_g (lw_at lw_m2 176 rfl) rfl
theorem q534 : (Jvm.Cond.fieldLink "java/lang/AbstractStringBuilder" (18 : Nat) "java/lang/String" "COMPACT_STRINGS" "Z") ∈ lw_all := lw_g (lw_at lw_m2 177 rfl) rfl
theorem q536 : (Jvm.Cond.methodLink "java/lang/AbstractStringBuilder" (26 : Nat) ({ cls := "java/lang/StringUTF16", name := "newBytesFor", desc := "(I)[B" } : Jvm.MethodName)) ∈ lw_all := lw_g (lw_at lw_m2 179 rfl) rfl
theorem q543 : (Jvm.Cond.fieldLink "java/lang/AbstractStringBuilder" (15 : Nat) "java/lang/AbstractStringBuilder" "value" "[B") ∈ lw_all := lw_g (lw_at lw_m2 186 rfl) rfl
theorem q544 : (Jvm.Cond.fieldLink "java/lang/AbstractStringBuilder" (22 : Nat) "java/lang/AbstractStringBuilder" "coder" "B") ∈ lw_all := lw_g (lw_at lw_m2 187 rfl) rfl
theorem q546 : (Jvm.Cond.fieldLink "java/lang/AbstractStringBuilder" (79 : Nat) "java/lang/AbstractStringBuilder" "count" "I") ∈ lw_all := lw_g (lw_at lw_m2 189 rfl) rfl
theorem q548 : (Jvm.Cond.soleField "java/lang/AbstractStringBuilder" "value") ∈ lw_all := lw_g (lw_at lw_m2 191 rfl) rfl
theorem q550 : (Jvm.Cond.soleField "java/lang/AbstractStringBuilder" "coder") ∈ lw_all := lw_g (lw_at lw_m2 193 rfl) rfl
theorem q552 : (Jvm.Cond.soleField "java/lang/AbstractStringBuilder" "maybeLatin1") ∈ lw_all := lw_g (lw_at lw_m2 195 rfl) rfl
theorem q554 : (Jvm.Cond.soleField "java/lang/AbstractStringBuilder" "count") ∈ lw_all := lw_g (lw_at lw_m2 197 rfl) rfl
theorem q563 : (Jvm.Cond.instanceMethod ({ cls := "java/lang/AbstractStringBuilder", name := "append", desc := "(Ljava/lang/String;)Ljava/lang/AbstractStringBuilder;" } : Jvm.MethodName)) ∈ lw_all := lw_g (lw_at lw_m2 206 rfl) rfl
theorem q564 : (Jvm.Cond.code ({ cls := "java/lang/AbstractStringBuilder", name := "append", desc := "(Ljava/lang/String;)Ljava/lang/AbstractStringBuilder;" } : Jvm.MethodName) prog_30_method_22_code (3 : Nat) (Option.some (Jvm.ClassFile.FieldType.object "java/lang/AbstractStringBuilder"))) ∈ lw_all := lw_g (lw_at lw_m2 207 rfl) rfl
theorem q565 : (Jvm.Cond.methodLink "java/lang/AbstractStringBuilder" (204 : Nat) ({ cls := "java/lang/AbstractStringBuilder", name := "appendNull", desc := "()Ljava/lang/AbstractStringBuilder;" } : Jvm.MethodName)) ∈ lw_all := lw_g (lw_at lw_m2 208 rfl) rfl
theorem q566 : (Jvm.Cond.privateMethod ({ cls := "java/lang/AbstractStringBuilder", name := "appendNull", desc := "()Ljava/lang/AbstractStringBuilder;" } : Jvm.MethodName)) ∈ lw_tbl := lw_at lw_m2 209 rfl
theorem q567 : (Jvm.Cond.instanceMethod ({ cls := "java/lang/AbstractStringBuilder", name := "appendNull", desc := "()Ljava/lang/AbstractStringBuilder;" } : Jvm.MethodName)) ∈ lw_all := lw_g (lw_at lw_m2 210 rfl) rfl
theorem q568 : (Jvm.Cond.code ({ cls := "java/lang/AbstractStringBuilder", name := "appendNull", desc := "()Ljava/lang/AbstractStringBuilder;" } : Jvm.MethodName) prog_30_method_26_code (3 : Nat) (Option.some (Jvm.ClassFile.FieldType.object "java/lang/AbstractStringBuilder"))) ∈ lw_all := lw_g (lw_at lw_m2 211 rfl) rfl
theorem q569 : (Jvm.Cond.methodLink "java/lang/AbstractStringBuilder" (100 : Nat) ({ cls := "java/lang/AbstractStringBuilder", name := "ensureCapacityInternal", desc := "(I)V" } : Jvm.MethodName)) ∈ lw_all := lw_g (lw_at lw_m2 212 rfl) rfl
theorem q570 : (Jvm.Cond.privateMethod ({ cls := "java/lang/AbstractStringBuilder", name := "ensureCapacityInternal", desc := "(I)V" } : Jvm.MethodName)) ∈ lw_tbl := lw_at lw_m2 213 rfl
theorem q571 : (Jvm.Cond.instanceMethod ({ cls := "java/lang/AbstractStringBuilder", name := "ensureCapacityInternal", desc := "(I)V" } : Jvm.MethodName)) ∈ lw_all := lw_g (lw_at lw_m2 214 rfl) rfl
theorem q572 : (Jvm.Cond.code ({ cls := "java/lang/AbstractStringBuilder", name := "ensureCapacityInternal", desc := "(I)V" } : Jvm.MethodName) prog_30_method_9_code (3 : Nat) (Option.none : Option Jvm.ClassFile.FieldType)) ∈ lw_all := lw_g (lw_at lw_m2 215 rfl) rfl
theorem q573 : (Jvm.Cond.methodLink "java/lang/AbstractStringBuilder" (104 : Nat) ({ cls := "java/lang/AbstractStringBuilder", name := "newCapacity", desc := "(I)I" } : Jvm.MethodName)) ∈ lw_all := lw_g (lw_at lw_m2 216 rfl) rfl
theorem q574 : (Jvm.Cond.privateMethod ({ cls := "java/lang/AbstractStringBuilder", name := "newCapacity", desc := "(I)I" } : Jvm.MethodName)) ∈ lw_tbl := lw_at lw_m2 217 rfl
theorem q575 : (Jvm.Cond.instanceMethod ({ cls := "java/lang/AbstractStringBuilder", name := "newCapacity", desc := "(I)I" } : Jvm.MethodName)) ∈ lw_all := lw_g (lw_at lw_m2 218 rfl) rfl
theorem q576 : (Jvm.Cond.code ({ cls := "java/lang/AbstractStringBuilder", name := "newCapacity", desc := "(I)I" } : Jvm.MethodName) prog_30_method_10_code (6 : Nat) (Option.some Jvm.ClassFile.FieldType.int)) ∈ lw_all := lw_g (lw_at lw_m2 219 rfl) rfl
theorem q577 : (Jvm.Cond.methodLink "java/lang/AbstractStringBuilder" (114 : Nat) ({ cls := "jdk/internal/util/ArraysSupport", name := "newLength", desc := "(III)I" } : Jvm.MethodName)) ∈ lw_all := lw_g (lw_at lw_m2 220 rfl) rfl
theorem q587 : (Jvm.Cond.constant "java/lang/AbstractStringBuilder" (39 : Nat) (2147483647 : Int32)) ∈ lw_all := lw_g (lw_at lw_m2 230 rfl) rfl
theorem q588 : (Jvm.Cond.methodLink "java/lang/AbstractStringBuilder" (108 : Nat) ({ cls := "java/util/Arrays", name := "copyOf", desc := "([BI)[B" } : Jvm.MethodName)) ∈ lw_all := lw_g (lw_at lw_m2 231 rfl) rfl
theorem q604 : (Jvm.Cond.methodLink "java/lang/AbstractStringBuilder" (83 : Nat) ({ cls := "java/lang/AbstractStringBuilder", name := "isLatin1", desc := "()Z" } : Jvm.MethodName)) ∈ lw_all := lw_g (lw_at lw_m3 7 rfl) rfl
theorem q605 : (Jvm.Cond.instanceMethod ({ cls := "java/lang/AbstractStringBuilder", name := "isLatin1", desc := "()Z" } : Jvm.MethodName)) ∈ lw_all := lw_g (lw_at lw_m3 8 rfl) rfl
theorem q606 : (Jvm.Cond.sameMethod "java/lang/AbstractStringBuilder" "java/lang/AbstractStringBuilder" "isLatin1" "()Z") ∈ lw_all := lw_g (lw_at lw_m3 9 rfl) rfl
theorem q608 : (Jvm.Cond.code ({ cls := "java/lang/AbstractStringBuilder", name := "isLatin1", desc := "()Z" } : Jvm.MethodName) prog_30_method_68_code (1 : Nat) (Option.some Jvm.ClassFile.FieldType.boolean)) ∈ lw_all := lw_g (lw_at lw_m3 11 rfl) rfl
theorem q609 : (Jvm.Cond.methodLink "java/lang/AbstractStringBuilder" (226 : Nat) ({ cls := "java/lang/StringUTF16", name := "putCharsAt", desc := "([BICCCC)I" } : Jvm.MethodName)) ∈ lw_all := lw_g (lw_at lw_m3 12 rfl) rfl
theorem q635 : (Jvm.Cond.methodLink "java/lang/AbstractStringBuilder" (32 : Nat) ({ cls := "java/lang/String", name := "length", desc := "()I" } : Jvm.MethodName)) ∈ lw_all := lw_g (lw_at lw_m3 38 rfl) rfl
theorem q644 : (Jvm.Cond.methodLink "java/lang/AbstractStringBuilder" (208 : Nat) ({ cls := "java/lang/AbstractStringBuilder", name := "putStringAt", desc := "(ILjava/lang/String;)V" } : Jvm.MethodName)) ∈ lw_all := lw_g (lw_at lw_m3 47 rfl) rfl
theorem q645 : (Jvm.Cond.privateMethod ({ cls := "java/lang/AbstractStringBuilder", name := "putStringAt", desc := "(ILjava/lang/String;)V" } : Jvm.MethodName)) ∈ lw_tbl := lw_at lw_m3 48 rfl
theorem q646 : (Jvm.Cond.instanceMethod ({ cls := "java/lang/AbstractStringBuilder", name := "putStringAt", desc := "(ILjava/lang/String;)V" } : Jvm.MethodName)) ∈ lw_all := lw_g (lw_at lw_m3 49 rfl) rfl
theorem q647 : (Jvm.Cond.code ({ cls := "java/lang/AbstractStringBuilder", name := "putStringAt", desc := "(ILjava/lang/String;)V" } : Jvm.MethodName) prog_30_method_73_code (3 : Nat) (Option.none : Option Jvm.ClassFile.FieldType)) ∈ lw_all := lw_g (lw_at lw_m3 50 rfl) rfl
theorem q648 : (Jvm.Cond.methodLink "java/lang/AbstractStringBuilder" (397 : Nat) ({ cls := "java/lang/AbstractStringBuilder", name := "inflateIfNeededFor", desc := "(Ljava/lang/String;)V" } : Jvm.MethodName)) ∈ lw_all := lw_g (lw_at lw_m3 51 rfl) rfl
theorem q649 : (Jvm.Cond.privateMethod ({ cls := "java/lang/AbstractStringBuilder", name := "inflateIfNeededFor", desc := "(Ljava/lang/String;)V" } : Jvm.MethodName)) ∈ lw_tbl := lw_at lw_m3 52 rfl
theorem q650 : (Jvm.Cond.instanceMethod ({ cls := "java/lang/AbstractStringBuilder", name := "inflateIfNeededFor", desc := "(Ljava/lang/String;)V" } : Jvm.MethodName)) ∈ lw_all := lw_g (lw_at lw_m3 53 rfl) rfl
theorem q651 : (Jvm.Cond.code ({ cls := "java/lang/AbstractStringBuilder", name := "inflateIfNeededFor", desc := "(Ljava/lang/String;)V" } : Jvm.MethodName) prog_30_method_71_code (2 : Nat) (Option.none : Option Jvm.ClassFile.FieldType)) ∈ lw_all := lw_g (lw_at lw_m3 54 rfl) rfl
theorem q652 : (Jvm.Cond.methodLink "java/lang/AbstractStringBuilder" (40 : Nat) ({ cls := "java/lang/String", name := "coder", desc := "()B" } : Jvm.MethodName)) ∈ lw_all := lw_g (lw_at lw_m3 55 rfl) rfl
theorem q653 : (Jvm.Cond.methodLink "java/lang/AbstractStringBuilder" (195 : Nat) ({ cls := "java/lang/AbstractStringBuilder", name := "inflate", desc := "()V" } : Jvm.MethodName)) ∈ lw_all := lw_g (lw_at lw_m3 56 rfl) rfl
theorem q654 : (Jvm.Cond.privateMethod ({ cls := "java/lang/AbstractStringBuilder", name := "inflate", desc := "()V" } : Jvm.MethodName)) ∈ lw_tbl := lw_at lw_m3 57 rfl
theorem q655 : (Jvm.Cond.instanceMethod ({ cls := "java/lang/AbstractStringBuilder", name := "inflate", desc := "()V" } : Jvm.MethodName)) ∈ lw_all := lw_g (lw_at lw_m3 58 rfl) rfl
theorem q656 : (Jvm.Cond.code ({ cls := "java/lang/AbstractStringBuilder", name := "inflate", desc := "()V" } : Jvm.MethodName) prog_30_method_11_code (2 : Nat) (Option.none : Option Jvm.ClassFile.FieldType)) ∈ lw_all := lw_g (lw_at lw_m3 59 rfl) rfl
theorem q657 : (Jvm.Cond.methodLink "java/lang/AbstractStringBuilder" (125 : Nat) ({ cls := "java/lang/StringLatin1", name := "inflate", desc := "([BI[BII)V" } : Jvm.MethodName)) ∈ lw_all := lw_g (lw_at lw_m3 60 rfl) rfl
theorem q672 : (Jvm.Cond.methodLink "java/lang/AbstractStringBuilder" (399 : Nat) ({ cls := "java/lang/String", name := "getBytes", desc := "([BIB)V" } : Jvm.MethodName)) ∈ lw_all := lw_g (lw_at lw_m3 75 rfl) rfl
theorem q683 : (Jvm.Cond.instanceMethod ({ cls := "java/lang/AbstractStringBuilder", name := "append", desc := "(I)Ljava/lang/AbstractStringBuilder;" } : Jvm.MethodName)) ∈ lw_all := lw_g (lw_at lw_m3 86 rfl) rfl
theorem q684 : (Jvm.Cond.code ({ cls := "java/lang/AbstractStringBuilder", name := "append", desc := "(I)Ljava/lang/AbstractStringBuilder;" } : Jvm.MethodName) prog_30_method_32_code (4 : Nat) (Option.some (Jvm.ClassFile.FieldType.object "java/lang/AbstractStringBuilder"))) ∈ lw_all := lw_g (lw_at lw_m3 87 rfl) rfl
theorem q685 : (Jvm.Cond.methodLink "java/lang/AbstractStringBuilder" (245 : Nat) ({ cls := "java/lang/Integer", name := "stringSize", desc := "(I)I" } : Jvm.MethodName)) ∈ lw_all := lw_g (lw_at lw_m3 88 rfl) rfl
theorem q688 : (Jvm.Cond.methodLink "java/lang/AbstractStringBuilder" (248 : Nat) ({ cls := "java/lang/Integer", name := "getChars", desc := "(II[B)I" } : Jvm.MethodName)) ∈ lw_all := lw_g (lw_at lw_m3 91 rfl) rfl
theorem q695 : (Jvm.Cond.methodLink "java/lang/AbstractStringBuilder" (251 : Nat) ({ cls := "java/lang/StringUTF16", name := "getChars", desc := "(III[B)I" } : Jvm.MethodName)) ∈ lw_all := lw_g (lw_at lw_m3 98 rfl) rfl
theorem q718 : (Jvm.Cond.instanceMethod ({ cls := "java/lang/AbstractStringBuilder", name := "getValue", desc := "()[B" } : Jvm.MethodName)) ∈ lw_all := lw_g (lw_at lw_m3 121 rfl) rfl
theorem q719 : (Jvm.Cond.sameMethod "java/lang/AbstractStringBuilder" "java/lang/AbstractStringBuilder" "getValue" "()[B") ∈ lw_all := lw_g (lw_at lw_m3 122 rfl) rfl
theorem q721 : (Jvm.Cond.code ({ cls := "java/lang/AbstractStringBuilder", name := "getValue", desc := "()[B" } : Jvm.MethodName) prog_30_method_64_code (1 : Nat) (Option.some (Jvm.ClassFile.FieldType.array Jvm.ClassFile.FieldType.byte))) ∈ lw_all := lw_g (lw_at lw_m3 124 rfl) rfl
theorem q723 : (Jvm.Cond.instanceMethod ({ cls := "java/lang/AbstractStringBuilder", name := "length", desc := "()I" } : Jvm.MethodName)) ∈ lw_all := lw_g (lw_at lw_m3 126 rfl) rfl
theorem q724 : (Jvm.Cond.sameMethod "java/lang/AbstractStringBuilder" "java/lang/AbstractStringBuilder" "length" "()I") ∈ lw_all := lw_g (lw_at lw_m3 127 rfl) rfl
theorem q729 : (Jvm.Cond.code ({ cls := "java/lang/AbstractStringBuilder", name := "length", desc := "()I" } : Jvm.MethodName) prog_30_method_6_code (1 : Nat) (Option.some Jvm.ClassFile.FieldType.int)) ∈ lw_all := lw_g (lw_at lw_m3 132 rfl) rfl
theorem q3450 : (Jvm.Cond.sameMethod "java/lang/AbstractStringBuilder" "java/lang/AbstractStringBuilder" "append" "(Ljava/lang/String;)Ljava/lang/AbstractStringBuilder;") ∈ lw_all := lw_g (lw_at lw_m14 213 rfl) rfl
theorem q3451 : (Jvm.Cond.sameMethod "java/lang/AbstractStringBuilder" "java/lang/AbstractStringBuilder" "appendNull" "()Ljava/lang/AbstractStringBuilder;") ∈ lw_all := lw_g (lw_at lw_m14 214 rfl) rfl
theorem q3452 : (Jvm.Cond.sameMethod "java/lang/AbstractStringBuilder" "java/lang/AbstractStringBuilder" "ensureCapacityInternal" "(I)V") ∈ lw_all := lw_g (lw_at lw_m14 215 rfl) rfl
theorem q3453 : (Jvm.Cond.sameMethod "java/lang/AbstractStringBuilder" "java/lang/AbstractStringBuilder" "newCapacity" "(I)I") ∈ lw_all := lw_g (lw_at lw_m14 216 rfl) rfl
theorem q3454 : (Jvm.Cond.sameMethod "java/lang/AbstractStringBuilder" "java/lang/AbstractStringBuilder" "putStringAt" "(ILjava/lang/String;)V") ∈ lw_all := lw_g (lw_at lw_m14 217 rfl) rfl
theorem q3455 : (Jvm.Cond.sameMethod "java/lang/AbstractStringBuilder" "java/lang/AbstractStringBuilder" "inflateIfNeededFor" "(Ljava/lang/String;)V") ∈ lw_all := lw_g (lw_at lw_m14 218 rfl) rfl
theorem q3456 : (Jvm.Cond.sameMethod "java/lang/AbstractStringBuilder" "java/lang/AbstractStringBuilder" "inflate" "()V") ∈ lw_all := lw_g (lw_at lw_m14 219 rfl) rfl
theorem q3457 : (Jvm.Cond.sameMethod "java/lang/AbstractStringBuilder" "java/lang/AbstractStringBuilder" "append" "(I)Ljava/lang/AbstractStringBuilder;") ∈ lw_all := lw_g (lw_at lw_m14 220 rfl) rfl

/-! java/lang/StringBuilder -/
def RJ16 : String := "java/lang/StringBuilder"
def TJ16 : u_T := fun k => match k with
  | 0 => ("java/lang/AbstractStringBuilder", "value", "[B", false)
  | 1 => ("java/lang/AbstractStringBuilder", "coder", "B", false)
  | 2 => ("java/lang/AbstractStringBuilder", "maybeLatin1", "Z", false)
  | _ => ("java/lang/AbstractStringBuilder", "count", "I", false)
def tyJ16 : Nat → FieldType := fun k => match k with
  | 0 => .array .byte
  | 1 => .byte
  | 2 => .boolean
  | _ => .int
abbrev wsJ160 : List Cond := u_ws RJ16 TJ16 4
theorem nmJ16 : ∀ a, a < 4 → ∀ b, b < 4 → a ≠ b → (TJ16 a).2.1 ≠ (TJ16 b).2.1 := by decide +kernel
theorem tyJ16_ok : ∀ k, k < 4 → parseFieldDescriptor (TJ16 k).2.2.1 = some (tyJ16 k) := by decide +kernel
abbrev cJ16_init : ByteArray := prog_47_method_1_code
def yJ16_init : MethodName := ⟨RJ16, "<init>", "()V"⟩
def dkwJ16_init_0 : List UInt8 := [42, 16, 16, 183, 0, 1, 177]
abbrev dktJ16_init_0 : List UInt8 := dkwJ16_init_0 ++ []
theorem dksJ16_init_0 : cJ16_init.data.toList.drop 0 = dktJ16_init_0 := by decide +kernel
theorem dJ16_init_0 : decode cJ16_init 0 = .ok (.aload_n 0, 1) := dk_42 (dk_at dksJ16_init_0 0 rfl rfl)
theorem dJ16_init_1 : decode cJ16_init 1 = .ok (.bipush 16, 2) := dk_16 16 (dk_at dksJ16_init_0 1 rfl rfl)
theorem dJ16_init_3 : decode cJ16_init 3 = .ok (.invokespecial 1, 3) := dk_183 0 1 (dk_at dksJ16_init_0 3 rfl rfl)
theorem dJ16_init_6 : decode cJ16_init 6 = .ok (.return_, 1) := dk_177 (dk_at dksJ16_init_0 6 rfl rfl)
abbrev cJ16_append : ByteArray := prog_47_method_7_code
def yJ16_append : MethodName := ⟨RJ16, "append", "(Ljava/lang/String;)Ljava/lang/StringBuilder;"⟩
def dkwJ16_append_0 : List UInt8 := [42, 43, 183, 0, 29, 87, 42, 176]
abbrev dktJ16_append_0 : List UInt8 := dkwJ16_append_0 ++ []
theorem dksJ16_append_0 : cJ16_append.data.toList.drop 0 = dktJ16_append_0 := by decide +kernel
theorem dJ16_append_0 : decode cJ16_append 0 = .ok (.aload_n 0, 1) := dk_42 (dk_at dksJ16_append_0 0 rfl rfl)
theorem dJ16_append_1 : decode cJ16_append 1 = .ok (.aload_n 1, 1) := dk_43 (dk_at dksJ16_append_0 1 rfl rfl)
theorem dJ16_append_2 : decode cJ16_append 2 = .ok (.invokespecial 29, 3) := dk_183 0 29 (dk_at dksJ16_append_0 2 rfl rfl)
theorem dJ16_append_5 : decode cJ16_append 5 = .ok (.pop, 1) := dk_87 (dk_at dksJ16_append_0 5 rfl rfl)
theorem dJ16_append_6 : decode cJ16_append 6 = .ok (.aload_n 0, 1) := dk_42 (dk_at dksJ16_append_0 6 rfl rfl)
theorem dJ16_append_7 : decode cJ16_append 7 = .ok (.areturn, 1) := dk_176 (dk_at dksJ16_append_0 7 rfl rfl)
abbrev cJ16_append_2 : ByteArray := prog_47_method_15_code
def yJ16_append_2 : MethodName := ⟨RJ16, "append", "(I)Ljava/lang/StringBuilder;"⟩
def dkwJ16_append_2_0 : List UInt8 := [42, 27, 183, 0, 53, 87, 42, 176]
abbrev dktJ16_append_2_0 : List UInt8 := dkwJ16_append_2_0 ++ []
theorem dksJ16_append_2_0 : cJ16_append_2.data.toList.drop 0 = dktJ16_append_2_0 := by decide +kernel
theorem dJ16_append_2_0 : decode cJ16_append_2 0 = .ok (.aload_n 0, 1) := dk_42 (dk_at dksJ16_append_2_0 0 rfl rfl)
theorem dJ16_append_2_1 : decode cJ16_append_2 1 = .ok (.iload_n 1, 1) := dk_27 (dk_at dksJ16_append_2_0 1 rfl rfl)
theorem dJ16_append_2_2 : decode cJ16_append_2 2 = .ok (.invokespecial 53, 3) := dk_183 0 53 (dk_at dksJ16_append_2_0 2 rfl rfl)
theorem dJ16_append_2_5 : decode cJ16_append_2 5 = .ok (.pop, 1) := dk_87 (dk_at dksJ16_append_2_0 5 rfl rfl)
theorem dJ16_append_2_6 : decode cJ16_append_2 6 = .ok (.aload_n 0, 1) := dk_42 (dk_at dksJ16_append_2_0 6 rfl rfl)
theorem dJ16_append_2_7 : decode cJ16_append_2 7 = .ok (.areturn, 1) := dk_176 (dk_at dksJ16_append_2_0 7 rfl rfl)
abbrev cJ16_toString : ByteArray := prog_47_method_42_code
def yJ16_toString : MethodName := ⟨RJ16, "toString", "()Ljava/lang/String;"⟩
def dkwJ16_toString_0 : List UInt8 := [187, 0, 18, 89, 42, 183, 0, 137, 176]
abbrev dktJ16_toString_0 : List UInt8 := dkwJ16_toString_0 ++ []
theorem dksJ16_toString_0 : cJ16_toString.data.toList.drop 0 = dktJ16_toString_0 := by decide +kernel
theorem dJ16_toString_0 : decode cJ16_toString 0 = .ok (.new 18, 3) := dk_187 0 18 (dk_at dksJ16_toString_0 0 rfl rfl)
theorem dJ16_toString_3 : decode cJ16_toString 3 = .ok (.dup, 1) := dk_89 (dk_at dksJ16_toString_0 3 rfl rfl)
theorem dJ16_toString_4 : decode cJ16_toString 4 = .ok (.aload_n 0, 1) := dk_42 (dk_at dksJ16_toString_0 4 rfl rfl)
theorem dJ16_toString_5 : decode cJ16_toString 5 = .ok (.invokespecial 137, 3) := dk_183 0 137 (dk_at dksJ16_toString_0 5 rfl rfl)
theorem dJ16_toString_8 : decode cJ16_toString 8 = .ok (.areturn, 1) := dk_176 (dk_at dksJ16_toString_0 8 rfl rfl)
abbrev cJ16_length : ByteArray := prog_47_method_93_code
def yJ16_length : MethodName := ⟨RJ16, "length", "()I"⟩
theorem dJ16_length_0 : decode cJ16_length 0 = .ok (.aload_n 0, 1) := by decide +kernel
theorem dJ16_length_1 : decode cJ16_length 1 = .ok (.invokespecial 343, 3) := by decide +kernel
theorem dJ16_length_4 : decode cJ16_length 4 = .ok (.ireturn, 1) := by decide +kernel
theorem q154 : (Jvm.Cond.initialized "java/lang/StringBuilder") ∈ lw_all := lw_g (lw_at lw_m1 37 rfl) rfl
theorem q526 : (Jvm.Cond.instantiable "java/lang/StringBuilder" (4 : Nat)) ∈ lw_all := lw_g (lw_at lw_m2 169 rfl) rfl
theorem q528 : (Jvm.Cond.instanceMethod ({ cls := "java/lang/StringBuilder", name := "<init>", desc := "()V" } : Jvm.MethodName)) ∈ lw_all := lw_g (lw_at lw_m2 171 rfl) rfl
theorem q529 : (Jvm.Cond.code ({ cls := "java/lang/StringBuilder", name := "<init>", desc := "()V" } : Jvm.MethodName) prog_47_method_1_code (1 : Nat) (Option.none : Option Jvm.ClassFile.FieldType)) ∈ lw_all := lw_g (lw_at lw_m2 172 rfl) rfl
theorem q530 : (Jvm.Cond.methodLink "java/lang/StringBuilder" (1 : Nat) ({ cls := "java/lang/AbstractStringBuilder", name := "<init>", desc := "(I)V" } : Jvm.MethodName)) ∈ lw_all := lw_g (lw_at lw_m2 173 rfl) rfl
theorem q547 : (Jvm.Cond.lays "java/lang/StringBuilder" "java/lang/AbstractStringBuilder" "value" "[B") ∈ lw_all := lw_g (lw_at lw_m2 190 rfl) rfl
theorem q549 : (Jvm.Cond.lays "java/lang/StringBuilder" "java/lang/AbstractStringBuilder" "coder" "B") ∈ lw_all := lw_g (lw_at lw_m2 192 rfl) rfl
theorem q551 : (Jvm.Cond.lays "java/lang/StringBuilder" "java/lang/AbstractStringBuilder" "maybeLatin1" "Z") ∈ lw_all := lw_g (lw_at lw_m2 194 rfl) rfl
theorem q553 : (Jvm.Cond.lays "java/lang/StringBuilder" "java/lang/AbstractStringBuilder" "count" "I") ∈ lw_all := lw_g (lw_at lw_m2 196 rfl) rfl
theorem q555 : (Jvm.Cond.superclass "java/lang/StringBuilder" "java/lang/AbstractStringBuilder") ∈ lw_all := lw_g (lw_at lw_m2 198 rfl) rfl
theorem q559 : (Jvm.Cond.instanceMethod ({ cls := "java/lang/StringBuilder", name := "append", desc := "(Ljava/lang/String;)Ljava/lang/StringBuilder;" } : Jvm.MethodName)) ∈ lw_all := lw_g (lw_at lw_m2 202 rfl) rfl
theorem q560 : (Jvm.Cond.selects "java/lang/StringBuilder" ({ cls := "java/lang/StringBuilder", name := "append", desc := "(Ljava/lang/String;)Ljava/lang/StringBuilder;" } : Jvm.MethodName) ({ cls := "java/lang/StringBuilder", name := "append", desc := "(Ljava/lang/String;)Ljava/lang/StringBuilder;" } : Jvm.MethodName)) ∈ lw_all := lw_g (lw_at lw_m2 203 rfl) rfl
theorem q561 : (Jvm.Cond.code ({ cls := "java/lang/StringBuilder", name := "append", desc := "(Ljava/lang/String;)Ljava/lang/StringBuilder;" } : Jvm.MethodName) prog_47_method_7_code (2 : Nat) (Option.some (Jvm.ClassFile.FieldType.object "java/lang/StringBuilder"))) ∈ lw_all := lw_g (lw_at lw_m2 204 rfl) rfl
theorem q562 : (Jvm.Cond.methodLink "java/lang/StringBuilder" (29 : Nat) ({ cls := "java/lang/AbstractStringBuilder", name := "append", desc := "(Ljava/lang/String;)Ljava/lang/AbstractStringBuilder;" } : Jvm.MethodName)) ∈ lw_all := lw_g (lw_at lw_m2 205 rfl) rfl
theorem q607 : (Jvm.Cond.selects "java/lang/StringBuilder" ({ cls := "java/lang/AbstractStringBuilder", name := "isLatin1", desc := "()Z" } : Jvm.MethodName) ({ cls := "java/lang/AbstractStringBuilder", name := "isLatin1", desc := "()Z" } : Jvm.MethodName)) ∈ lw_all := lw_g (lw_at lw_m3 10 rfl) rfl
theorem q679 : (Jvm.Cond.instanceMethod ({ cls := "java/lang/StringBuilder", name := "append", desc := "(I)Ljava/lang/StringBuilder;" } : Jvm.MethodName)) ∈ lw_all := lw_g (lw_at lw_m3 82 rfl) rfl
theorem q680 : (Jvm.Cond.selects "java/lang/StringBuilder" ({ cls := "java/lang/StringBuilder", name := "append", desc := "(I)Ljava/lang/StringBuilder;" } : Jvm.MethodName) ({ cls := "java/lang/StringBuilder", name := "append", desc := "(I)Ljava/lang/StringBuilder;" } : Jvm.MethodName)) ∈ lw_all := lw_g (lw_at lw_m3 83 rfl) rfl
theorem q681 : (Jvm.Cond.code ({ cls := "java/lang/StringBuilder", name := "append", desc := "(I)Ljava/lang/StringBuilder;" } : Jvm.MethodName) prog_47_method_15_code (2 : Nat) (Option.some (Jvm.ClassFile.FieldType.object "java/lang/StringBuilder"))) ∈ lw_all := lw_g (lw_at lw_m3 84 rfl) rfl
theorem q682 : (Jvm.Cond.methodLink "java/lang/StringBuilder" (53 : Nat) ({ cls := "java/lang/AbstractStringBuilder", name := "append", desc := "(I)Ljava/lang/AbstractStringBuilder;" } : Jvm.MethodName)) ∈ lw_all := lw_g (lw_at lw_m3 85 rfl) rfl
theorem q705 : (Jvm.Cond.instanceMethod ({ cls := "java/lang/StringBuilder", name := "toString", desc := "()Ljava/lang/String;" } : Jvm.MethodName)) ∈ lw_all := lw_g (lw_at lw_m3 108 rfl) rfl
theorem q706 : (Jvm.Cond.selects "java/lang/StringBuilder" ({ cls := "java/lang/StringBuilder", name := "toString", desc := "()Ljava/lang/String;" } : Jvm.MethodName) ({ cls := "java/lang/StringBuilder", name := "toString", desc := "()Ljava/lang/String;" } : Jvm.MethodName)) ∈ lw_all := lw_g (lw_at lw_m3 109 rfl) rfl
theorem q707 : (Jvm.Cond.code ({ cls := "java/lang/StringBuilder", name := "toString", desc := "()Ljava/lang/String;" } : Jvm.MethodName) prog_47_method_42_code (1 : Nat) (Option.some (Jvm.ClassFile.FieldType.object "java/lang/String"))) ∈ lw_all := lw_g (lw_at lw_m3 110 rfl) rfl
theorem q708 : (Jvm.Cond.classLink "java/lang/StringBuilder" (18 : Nat) "java/lang/String") ∈ lw_all := lw_g (lw_at lw_m3 111 rfl) rfl
theorem q710 : (Jvm.Cond.methodLink "java/lang/StringBuilder" (137 : Nat) ({ cls := "java/lang/String", name := "<init>", desc := "(Ljava/lang/StringBuilder;)V" } : Jvm.MethodName)) ∈ lw_all := lw_g (lw_at lw_m3 113 rfl) rfl
theorem q720 : (Jvm.Cond.selects "java/lang/StringBuilder" ({ cls := "java/lang/AbstractStringBuilder", name := "getValue", desc := "()[B" } : Jvm.MethodName) ({ cls := "java/lang/AbstractStringBuilder", name := "getValue", desc := "()[B" } : Jvm.MethodName)) ∈ lw_all := lw_g (lw_at lw_m3 123 rfl) rfl
theorem q725 : (Jvm.Cond.selects "java/lang/StringBuilder" ({ cls := "java/lang/AbstractStringBuilder", name := "length", desc := "()I" } : Jvm.MethodName) ({ cls := "java/lang/StringBuilder", name := "length", desc := "()I" } : Jvm.MethodName)) ∈ lw_all := lw_g (lw_at lw_m3 128 rfl) rfl
theorem q726 : (Jvm.Cond.instanceMethod ({ cls := "java/lang/StringBuilder", name := "length", desc := "()I" } : Jvm.MethodName)) ∈ lw_all := lw_g (lw_at lw_m3 129 rfl) rfl
theorem q727 : (Jvm.Cond.code ({ cls := "java/lang/StringBuilder", name := "length", desc := "()I" } : Jvm.MethodName) prog_47_method_93_code (1 : Nat) (Option.some Jvm.ClassFile.FieldType.int)) ∈ lw_all := lw_g (lw_at lw_m3 130 rfl) rfl
theorem q728 : (Jvm.Cond.methodLink "java/lang/StringBuilder" (343 : Nat) ({ cls := "java/lang/AbstractStringBuilder", name := "length", desc := "()I" } : Jvm.MethodName)) ∈ lw_all := lw_g (lw_at lw_m3 131 rfl) rfl
theorem q1077 : (Jvm.Cond.selects "java/lang/StringBuilder" ({ cls := "java/lang/Object", name := "getClass", desc := "()Ljava/lang/Class;" } : Jvm.MethodName) ({ cls := "java/lang/Object", name := "getClass", desc := "()Ljava/lang/Class;" } : Jvm.MethodName)) ∈ lw_all := lw_g (lw_at lw_m5 0 rfl) rfl
theorem q3499 : (Jvm.Cond.castable "java/lang/StringBuilder" "java/lang/Object") ∈ lw_tbl := lw_at lw_m15 22 rfl
theorem in_J16 : ∀ w ∈ wsJ160, w ∈ lw_all := lw_in wsJ160 [547, 549, 551, 553] (by decide +kernel) (by decide +kernel)

/-! java/lang/String -/
def RJ17 : String := "java/lang/String"
def TJ17 : u_T := fun k => match k with
  | 0 => ("java/lang/String", "value", "[B", true)
  | 1 => ("java/lang/String", "coder", "B", true)
  | 2 => ("java/lang/String", "hash", "I", false)
  | _ => ("java/lang/String", "hashIsZero", "Z", false)
def tyJ17 : Nat → FieldType := fun k => match k with
  | 0 => .array .byte
  | 1 => .byte
  | 2 => .int
  | _ => .boolean
abbrev wsJ170 : List Cond := u_ws RJ17 TJ17 4
theorem nmJ17 : ∀ a, a < 4 → ∀ b, b < 4 → a ≠ b → (TJ17 a).2.1 ≠ (TJ17 b).2.1 := by decide +kernel
theorem tyJ17_ok : ∀ k, k < 4 → parseFieldDescriptor (TJ17 k).2.2.1 = some (tyJ17 k) := by decide +kernel
abbrev cJ17_checkBoundsBeginEnd : ByteArray := prog_46_method_158_code
def yJ17_checkBoundsBeginEnd : MethodName := ⟨RJ17, "checkBoundsBeginEnd", "(III)V"⟩
def dkwJ17_checkBoundsBeginEnd_0 : List UInt8 := [26, 27, 28, 178, 4, 29, 184, 4, 38, 87, 177]
abbrev dktJ17_checkBoundsBeginEnd_0 : List UInt8 := dkwJ17_checkBoundsBeginEnd_0 ++ []
theorem dksJ17_checkBoundsBeginEnd_0 : cJ17_checkBoundsBeginEnd.data.toList.drop 0 = dktJ17_checkBoundsBeginEnd_0 := by decide +kernel
theorem dJ17_checkBoundsBeginEnd_0 : decode cJ17_checkBoundsBeginEnd 0 = .ok (.iload_n 0, 1) := dk_26 (dk_at dksJ17_checkBoundsBeginEnd_0 0 rfl rfl)
theorem dJ17_checkBoundsBeginEnd_1 : decode cJ17_checkBoundsBeginEnd 1 = .ok (.iload_n 1, 1) := dk_27 (dk_at dksJ17_checkBoundsBeginEnd_0 1 rfl rfl)
theorem dJ17_checkBoundsBeginEnd_2 : decode cJ17_checkBoundsBeginEnd 2 = .ok (.iload_n 2, 1) := dk_28 (dk_at dksJ17_checkBoundsBeginEnd_0 2 rfl rfl)
theorem dJ17_checkBoundsBeginEnd_3 : decode cJ17_checkBoundsBeginEnd 3 = .ok (.getstatic 1053, 3) := dk_178 4 29 (dk_at dksJ17_checkBoundsBeginEnd_0 3 rfl rfl)
theorem dJ17_checkBoundsBeginEnd_6 : decode cJ17_checkBoundsBeginEnd 6 = .ok (.invokestatic 1062, 3) := dk_184 4 38 (dk_at dksJ17_checkBoundsBeginEnd_0 6 rfl rfl)
theorem dJ17_checkBoundsBeginEnd_9 : decode cJ17_checkBoundsBeginEnd 9 = .ok (.pop, 1) := dk_87 (dk_at dksJ17_checkBoundsBeginEnd_0 9 rfl rfl)
theorem dJ17_checkBoundsBeginEnd_10 : decode cJ17_checkBoundsBeginEnd 10 = .ok (.return_, 1) := dk_177 (dk_at dksJ17_checkBoundsBeginEnd_0 10 rfl rfl)
abbrev cJ17_length : ByteArray := prog_46_method_54_code
def yJ17_length : MethodName := ⟨RJ17, "length", "()I"⟩
def dkwJ17_length_0 : List UInt8 := [42, 180, 0, 9, 190, 42, 182, 1, 79, 122, 172]
abbrev dktJ17_length_0 : List UInt8 := dkwJ17_length_0 ++ []
theorem dksJ17_length_0 : cJ17_length.data.toList.drop 0 = dktJ17_length_0 := by decide +kernel
theorem dJ17_length_0 : decode cJ17_length 0 = .ok (.aload_n 0, 1) := dk_42 (dk_at dksJ17_length_0 0 rfl rfl)
theorem dJ17_length_1 : decode cJ17_length 1 = .ok (.getfield 9, 3) := dk_180 0 9 (dk_at dksJ17_length_0 1 rfl rfl)
theorem dJ17_length_4 : decode cJ17_length 4 = .ok (.arraylength, 1) := dk_190 (dk_at dksJ17_length_0 4 rfl rfl)
theorem dJ17_length_5 : decode cJ17_length 5 = .ok (.aload_n 0, 1) := dk_42 (dk_at dksJ17_length_0 5 rfl rfl)
theorem dJ17_length_6 : decode cJ17_length 6 = .ok (.invokevirtual 335, 3) := dk_182 1 79 (dk_at dksJ17_length_0 6 rfl rfl)
theorem dJ17_length_9 : decode cJ17_length 9 = .ok (.ishr, 1) := dk_122 (dk_at dksJ17_length_0 9 rfl rfl)
theorem dJ17_length_10 : decode cJ17_length 10 = .ok (.ireturn, 1) := dk_172 (dk_at dksJ17_length_0 10 rfl rfl)
abbrev cJ17_coder : ByteArray := prog_46_method_152_code
def yJ17_coder : MethodName := ⟨RJ17, "coder", "()B"⟩
def dkwJ17_coder_0 : List UInt8 := [178, 0, 38, 153, 0, 10, 42, 180, 0, 15, 167, 0, 4, 4, 172]
abbrev dktJ17_coder_0 : List UInt8 := dkwJ17_coder_0 ++ []
theorem dksJ17_coder_0 : cJ17_coder.data.toList.drop 0 = dktJ17_coder_0 := by decide +kernel
theorem dJ17_coder_0 : decode cJ17_coder 0 = .ok (.getstatic 38, 3) := dk_178 0 38 (dk_at dksJ17_coder_0 0 rfl rfl)
theorem dJ17_coder_3 : decode cJ17_coder 3 = .ok (.ifCond .eq 10, 3) := dk_153 0 10 (dk_at dksJ17_coder_0 3 rfl rfl)
theorem dJ17_coder_6 : decode cJ17_coder 6 = .ok (.aload_n 0, 1) := dk_42 (dk_at dksJ17_coder_0 6 rfl rfl)
theorem dJ17_coder_7 : decode cJ17_coder 7 = .ok (.getfield 15, 3) := dk_180 0 15 (dk_at dksJ17_coder_0 7 rfl rfl)
theorem dJ17_coder_10 : decode cJ17_coder 10 = .ok (.goto 4, 3) := dk_167 0 4 (dk_at dksJ17_coder_0 10 rfl rfl)
theorem dJ17_coder_13 : decode cJ17_coder 13 = .ok (.iconst 1, 1) := dk_4 (dk_at dksJ17_coder_0 13 rfl rfl)
theorem dJ17_coder_14 : decode cJ17_coder 14 = .ok (.ireturn, 1) := dk_172 (dk_at dksJ17_coder_0 14 rfl rfl)
abbrev cJ17_checkBoundsOffCount : ByteArray := prog_46_method_157_code
def yJ17_checkBoundsOffCount : MethodName := ⟨RJ17, "checkBoundsOffCount", "(III)I"⟩
def dkwJ17_checkBoundsOffCount_0 : List UInt8 := [26, 27, 28, 178, 4, 29, 184, 4, 41, 172]
abbrev dktJ17_checkBoundsOffCount_0 : List UInt8 := dkwJ17_checkBoundsOffCount_0 ++ []
theorem dksJ17_checkBoundsOffCount_0 : cJ17_checkBoundsOffCount.data.toList.drop 0 = dktJ17_checkBoundsOffCount_0 := by decide +kernel
theorem dJ17_checkBoundsOffCount_0 : decode cJ17_checkBoundsOffCount 0 = .ok (.iload_n 0, 1) := dk_26 (dk_at dksJ17_checkBoundsOffCount_0 0 rfl rfl)
theorem dJ17_checkBoundsOffCount_1 : decode cJ17_checkBoundsOffCount 1 = .ok (.iload_n 1, 1) := dk_27 (dk_at dksJ17_checkBoundsOffCount_0 1 rfl rfl)
theorem dJ17_checkBoundsOffCount_2 : decode cJ17_checkBoundsOffCount 2 = .ok (.iload_n 2, 1) := dk_28 (dk_at dksJ17_checkBoundsOffCount_0 2 rfl rfl)
theorem dJ17_checkBoundsOffCount_3 : decode cJ17_checkBoundsOffCount 3 = .ok (.getstatic 1053, 3) := dk_178 4 29 (dk_at dksJ17_checkBoundsOffCount_0 3 rfl rfl)
theorem dJ17_checkBoundsOffCount_6 : decode cJ17_checkBoundsOffCount 6 = .ok (.invokestatic 1065, 3) := dk_184 4 41 (dk_at dksJ17_checkBoundsOffCount_0 6 rfl rfl)
theorem dJ17_checkBoundsOffCount_9 : decode cJ17_checkBoundsOffCount 9 = .ok (.ireturn, 1) := dk_172 (dk_at dksJ17_checkBoundsOffCount_0 9 rfl rfl)
abbrev cJ17_getBytes : ByteArray := prog_46_method_147_code
def yJ17_getBytes : MethodName := ⟨RJ17, "getBytes", "([BIB)V"⟩
def dkwJ17_getBytes_1 : List UInt8 := [184, 0, 212, 167, 0, 18, 42, 180, 0, 9, 3, 43, 28, 42, 180, 0, 9, 190, 184, 0, 106, 177]
abbrev dktJ17_getBytes_1 : List UInt8 := dkwJ17_getBytes_1 ++ []
def dkwJ17_getBytes_0 : List UInt8 := [42, 182, 1, 79, 29, 160, 0, 23, 42, 180, 0, 9, 3, 43, 28, 29, 120, 42, 180, 0, 9, 190]
abbrev dktJ17_getBytes_0 : List UInt8 := dkwJ17_getBytes_0 ++ dktJ17_getBytes_1
theorem dksJ17_getBytes_0 : cJ17_getBytes.data.toList.drop 0 = dktJ17_getBytes_0 := by decide +kernel
theorem dksJ17_getBytes_1 : cJ17_getBytes.data.toList.drop 22 = dktJ17_getBytes_1 := dk_seg dksJ17_getBytes_0 22 rfl rfl
theorem dJ17_getBytes_0 : decode cJ17_getBytes 0 = .ok (.aload_n 0, 1) := dk_42 (dk_at dksJ17_getBytes_0 0 rfl rfl)
theorem dJ17_getBytes_1 : decode cJ17_getBytes 1 = .ok (.invokevirtual 335, 3) := dk_182 1 79 (dk_at dksJ17_getBytes_0 1 rfl rfl)
theorem dJ17_getBytes_4 : decode cJ17_getBytes 4 = .ok (.iload_n 3, 1) := dk_29 (dk_at dksJ17_getBytes_0 4 rfl rfl)
theorem dJ17_getBytes_5 : decode cJ17_getBytes 5 = .ok (.if_icmp .ne 23, 3) := dk_160 0 23 (dk_at dksJ17_getBytes_0 5 rfl rfl)
theorem dJ17_getBytes_8 : decode cJ17_getBytes 8 = .ok (.aload_n 0, 1) := dk_42 (dk_at dksJ17_getBytes_0 8 rfl rfl)
theorem dJ17_getBytes_9 : decode cJ17_getBytes 9 = .ok (.getfield 9, 3) := dk_180 0 9 (dk_at dksJ17_getBytes_0 9 rfl rfl)
theorem dJ17_getBytes_12 : decode cJ17_getBytes 12 = .ok (.iconst 0, 1) := dk_3 (dk_at dksJ17_getBytes_0 12 rfl rfl)
theorem dJ17_getBytes_13 : decode cJ17_getBytes 13 = .ok (.aload_n 1, 1) := dk_43 (dk_at dksJ17_getBytes_0 13 rfl rfl)
theorem dJ17_getBytes_14 : decode cJ17_getBytes 14 = .ok (.iload_n 2, 1) := dk_28 (dk_at dksJ17_getBytes_0 14 rfl rfl)
theorem dJ17_getBytes_15 : decode cJ17_getBytes 15 = .ok (.iload_n 3, 1) := dk_29 (dk_at dksJ17_getBytes_0 15 rfl rfl)
theorem dJ17_getBytes_16 : decode cJ17_getBytes 16 = .ok (.ishl, 1) := dk_120 (dk_at dksJ17_getBytes_0 16 rfl rfl)
theorem dJ17_getBytes_17 : decode cJ17_getBytes 17 = .ok (.aload_n 0, 1) := dk_42 (dk_at dksJ17_getBytes_0 17 rfl rfl)
theorem dJ17_getBytes_18 : decode cJ17_getBytes 18 = .ok (.getfield 9, 3) := dk_180 0 9 (dk_at dksJ17_getBytes_0 18 rfl rfl)
theorem dJ17_getBytes_21 : decode cJ17_getBytes 21 = .ok (.arraylength, 1) := dk_190 (dk_at dksJ17_getBytes_0 21 rfl rfl)
theorem dJ17_getBytes_22 : decode cJ17_getBytes 22 = .ok (.invokestatic 212, 3) := dk_184 0 212 (dk_at dksJ17_getBytes_1 0 rfl rfl)
theorem dJ17_getBytes_25 : decode cJ17_getBytes 25 = .ok (.goto 18, 3) := dk_167 0 18 (dk_at dksJ17_getBytes_1 3 rfl rfl)
theorem dJ17_getBytes_28 : decode cJ17_getBytes 28 = .ok (.aload_n 0, 1) := dk_42 (dk_at dksJ17_getBytes_1 6 rfl rfl)
theorem dJ17_getBytes_29 : decode cJ17_getBytes 29 = .ok (.getfield 9, 3) := dk_180 0 9 (dk_at dksJ17_getBytes_1 7 rfl rfl)
theorem dJ17_getBytes_32 : decode cJ17_getBytes 32 = .ok (.iconst 0, 1) := dk_3 (dk_at dksJ17_getBytes_1 10 rfl rfl)
theorem dJ17_getBytes_33 : decode cJ17_getBytes 33 = .ok (.aload_n 1, 1) := dk_43 (dk_at dksJ17_getBytes_1 11 rfl rfl)
theorem dJ17_getBytes_34 : decode cJ17_getBytes 34 = .ok (.iload_n 2, 1) := dk_28 (dk_at dksJ17_getBytes_1 12 rfl rfl)
theorem dJ17_getBytes_35 : decode cJ17_getBytes 35 = .ok (.aload_n 0, 1) := dk_42 (dk_at dksJ17_getBytes_1 13 rfl rfl)
theorem dJ17_getBytes_36 : decode cJ17_getBytes 36 = .ok (.getfield 9, 3) := dk_180 0 9 (dk_at dksJ17_getBytes_1 14 rfl rfl)
theorem dJ17_getBytes_39 : decode cJ17_getBytes 39 = .ok (.arraylength, 1) := dk_190 (dk_at dksJ17_getBytes_1 17 rfl rfl)
theorem dJ17_getBytes_40 : decode cJ17_getBytes 40 = .ok (.invokestatic 106, 3) := dk_184 0 106 (dk_at dksJ17_getBytes_1 18 rfl rfl)
theorem dJ17_getBytes_43 : decode cJ17_getBytes 43 = .ok (.return_, 1) := dk_177 (dk_at dksJ17_getBytes_1 21 rfl rfl)
abbrev cJ17_init : ByteArray := prog_46_method_53_code
def yJ17_init : MethodName := ⟨RJ17, "<init>", "(Ljava/lang/StringBuilder;)V"⟩
def dkwJ17_init_0 : List UInt8 := [42, 43, 1, 183, 1, 233, 177]
abbrev dktJ17_init_0 : List UInt8 := dkwJ17_init_0 ++ []
theorem dksJ17_init_0 : cJ17_init.data.toList.drop 0 = dktJ17_init_0 := by decide +kernel
theorem dJ17_init_0 : decode cJ17_init 0 = .ok (.aload_n 0, 1) := dk_42 (dk_at dksJ17_init_0 0 rfl rfl)
theorem dJ17_init_1 : decode cJ17_init 1 = .ok (.aload_n 1, 1) := dk_43 (dk_at dksJ17_init_0 1 rfl rfl)
theorem dJ17_init_2 : decode cJ17_init 2 = .ok (.aconst_null, 1) := dk_1 (dk_at dksJ17_init_0 2 rfl rfl)
theorem dJ17_init_3 : decode cJ17_init 3 = .ok (.invokespecial 489, 3) := dk_183 1 233 (dk_at dksJ17_init_0 3 rfl rfl)
theorem dJ17_init_6 : decode cJ17_init 6 = .ok (.return_, 1) := dk_177 (dk_at dksJ17_init_0 6 rfl rfl)
abbrev cJ17_init_2 : ByteArray := prog_46_method_150_code
def yJ17_init_2 : MethodName := ⟨RJ17, "<init>", "(Ljava/lang/AbstractStringBuilder;Ljava/lang/Void;)V"⟩
def dkwJ17_init_2_4 : List UInt8 := [181, 0, 9, 177]
abbrev dktJ17_init_2_4 : List UInt8 := dkwJ17_init_2_4 ++ []
def dkwJ17_init_2_3 : List UInt8 := [184, 0, 47, 181, 0, 15, 177, 42, 4, 181, 0, 15, 42, 45, 3, 21, 4, 4, 120, 184, 0, 54]
abbrev dktJ17_init_2_3 : List UInt8 := dkwJ17_init_2_3 ++ dktJ17_init_2_4
def dkwJ17_init_2_2 : List UInt8 := [180, 4, 24, 153, 0, 28, 42, 45, 3, 21, 4, 184, 4, 27, 181, 0, 9, 42, 42, 180, 0, 9, 21, 4]
abbrev dktJ17_init_2_2 : List UInt8 := dkwJ17_init_2_2 ++ dktJ17_init_2_3
def dkwJ17_init_2_1 : List UInt8 := [181, 0, 15, 42, 45, 3, 21, 4, 184, 0, 54, 181, 0, 9, 167, 0, 59, 178, 0, 38, 153, 0, 35, 43]
abbrev dktJ17_init_2_1 : List UInt8 := dkwJ17_init_2_1 ++ dktJ17_init_2_2
def dkwJ17_init_2_0 : List UInt8 := [42, 183, 0, 1, 43, 182, 2, 40, 78, 43, 182, 2, 37, 54, 4, 43, 182, 4, 23, 153, 0, 22, 42, 3]
abbrev dktJ17_init_2_0 : List UInt8 := dkwJ17_init_2_0 ++ dktJ17_init_2_1
theorem dksJ17_init_2_0 : cJ17_init_2.data.toList.drop 0 = dktJ17_init_2_0 := by decide +kernel
theorem dksJ17_init_2_1 : cJ17_init_2.data.toList.drop 24 = dktJ17_init_2_1 := dk_seg dksJ17_init_2_0 24 rfl rfl
theorem dksJ17_init_2_2 : cJ17_init_2.data.toList.drop 48 = dktJ17_init_2_2 := dk_seg dksJ17_init_2_1 24 rfl rfl
theorem dksJ17_init_2_3 : cJ17_init_2.data.toList.drop 72 = dktJ17_init_2_3 := dk_seg dksJ17_init_2_2 24 rfl rfl
theorem dksJ17_init_2_4 : cJ17_init_2.data.toList.drop 94 = dktJ17_init_2_4 := dk_seg dksJ17_init_2_3 22 rfl rfl
theorem dJ17_init_2_0 : decode cJ17_init_2 0 = .ok (.aload_n 0, 1) := dk_42 (dk_at dksJ17_init_2_0 0 rfl rfl)
theorem dJ17_init_2_1 : decode cJ17_init_2 1 = .ok (.invokespecial 1, 3) := dk_183 0 1 (dk_at dksJ17_init_2_0 1 rfl rfl)
theorem dJ17_init_2_4 : decode cJ17_init_2 4 = .ok (.aload_n 1, 1) := dk_43 (dk_at dksJ17_init_2_0 4 rfl rfl)
theorem dJ17_init_2_5 : decode cJ17_init_2 5 = .ok (.invokevirtual 552, 3) := dk_182 2 40 (dk_at dksJ17_init_2_0 5 rfl rfl)
theorem dJ17_init_2_8 : decode cJ17_init_2 8 = .ok (.astore_n 3, 1) := dk_78 (dk_at dksJ17_init_2_0 8 rfl rfl)
theorem dJ17_init_2_9 : decode cJ17_init_2 9 = .ok (.aload_n 1, 1) := dk_43 (dk_at dksJ17_init_2_0 9 rfl rfl)
theorem dJ17_init_2_10 : decode cJ17_init_2 10 = .ok (.invokevirtual 549, 3) := dk_182 2 37 (dk_at dksJ17_init_2_0 10 rfl rfl)
theorem dJ17_init_2_13 : decode cJ17_init_2 13 = .ok (.istore 4, 2) := dk_54 4 (dk_at dksJ17_init_2_0 13 rfl rfl)
theorem dJ17_init_2_15 : decode cJ17_init_2 15 = .ok (.aload_n 1, 1) := dk_43 (dk_at dksJ17_init_2_0 15 rfl rfl)
theorem dJ17_init_2_16 : decode cJ17_init_2 16 = .ok (.invokevirtual 1047, 3) := dk_182 4 23 (dk_at dksJ17_init_2_0 16 rfl rfl)
theorem dJ17_init_2_19 : decode cJ17_init_2 19 = .ok (.ifCond .eq 22, 3) := dk_153 0 22 (dk_at dksJ17_init_2_0 19 rfl rfl)
theorem dJ17_init_2_22 : decode cJ17_init_2 22 = .ok (.aload_n 0, 1) := dk_42 (dk_at dksJ17_init_2_0 22 rfl rfl)
theorem dJ17_init_2_23 : decode cJ17_init_2 23 = .ok (.iconst 0, 1) := dk_3 (dk_at dksJ17_init_2_0 23 rfl rfl)
theorem dJ17_init_2_24 : decode cJ17_init_2 24 = .ok (.putfield 15, 3) := dk_181 0 15 (dk_at dksJ17_init_2_1 0 rfl rfl)
theorem dJ17_init_2_27 : decode cJ17_init_2 27 = .ok (.aload_n 0, 1) := dk_42 (dk_at dksJ17_init_2_1 3 rfl rfl)
theorem dJ17_init_2_28 : decode cJ17_init_2 28 = .ok (.aload_n 3, 1) := dk_45 (dk_at dksJ17_init_2_1 4 rfl rfl)
theorem dJ17_init_2_29 : decode cJ17_init_2 29 = .ok (.iconst 0, 1) := dk_3 (dk_at dksJ17_init_2_1 5 rfl rfl)
theorem dJ17_init_2_30 : decode cJ17_init_2 30 = .ok (.iload 4, 2) := dk_21 4 (dk_at dksJ17_init_2_1 6 rfl rfl)
theorem dJ17_init_2_32 : decode cJ17_init_2 32 = .ok (.invokestatic 54, 3) := dk_184 0 54 (dk_at dksJ17_init_2_1 8 rfl rfl)
theorem dJ17_init_2_35 : decode cJ17_init_2 35 = .ok (.putfield 9, 3) := dk_181 0 9 (dk_at dksJ17_init_2_1 11 rfl rfl)
theorem dJ17_init_2_38 : decode cJ17_init_2 38 = .ok (.goto 59, 3) := dk_167 0 59 (dk_at dksJ17_init_2_1 14 rfl rfl)
theorem dJ17_init_2_41 : decode cJ17_init_2 41 = .ok (.getstatic 38, 3) := dk_178 0 38 (dk_at dksJ17_init_2_1 17 rfl rfl)
theorem dJ17_init_2_44 : decode cJ17_init_2 44 = .ok (.ifCond .eq 35, 3) := dk_153 0 35 (dk_at dksJ17_init_2_1 20 rfl rfl)
theorem dJ17_init_2_47 : decode cJ17_init_2 47 = .ok (.aload_n 1, 1) := dk_43 (dk_at dksJ17_init_2_1 23 rfl rfl)
theorem dJ17_init_2_48 : decode cJ17_init_2 48 = .ok (.getfield 1048, 3) := dk_180 4 24 (dk_at dksJ17_init_2_2 0 rfl rfl)
theorem dJ17_init_2_51 : decode cJ17_init_2 51 = .ok (.ifCond .eq 28, 3) := dk_153 0 28 (dk_at dksJ17_init_2_2 3 rfl rfl)
theorem dJ17_init_2_54 : decode cJ17_init_2 54 = .ok (.aload_n 0, 1) := dk_42 (dk_at dksJ17_init_2_2 6 rfl rfl)
theorem dJ17_init_2_55 : decode cJ17_init_2 55 = .ok (.aload_n 3, 1) := dk_45 (dk_at dksJ17_init_2_2 7 rfl rfl)
theorem dJ17_init_2_56 : decode cJ17_init_2 56 = .ok (.iconst 0, 1) := dk_3 (dk_at dksJ17_init_2_2 8 rfl rfl)
theorem dJ17_init_2_57 : decode cJ17_init_2 57 = .ok (.iload 4, 2) := dk_21 4 (dk_at dksJ17_init_2_2 9 rfl rfl)
theorem dJ17_init_2_59 : decode cJ17_init_2 59 = .ok (.invokestatic 1051, 3) := dk_184 4 27 (dk_at dksJ17_init_2_2 11 rfl rfl)
theorem dJ17_init_2_62 : decode cJ17_init_2 62 = .ok (.putfield 9, 3) := dk_181 0 9 (dk_at dksJ17_init_2_2 14 rfl rfl)
theorem dJ17_init_2_65 : decode cJ17_init_2 65 = .ok (.aload_n 0, 1) := dk_42 (dk_at dksJ17_init_2_2 17 rfl rfl)
theorem dJ17_init_2_66 : decode cJ17_init_2 66 = .ok (.aload_n 0, 1) := dk_42 (dk_at dksJ17_init_2_2 18 rfl rfl)
theorem dJ17_init_2_67 : decode cJ17_init_2 67 = .ok (.getfield 9, 3) := dk_180 0 9 (dk_at dksJ17_init_2_2 19 rfl rfl)
theorem dJ17_init_2_70 : decode cJ17_init_2 70 = .ok (.iload 4, 2) := dk_21 4 (dk_at dksJ17_init_2_2 22 rfl rfl)
theorem dJ17_init_2_72 : decode cJ17_init_2 72 = .ok (.invokestatic 47, 3) := dk_184 0 47 (dk_at dksJ17_init_2_3 0 rfl rfl)
theorem dJ17_init_2_75 : decode cJ17_init_2 75 = .ok (.putfield 15, 3) := dk_181 0 15 (dk_at dksJ17_init_2_3 3 rfl rfl)
theorem dJ17_init_2_78 : decode cJ17_init_2 78 = .ok (.return_, 1) := dk_177 (dk_at dksJ17_init_2_3 6 rfl rfl)
theorem dJ17_init_2_79 : decode cJ17_init_2 79 = .ok (.aload_n 0, 1) := dk_42 (dk_at dksJ17_init_2_3 7 rfl rfl)
theorem dJ17_init_2_80 : decode cJ17_init_2 80 = .ok (.iconst 1, 1) := dk_4 (dk_at dksJ17_init_2_3 8 rfl rfl)
theorem dJ17_init_2_81 : decode cJ17_init_2 81 = .ok (.putfield 15, 3) := dk_181 0 15 (dk_at dksJ17_init_2_3 9 rfl rfl)
theorem dJ17_init_2_84 : decode cJ17_init_2 84 = .ok (.aload_n 0, 1) := dk_42 (dk_at dksJ17_init_2_3 12 rfl rfl)
theorem dJ17_init_2_85 : decode cJ17_init_2 85 = .ok (.aload_n 3, 1) := dk_45 (dk_at dksJ17_init_2_3 13 rfl rfl)
theorem dJ17_init_2_86 : decode cJ17_init_2 86 = .ok (.iconst 0, 1) := dk_3 (dk_at dksJ17_init_2_3 14 rfl rfl)
theorem dJ17_init_2_87 : decode cJ17_init_2 87 = .ok (.iload 4, 2) := dk_21 4 (dk_at dksJ17_init_2_3 15 rfl rfl)
theorem dJ17_init_2_89 : decode cJ17_init_2 89 = .ok (.iconst 1, 1) := dk_4 (dk_at dksJ17_init_2_3 17 rfl rfl)
theorem dJ17_init_2_90 : decode cJ17_init_2 90 = .ok (.ishl, 1) := dk_120 (dk_at dksJ17_init_2_3 18 rfl rfl)
theorem dJ17_init_2_91 : decode cJ17_init_2 91 = .ok (.invokestatic 54, 3) := dk_184 0 54 (dk_at dksJ17_init_2_3 19 rfl rfl)
theorem dJ17_init_2_94 : decode cJ17_init_2 94 = .ok (.putfield 9, 3) := dk_181 0 9 (dk_at dksJ17_init_2_4 0 rfl rfl)
theorem dJ17_init_2_97 : decode cJ17_init_2 97 = .ok (.return_, 1) := dk_177 (dk_at dksJ17_init_2_4 3 rfl rfl)
theorem q155 : (Jvm.Cond.initialized "java/lang/String") ∈ lw_all := lw_g (lw_at lw_m1 38 rfl) rfl
theorem q535 : (Jvm.Cond.laysStatic "java/lang/String" "COMPACT_STRINGS" "Z") ∈ lw_tbl := lw_at lw_m2 178 rfl
theorem q545 : (Jvm.Cond.fieldLink "java/lang/String" (1048 : Nat) "java/lang/AbstractStringBuilder" "maybeLatin1" "Z") ∈ lw_all := lw_g (lw_at lw_m2 188 rfl) rfl
theorem q619 : (Jvm.Cond.static ({ cls := "java/lang/String", name := "checkBoundsBeginEnd", desc := "(III)V" } : Jvm.MethodName)) ∈ lw_all := lw_g (lw_at lw_m3 22 rfl) rfl
theorem q620 : (Jvm.Cond.code ({ cls := "java/lang/String", name := "checkBoundsBeginEnd", desc := "(III)V" } : Jvm.MethodName) prog_46_method_158_code (3 : Nat) (Option.none : Option Jvm.ClassFile.FieldType)) ∈ lw_all := lw_g (lw_at lw_m3 23 rfl) rfl
theorem q621 : (Jvm.Cond.fieldLink "java/lang/String" (1053 : Nat) "jdk/internal/util/Preconditions" "SIOOBE_FORMATTER" "Ljava/util/function/BiFunction;") ∈ lw_all := lw_g (lw_at lw_m3 24 rfl) rfl
theorem q623 : (Jvm.Cond.methodLink "java/lang/String" (1062 : Nat) ({ cls := "jdk/internal/util/Preconditions", name := "checkFromToIndex", desc := "(IIILjava/util/function/BiFunction;)I" } : Jvm.MethodName)) ∈ lw_all := lw_g (lw_at lw_m3 26 rfl) rfl
theorem q636 : (Jvm.Cond.instanceMethod ({ cls := "java/lang/String", name := "length", desc := "()I" } : Jvm.MethodName)) ∈ lw_all := lw_g (lw_at lw_m3 39 rfl) rfl
theorem q637 : (Jvm.Cond.selects "java/lang/String" ({ cls := "java/lang/String", name := "length", desc := "()I" } : Jvm.MethodName) ({ cls := "java/lang/String", name := "length", desc := "()I" } : Jvm.MethodName)) ∈ lw_all := lw_g (lw_at lw_m3 40 rfl) rfl
theorem q638 : (Jvm.Cond.code ({ cls := "java/lang/String", name := "length", desc := "()I" } : Jvm.MethodName) prog_46_method_54_code (1 : Nat) (Option.some Jvm.ClassFile.FieldType.int)) ∈ lw_all := lw_g (lw_at lw_m3 41 rfl) rfl
theorem q639 : (Jvm.Cond.methodLink "java/lang/String" (335 : Nat) ({ cls := "java/lang/String", name := "coder", desc := "()B" } : Jvm.MethodName)) ∈ lw_all := lw_g (lw_at lw_m3 42 rfl) rfl
theorem q640 : (Jvm.Cond.instanceMethod ({ cls := "java/lang/String", name := "coder", desc := "()B" } : Jvm.MethodName)) ∈ lw_all := lw_g (lw_at lw_m3 43 rfl) rfl
theorem q641 : (Jvm.Cond.selects "java/lang/String" ({ cls := "java/lang/String", name := "coder", desc := "()B" } : Jvm.MethodName) ({ cls := "java/lang/String", name := "coder", desc := "()B" } : Jvm.MethodName)) ∈ lw_all := lw_g (lw_at lw_m3 44 rfl) rfl
theorem q642 : (Jvm.Cond.code ({ cls := "java/lang/String", name := "coder", desc := "()B" } : Jvm.MethodName) prog_46_method_152_code (1 : Nat) (Option.some Jvm.ClassFile.FieldType.byte)) ∈ lw_all := lw_g (lw_at lw_m3 45 rfl) rfl
theorem q643 : (Jvm.Cond.fieldLink "java/lang/String" (38 : Nat) "java/lang/String" "COMPACT_STRINGS" "Z") ∈ lw_all := lw_g (lw_at lw_m3 46 rfl) rfl
theorem q667 : (Jvm.Cond.static ({ cls := "java/lang/String", name := "checkBoundsOffCount", desc := "(III)I" } : Jvm.MethodName)) ∈ lw_all := lw_g (lw_at lw_m3 70 rfl) rfl
theorem q668 : (Jvm.Cond.code ({ cls := "java/lang/String", name := "checkBoundsOffCount", desc := "(III)I" } : Jvm.MethodName) prog_46_method_157_code (3 : Nat) (Option.some Jvm.ClassFile.FieldType.int)) ∈ lw_all := lw_g (lw_at lw_m3 71 rfl) rfl
theorem q669 : (Jvm.Cond.methodLink "java/lang/String" (1065 : Nat) ({ cls := "jdk/internal/util/Preconditions", name := "checkFromIndexSize", desc := "(IIILjava/util/function/BiFunction;)I" } : Jvm.MethodName)) ∈ lw_all := lw_g (lw_at lw_m3 72 rfl) rfl
theorem q673 : (Jvm.Cond.instanceMethod ({ cls := "java/lang/String", name := "getBytes", desc := "([BIB)V" } : Jvm.MethodName)) ∈ lw_all := lw_g (lw_at lw_m3 76 rfl) rfl
theorem q674 : (Jvm.Cond.selects "java/lang/String" ({ cls := "java/lang/String", name := "getBytes", desc := "([BIB)V" } : Jvm.MethodName) ({ cls := "java/lang/String", name := "getBytes", desc := "([BIB)V" } : Jvm.MethodName)) ∈ lw_all := lw_g (lw_at lw_m3 77 rfl) rfl
theorem q675 : (Jvm.Cond.code ({ cls := "java/lang/String", name := "getBytes", desc := "([BIB)V" } : Jvm.MethodName) prog_46_method_147_code (4 : Nat) (Option.none : Option Jvm.ClassFile.FieldType)) ∈ lw_all := lw_g (lw_at lw_m3 78 rfl) rfl
theorem q676 : (Jvm.Cond.methodLink "java/lang/String" (212 : Nat) ({ cls := "java/lang/System", name := "arraycopy", desc := "(Ljava/lang/Object;ILjava/lang/Object;II)V" } : Jvm.MethodName)) ∈ lw_all := lw_g (lw_at lw_m3 79 rfl) rfl
theorem q677 : (Jvm.Cond.methodLink "java/lang/String" (106 : Nat) ({ cls := "java/lang/StringLatin1", name := "inflate", desc := "([BI[BII)V" } : Jvm.MethodName)) ∈ lw_all := lw_g (lw_at lw_m3 80 rfl) rfl
theorem q709 : (Jvm.Cond.instantiable "java/lang/String" (4 : Nat)) ∈ lw_all := lw_g (lw_at lw_m3 112 rfl) rfl
theorem q711 : (Jvm.Cond.instanceMethod ({ cls := "java/lang/String", name := "<init>", desc := "(Ljava/lang/StringBuilder;)V" } : Jvm.MethodName)) ∈ lw_all := lw_g (lw_at lw_m3 114 rfl) rfl
theorem q712 : (Jvm.Cond.code ({ cls := "java/lang/String", name := "<init>", desc := "(Ljava/lang/StringBuilder;)V" } : Jvm.MethodName) prog_46_method_53_code (2 : Nat) (Option.none : Option Jvm.ClassFile.FieldType)) ∈ lw_all := lw_g (lw_at lw_m3 115 rfl) rfl
theorem q713 : (Jvm.Cond.methodLink "java/lang/String" (489 : Nat) ({ cls := "java/lang/String", name := "<init>", desc := "(Ljava/lang/AbstractStringBuilder;Ljava/lang/Void;)V" } : Jvm.MethodName)) ∈ lw_all := lw_g (lw_at lw_m3 116 rfl) rfl
theorem q714 : (Jvm.Cond.instanceMethod ({ cls := "java/lang/String", name := "<init>", desc := "(Ljava/lang/AbstractStringBuilder;Ljava/lang/Void;)V" } : Jvm.MethodName)) ∈ lw_all := lw_g (lw_at lw_m3 117 rfl) rfl
theorem q715 : (Jvm.Cond.code ({ cls := "java/lang/String", name := "<init>", desc := "(Ljava/lang/AbstractStringBuilder;Ljava/lang/Void;)V" } : Jvm.MethodName) prog_46_method_150_code (5 : Nat) (Option.none : Option Jvm.ClassFile.FieldType)) ∈ lw_all := lw_g (lw_at lw_m3 118 rfl) rfl
theorem q716 : (Jvm.Cond.methodLink "java/lang/String" (1 : Nat) ({ cls := "java/lang/Object", name := "<init>", desc := "()V" } : Jvm.MethodName)) ∈ lw_all := lw_g (lw_at lw_m3 119 rfl) rfl
theorem q717 : (Jvm.Cond.methodLink "java/lang/String" (552 : Nat) ({ cls := "java/lang/AbstractStringBuilder", name := "getValue", desc := "()[B" } : Jvm.MethodName)) ∈ lw_all := lw_g (lw_at lw_m3 120 rfl) rfl
theorem q722 : (Jvm.Cond.methodLink "java/lang/String" (549 : Nat) ({ cls := "java/lang/AbstractStringBuilder", name := "length", desc := "()I" } : Jvm.MethodName)) ∈ lw_all := lw_g (lw_at lw_m3 125 rfl) rfl
theorem q730 : (Jvm.Cond.methodLink "java/lang/String" (1047 : Nat) ({ cls := "java/lang/AbstractStringBuilder", name := "isLatin1", desc := "()Z" } : Jvm.MethodName)) ∈ lw_all := lw_g (lw_at lw_m3 133 rfl) rfl
theorem q731 : (Jvm.Cond.methodLink "java/lang/String" (54 : Nat) ({ cls := "java/util/Arrays", name := "copyOfRange", desc := "([BII)[B" } : Jvm.MethodName)) ∈ lw_all := lw_g (lw_at lw_m3 134 rfl) rfl
theorem q782 : (Jvm.Cond.methodLink "java/lang/String" (1051 : Nat) ({ cls := "java/lang/StringUTF16", name := "compress", desc := "([BII)[B" } : Jvm.MethodName)) ∈ lw_all := lw_g (lw_at lw_m3 185 rfl) rfl
theorem q792 : (Jvm.Cond.methodLink "java/lang/String" (47 : Nat) ({ cls := "java/lang/StringUTF16", name := "coderFromArrayLen", desc := "([BI)B" } : Jvm.MethodName)) ∈ lw_all := lw_g (lw_at lw_m3 195 rfl) rfl
theorem q795 : (Jvm.Cond.fieldLink "java/lang/String" (9 : Nat) "java/lang/String" "value" "[B") ∈ lw_all := lw_g (lw_at lw_m3 198 rfl) rfl
theorem q796 : (Jvm.Cond.fieldLink "java/lang/String" (15 : Nat) "java/lang/String" "coder" "B") ∈ lw_all := lw_g (lw_at lw_m3 199 rfl) rfl
theorem q797 : (Jvm.Cond.laysFinal "java/lang/String" "java/lang/String" "value" "[B") ∈ lw_all := lw_g (lw_at lw_m3 200 rfl) rfl
theorem q798 : (Jvm.Cond.soleField "java/lang/String" "value") ∈ lw_all := lw_g (lw_at lw_m3 201 rfl) rfl
theorem q799 : (Jvm.Cond.laysFinal "java/lang/String" "java/lang/String" "coder" "B") ∈ lw_all := lw_g (lw_at lw_m3 202 rfl) rfl
theorem q800 : (Jvm.Cond.soleField "java/lang/String" "coder") ∈ lw_all := lw_g (lw_at lw_m3 203 rfl) rfl
theorem q801 : (Jvm.Cond.lays "java/lang/String" "java/lang/String" "hash" "I") ∈ lw_all := lw_g (lw_at lw_m3 204 rfl) rfl
theorem q802 : (Jvm.Cond.soleField "java/lang/String" "hash") ∈ lw_all := lw_g (lw_at lw_m3 205 rfl) rfl
theorem q803 : (Jvm.Cond.lays "java/lang/String" "java/lang/String" "hashIsZero" "Z") ∈ lw_all := lw_g (lw_at lw_m3 206 rfl) rfl
theorem q804 : (Jvm.Cond.soleField "java/lang/String" "hashIsZero") ∈ lw_all := lw_g (lw_at lw_m3 207 rfl) rfl
theorem q805 : (Jvm.Cond.superclass "java/lang/String" "java/lang/Object") ∈ lw_all := lw_g (lw_at lw_m3 208 rfl) rfl
theorem q1076 : (Jvm.Cond.selects "java/lang/String" ({ cls := "java/lang/Object", name := "getClass", desc := "()Ljava/lang/Class;" } : Jvm.MethodName) ({ cls := "java/lang/Object", name := "getClass", desc := "()Ljava/lang/Class;" } : Jvm.MethodName)) ∈ lw_all := lw_g (lw_at lw_m4 239 rfl) rfl
theorem q3500 : (Jvm.Cond.castable "java/lang/String" "java/lang/Object") ∈ lw_tbl := lw_at lw_m15 23 rfl
theorem in_J17 : ∀ w ∈ wsJ170, w ∈ lw_all := lw_in wsJ170 [797, 799, 801, 803] (by decide +kernel) (by decide +kernel)

/-! java/lang/StringUTF16 -/
def RJ18 : String := "java/lang/StringUTF16"
abbrev cJ18_newBytesFor : ByteArray := prog_49_method_2_code
def yJ18_newBytesFor : MethodName := ⟨RJ18, "newBytesFor", "(I)[B"⟩
def dkwJ18_newBytesFor_0 : List UInt8 := [26, 184, 0, 11, 188, 8, 176]
abbrev dktJ18_newBytesFor_0 : List UInt8 := dkwJ18_newBytesFor_0 ++ []
theorem dksJ18_newBytesFor_0 : cJ18_newBytesFor.data.toList.drop 0 = dktJ18_newBytesFor_0 := by decide +kernel
theorem dJ18_newBytesFor_0 : decode cJ18_newBytesFor 0 = .ok (.iload_n 0, 1) := dk_26 (dk_at dksJ18_newBytesFor_0 0 rfl rfl)
theorem dJ18_newBytesFor_1 : decode cJ18_newBytesFor 1 = .ok (.invokestatic 11, 3) := dk_184 0 11 (dk_at dksJ18_newBytesFor_0 1 rfl rfl)
theorem dJ18_newBytesFor_4 : decode cJ18_newBytesFor 4 = .ok (.newarray .byte, 2) := dk_188_8 (dk_at dksJ18_newBytesFor_0 4 rfl rfl)
theorem dJ18_newBytesFor_6 : decode cJ18_newBytesFor 6 = .ok (.areturn, 1) := dk_176 (dk_at dksJ18_newBytesFor_0 6 rfl rfl)
abbrev cJ18_newBytesLength : ByteArray := prog_49_method_3_code
def yJ18_newBytesLength : MethodName := ⟨RJ18, "newBytesLength", "(I)I"⟩
def dkwJ18_newBytesLength_2 : List UInt8 := [182, 0, 32, 182, 0, 37, 183, 0, 41, 191, 26, 4, 120, 172]
abbrev dktJ18_newBytesLength_2 : List UInt8 := dkwJ18_newBytesLength_2 ++ []
def dkwJ18_newBytesLength_1 : List UInt8 := [187, 0, 23, 89, 183, 0, 25, 18, 26, 182, 0, 28, 26, 182, 0, 32, 18, 35, 182, 0, 28, 18, 20]
abbrev dktJ18_newBytesLength_1 : List UInt8 := dkwJ18_newBytesLength_1 ++ dktJ18_newBytesLength_2
def dkwJ18_newBytesLength_0 : List UInt8 := [26, 156, 0, 11, 187, 0, 17, 89, 183, 0, 19, 191, 26, 18, 20, 161, 0, 40, 187, 0, 21, 89]
abbrev dktJ18_newBytesLength_0 : List UInt8 := dkwJ18_newBytesLength_0 ++ dktJ18_newBytesLength_1
theorem dksJ18_newBytesLength_0 : cJ18_newBytesLength.data.toList.drop 0 = dktJ18_newBytesLength_0 := by decide +kernel
theorem dksJ18_newBytesLength_1 : cJ18_newBytesLength.data.toList.drop 22 = dktJ18_newBytesLength_1 := dk_seg dksJ18_newBytesLength_0 22 rfl rfl
theorem dksJ18_newBytesLength_2 : cJ18_newBytesLength.data.toList.drop 45 = dktJ18_newBytesLength_2 := dk_seg dksJ18_newBytesLength_1 23 rfl rfl
theorem dJ18_newBytesLength_0 : decode cJ18_newBytesLength 0 = .ok (.iload_n 0, 1) := dk_26 (dk_at dksJ18_newBytesLength_0 0 rfl rfl)
theorem dJ18_newBytesLength_1 : decode cJ18_newBytesLength 1 = .ok (.ifCond .ge 11, 3) := dk_156 0 11 (dk_at dksJ18_newBytesLength_0 1 rfl rfl)
theorem dJ18_newBytesLength_4 : decode cJ18_newBytesLength 4 = .ok (.new 17, 3) := dk_187 0 17 (dk_at dksJ18_newBytesLength_0 4 rfl rfl)
theorem dJ18_newBytesLength_7 : decode cJ18_newBytesLength 7 = .ok (.dup, 1) := dk_89 (dk_at dksJ18_newBytesLength_0 7 rfl rfl)
theorem dJ18_newBytesLength_8 : decode cJ18_newBytesLength 8 = .ok (.invokespecial 19, 3) := dk_183 0 19 (dk_at dksJ18_newBytesLength_0 8 rfl rfl)
theorem dJ18_newBytesLength_11 : decode cJ18_newBytesLength 11 = .ok (.athrow, 1) := dk_191 (dk_at dksJ18_newBytesLength_0 11 rfl rfl)
theorem dJ18_newBytesLength_12 : decode cJ18_newBytesLength 12 = .ok (.iload_n 0, 1) := dk_26 (dk_at dksJ18_newBytesLength_0 12 rfl rfl)
theorem dJ18_newBytesLength_13 : decode cJ18_newBytesLength 13 = .ok (.ldc 20, 2) := dk_18 20 (dk_at dksJ18_newBytesLength_0 13 rfl rfl)
theorem dJ18_newBytesLength_15 : decode cJ18_newBytesLength 15 = .ok (.if_icmp .lt 40, 3) := dk_161 0 40 (dk_at dksJ18_newBytesLength_0 15 rfl rfl)
theorem dJ18_newBytesLength_18 : decode cJ18_newBytesLength 18 = .ok (.new 21, 3) := dk_187 0 21 (dk_at dksJ18_newBytesLength_0 18 rfl rfl)
theorem dJ18_newBytesLength_21 : decode cJ18_newBytesLength 21 = .ok (.dup, 1) := dk_89 (dk_at dksJ18_newBytesLength_0 21 rfl rfl)
theorem dJ18_newBytesLength_22 : decode cJ18_newBytesLength 22 = .ok (.new 23, 3) := dk_187 0 23 (dk_at dksJ18_newBytesLength_1 0 rfl rfl)
theorem dJ18_newBytesLength_25 : decode cJ18_newBytesLength 25 = .ok (.dup, 1) := dk_89 (dk_at dksJ18_newBytesLength_1 3 rfl rfl)
theorem dJ18_newBytesLength_26 : decode cJ18_newBytesLength 26 = .ok (.invokespecial 25, 3) := dk_183 0 25 (dk_at dksJ18_newBytesLength_1 4 rfl rfl)
theorem dJ18_newBytesLength_29 : decode cJ18_newBytesLength 29 = .ok (.ldc 26, 2) := dk_18 26 (dk_at dksJ18_newBytesLength_1 7 rfl rfl)
theorem dJ18_newBytesLength_31 : decode cJ18_newBytesLength 31 = .ok (.invokevirtual 28, 3) := dk_182 0 28 (dk_at dksJ18_newBytesLength_1 9 rfl rfl)
theorem dJ18_newBytesLength_34 : decode cJ18_newBytesLength 34 = .ok (.iload_n 0, 1) := dk_26 (dk_at dksJ18_newBytesLength_1 12 rfl rfl)
theorem dJ18_newBytesLength_35 : decode cJ18_newBytesLength 35 = .ok (.invokevirtual 32, 3) := dk_182 0 32 (dk_at dksJ18_newBytesLength_1 13 rfl rfl)
theorem dJ18_newBytesLength_38 : decode cJ18_newBytesLength 38 = .ok (.ldc 35, 2) := dk_18 35 (dk_at dksJ18_newBytesLength_1 16 rfl rfl)
theorem dJ18_newBytesLength_40 : decode cJ18_newBytesLength 40 = .ok (.invokevirtual 28, 3) := dk_182 0 28 (dk_at dksJ18_newBytesLength_1 18 rfl rfl)
theorem dJ18_newBytesLength_43 : decode cJ18_newBytesLength 43 = .ok (.ldc 20, 2) := dk_18 20 (dk_at dksJ18_newBytesLength_1 21 rfl rfl)
theorem dJ18_newBytesLength_45 : decode cJ18_newBytesLength 45 = .ok (.invokevirtual 32, 3) := dk_182 0 32 (dk_at dksJ18_newBytesLength_2 0 rfl rfl)
theorem dJ18_newBytesLength_48 : decode cJ18_newBytesLength 48 = .ok (.invokevirtual 37, 3) := dk_182 0 37 (dk_at dksJ18_newBytesLength_2 3 rfl rfl)
theorem dJ18_newBytesLength_51 : decode cJ18_newBytesLength 51 = .ok (.invokespecial 41, 3) := dk_183 0 41 (dk_at dksJ18_newBytesLength_2 6 rfl rfl)
theorem dJ18_newBytesLength_54 : decode cJ18_newBytesLength 54 = .ok (.athrow, 1) := dk_191 (dk_at dksJ18_newBytesLength_2 9 rfl rfl)
theorem dJ18_newBytesLength_55 : decode cJ18_newBytesLength 55 = .ok (.iload_n 0, 1) := dk_26 (dk_at dksJ18_newBytesLength_2 10 rfl rfl)
theorem dJ18_newBytesLength_56 : decode cJ18_newBytesLength 56 = .ok (.iconst 1, 1) := dk_4 (dk_at dksJ18_newBytesLength_2 11 rfl rfl)
theorem dJ18_newBytesLength_57 : decode cJ18_newBytesLength 57 = .ok (.ishl, 1) := dk_120 (dk_at dksJ18_newBytesLength_2 12 rfl rfl)
theorem dJ18_newBytesLength_58 : decode cJ18_newBytesLength 58 = .ok (.ireturn, 1) := dk_172 (dk_at dksJ18_newBytesLength_2 13 rfl rfl)
abbrev cJ18_putCharsAt : ByteArray := prog_49_method_81_code
def yJ18_putCharsAt : MethodName := ⟨RJ18, "putCharsAt", "([BICCCC)I"⟩
def dkwJ18_putCharsAt_3 : List UInt8 := [21, 6, 172]
abbrev dktJ18_putCharsAt_3 : List UInt8 := dkwJ18_putCharsAt_3 ++ []
def dkwJ18_putCharsAt_2 : List UInt8 := [184, 0, 111, 178, 0, 44, 154, 0, 17, 27, 21, 6, 159, 0, 11, 187, 0, 52, 89, 183, 0, 66, 191]
abbrev dktJ18_putCharsAt_2 : List UInt8 := dkwJ18_putCharsAt_2 ++ dktJ18_putCharsAt_3
def dkwJ18_putCharsAt_1 : List UInt8 := [132, 1, 1, 29, 184, 0, 111, 42, 27, 132, 1, 1, 21, 4, 184, 0, 111, 42, 27, 132, 1, 1, 21, 5]
abbrev dktJ18_putCharsAt_1 : List UInt8 := dkwJ18_putCharsAt_1 ++ dktJ18_putCharsAt_2
def dkwJ18_putCharsAt_0 : List UInt8 := [27, 7, 96, 54, 6, 27, 21, 6, 42, 184, 0, 96, 42, 27, 132, 1, 1, 28, 184, 0, 111, 42, 27]
abbrev dktJ18_putCharsAt_0 : List UInt8 := dkwJ18_putCharsAt_0 ++ dktJ18_putCharsAt_1
theorem dksJ18_putCharsAt_0 : cJ18_putCharsAt.data.toList.drop 0 = dktJ18_putCharsAt_0 := by decide +kernel
theorem dksJ18_putCharsAt_1 : cJ18_putCharsAt.data.toList.drop 23 = dktJ18_putCharsAt_1 := dk_seg dksJ18_putCharsAt_0 23 rfl rfl
theorem dksJ18_putCharsAt_2 : cJ18_putCharsAt.data.toList.drop 47 = dktJ18_putCharsAt_2 := dk_seg dksJ18_putCharsAt_1 24 rfl rfl
theorem dksJ18_putCharsAt_3 : cJ18_putCharsAt.data.toList.drop 70 = dktJ18_putCharsAt_3 := dk_seg dksJ18_putCharsAt_2 23 rfl rfl
theorem dJ18_putCharsAt_0 : decode cJ18_putCharsAt 0 = .ok (.iload_n 1, 1) := dk_27 (dk_at dksJ18_putCharsAt_0 0 rfl rfl)
theorem dJ18_putCharsAt_1 : decode cJ18_putCharsAt 1 = .ok (.iconst 4, 1) := dk_7 (dk_at dksJ18_putCharsAt_0 1 rfl rfl)
theorem dJ18_putCharsAt_2 : decode cJ18_putCharsAt 2 = .ok (.iadd, 1) := dk_96 (dk_at dksJ18_putCharsAt_0 2 rfl rfl)
theorem dJ18_putCharsAt_3 : decode cJ18_putCharsAt 3 = .ok (.istore 6, 2) := dk_54 6 (dk_at dksJ18_putCharsAt_0 3 rfl rfl)
theorem dJ18_putCharsAt_5 : decode cJ18_putCharsAt 5 = .ok (.iload_n 1, 1) := dk_27 (dk_at dksJ18_putCharsAt_0 5 rfl rfl)
theorem dJ18_putCharsAt_6 : decode cJ18_putCharsAt 6 = .ok (.iload 6, 2) := dk_21 6 (dk_at dksJ18_putCharsAt_0 6 rfl rfl)
theorem dJ18_putCharsAt_8 : decode cJ18_putCharsAt 8 = .ok (.aload_n 0, 1) := dk_42 (dk_at dksJ18_putCharsAt_0 8 rfl rfl)
theorem dJ18_putCharsAt_9 : decode cJ18_putCharsAt 9 = .ok (.invokestatic 96, 3) := dk_184 0 96 (dk_at dksJ18_putCharsAt_0 9 rfl rfl)
theorem dJ18_putCharsAt_12 : decode cJ18_putCharsAt 12 = .ok (.aload_n 0, 1) := dk_42 (dk_at dksJ18_putCharsAt_0 12 rfl rfl)
theorem dJ18_putCharsAt_13 : decode cJ18_putCharsAt 13 = .ok (.iload_n 1, 1) := dk_27 (dk_at dksJ18_putCharsAt_0 13 rfl rfl)
theorem dJ18_putCharsAt_14 : decode cJ18_putCharsAt 14 = .ok (.iinc 1 1, 3) := dk_132 1 1 (dk_at dksJ18_putCharsAt_0 14 rfl rfl)
theorem dJ18_putCharsAt_17 : decode cJ18_putCharsAt 17 = .ok (.iload_n 2, 1) := dk_28 (dk_at dksJ18_putCharsAt_0 17 rfl rfl)
theorem dJ18_putCharsAt_18 : decode cJ18_putCharsAt 18 = .ok (.invokestatic 111, 3) := dk_184 0 111 (dk_at dksJ18_putCharsAt_0 18 rfl rfl)
theorem dJ18_putCharsAt_21 : decode cJ18_putCharsAt 21 = .ok (.aload_n 0, 1) := dk_42 (dk_at dksJ18_putCharsAt_0 21 rfl rfl)
theorem dJ18_putCharsAt_22 : decode cJ18_putCharsAt 22 = .ok (.iload_n 1, 1) := dk_27 (dk_at dksJ18_putCharsAt_0 22 rfl rfl)
theorem dJ18_putCharsAt_23 : decode cJ18_putCharsAt 23 = .ok (.iinc 1 1, 3) := dk_132 1 1 (dk_at dksJ18_putCharsAt_1 0 rfl rfl)
theorem dJ18_putCharsAt_26 : decode cJ18_putCharsAt 26 = .ok (.iload_n 3, 1) := dk_29 (dk_at dksJ18_putCharsAt_1 3 rfl rfl)
theorem dJ18_putCharsAt_27 : decode cJ18_putCharsAt 27 = .ok (.invokestatic 111, 3) := dk_184 0 111 (dk_at dksJ18_putCharsAt_1 4 rfl rfl)
theorem dJ18_putCharsAt_30 : decode cJ18_putCharsAt 30 = .ok (.aload_n 0, 1) := dk_42 (dk_at dksJ18_putCharsAt_1 7 rfl rfl)
theorem dJ18_putCharsAt_31 : decode cJ18_putCharsAt 31 = .ok (.iload_n 1, 1) := dk_27 (dk_at dksJ18_putCharsAt_1 8 rfl rfl)
theorem dJ18_putCharsAt_32 : decode cJ18_putCharsAt 32 = .ok (.iinc 1 1, 3) := dk_132 1 1 (dk_at dksJ18_putCharsAt_1 9 rfl rfl)
theorem dJ18_putCharsAt_35 : decode cJ18_putCharsAt 35 = .ok (.iload 4, 2) := dk_21 4 (dk_at dksJ18_putCharsAt_1 12 rfl rfl)
theorem dJ18_putCharsAt_37 : decode cJ18_putCharsAt 37 = .ok (.invokestatic 111, 3) := dk_184 0 111 (dk_at dksJ18_putCharsAt_1 14 rfl rfl)
theorem dJ18_putCharsAt_40 : decode cJ18_putCharsAt 40 = .ok (.aload_n 0, 1) := dk_42 (dk_at dksJ18_putCharsAt_1 17 rfl rfl)
theorem dJ18_putCharsAt_41 : decode cJ18_putCharsAt 41 = .ok (.iload_n 1, 1) := dk_27 (dk_at dksJ18_putCharsAt_1 18 rfl rfl)
theorem dJ18_putCharsAt_42 : decode cJ18_putCharsAt 42 = .ok (.iinc 1 1, 3) := dk_132 1 1 (dk_at dksJ18_putCharsAt_1 19 rfl rfl)
theorem dJ18_putCharsAt_45 : decode cJ18_putCharsAt 45 = .ok (.iload 5, 2) := dk_21 5 (dk_at dksJ18_putCharsAt_1 22 rfl rfl)
theorem dJ18_putCharsAt_47 : decode cJ18_putCharsAt 47 = .ok (.invokestatic 111, 3) := dk_184 0 111 (dk_at dksJ18_putCharsAt_2 0 rfl rfl)
theorem dJ18_putCharsAt_50 : decode cJ18_putCharsAt 50 = .ok (.getstatic 44, 3) := dk_178 0 44 (dk_at dksJ18_putCharsAt_2 3 rfl rfl)
theorem dJ18_putCharsAt_53 : decode cJ18_putCharsAt 53 = .ok (.ifCond .ne 17, 3) := dk_154 0 17 (dk_at dksJ18_putCharsAt_2 6 rfl rfl)
theorem dJ18_putCharsAt_56 : decode cJ18_putCharsAt 56 = .ok (.iload_n 1, 1) := dk_27 (dk_at dksJ18_putCharsAt_2 9 rfl rfl)
theorem dJ18_putCharsAt_57 : decode cJ18_putCharsAt 57 = .ok (.iload 6, 2) := dk_21 6 (dk_at dksJ18_putCharsAt_2 10 rfl rfl)
theorem dJ18_putCharsAt_59 : decode cJ18_putCharsAt 59 = .ok (.if_icmp .eq 11, 3) := dk_159 0 11 (dk_at dksJ18_putCharsAt_2 12 rfl rfl)
theorem dJ18_putCharsAt_62 : decode cJ18_putCharsAt 62 = .ok (.new 52, 3) := dk_187 0 52 (dk_at dksJ18_putCharsAt_2 15 rfl rfl)
theorem dJ18_putCharsAt_65 : decode cJ18_putCharsAt 65 = .ok (.dup, 1) := dk_89 (dk_at dksJ18_putCharsAt_2 18 rfl rfl)
theorem dJ18_putCharsAt_66 : decode cJ18_putCharsAt 66 = .ok (.invokespecial 66, 3) := dk_183 0 66 (dk_at dksJ18_putCharsAt_2 19 rfl rfl)
theorem dJ18_putCharsAt_69 : decode cJ18_putCharsAt 69 = .ok (.athrow, 1) := dk_191 (dk_at dksJ18_putCharsAt_2 22 rfl rfl)
theorem dJ18_putCharsAt_70 : decode cJ18_putCharsAt 70 = .ok (.iload 6, 2) := dk_21 6 (dk_at dksJ18_putCharsAt_3 0 rfl rfl)
theorem dJ18_putCharsAt_72 : decode cJ18_putCharsAt 72 = .ok (.ireturn, 1) := dk_172 (dk_at dksJ18_putCharsAt_3 2 rfl rfl)
abbrev cJ18_checkBoundsBeginEnd : ByteArray := prog_49_method_93_code
def yJ18_checkBoundsBeginEnd : MethodName := ⟨RJ18, "checkBoundsBeginEnd", "(II[B)V"⟩
def dkwJ18_checkBoundsBeginEnd_0 : List UInt8 := [26, 27, 44, 184, 0, 48, 184, 0, 241, 177]
abbrev dktJ18_checkBoundsBeginEnd_0 : List UInt8 := dkwJ18_checkBoundsBeginEnd_0 ++ []
theorem dksJ18_checkBoundsBeginEnd_0 : cJ18_checkBoundsBeginEnd.data.toList.drop 0 = dktJ18_checkBoundsBeginEnd_0 := by decide +kernel
theorem dJ18_checkBoundsBeginEnd_0 : decode cJ18_checkBoundsBeginEnd 0 = .ok (.iload_n 0, 1) := dk_26 (dk_at dksJ18_checkBoundsBeginEnd_0 0 rfl rfl)
theorem dJ18_checkBoundsBeginEnd_1 : decode cJ18_checkBoundsBeginEnd 1 = .ok (.iload_n 1, 1) := dk_27 (dk_at dksJ18_checkBoundsBeginEnd_0 1 rfl rfl)
theorem dJ18_checkBoundsBeginEnd_2 : decode cJ18_checkBoundsBeginEnd 2 = .ok (.aload_n 2, 1) := dk_44 (dk_at dksJ18_checkBoundsBeginEnd_0 2 rfl rfl)
theorem dJ18_checkBoundsBeginEnd_3 : decode cJ18_checkBoundsBeginEnd 3 = .ok (.invokestatic 48, 3) := dk_184 0 48 (dk_at dksJ18_checkBoundsBeginEnd_0 3 rfl rfl)
theorem dJ18_checkBoundsBeginEnd_6 : decode cJ18_checkBoundsBeginEnd 6 = .ok (.invokestatic 241, 3) := dk_184 0 241 (dk_at dksJ18_checkBoundsBeginEnd_0 6 rfl rfl)
theorem dJ18_checkBoundsBeginEnd_9 : decode cJ18_checkBoundsBeginEnd 9 = .ok (.return_, 1) := dk_177 (dk_at dksJ18_checkBoundsBeginEnd_0 9 rfl rfl)
abbrev cJ18_length : ByteArray := prog_49_method_6_code
def yJ18_length : MethodName := ⟨RJ18, "length", "([B)I"⟩
def dkwJ18_length_0 : List UInt8 := [42, 190, 4, 122, 172]
abbrev dktJ18_length_0 : List UInt8 := dkwJ18_length_0 ++ []
theorem dksJ18_length_0 : cJ18_length.data.toList.drop 0 = dktJ18_length_0 := by decide +kernel
theorem dJ18_length_0 : decode cJ18_length 0 = .ok (.aload_n 0, 1) := dk_42 (dk_at dksJ18_length_0 0 rfl rfl)
theorem dJ18_length_1 : decode cJ18_length 1 = .ok (.arraylength, 1) := dk_190 (dk_at dksJ18_length_0 1 rfl rfl)
theorem dJ18_length_2 : decode cJ18_length 2 = .ok (.iconst 1, 1) := dk_4 (dk_at dksJ18_length_0 2 rfl rfl)
theorem dJ18_length_3 : decode cJ18_length 3 = .ok (.ishr, 1) := dk_122 (dk_at dksJ18_length_0 3 rfl rfl)
theorem dJ18_length_4 : decode cJ18_length 4 = .ok (.ireturn, 1) := dk_172 (dk_at dksJ18_length_0 4 rfl rfl)
abbrev cJ18_putChar : ByteArray := prog_49_method_4_code
def yJ18_putChar : MethodName := ⟨RJ18, "putChar", "([BII)V"⟩
def dkwJ18_putChar_2 : List UInt8 := [178, 0, 63, 122, 145, 84, 177]
abbrev dktJ18_putChar_2 : List UInt8 := dkwJ18_putChar_2 ++ []
def dkwJ18_putChar_1 : List UInt8 := [183, 0, 56, 191, 27, 4, 120, 60, 42, 27, 132, 1, 1, 28, 178, 0, 59, 122, 145, 84, 42, 27, 28]
abbrev dktJ18_putChar_1 : List UInt8 := dkwJ18_putChar_1 ++ dktJ18_putChar_2
def dkwJ18_putChar_0 : List UInt8 := [178, 0, 44, 154, 0, 25, 27, 155, 0, 11, 27, 42, 184, 0, 48, 161, 0, 13, 187, 0, 52, 89, 18, 54]
abbrev dktJ18_putChar_0 : List UInt8 := dkwJ18_putChar_0 ++ dktJ18_putChar_1
theorem dksJ18_putChar_0 : cJ18_putChar.data.toList.drop 0 = dktJ18_putChar_0 := by decide +kernel
theorem dksJ18_putChar_1 : cJ18_putChar.data.toList.drop 24 = dktJ18_putChar_1 := dk_seg dksJ18_putChar_0 24 rfl rfl
theorem dksJ18_putChar_2 : cJ18_putChar.data.toList.drop 47 = dktJ18_putChar_2 := dk_seg dksJ18_putChar_1 23 rfl rfl
theorem dJ18_putChar_0 : decode cJ18_putChar 0 = .ok (.getstatic 44, 3) := dk_178 0 44 (dk_at dksJ18_putChar_0 0 rfl rfl)
theorem dJ18_putChar_3 : decode cJ18_putChar 3 = .ok (.ifCond .ne 25, 3) := dk_154 0 25 (dk_at dksJ18_putChar_0 3 rfl rfl)
theorem dJ18_putChar_6 : decode cJ18_putChar 6 = .ok (.iload_n 1, 1) := dk_27 (dk_at dksJ18_putChar_0 6 rfl rfl)
theorem dJ18_putChar_7 : decode cJ18_putChar 7 = .ok (.ifCond .lt 11, 3) := dk_155 0 11 (dk_at dksJ18_putChar_0 7 rfl rfl)
theorem dJ18_putChar_10 : decode cJ18_putChar 10 = .ok (.iload_n 1, 1) := dk_27 (dk_at dksJ18_putChar_0 10 rfl rfl)
theorem dJ18_putChar_11 : decode cJ18_putChar 11 = .ok (.aload_n 0, 1) := dk_42 (dk_at dksJ18_putChar_0 11 rfl rfl)
theorem dJ18_putChar_12 : decode cJ18_putChar 12 = .ok (.invokestatic 48, 3) := dk_184 0 48 (dk_at dksJ18_putChar_0 12 rfl rfl)
theorem dJ18_putChar_15 : decode cJ18_putChar 15 = .ok (.if_icmp .lt 13, 3) := dk_161 0 13 (dk_at dksJ18_putChar_0 15 rfl rfl)
theorem dJ18_putChar_18 : decode cJ18_putChar 18 = .ok (.new 52, 3) := dk_187 0 52 (dk_at dksJ18_putChar_0 18 rfl rfl)
theorem dJ18_putChar_21 : decode cJ18_putChar 21 = .ok (.dup, 1) := dk_89 (dk_at dksJ18_putChar_0 21 rfl rfl)
theorem dJ18_putChar_22 : decode cJ18_putChar 22 = .ok (.ldc 54, 2) := dk_18 54 (dk_at dksJ18_putChar_0 22 rfl rfl)
theorem dJ18_putChar_24 : decode cJ18_putChar 24 = .ok (.invokespecial 56, 3) := dk_183 0 56 (dk_at dksJ18_putChar_1 0 rfl rfl)
theorem dJ18_putChar_27 : decode cJ18_putChar 27 = .ok (.athrow, 1) := dk_191 (dk_at dksJ18_putChar_1 3 rfl rfl)
theorem dJ18_putChar_28 : decode cJ18_putChar 28 = .ok (.iload_n 1, 1) := dk_27 (dk_at dksJ18_putChar_1 4 rfl rfl)
theorem dJ18_putChar_29 : decode cJ18_putChar 29 = .ok (.iconst 1, 1) := dk_4 (dk_at dksJ18_putChar_1 5 rfl rfl)
theorem dJ18_putChar_30 : decode cJ18_putChar 30 = .ok (.ishl, 1) := dk_120 (dk_at dksJ18_putChar_1 6 rfl rfl)
theorem dJ18_putChar_31 : decode cJ18_putChar 31 = .ok (.istore_n 1, 1) := dk_60 (dk_at dksJ18_putChar_1 7 rfl rfl)
theorem dJ18_putChar_32 : decode cJ18_putChar 32 = .ok (.aload_n 0, 1) := dk_42 (dk_at dksJ18_putChar_1 8 rfl rfl)
theorem dJ18_putChar_33 : decode cJ18_putChar 33 = .ok (.iload_n 1, 1) := dk_27 (dk_at dksJ18_putChar_1 9 rfl rfl)
theorem dJ18_putChar_34 : decode cJ18_putChar 34 = .ok (.iinc 1 1, 3) := dk_132 1 1 (dk_at dksJ18_putChar_1 10 rfl rfl)
theorem dJ18_putChar_37 : decode cJ18_putChar 37 = .ok (.iload_n 2, 1) := dk_28 (dk_at dksJ18_putChar_1 13 rfl rfl)
theorem dJ18_putChar_38 : decode cJ18_putChar 38 = .ok (.getstatic 59, 3) := dk_178 0 59 (dk_at dksJ18_putChar_1 14 rfl rfl)
theorem dJ18_putChar_41 : decode cJ18_putChar 41 = .ok (.ishr, 1) := dk_122 (dk_at dksJ18_putChar_1 17 rfl rfl)
theorem dJ18_putChar_42 : decode cJ18_putChar 42 = .ok (.i2b, 1) := dk_145 (dk_at dksJ18_putChar_1 18 rfl rfl)
theorem dJ18_putChar_43 : decode cJ18_putChar 43 = .ok (.bastore, 1) := dk_84 (dk_at dksJ18_putChar_1 19 rfl rfl)
theorem dJ18_putChar_44 : decode cJ18_putChar 44 = .ok (.aload_n 0, 1) := dk_42 (dk_at dksJ18_putChar_1 20 rfl rfl)
theorem dJ18_putChar_45 : decode cJ18_putChar 45 = .ok (.iload_n 1, 1) := dk_27 (dk_at dksJ18_putChar_1 21 rfl rfl)
theorem dJ18_putChar_46 : decode cJ18_putChar 46 = .ok (.iload_n 2, 1) := dk_28 (dk_at dksJ18_putChar_1 22 rfl rfl)
theorem dJ18_putChar_47 : decode cJ18_putChar 47 = .ok (.getstatic 63, 3) := dk_178 0 63 (dk_at dksJ18_putChar_2 0 rfl rfl)
theorem dJ18_putChar_50 : decode cJ18_putChar 50 = .ok (.ishr, 1) := dk_122 (dk_at dksJ18_putChar_2 3 rfl rfl)
theorem dJ18_putChar_51 : decode cJ18_putChar 51 = .ok (.i2b, 1) := dk_145 (dk_at dksJ18_putChar_2 4 rfl rfl)
theorem dJ18_putChar_52 : decode cJ18_putChar 52 = .ok (.bastore, 1) := dk_84 (dk_at dksJ18_putChar_2 5 rfl rfl)
theorem dJ18_putChar_53 : decode cJ18_putChar 53 = .ok (.return_, 1) := dk_177 (dk_at dksJ18_putChar_2 6 rfl rfl)
abbrev cJ18_inflate : ByteArray := prog_49_method_86_code
def yJ18_inflate : MethodName := ⟨RJ18, "inflate", "([BI[BII)V"⟩
def dkwJ18_inflate_1 : List UInt8 := [132, 1, 1, 51, 17, 0, 255, 126, 184, 0, 111, 132, 5, 1, 167, 255, 228, 177]
abbrev dktJ18_inflate_1 : List UInt8 := dkwJ18_inflate_1 ++ []
def dkwJ18_inflate_0 : List UInt8 := [29, 21, 4, 44, 184, 0, 173, 3, 54, 5, 21, 5, 21, 4, 162, 0, 27, 44, 29, 132, 3, 1, 42, 27]
abbrev dktJ18_inflate_0 : List UInt8 := dkwJ18_inflate_0 ++ dktJ18_inflate_1
theorem dksJ18_inflate_0 : cJ18_inflate.data.toList.drop 0 = dktJ18_inflate_0 := by decide +kernel
theorem dksJ18_inflate_1 : cJ18_inflate.data.toList.drop 24 = dktJ18_inflate_1 := dk_seg dksJ18_inflate_0 24 rfl rfl
theorem dJ18_inflate_0 : decode cJ18_inflate 0 = .ok (.iload_n 3, 1) := dk_29 (dk_at dksJ18_inflate_0 0 rfl rfl)
theorem dJ18_inflate_1 : decode cJ18_inflate 1 = .ok (.iload 4, 2) := dk_21 4 (dk_at dksJ18_inflate_0 1 rfl rfl)
theorem dJ18_inflate_3 : decode cJ18_inflate 3 = .ok (.aload_n 2, 1) := dk_44 (dk_at dksJ18_inflate_0 3 rfl rfl)
theorem dJ18_inflate_4 : decode cJ18_inflate 4 = .ok (.invokestatic 173, 3) := dk_184 0 173 (dk_at dksJ18_inflate_0 4 rfl rfl)
theorem dJ18_inflate_7 : decode cJ18_inflate 7 = .ok (.iconst 0, 1) := dk_3 (dk_at dksJ18_inflate_0 7 rfl rfl)
theorem dJ18_inflate_8 : decode cJ18_inflate 8 = .ok (.istore 5, 2) := dk_54 5 (dk_at dksJ18_inflate_0 8 rfl rfl)
theorem dJ18_inflate_10 : decode cJ18_inflate 10 = .ok (.iload 5, 2) := dk_21 5 (dk_at dksJ18_inflate_0 10 rfl rfl)
theorem dJ18_inflate_12 : decode cJ18_inflate 12 = .ok (.iload 4, 2) := dk_21 4 (dk_at dksJ18_inflate_0 12 rfl rfl)
theorem dJ18_inflate_14 : decode cJ18_inflate 14 = .ok (.if_icmp .ge 27, 3) := dk_162 0 27 (dk_at dksJ18_inflate_0 14 rfl rfl)
theorem dJ18_inflate_17 : decode cJ18_inflate 17 = .ok (.aload_n 2, 1) := dk_44 (dk_at dksJ18_inflate_0 17 rfl rfl)
theorem dJ18_inflate_18 : decode cJ18_inflate 18 = .ok (.iload_n 3, 1) := dk_29 (dk_at dksJ18_inflate_0 18 rfl rfl)
theorem dJ18_inflate_19 : decode cJ18_inflate 19 = .ok (.iinc 3 1, 3) := dk_132 3 1 (dk_at dksJ18_inflate_0 19 rfl rfl)
theorem dJ18_inflate_22 : decode cJ18_inflate 22 = .ok (.aload_n 0, 1) := dk_42 (dk_at dksJ18_inflate_0 22 rfl rfl)
theorem dJ18_inflate_23 : decode cJ18_inflate 23 = .ok (.iload_n 1, 1) := dk_27 (dk_at dksJ18_inflate_0 23 rfl rfl)
theorem dJ18_inflate_24 : decode cJ18_inflate 24 = .ok (.iinc 1 1, 3) := dk_132 1 1 (dk_at dksJ18_inflate_1 0 rfl rfl)
theorem dJ18_inflate_27 : decode cJ18_inflate 27 = .ok (.baload, 1) := dk_51 (dk_at dksJ18_inflate_1 3 rfl rfl)
theorem dJ18_inflate_28 : decode cJ18_inflate 28 = .ok (.sipush 255, 3) := dk_17 0 255 (dk_at dksJ18_inflate_1 4 rfl rfl)
theorem dJ18_inflate_31 : decode cJ18_inflate 31 = .ok (.iand, 1) := dk_126 (dk_at dksJ18_inflate_1 7 rfl rfl)
theorem dJ18_inflate_32 : decode cJ18_inflate 32 = .ok (.invokestatic 111, 3) := dk_184 0 111 (dk_at dksJ18_inflate_1 8 rfl rfl)
theorem dJ18_inflate_35 : decode cJ18_inflate 35 = .ok (.iinc 5 1, 3) := dk_132 5 1 (dk_at dksJ18_inflate_1 11 rfl rfl)
theorem dJ18_inflate_38 : decode cJ18_inflate 38 = .ok (.goto (-28), 3) := dk_167 255 228 (dk_at dksJ18_inflate_1 14 rfl rfl)
theorem dJ18_inflate_41 : decode cJ18_inflate 41 = .ok (.return_, 1) := dk_177 (dk_at dksJ18_inflate_1 17 rfl rfl)
abbrev cJ18_checkBoundsOffCount : ByteArray := prog_49_method_94_code
def yJ18_checkBoundsOffCount : MethodName := ⟨RJ18, "checkBoundsOffCount", "(II[B)V"⟩
def dkwJ18_checkBoundsOffCount_0 : List UInt8 := [26, 27, 44, 184, 0, 48, 184, 1, 163, 87, 177]
abbrev dktJ18_checkBoundsOffCount_0 : List UInt8 := dkwJ18_checkBoundsOffCount_0 ++ []
theorem dksJ18_checkBoundsOffCount_0 : cJ18_checkBoundsOffCount.data.toList.drop 0 = dktJ18_checkBoundsOffCount_0 := by decide +kernel
theorem dJ18_checkBoundsOffCount_0 : decode cJ18_checkBoundsOffCount 0 = .ok (.iload_n 0, 1) := dk_26 (dk_at dksJ18_checkBoundsOffCount_0 0 rfl rfl)
theorem dJ18_checkBoundsOffCount_1 : decode cJ18_checkBoundsOffCount 1 = .ok (.iload_n 1, 1) := dk_27 (dk_at dksJ18_checkBoundsOffCount_0 1 rfl rfl)
theorem dJ18_checkBoundsOffCount_2 : decode cJ18_checkBoundsOffCount 2 = .ok (.aload_n 2, 1) := dk_44 (dk_at dksJ18_checkBoundsOffCount_0 2 rfl rfl)
theorem dJ18_checkBoundsOffCount_3 : decode cJ18_checkBoundsOffCount 3 = .ok (.invokestatic 48, 3) := dk_184 0 48 (dk_at dksJ18_checkBoundsOffCount_0 3 rfl rfl)
theorem dJ18_checkBoundsOffCount_6 : decode cJ18_checkBoundsOffCount 6 = .ok (.invokestatic 419, 3) := dk_184 1 163 (dk_at dksJ18_checkBoundsOffCount_0 6 rfl rfl)
theorem dJ18_checkBoundsOffCount_9 : decode cJ18_checkBoundsOffCount 9 = .ok (.pop, 1) := dk_87 (dk_at dksJ18_checkBoundsOffCount_0 9 rfl rfl)
theorem dJ18_checkBoundsOffCount_10 : decode cJ18_checkBoundsOffCount 10 = .ok (.return_, 1) := dk_177 (dk_at dksJ18_checkBoundsOffCount_0 10 rfl rfl)
abbrev cJ18_getChars : ByteArray := prog_49_method_77_code
def yJ18_getChars : MethodName := ⟨RJ18, "getChars", "(III[B)I"⟩
def dkwJ18_getChars_1 : List UInt8 := [159, 0, 11, 187, 0, 52, 89, 183, 0, 66, 191, 21, 4, 172]
abbrev dktJ18_getChars_1 : List UInt8 := dkwJ18_getChars_1 ++ []
def dkwJ18_getChars_0 : List UInt8 := [27, 28, 45, 184, 0, 96, 26, 28, 45, 184, 1, 137, 54, 4, 178, 0, 44, 154, 0, 17, 27, 21, 4]
abbrev dktJ18_getChars_0 : List UInt8 := dkwJ18_getChars_0 ++ dktJ18_getChars_1
theorem dksJ18_getChars_0 : cJ18_getChars.data.toList.drop 0 = dktJ18_getChars_0 := by decide +kernel
theorem dksJ18_getChars_1 : cJ18_getChars.data.toList.drop 23 = dktJ18_getChars_1 := dk_seg dksJ18_getChars_0 23 rfl rfl
theorem dJ18_getChars_0 : decode cJ18_getChars 0 = .ok (.iload_n 1, 1) := dk_27 (dk_at dksJ18_getChars_0 0 rfl rfl)
theorem dJ18_getChars_1 : decode cJ18_getChars 1 = .ok (.iload_n 2, 1) := dk_28 (dk_at dksJ18_getChars_0 1 rfl rfl)
theorem dJ18_getChars_2 : decode cJ18_getChars 2 = .ok (.aload_n 3, 1) := dk_45 (dk_at dksJ18_getChars_0 2 rfl rfl)
theorem dJ18_getChars_3 : decode cJ18_getChars 3 = .ok (.invokestatic 96, 3) := dk_184 0 96 (dk_at dksJ18_getChars_0 3 rfl rfl)
theorem dJ18_getChars_6 : decode cJ18_getChars 6 = .ok (.iload_n 0, 1) := dk_26 (dk_at dksJ18_getChars_0 6 rfl rfl)
theorem dJ18_getChars_7 : decode cJ18_getChars 7 = .ok (.iload_n 2, 1) := dk_28 (dk_at dksJ18_getChars_0 7 rfl rfl)
theorem dJ18_getChars_8 : decode cJ18_getChars 8 = .ok (.aload_n 3, 1) := dk_45 (dk_at dksJ18_getChars_0 8 rfl rfl)
theorem dJ18_getChars_9 : decode cJ18_getChars 9 = .ok (.invokestatic 393, 3) := dk_184 1 137 (dk_at dksJ18_getChars_0 9 rfl rfl)
theorem dJ18_getChars_12 : decode cJ18_getChars 12 = .ok (.istore 4, 2) := dk_54 4 (dk_at dksJ18_getChars_0 12 rfl rfl)
theorem dJ18_getChars_14 : decode cJ18_getChars 14 = .ok (.getstatic 44, 3) := dk_178 0 44 (dk_at dksJ18_getChars_0 14 rfl rfl)
theorem dJ18_getChars_17 : decode cJ18_getChars 17 = .ok (.ifCond .ne 17, 3) := dk_154 0 17 (dk_at dksJ18_getChars_0 17 rfl rfl)
theorem dJ18_getChars_20 : decode cJ18_getChars 20 = .ok (.iload_n 1, 1) := dk_27 (dk_at dksJ18_getChars_0 20 rfl rfl)
theorem dJ18_getChars_21 : decode cJ18_getChars 21 = .ok (.iload 4, 2) := dk_21 4 (dk_at dksJ18_getChars_0 21 rfl rfl)
theorem dJ18_getChars_23 : decode cJ18_getChars 23 = .ok (.if_icmp .eq 11, 3) := dk_159 0 11 (dk_at dksJ18_getChars_1 0 rfl rfl)
theorem dJ18_getChars_26 : decode cJ18_getChars 26 = .ok (.new 52, 3) := dk_187 0 52 (dk_at dksJ18_getChars_1 3 rfl rfl)
theorem dJ18_getChars_29 : decode cJ18_getChars 29 = .ok (.dup, 1) := dk_89 (dk_at dksJ18_getChars_1 6 rfl rfl)
theorem dJ18_getChars_30 : decode cJ18_getChars 30 = .ok (.invokespecial 66, 3) := dk_183 0 66 (dk_at dksJ18_getChars_1 7 rfl rfl)
theorem dJ18_getChars_33 : decode cJ18_getChars 33 = .ok (.athrow, 1) := dk_191 (dk_at dksJ18_getChars_1 10 rfl rfl)
theorem dJ18_getChars_34 : decode cJ18_getChars 34 = .ok (.iload 4, 2) := dk_21 4 (dk_at dksJ18_getChars_1 11 rfl rfl)
theorem dJ18_getChars_36 : decode cJ18_getChars 36 = .ok (.ireturn, 1) := dk_172 (dk_at dksJ18_getChars_1 13 rfl rfl)
abbrev cJ18_getChars_2 : ByteArray := prog_49_method_89_code
def yJ18_getChars_2 : MethodName := ⟨RJ18, "getChars", "(II[B)I"⟩
def dkwJ18_getChars_2_5 : List UInt8 := [132, 5, 255, 21, 5, 16, 45, 184, 0, 111, 21, 5, 172]
abbrev dktJ18_getChars_2_5 : List UInt8 := dkwJ18_getChars_2_5 ++ []
def dkwJ18_getChars_2_4 : List UInt8 := [162, 0, 18, 44, 132, 5, 255, 21, 5, 178, 1, 151, 26, 116, 51, 184, 0, 111, 21, 6, 153, 0, 14, 44]
abbrev dktJ18_getChars_2_4 : List UInt8 := dkwJ18_getChars_2_4 ++ dktJ18_getChars_2_5
def dkwJ18_getChars_2_3 : List UInt8 := [184, 0, 111, 167, 255, 205, 44, 132, 5, 255, 21, 5, 178, 1, 147, 26, 116, 51, 184, 0, 111, 26, 16, 247]
abbrev dktJ18_getChars_2_3 : List UInt8 := dkwJ18_getChars_2_3 ++ dktJ18_getChars_2_4
def dkwJ18_getChars_2_2 : List UInt8 := [21, 5, 178, 1, 147, 21, 4, 51, 184, 0, 111, 44, 132, 5, 255, 21, 5, 178, 1, 151, 21, 4, 51]
abbrev dktJ18_getChars_2_2 : List UInt8 := dkwJ18_getChars_2_2 ++ dktJ18_getChars_2_3
def dkwJ18_getChars_2_1 : List UInt8 := [16, 156, 163, 0, 51, 26, 16, 100, 108, 62, 29, 16, 100, 104, 26, 100, 54, 4, 29, 59, 44, 132, 5, 255]
abbrev dktJ18_getChars_2_1 : List UInt8 := dkwJ18_getChars_2_1 ++ dktJ18_getChars_2_2
def dkwJ18_getChars_2_0 : List UInt8 := [27, 54, 5, 26, 156, 0, 7, 4, 167, 0, 4, 3, 54, 6, 21, 6, 154, 0, 6, 26, 116, 59, 26]
abbrev dktJ18_getChars_2_0 : List UInt8 := dkwJ18_getChars_2_0 ++ dktJ18_getChars_2_1
theorem dksJ18_getChars_2_0 : cJ18_getChars_2.data.toList.drop 0 = dktJ18_getChars_2_0 := by decide +kernel
theorem dksJ18_getChars_2_1 : cJ18_getChars_2.data.toList.drop 23 = dktJ18_getChars_2_1 := dk_seg dksJ18_getChars_2_0 23 rfl rfl
theorem dksJ18_getChars_2_2 : cJ18_getChars_2.data.toList.drop 47 = dktJ18_getChars_2_2 := dk_seg dksJ18_getChars_2_1 24 rfl rfl
theorem dksJ18_getChars_2_3 : cJ18_getChars_2.data.toList.drop 70 = dktJ18_getChars_2_3 := dk_seg dksJ18_getChars_2_2 23 rfl rfl
theorem dksJ18_getChars_2_4 : cJ18_getChars_2.data.toList.drop 94 = dktJ18_getChars_2_4 := dk_seg dksJ18_getChars_2_3 24 rfl rfl
theorem dksJ18_getChars_2_5 : cJ18_getChars_2.data.toList.drop 118 = dktJ18_getChars_2_5 := dk_seg dksJ18_getChars_2_4 24 rfl rfl
theorem dJ18_getChars_2_0 : decode cJ18_getChars_2 0 = .ok (.iload_n 1, 1) := dk_27 (dk_at dksJ18_getChars_2_0 0 rfl rfl)
theorem dJ18_getChars_2_1 : decode cJ18_getChars_2 1 = .ok (.istore 5, 2) := dk_54 5 (dk_at dksJ18_getChars_2_0 1 rfl rfl)
theorem dJ18_getChars_2_3 : decode cJ18_getChars_2 3 = .ok (.iload_n 0, 1) := dk_26 (dk_at dksJ18_getChars_2_0 3 rfl rfl)
theorem dJ18_getChars_2_4 : decode cJ18_getChars_2 4 = .ok (.ifCond .ge 7, 3) := dk_156 0 7 (dk_at dksJ18_getChars_2_0 4 rfl rfl)
theorem dJ18_getChars_2_7 : decode cJ18_getChars_2 7 = .ok (.iconst 1, 1) := dk_4 (dk_at dksJ18_getChars_2_0 7 rfl rfl)
theorem dJ18_getChars_2_8 : decode cJ18_getChars_2 8 = .ok (.goto 4, 3) := dk_167 0 4 (dk_at dksJ18_getChars_2_0 8 rfl rfl)
theorem dJ18_getChars_2_11 : decode cJ18_getChars_2 11 = .ok (.iconst 0, 1) := dk_3 (dk_at dksJ18_getChars_2_0 11 rfl rfl)
theorem dJ18_getChars_2_12 : decode cJ18_getChars_2 12 = .ok (.istore 6, 2) := dk_54 6 (dk_at dksJ18_getChars_2_0 12 rfl rfl)
theorem dJ18_getChars_2_14 : decode cJ18_getChars_2 14 = .ok (.iload 6, 2) := dk_21 6 (dk_at dksJ18_getChars_2_0 14 rfl rfl)
theorem dJ18_getChars_2_16 : decode cJ18_getChars_2 16 = .ok (.ifCond .ne 6, 3) := dk_154 0 6 (dk_at dksJ18_getChars_2_0 16 rfl rfl)
theorem dJ18_getChars_2_19 : decode cJ18_getChars_2 19 = .ok (.iload_n 0, 1) := dk_26 (dk_at dksJ18_getChars_2_0 19 rfl rfl)
theorem dJ18_getChars_2_20 : decode cJ18_getChars_2 20 = .ok (.ineg, 1) := dk_116 (dk_at dksJ18_getChars_2_0 20 rfl rfl)
theorem dJ18_getChars_2_21 : decode cJ18_getChars_2 21 = .ok (.istore_n 0, 1) := dk_59 (dk_at dksJ18_getChars_2_0 21 rfl rfl)
theorem dJ18_getChars_2_22 : decode cJ18_getChars_2 22 = .ok (.iload_n 0, 1) := dk_26 (dk_at dksJ18_getChars_2_0 22 rfl rfl)
theorem dJ18_getChars_2_23 : decode cJ18_getChars_2 23 = .ok (.bipush (-100), 2) := dk_16 156 (dk_at dksJ18_getChars_2_1 0 rfl rfl)
theorem dJ18_getChars_2_25 : decode cJ18_getChars_2 25 = .ok (.if_icmp .gt 51, 3) := dk_163 0 51 (dk_at dksJ18_getChars_2_1 2 rfl rfl)
theorem dJ18_getChars_2_28 : decode cJ18_getChars_2 28 = .ok (.iload_n 0, 1) := dk_26 (dk_at dksJ18_getChars_2_1 5 rfl rfl)
theorem dJ18_getChars_2_29 : decode cJ18_getChars_2 29 = .ok (.bipush 100, 2) := dk_16 100 (dk_at dksJ18_getChars_2_1 6 rfl rfl)
theorem dJ18_getChars_2_31 : decode cJ18_getChars_2 31 = .ok (.idiv, 1) := dk_108 (dk_at dksJ18_getChars_2_1 8 rfl rfl)
theorem dJ18_getChars_2_32 : decode cJ18_getChars_2 32 = .ok (.istore_n 3, 1) := dk_62 (dk_at dksJ18_getChars_2_1 9 rfl rfl)
theorem dJ18_getChars_2_33 : decode cJ18_getChars_2 33 = .ok (.iload_n 3, 1) := dk_29 (dk_at dksJ18_getChars_2_1 10 rfl rfl)
theorem dJ18_getChars_2_34 : decode cJ18_getChars_2 34 = .ok (.bipush 100, 2) := dk_16 100 (dk_at dksJ18_getChars_2_1 11 rfl rfl)
theorem dJ18_getChars_2_36 : decode cJ18_getChars_2 36 = .ok (.imul, 1) := dk_104 (dk_at dksJ18_getChars_2_1 13 rfl rfl)
theorem dJ18_getChars_2_37 : decode cJ18_getChars_2 37 = .ok (.iload_n 0, 1) := dk_26 (dk_at dksJ18_getChars_2_1 14 rfl rfl)
theorem dJ18_getChars_2_38 : decode cJ18_getChars_2 38 = .ok (.isub, 1) := dk_100 (dk_at dksJ18_getChars_2_1 15 rfl rfl)
theorem dJ18_getChars_2_39 : decode cJ18_getChars_2 39 = .ok (.istore 4, 2) := dk_54 4 (dk_at dksJ18_getChars_2_1 16 rfl rfl)
theorem dJ18_getChars_2_41 : decode cJ18_getChars_2 41 = .ok (.iload_n 3, 1) := dk_29 (dk_at dksJ18_getChars_2_1 18 rfl rfl)
theorem dJ18_getChars_2_42 : decode cJ18_getChars_2 42 = .ok (.istore_n 0, 1) := dk_59 (dk_at dksJ18_getChars_2_1 19 rfl rfl)
theorem dJ18_getChars_2_43 : decode cJ18_getChars_2 43 = .ok (.aload_n 2, 1) := dk_44 (dk_at dksJ18_getChars_2_1 20 rfl rfl)
theorem dJ18_getChars_2_44 : decode cJ18_getChars_2 44 = .ok (.iinc 5 (-1), 3) := dk_132 5 255 (dk_at dksJ18_getChars_2_1 21 rfl rfl)
theorem dJ18_getChars_2_47 : decode cJ18_getChars_2 47 = .ok (.iload 5, 2) := dk_21 5 (dk_at dksJ18_getChars_2_2 0 rfl rfl)
theorem dJ18_getChars_2_49 : decode cJ18_getChars_2 49 = .ok (.getstatic 403, 3) := dk_178 1 147 (dk_at dksJ18_getChars_2_2 2 rfl rfl)
theorem dJ18_getChars_2_52 : decode cJ18_getChars_2 52 = .ok (.iload 4, 2) := dk_21 4 (dk_at dksJ18_getChars_2_2 5 rfl rfl)
theorem dJ18_getChars_2_54 : decode cJ18_getChars_2 54 = .ok (.baload, 1) := dk_51 (dk_at dksJ18_getChars_2_2 7 rfl rfl)
theorem dJ18_getChars_2_55 : decode cJ18_getChars_2 55 = .ok (.invokestatic 111, 3) := dk_184 0 111 (dk_at dksJ18_getChars_2_2 8 rfl rfl)
theorem dJ18_getChars_2_58 : decode cJ18_getChars_2 58 = .ok (.aload_n 2, 1) := dk_44 (dk_at dksJ18_getChars_2_2 11 rfl rfl)
theorem dJ18_getChars_2_59 : decode cJ18_getChars_2 59 = .ok (.iinc 5 (-1), 3) := dk_132 5 255 (dk_at dksJ18_getChars_2_2 12 rfl rfl)
theorem dJ18_getChars_2_62 : decode cJ18_getChars_2 62 = .ok (.iload 5, 2) := dk_21 5 (dk_at dksJ18_getChars_2_2 15 rfl rfl)
theorem dJ18_getChars_2_64 : decode cJ18_getChars_2 64 = .ok (.getstatic 407, 3) := dk_178 1 151 (dk_at dksJ18_getChars_2_2 17 rfl rfl)
theorem dJ18_getChars_2_67 : decode cJ18_getChars_2 67 = .ok (.iload 4, 2) := dk_21 4 (dk_at dksJ18_getChars_2_2 20 rfl rfl)
theorem dJ18_getChars_2_69 : decode cJ18_getChars_2 69 = .ok (.baload, 1) := dk_51 (dk_at dksJ18_getChars_2_2 22 rfl rfl)
theorem dJ18_getChars_2_70 : decode cJ18_getChars_2 70 = .ok (.invokestatic 111, 3) := dk_184 0 111 (dk_at dksJ18_getChars_2_3 0 rfl rfl)
theorem dJ18_getChars_2_73 : decode cJ18_getChars_2 73 = .ok (.goto (-51), 3) := dk_167 255 205 (dk_at dksJ18_getChars_2_3 3 rfl rfl)
theorem dJ18_getChars_2_76 : decode cJ18_getChars_2 76 = .ok (.aload_n 2, 1) := dk_44 (dk_at dksJ18_getChars_2_3 6 rfl rfl)
theorem dJ18_getChars_2_77 : decode cJ18_getChars_2 77 = .ok (.iinc 5 (-1), 3) := dk_132 5 255 (dk_at dksJ18_getChars_2_3 7 rfl rfl)
theorem dJ18_getChars_2_80 : decode cJ18_getChars_2 80 = .ok (.iload 5, 2) := dk_21 5 (dk_at dksJ18_getChars_2_3 10 rfl rfl)
theorem dJ18_getChars_2_82 : decode cJ18_getChars_2 82 = .ok (.getstatic 403, 3) := dk_178 1 147 (dk_at dksJ18_getChars_2_3 12 rfl rfl)
theorem dJ18_getChars_2_85 : decode cJ18_getChars_2 85 = .ok (.iload_n 0, 1) := dk_26 (dk_at dksJ18_getChars_2_3 15 rfl rfl)
theorem dJ18_getChars_2_86 : decode cJ18_getChars_2 86 = .ok (.ineg, 1) := dk_116 (dk_at dksJ18_getChars_2_3 16 rfl rfl)
theorem dJ18_getChars_2_87 : decode cJ18_getChars_2 87 = .ok (.baload, 1) := dk_51 (dk_at dksJ18_getChars_2_3 17 rfl rfl)
theorem dJ18_getChars_2_88 : decode cJ18_getChars_2 88 = .ok (.invokestatic 111, 3) := dk_184 0 111 (dk_at dksJ18_getChars_2_3 18 rfl rfl)
theorem dJ18_getChars_2_91 : decode cJ18_getChars_2 91 = .ok (.iload_n 0, 1) := dk_26 (dk_at dksJ18_getChars_2_3 21 rfl rfl)
theorem dJ18_getChars_2_92 : decode cJ18_getChars_2 92 = .ok (.bipush (-9), 2) := dk_16 247 (dk_at dksJ18_getChars_2_3 22 rfl rfl)
theorem dJ18_getChars_2_94 : decode cJ18_getChars_2 94 = .ok (.if_icmp .ge 18, 3) := dk_162 0 18 (dk_at dksJ18_getChars_2_4 0 rfl rfl)
theorem dJ18_getChars_2_97 : decode cJ18_getChars_2 97 = .ok (.aload_n 2, 1) := dk_44 (dk_at dksJ18_getChars_2_4 3 rfl rfl)
theorem dJ18_getChars_2_98 : decode cJ18_getChars_2 98 = .ok (.iinc 5 (-1), 3) := dk_132 5 255 (dk_at dksJ18_getChars_2_4 4 rfl rfl)
theorem dJ18_getChars_2_101 : decode cJ18_getChars_2 101 = .ok (.iload 5, 2) := dk_21 5 (dk_at dksJ18_getChars_2_4 7 rfl rfl)
theorem dJ18_getChars_2_103 : decode cJ18_getChars_2 103 = .ok (.getstatic 407, 3) := dk_178 1 151 (dk_at dksJ18_getChars_2_4 9 rfl rfl)
theorem dJ18_getChars_2_106 : decode cJ18_getChars_2 106 = .ok (.iload_n 0, 1) := dk_26 (dk_at dksJ18_getChars_2_4 12 rfl rfl)
theorem dJ18_getChars_2_107 : decode cJ18_getChars_2 107 = .ok (.ineg, 1) := dk_116 (dk_at dksJ18_getChars_2_4 13 rfl rfl)
theorem dJ18_getChars_2_108 : decode cJ18_getChars_2 108 = .ok (.baload, 1) := dk_51 (dk_at dksJ18_getChars_2_4 14 rfl rfl)
theorem dJ18_getChars_2_109 : decode cJ18_getChars_2 109 = .ok (.invokestatic 111, 3) := dk_184 0 111 (dk_at dksJ18_getChars_2_4 15 rfl rfl)
theorem dJ18_getChars_2_112 : decode cJ18_getChars_2 112 = .ok (.iload 6, 2) := dk_21 6 (dk_at dksJ18_getChars_2_4 18 rfl rfl)
theorem dJ18_getChars_2_114 : decode cJ18_getChars_2 114 = .ok (.ifCond .eq 14, 3) := dk_153 0 14 (dk_at dksJ18_getChars_2_4 20 rfl rfl)
theorem dJ18_getChars_2_117 : decode cJ18_getChars_2 117 = .ok (.aload_n 2, 1) := dk_44 (dk_at dksJ18_getChars_2_4 23 rfl rfl)
theorem dJ18_getChars_2_118 : decode cJ18_getChars_2 118 = .ok (.iinc 5 (-1), 3) := dk_132 5 255 (dk_at dksJ18_getChars_2_5 0 rfl rfl)
theorem dJ18_getChars_2_121 : decode cJ18_getChars_2 121 = .ok (.iload 5, 2) := dk_21 5 (dk_at dksJ18_getChars_2_5 3 rfl rfl)
theorem dJ18_getChars_2_123 : decode cJ18_getChars_2 123 = .ok (.bipush 45, 2) := dk_16 45 (dk_at dksJ18_getChars_2_5 5 rfl rfl)
theorem dJ18_getChars_2_125 : decode cJ18_getChars_2 125 = .ok (.invokestatic 111, 3) := dk_184 0 111 (dk_at dksJ18_getChars_2_5 7 rfl rfl)
theorem dJ18_getChars_2_128 : decode cJ18_getChars_2 128 = .ok (.iload 5, 2) := dk_21 5 (dk_at dksJ18_getChars_2_5 10 rfl rfl)
theorem dJ18_getChars_2_130 : decode cJ18_getChars_2 130 = .ok (.ireturn, 1) := dk_172 (dk_at dksJ18_getChars_2_5 12 rfl rfl)
abbrev cJ18_compress : ByteArray := prog_49_method_17_code
def yJ18_compress : MethodName := ⟨RJ18, "compress", "([BII)[B"⟩
def dkwJ18_compress_2 : List UInt8 := [25, 5, 3, 45, 3, 28, 184, 0, 123, 28, 159, 0, 6, 25, 5, 176, 45, 176]
abbrev dktJ18_compress_2 : List UInt8 := dkwJ18_compress_2 ++ []
def dkwJ18_compress_1 : List UInt8 := [27, 28, 96, 184, 0, 11, 184, 0, 126, 58, 5, 25, 5, 21, 4, 184, 0, 71, 17, 0, 255, 163, 0, 16]
abbrev dktJ18_compress_1 : List UInt8 := dkwJ18_compress_1 ++ dktJ18_compress_2
def dkwJ18_compress_0 : List UInt8 := [28, 188, 8, 78, 42, 27, 45, 3, 28, 184, 0, 123, 54, 4, 21, 4, 28, 159, 0, 47, 42, 27, 4, 120]
abbrev dktJ18_compress_0 : List UInt8 := dkwJ18_compress_0 ++ dktJ18_compress_1
theorem dksJ18_compress_0 : cJ18_compress.data.toList.drop 0 = dktJ18_compress_0 := by decide +kernel
theorem dksJ18_compress_1 : cJ18_compress.data.toList.drop 24 = dktJ18_compress_1 := dk_seg dksJ18_compress_0 24 rfl rfl
theorem dksJ18_compress_2 : cJ18_compress.data.toList.drop 48 = dktJ18_compress_2 := dk_seg dksJ18_compress_1 24 rfl rfl
theorem dJ18_compress_0 : decode cJ18_compress 0 = .ok (.iload_n 2, 1) := dk_28 (dk_at dksJ18_compress_0 0 rfl rfl)
theorem dJ18_compress_1 : decode cJ18_compress 1 = .ok (.newarray .byte, 2) := dk_188_8 (dk_at dksJ18_compress_0 1 rfl rfl)
theorem dJ18_compress_3 : decode cJ18_compress 3 = .ok (.astore_n 3, 1) := dk_78 (dk_at dksJ18_compress_0 3 rfl rfl)
theorem dJ18_compress_4 : decode cJ18_compress 4 = .ok (.aload_n 0, 1) := dk_42 (dk_at dksJ18_compress_0 4 rfl rfl)
theorem dJ18_compress_5 : decode cJ18_compress 5 = .ok (.iload_n 1, 1) := dk_27 (dk_at dksJ18_compress_0 5 rfl rfl)
theorem dJ18_compress_6 : decode cJ18_compress 6 = .ok (.aload_n 3, 1) := dk_45 (dk_at dksJ18_compress_0 6 rfl rfl)
theorem dJ18_compress_7 : decode cJ18_compress 7 = .ok (.iconst 0, 1) := dk_3 (dk_at dksJ18_compress_0 7 rfl rfl)
theorem dJ18_compress_8 : decode cJ18_compress 8 = .ok (.iload_n 2, 1) := dk_28 (dk_at dksJ18_compress_0 8 rfl rfl)
theorem dJ18_compress_9 : decode cJ18_compress 9 = .ok (.invokestatic 123, 3) := dk_184 0 123 (dk_at dksJ18_compress_0 9 rfl rfl)
theorem dJ18_compress_12 : decode cJ18_compress 12 = .ok (.istore 4, 2) := dk_54 4 (dk_at dksJ18_compress_0 12 rfl rfl)
theorem dJ18_compress_14 : decode cJ18_compress 14 = .ok (.iload 4, 2) := dk_21 4 (dk_at dksJ18_compress_0 14 rfl rfl)
theorem dJ18_compress_16 : decode cJ18_compress 16 = .ok (.iload_n 2, 1) := dk_28 (dk_at dksJ18_compress_0 16 rfl rfl)
theorem dJ18_compress_17 : decode cJ18_compress 17 = .ok (.if_icmp .eq 47, 3) := dk_159 0 47 (dk_at dksJ18_compress_0 17 rfl rfl)
theorem dJ18_compress_20 : decode cJ18_compress 20 = .ok (.aload_n 0, 1) := dk_42 (dk_at dksJ18_compress_0 20 rfl rfl)
theorem dJ18_compress_21 : decode cJ18_compress 21 = .ok (.iload_n 1, 1) := dk_27 (dk_at dksJ18_compress_0 21 rfl rfl)
theorem dJ18_compress_22 : decode cJ18_compress 22 = .ok (.iconst 1, 1) := dk_4 (dk_at dksJ18_compress_0 22 rfl rfl)
theorem dJ18_compress_23 : decode cJ18_compress 23 = .ok (.ishl, 1) := dk_120 (dk_at dksJ18_compress_0 23 rfl rfl)
theorem dJ18_compress_24 : decode cJ18_compress 24 = .ok (.iload_n 1, 1) := dk_27 (dk_at dksJ18_compress_1 0 rfl rfl)
theorem dJ18_compress_25 : decode cJ18_compress 25 = .ok (.iload_n 2, 1) := dk_28 (dk_at dksJ18_compress_1 1 rfl rfl)
theorem dJ18_compress_26 : decode cJ18_compress 26 = .ok (.iadd, 1) := dk_96 (dk_at dksJ18_compress_1 2 rfl rfl)
theorem dJ18_compress_27 : decode cJ18_compress 27 = .ok (.invokestatic 11, 3) := dk_184 0 11 (dk_at dksJ18_compress_1 3 rfl rfl)
theorem dJ18_compress_30 : decode cJ18_compress 30 = .ok (.invokestatic 126, 3) := dk_184 0 126 (dk_at dksJ18_compress_1 6 rfl rfl)
theorem dJ18_compress_33 : decode cJ18_compress 33 = .ok (.astore 5, 2) := dk_58 5 (dk_at dksJ18_compress_1 9 rfl rfl)
theorem dJ18_compress_35 : decode cJ18_compress 35 = .ok (.aload 5, 2) := dk_25 5 (dk_at dksJ18_compress_1 11 rfl rfl)
theorem dJ18_compress_37 : decode cJ18_compress 37 = .ok (.iload 4, 2) := dk_21 4 (dk_at dksJ18_compress_1 13 rfl rfl)
theorem dJ18_compress_39 : decode cJ18_compress 39 = .ok (.invokestatic 71, 3) := dk_184 0 71 (dk_at dksJ18_compress_1 15 rfl rfl)
theorem dJ18_compress_42 : decode cJ18_compress 42 = .ok (.sipush 255, 3) := dk_17 0 255 (dk_at dksJ18_compress_1 18 rfl rfl)
theorem dJ18_compress_45 : decode cJ18_compress 45 = .ok (.if_icmp .gt 16, 3) := dk_163 0 16 (dk_at dksJ18_compress_1 21 rfl rfl)
theorem dJ18_compress_48 : decode cJ18_compress 48 = .ok (.aload 5, 2) := dk_25 5 (dk_at dksJ18_compress_2 0 rfl rfl)
theorem dJ18_compress_50 : decode cJ18_compress 50 = .ok (.iconst 0, 1) := dk_3 (dk_at dksJ18_compress_2 2 rfl rfl)
theorem dJ18_compress_51 : decode cJ18_compress 51 = .ok (.aload_n 3, 1) := dk_45 (dk_at dksJ18_compress_2 3 rfl rfl)
theorem dJ18_compress_52 : decode cJ18_compress 52 = .ok (.iconst 0, 1) := dk_3 (dk_at dksJ18_compress_2 4 rfl rfl)
theorem dJ18_compress_53 : decode cJ18_compress 53 = .ok (.iload_n 2, 1) := dk_28 (dk_at dksJ18_compress_2 5 rfl rfl)
theorem dJ18_compress_54 : decode cJ18_compress 54 = .ok (.invokestatic 123, 3) := dk_184 0 123 (dk_at dksJ18_compress_2 6 rfl rfl)
theorem dJ18_compress_57 : decode cJ18_compress 57 = .ok (.iload_n 2, 1) := dk_28 (dk_at dksJ18_compress_2 9 rfl rfl)
theorem dJ18_compress_58 : decode cJ18_compress 58 = .ok (.if_icmp .eq 6, 3) := dk_159 0 6 (dk_at dksJ18_compress_2 10 rfl rfl)
theorem dJ18_compress_61 : decode cJ18_compress 61 = .ok (.aload 5, 2) := dk_25 5 (dk_at dksJ18_compress_2 13 rfl rfl)
theorem dJ18_compress_63 : decode cJ18_compress 63 = .ok (.areturn, 1) := dk_176 (dk_at dksJ18_compress_2 15 rfl rfl)
theorem dJ18_compress_64 : decode cJ18_compress 64 = .ok (.aload_n 3, 1) := dk_45 (dk_at dksJ18_compress_2 16 rfl rfl)
theorem dJ18_compress_65 : decode cJ18_compress 65 = .ok (.areturn, 1) := dk_176 (dk_at dksJ18_compress_2 17 rfl rfl)
abbrev cJ18_compress_2 : ByteArray := prog_49_method_22_code
def yJ18_compress_2 : MethodName := ⟨RJ18, "compress", "([BI[BII)I"⟩
def dkwJ18_compress_2_2 : List UInt8 := [132, 5, 1, 167, 255, 216, 21, 4, 172]
abbrev dktJ18_compress_2_2 : List UInt8 := dkwJ18_compress_2_2 ++ []
def dkwJ18_compress_2_1 : List UInt8 := [21, 6, 17, 0, 255, 164, 0, 6, 21, 5, 172, 44, 29, 21, 6, 145, 84, 132, 1, 1, 132, 3, 1]
abbrev dktJ18_compress_2_1 : List UInt8 := dkwJ18_compress_2_1 ++ dktJ18_compress_2_2
def dkwJ18_compress_2_0 : List UInt8 := [27, 21, 4, 42, 184, 0, 173, 3, 54, 5, 21, 5, 21, 4, 162, 0, 39, 42, 27, 184, 0, 71, 54, 6]
abbrev dktJ18_compress_2_0 : List UInt8 := dkwJ18_compress_2_0 ++ dktJ18_compress_2_1
theorem dksJ18_compress_2_0 : cJ18_compress_2.data.toList.drop 0 = dktJ18_compress_2_0 := by decide +kernel
theorem dksJ18_compress_2_1 : cJ18_compress_2.data.toList.drop 24 = dktJ18_compress_2_1 := dk_seg dksJ18_compress_2_0 24 rfl rfl
theorem dksJ18_compress_2_2 : cJ18_compress_2.data.toList.drop 47 = dktJ18_compress_2_2 := dk_seg dksJ18_compress_2_1 23 rfl rfl
theorem dJ18_compress_2_0 : decode cJ18_compress_2 0 = .ok (.iload_n 1, 1) := dk_27 (dk_at dksJ18_compress_2_0 0 rfl rfl)
theorem dJ18_compress_2_1 : decode cJ18_compress_2 1 = .ok (.iload 4, 2) := dk_21 4 (dk_at dksJ18_compress_2_0 1 rfl rfl)
theorem dJ18_compress_2_3 : decode cJ18_compress_2 3 = .ok (.aload_n 0, 1) := dk_42 (dk_at dksJ18_compress_2_0 3 rfl rfl)
theorem dJ18_compress_2_4 : decode cJ18_compress_2 4 = .ok (.invokestatic 173, 3) := dk_184 0 173 (dk_at dksJ18_compress_2_0 4 rfl rfl)
theorem dJ18_compress_2_7 : decode cJ18_compress_2 7 = .ok (.iconst 0, 1) := dk_3 (dk_at dksJ18_compress_2_0 7 rfl rfl)
theorem dJ18_compress_2_8 : decode cJ18_compress_2 8 = .ok (.istore 5, 2) := dk_54 5 (dk_at dksJ18_compress_2_0 8 rfl rfl)
theorem dJ18_compress_2_10 : decode cJ18_compress_2 10 = .ok (.iload 5, 2) := dk_21 5 (dk_at dksJ18_compress_2_0 10 rfl rfl)
theorem dJ18_compress_2_12 : decode cJ18_compress_2 12 = .ok (.iload 4, 2) := dk_21 4 (dk_at dksJ18_compress_2_0 12 rfl rfl)
theorem dJ18_compress_2_14 : decode cJ18_compress_2 14 = .ok (.if_icmp .ge 39, 3) := dk_162 0 39 (dk_at dksJ18_compress_2_0 14 rfl rfl)
theorem dJ18_compress_2_17 : decode cJ18_compress_2 17 = .ok (.aload_n 0, 1) := dk_42 (dk_at dksJ18_compress_2_0 17 rfl rfl)
theorem dJ18_compress_2_18 : decode cJ18_compress_2 18 = .ok (.iload_n 1, 1) := dk_27 (dk_at dksJ18_compress_2_0 18 rfl rfl)
theorem dJ18_compress_2_19 : decode cJ18_compress_2 19 = .ok (.invokestatic 71, 3) := dk_184 0 71 (dk_at dksJ18_compress_2_0 19 rfl rfl)
theorem dJ18_compress_2_22 : decode cJ18_compress_2 22 = .ok (.istore 6, 2) := dk_54 6 (dk_at dksJ18_compress_2_0 22 rfl rfl)
theorem dJ18_compress_2_24 : decode cJ18_compress_2 24 = .ok (.iload 6, 2) := dk_21 6 (dk_at dksJ18_compress_2_1 0 rfl rfl)
theorem dJ18_compress_2_26 : decode cJ18_compress_2 26 = .ok (.sipush 255, 3) := dk_17 0 255 (dk_at dksJ18_compress_2_1 2 rfl rfl)
theorem dJ18_compress_2_29 : decode cJ18_compress_2 29 = .ok (.if_icmp .le 6, 3) := dk_164 0 6 (dk_at dksJ18_compress_2_1 5 rfl rfl)
theorem dJ18_compress_2_32 : decode cJ18_compress_2 32 = .ok (.iload 5, 2) := dk_21 5 (dk_at dksJ18_compress_2_1 8 rfl rfl)
theorem dJ18_compress_2_34 : decode cJ18_compress_2 34 = .ok (.ireturn, 1) := dk_172 (dk_at dksJ18_compress_2_1 10 rfl rfl)
theorem dJ18_compress_2_35 : decode cJ18_compress_2 35 = .ok (.aload_n 2, 1) := dk_44 (dk_at dksJ18_compress_2_1 11 rfl rfl)
theorem dJ18_compress_2_36 : decode cJ18_compress_2 36 = .ok (.iload_n 3, 1) := dk_29 (dk_at dksJ18_compress_2_1 12 rfl rfl)
theorem dJ18_compress_2_37 : decode cJ18_compress_2 37 = .ok (.iload 6, 2) := dk_21 6 (dk_at dksJ18_compress_2_1 13 rfl rfl)
theorem dJ18_compress_2_39 : decode cJ18_compress_2 39 = .ok (.i2b, 1) := dk_145 (dk_at dksJ18_compress_2_1 15 rfl rfl)
theorem dJ18_compress_2_40 : decode cJ18_compress_2 40 = .ok (.bastore, 1) := dk_84 (dk_at dksJ18_compress_2_1 16 rfl rfl)
theorem dJ18_compress_2_41 : decode cJ18_compress_2 41 = .ok (.iinc 1 1, 3) := dk_132 1 1 (dk_at dksJ18_compress_2_1 17 rfl rfl)
theorem dJ18_compress_2_44 : decode cJ18_compress_2 44 = .ok (.iinc 3 1, 3) := dk_132 3 1 (dk_at dksJ18_compress_2_1 20 rfl rfl)
theorem dJ18_compress_2_47 : decode cJ18_compress_2 47 = .ok (.iinc 5 1, 3) := dk_132 5 1 (dk_at dksJ18_compress_2_2 0 rfl rfl)
theorem dJ18_compress_2_50 : decode cJ18_compress_2 50 = .ok (.goto (-40), 3) := dk_167 255 216 (dk_at dksJ18_compress_2_2 3 rfl rfl)
theorem dJ18_compress_2_53 : decode cJ18_compress_2 53 = .ok (.iload 4, 2) := dk_21 4 (dk_at dksJ18_compress_2_2 6 rfl rfl)
theorem dJ18_compress_2_55 : decode cJ18_compress_2 55 = .ok (.ireturn, 1) := dk_172 (dk_at dksJ18_compress_2_2 8 rfl rfl)
abbrev cJ18_getChar : ByteArray := prog_49_method_5_code
def yJ18_getChar : MethodName := ⟨RJ18, "getChar", "([BI)C"⟩
def dkwJ18_getChar_2 : List UInt8 := [51, 17, 0, 255, 126, 178, 0, 63, 120, 128, 146, 172]
abbrev dktJ18_getChar_2 : List UInt8 := dkwJ18_getChar_2 ++ []
def dkwJ18_getChar_1 : List UInt8 := [183, 0, 56, 191, 27, 4, 120, 60, 42, 27, 132, 1, 1, 51, 17, 0, 255, 126, 178, 0, 59, 120, 42, 27]
abbrev dktJ18_getChar_1 : List UInt8 := dkwJ18_getChar_1 ++ dktJ18_getChar_2
def dkwJ18_getChar_0 : List UInt8 := [178, 0, 44, 154, 0, 25, 27, 155, 0, 11, 27, 42, 184, 0, 48, 161, 0, 13, 187, 0, 52, 89, 18, 54]
abbrev dktJ18_getChar_0 : List UInt8 := dkwJ18_getChar_0 ++ dktJ18_getChar_1
theorem dksJ18_getChar_0 : cJ18_getChar.data.toList.drop 0 = dktJ18_getChar_0 := by decide +kernel
theorem dksJ18_getChar_1 : cJ18_getChar.data.toList.drop 24 = dktJ18_getChar_1 := dk_seg dksJ18_getChar_0 24 rfl rfl
theorem dksJ18_getChar_2 : cJ18_getChar.data.toList.drop 48 = dktJ18_getChar_2 := dk_seg dksJ18_getChar_1 24 rfl rfl
theorem dJ18_getChar_0 : decode cJ18_getChar 0 = .ok (.getstatic 44, 3) := dk_178 0 44 (dk_at dksJ18_getChar_0 0 rfl rfl)
theorem dJ18_getChar_3 : decode cJ18_getChar 3 = .ok (.ifCond .ne 25, 3) := dk_154 0 25 (dk_at dksJ18_getChar_0 3 rfl rfl)
theorem dJ18_getChar_6 : decode cJ18_getChar 6 = .ok (.iload_n 1, 1) := dk_27 (dk_at dksJ18_getChar_0 6 rfl rfl)
theorem dJ18_getChar_7 : decode cJ18_getChar 7 = .ok (.ifCond .lt 11, 3) := dk_155 0 11 (dk_at dksJ18_getChar_0 7 rfl rfl)
theorem dJ18_getChar_10 : decode cJ18_getChar 10 = .ok (.iload_n 1, 1) := dk_27 (dk_at dksJ18_getChar_0 10 rfl rfl)
theorem dJ18_getChar_11 : decode cJ18_getChar 11 = .ok (.aload_n 0, 1) := dk_42 (dk_at dksJ18_getChar_0 11 rfl rfl)
theorem dJ18_getChar_12 : decode cJ18_getChar 12 = .ok (.invokestatic 48, 3) := dk_184 0 48 (dk_at dksJ18_getChar_0 12 rfl rfl)
theorem dJ18_getChar_15 : decode cJ18_getChar 15 = .ok (.if_icmp .lt 13, 3) := dk_161 0 13 (dk_at dksJ18_getChar_0 15 rfl rfl)
theorem dJ18_getChar_18 : decode cJ18_getChar 18 = .ok (.new 52, 3) := dk_187 0 52 (dk_at dksJ18_getChar_0 18 rfl rfl)
theorem dJ18_getChar_21 : decode cJ18_getChar 21 = .ok (.dup, 1) := dk_89 (dk_at dksJ18_getChar_0 21 rfl rfl)
theorem dJ18_getChar_22 : decode cJ18_getChar 22 = .ok (.ldc 54, 2) := dk_18 54 (dk_at dksJ18_getChar_0 22 rfl rfl)
theorem dJ18_getChar_24 : decode cJ18_getChar 24 = .ok (.invokespecial 56, 3) := dk_183 0 56 (dk_at dksJ18_getChar_1 0 rfl rfl)
theorem dJ18_getChar_27 : decode cJ18_getChar 27 = .ok (.athrow, 1) := dk_191 (dk_at dksJ18_getChar_1 3 rfl rfl)
theorem dJ18_getChar_28 : decode cJ18_getChar 28 = .ok (.iload_n 1, 1) := dk_27 (dk_at dksJ18_getChar_1 4 rfl rfl)
theorem dJ18_getChar_29 : decode cJ18_getChar 29 = .ok (.iconst 1, 1) := dk_4 (dk_at dksJ18_getChar_1 5 rfl rfl)
theorem dJ18_getChar_30 : decode cJ18_getChar 30 = .ok (.ishl, 1) := dk_120 (dk_at dksJ18_getChar_1 6 rfl rfl)
theorem dJ18_getChar_31 : decode cJ18_getChar 31 = .ok (.istore_n 1, 1) := dk_60 (dk_at dksJ18_getChar_1 7 rfl rfl)
theorem dJ18_getChar_32 : decode cJ18_getChar 32 = .ok (.aload_n 0, 1) := dk_42 (dk_at dksJ18_getChar_1 8 rfl rfl)
theorem dJ18_getChar_33 : decode cJ18_getChar 33 = .ok (.iload_n 1, 1) := dk_27 (dk_at dksJ18_getChar_1 9 rfl rfl)
theorem dJ18_getChar_34 : decode cJ18_getChar 34 = .ok (.iinc 1 1, 3) := dk_132 1 1 (dk_at dksJ18_getChar_1 10 rfl rfl)
theorem dJ18_getChar_37 : decode cJ18_getChar 37 = .ok (.baload, 1) := dk_51 (dk_at dksJ18_getChar_1 13 rfl rfl)
theorem dJ18_getChar_38 : decode cJ18_getChar 38 = .ok (.sipush 255, 3) := dk_17 0 255 (dk_at dksJ18_getChar_1 14 rfl rfl)
theorem dJ18_getChar_41 : decode cJ18_getChar 41 = .ok (.iand, 1) := dk_126 (dk_at dksJ18_getChar_1 17 rfl rfl)
theorem dJ18_getChar_42 : decode cJ18_getChar 42 = .ok (.getstatic 59, 3) := dk_178 0 59 (dk_at dksJ18_getChar_1 18 rfl rfl)
theorem dJ18_getChar_45 : decode cJ18_getChar 45 = .ok (.ishl, 1) := dk_120 (dk_at dksJ18_getChar_1 21 rfl rfl)
theorem dJ18_getChar_46 : decode cJ18_getChar 46 = .ok (.aload_n 0, 1) := dk_42 (dk_at dksJ18_getChar_1 22 rfl rfl)
theorem dJ18_getChar_47 : decode cJ18_getChar 47 = .ok (.iload_n 1, 1) := dk_27 (dk_at dksJ18_getChar_1 23 rfl rfl)
theorem dJ18_getChar_48 : decode cJ18_getChar 48 = .ok (.baload, 1) := dk_51 (dk_at dksJ18_getChar_2 0 rfl rfl)
theorem dJ18_getChar_49 : decode cJ18_getChar 49 = .ok (.sipush 255, 3) := dk_17 0 255 (dk_at dksJ18_getChar_2 1 rfl rfl)
theorem dJ18_getChar_52 : decode cJ18_getChar 52 = .ok (.iand, 1) := dk_126 (dk_at dksJ18_getChar_2 4 rfl rfl)
theorem dJ18_getChar_53 : decode cJ18_getChar 53 = .ok (.getstatic 63, 3) := dk_178 0 63 (dk_at dksJ18_getChar_2 5 rfl rfl)
theorem dJ18_getChar_56 : decode cJ18_getChar 56 = .ok (.ishl, 1) := dk_120 (dk_at dksJ18_getChar_2 8 rfl rfl)
theorem dJ18_getChar_57 : decode cJ18_getChar 57 = .ok (.ior, 1) := dk_128 (dk_at dksJ18_getChar_2 9 rfl rfl)
theorem dJ18_getChar_58 : decode cJ18_getChar 58 = .ok (.i2c, 1) := dk_146 (dk_at dksJ18_getChar_2 10 rfl rfl)
theorem dJ18_getChar_59 : decode cJ18_getChar 59 = .ok (.ireturn, 1) := dk_172 (dk_at dksJ18_getChar_2 11 rfl rfl)
abbrev cJ18_coderFromArrayLen : ByteArray := prog_49_method_15_code
def yJ18_coderFromArrayLen : MethodName := ⟨RJ18, "coderFromArrayLen", "([BI)B"⟩
def dkwJ18_coderFromArrayLen_0 : List UInt8 := [27, 42, 190, 100, 16, 31, 124, 145, 172]
abbrev dktJ18_coderFromArrayLen_0 : List UInt8 := dkwJ18_coderFromArrayLen_0 ++ []
theorem dksJ18_coderFromArrayLen_0 : cJ18_coderFromArrayLen.data.toList.drop 0 = dktJ18_coderFromArrayLen_0 := by decide +kernel
theorem dJ18_coderFromArrayLen_0 : decode cJ18_coderFromArrayLen 0 = .ok (.iload_n 1, 1) := dk_27 (dk_at dksJ18_coderFromArrayLen_0 0 rfl rfl)
theorem dJ18_coderFromArrayLen_1 : decode cJ18_coderFromArrayLen 1 = .ok (.aload_n 0, 1) := dk_42 (dk_at dksJ18_coderFromArrayLen_0 1 rfl rfl)
theorem dJ18_coderFromArrayLen_2 : decode cJ18_coderFromArrayLen 2 = .ok (.arraylength, 1) := dk_190 (dk_at dksJ18_coderFromArrayLen_0 2 rfl rfl)
theorem dJ18_coderFromArrayLen_3 : decode cJ18_coderFromArrayLen 3 = .ok (.isub, 1) := dk_100 (dk_at dksJ18_coderFromArrayLen_0 3 rfl rfl)
theorem dJ18_coderFromArrayLen_4 : decode cJ18_coderFromArrayLen 4 = .ok (.bipush 31, 2) := dk_16 31 (dk_at dksJ18_coderFromArrayLen_0 4 rfl rfl)
theorem dJ18_coderFromArrayLen_6 : decode cJ18_coderFromArrayLen 6 = .ok (.iushr, 1) := dk_124 (dk_at dksJ18_coderFromArrayLen_0 6 rfl rfl)
theorem dJ18_coderFromArrayLen_7 : decode cJ18_coderFromArrayLen 7 = .ok (.i2b, 1) := dk_145 (dk_at dksJ18_coderFromArrayLen_0 7 rfl rfl)
theorem dJ18_coderFromArrayLen_8 : decode cJ18_coderFromArrayLen 8 = .ok (.ireturn, 1) := dk_172 (dk_at dksJ18_coderFromArrayLen_0 8 rfl rfl)
theorem q156 : (Jvm.Cond.initialized "java/lang/StringUTF16") ∈ lw_all := lw_g (lw_at lw_m1 39 rfl) rfl
theorem q537 : (Jvm.Cond.static ({ cls := "java/lang/StringUTF16", name := "newBytesFor", desc := "(I)[B" } : Jvm.MethodName)) ∈ lw_all := lw_g (lw_at lw_m2 180 rfl) rfl
theorem q538 : (Jvm.Cond.code ({ cls := "java/lang/StringUTF16", name := "newBytesFor", desc := "(I)[B" } : Jvm.MethodName) prog_49_method_2_code (1 : Nat) (Option.some (Jvm.ClassFile.FieldType.array Jvm.ClassFile.FieldType.byte))) ∈ lw_all := lw_g (lw_at lw_m2 181 rfl) rfl
theorem q539 : (Jvm.Cond.methodLink "java/lang/StringUTF16" (11 : Nat) ({ cls := "java/lang/StringUTF16", name := "newBytesLength", desc := "(I)I" } : Jvm.MethodName)) ∈ lw_all := lw_g (lw_at lw_m2 182 rfl) rfl
theorem q540 : (Jvm.Cond.static ({ cls := "java/lang/StringUTF16", name := "newBytesLength", desc := "(I)I" } : Jvm.MethodName)) ∈ lw_all := lw_g (lw_at lw_m2 183 rfl) rfl
theorem q541 : (Jvm.Cond.code ({ cls := "java/lang/StringUTF16", name := "newBytesLength", desc := "(I)I" } : Jvm.MethodName) prog_49_method_3_code (1 : Nat) (Option.some Jvm.ClassFile.FieldType.int)) ∈ lw_all := lw_g (lw_at lw_m2 184 rfl) rfl
theorem q542 : (Jvm.Cond.constant "java/lang/StringUTF16" (20 : Nat) (1073741823 : Int32)) ∈ lw_all := lw_g (lw_at lw_m2 185 rfl) rfl
theorem q610 : (Jvm.Cond.static ({ cls := "java/lang/StringUTF16", name := "putCharsAt", desc := "([BICCCC)I" } : Jvm.MethodName)) ∈ lw_all := lw_g (lw_at lw_m3 13 rfl) rfl
theorem q611 : (Jvm.Cond.code ({ cls := "java/lang/StringUTF16", name := "putCharsAt", desc := "([BICCCC)I" } : Jvm.MethodName) prog_49_method_81_code (7 : Nat) (Option.some Jvm.ClassFile.FieldType.int)) ∈ lw_all := lw_g (lw_at lw_m3 14 rfl) rfl
theorem q612 : (Jvm.Cond.methodLink "java/lang/StringUTF16" (96 : Nat) ({ cls := "java/lang/StringUTF16", name := "checkBoundsBeginEnd", desc := "(II[B)V" } : Jvm.MethodName)) ∈ lw_all := lw_g (lw_at lw_m3 15 rfl) rfl
theorem q613 : (Jvm.Cond.static ({ cls := "java/lang/StringUTF16", name := "checkBoundsBeginEnd", desc := "(II[B)V" } : Jvm.MethodName)) ∈ lw_all := lw_g (lw_at lw_m3 16 rfl) rfl
theorem q614 : (Jvm.Cond.code ({ cls := "java/lang/StringUTF16", name := "checkBoundsBeginEnd", desc := "(II[B)V" } : Jvm.MethodName) prog_49_method_93_code (3 : Nat) (Option.none : Option Jvm.ClassFile.FieldType)) ∈ lw_all := lw_g (lw_at lw_m3 17 rfl) rfl
theorem q615 : (Jvm.Cond.methodLink "java/lang/StringUTF16" (48 : Nat) ({ cls := "java/lang/StringUTF16", name := "length", desc := "([B)I" } : Jvm.MethodName)) ∈ lw_all := lw_g (lw_at lw_m3 18 rfl) rfl
theorem q616 : (Jvm.Cond.static ({ cls := "java/lang/StringUTF16", name := "length", desc := "([B)I" } : Jvm.MethodName)) ∈ lw_all := lw_g (lw_at lw_m3 19 rfl) rfl
theorem q617 : (Jvm.Cond.code ({ cls := "java/lang/StringUTF16", name := "length", desc := "([B)I" } : Jvm.MethodName) prog_49_method_6_code (1 : Nat) (Option.some Jvm.ClassFile.FieldType.int)) ∈ lw_all := lw_g (lw_at lw_m3 20 rfl) rfl
theorem q618 : (Jvm.Cond.methodLink "java/lang/StringUTF16" (241 : Nat) ({ cls := "java/lang/String", name := "checkBoundsBeginEnd", desc := "(III)V" } : Jvm.MethodName)) ∈ lw_all := lw_g (lw_at lw_m3 21 rfl) rfl
theorem q626 : (Jvm.Cond.methodLink "java/lang/StringUTF16" (111 : Nat) ({ cls := "java/lang/StringUTF16", name := "putChar", desc := "([BII)V" } : Jvm.MethodName)) ∈ lw_all := lw_g (lw_at lw_m3 29 rfl) rfl
theorem q627 : (Jvm.Cond.static ({ cls := "java/lang/StringUTF16", name := "putChar", desc := "([BII)V" } : Jvm.MethodName)) ∈ lw_all := lw_g (lw_at lw_m3 30 rfl) rfl
theorem q628 : (Jvm.Cond.code ({ cls := "java/lang/StringUTF16", name := "putChar", desc := "([BII)V" } : Jvm.MethodName) prog_49_method_4_code (3 : Nat) (Option.none : Option Jvm.ClassFile.FieldType)) ∈ lw_all := lw_g (lw_at lw_m3 31 rfl) rfl
theorem q629 : (Jvm.Cond.fieldLink "java/lang/StringUTF16" (44 : Nat) "java/lang/StringUTF16" "$assertionsDisabled" "Z") ∈ lw_all := lw_g (lw_at lw_m3 32 rfl) rfl
theorem q630 : (Jvm.Cond.laysStatic "java/lang/StringUTF16" "$assertionsDisabled" "Z") ∈ lw_tbl := lw_at lw_m3 33 rfl
theorem q631 : (Jvm.Cond.fieldLink "java/lang/StringUTF16" (59 : Nat) "java/lang/StringUTF16" "HI_BYTE_SHIFT" "I") ∈ lw_all := lw_g (lw_at lw_m3 34 rfl) rfl
theorem q632 : (Jvm.Cond.laysStatic "java/lang/StringUTF16" "HI_BYTE_SHIFT" "I") ∈ lw_tbl := lw_at lw_m3 35 rfl
theorem q633 : (Jvm.Cond.fieldLink "java/lang/StringUTF16" (63 : Nat) "java/lang/StringUTF16" "LO_BYTE_SHIFT" "I") ∈ lw_all := lw_g (lw_at lw_m3 36 rfl) rfl
theorem q634 : (Jvm.Cond.laysStatic "java/lang/StringUTF16" "LO_BYTE_SHIFT" "I") ∈ lw_tbl := lw_at lw_m3 37 rfl
theorem q661 : (Jvm.Cond.static ({ cls := "java/lang/StringUTF16", name := "inflate", desc := "([BI[BII)V" } : Jvm.MethodName)) ∈ lw_all := lw_g (lw_at lw_m3 64 rfl) rfl
theorem q662 : (Jvm.Cond.code ({ cls := "java/lang/StringUTF16", name := "inflate", desc := "([BI[BII)V" } : Jvm.MethodName) prog_49_method_86_code (6 : Nat) (Option.none : Option Jvm.ClassFile.FieldType)) ∈ lw_all := lw_g (lw_at lw_m3 65 rfl) rfl
theorem q663 : (Jvm.Cond.methodLink "java/lang/StringUTF16" (173 : Nat) ({ cls := "java/lang/StringUTF16", name := "checkBoundsOffCount", desc := "(II[B)V" } : Jvm.MethodName)) ∈ lw_all := lw_g (lw_at lw_m3 66 rfl) rfl
theorem q664 : (Jvm.Cond.static ({ cls := "java/lang/StringUTF16", name := "checkBoundsOffCount", desc := "(II[B)V" } : Jvm.MethodName)) ∈ lw_all := lw_g (lw_at lw_m3 67 rfl) rfl
theorem q665 : (Jvm.Cond.code ({ cls := "java/lang/StringUTF16", name := "checkBoundsOffCount", desc := "(II[B)V" } : Jvm.MethodName) prog_49_method_94_code (3 : Nat) (Option.none : Option Jvm.ClassFile.FieldType)) ∈ lw_all := lw_g (lw_at lw_m3 68 rfl) rfl
theorem q666 : (Jvm.Cond.methodLink "java/lang/StringUTF16" (419 : Nat) ({ cls := "java/lang/String", name := "checkBoundsOffCount", desc := "(III)I" } : Jvm.MethodName)) ∈ lw_all := lw_g (lw_at lw_m3 69 rfl) rfl
theorem q696 : (Jvm.Cond.static ({ cls := "java/lang/StringUTF16", name := "getChars", desc := "(III[B)I" } : Jvm.MethodName)) ∈ lw_all := lw_g (lw_at lw_m3 99 rfl) rfl
theorem q697 : (Jvm.Cond.code ({ cls := "java/lang/StringUTF16", name := "getChars", desc := "(III[B)I" } : Jvm.MethodName) prog_49_method_77_code (5 : Nat) (Option.some Jvm.ClassFile.FieldType.int)) ∈ lw_all := lw_g (lw_at lw_m3 100 rfl) rfl
theorem q698 : (Jvm.Cond.methodLink "java/lang/StringUTF16" (393 : Nat) ({ cls := "java/lang/StringUTF16", name := "getChars", desc := "(II[B)I" } : Jvm.MethodName)) ∈ lw_all := lw_g (lw_at lw_m3 101 rfl) rfl
theorem q699 : (Jvm.Cond.static ({ cls := "java/lang/StringUTF16", name := "getChars", desc := "(II[B)I" } : Jvm.MethodName)) ∈ lw_all := lw_g (lw_at lw_m3 102 rfl) rfl
theorem q700 : (Jvm.Cond.code ({ cls := "java/lang/StringUTF16", name := "getChars", desc := "(II[B)I" } : Jvm.MethodName) prog_49_method_89_code (7 : Nat) (Option.some Jvm.ClassFile.FieldType.int)) ∈ lw_all := lw_g (lw_at lw_m3 103 rfl) rfl
theorem q701 : (Jvm.Cond.fieldLink "java/lang/StringUTF16" (403 : Nat) "java/lang/Integer" "DigitOnes" "[B") ∈ lw_all := lw_g (lw_at lw_m3 104 rfl) rfl
theorem q702 : (Jvm.Cond.fieldLink "java/lang/StringUTF16" (407 : Nat) "java/lang/Integer" "DigitTens" "[B") ∈ lw_all := lw_g (lw_at lw_m3 105 rfl) rfl
theorem q783 : (Jvm.Cond.static ({ cls := "java/lang/StringUTF16", name := "compress", desc := "([BII)[B" } : Jvm.MethodName)) ∈ lw_all := lw_g (lw_at lw_m3 186 rfl) rfl
theorem q784 : (Jvm.Cond.code ({ cls := "java/lang/StringUTF16", name := "compress", desc := "([BII)[B" } : Jvm.MethodName) prog_49_method_17_code (6 : Nat) (Option.some (Jvm.ClassFile.FieldType.array Jvm.ClassFile.FieldType.byte))) ∈ lw_all := lw_g (lw_at lw_m3 187 rfl) rfl
theorem q785 : (Jvm.Cond.methodLink "java/lang/StringUTF16" (123 : Nat) ({ cls := "java/lang/StringUTF16", name := "compress", desc := "([BI[BII)I" } : Jvm.MethodName)) ∈ lw_all := lw_g (lw_at lw_m3 188 rfl) rfl
theorem q786 : (Jvm.Cond.static ({ cls := "java/lang/StringUTF16", name := "compress", desc := "([BI[BII)I" } : Jvm.MethodName)) ∈ lw_all := lw_g (lw_at lw_m3 189 rfl) rfl
theorem q787 : (Jvm.Cond.code ({ cls := "java/lang/StringUTF16", name := "compress", desc := "([BI[BII)I" } : Jvm.MethodName) prog_49_method_22_code (7 : Nat) (Option.some Jvm.ClassFile.FieldType.int)) ∈ lw_all := lw_g (lw_at lw_m3 190 rfl) rfl
theorem q788 : (Jvm.Cond.methodLink "java/lang/StringUTF16" (71 : Nat) ({ cls := "java/lang/StringUTF16", name := "getChar", desc := "([BI)C" } : Jvm.MethodName)) ∈ lw_all := lw_g (lw_at lw_m3 191 rfl) rfl
theorem q789 : (Jvm.Cond.static ({ cls := "java/lang/StringUTF16", name := "getChar", desc := "([BI)C" } : Jvm.MethodName)) ∈ lw_all := lw_g (lw_at lw_m3 192 rfl) rfl
theorem q790 : (Jvm.Cond.code ({ cls := "java/lang/StringUTF16", name := "getChar", desc := "([BI)C" } : Jvm.MethodName) prog_49_method_5_code (2 : Nat) (Option.some Jvm.ClassFile.FieldType.char)) ∈ lw_all := lw_g (lw_at lw_m3 193 rfl) rfl
theorem q791 : (Jvm.Cond.methodLink "java/lang/StringUTF16" (126 : Nat) ({ cls := "java/util/Arrays", name := "copyOfRange", desc := "([BII)[B" } : Jvm.MethodName)) ∈ lw_all := lw_g (lw_at lw_m3 194 rfl) rfl
theorem q793 : (Jvm.Cond.static ({ cls := "java/lang/StringUTF16", name := "coderFromArrayLen", desc := "([BI)B" } : Jvm.MethodName)) ∈ lw_all := lw_g (lw_at lw_m3 196 rfl) rfl
theorem q794 : (Jvm.Cond.code ({ cls := "java/lang/StringUTF16", name := "coderFromArrayLen", desc := "([BI)B" } : Jvm.MethodName) prog_49_method_15_code (2 : Nat) (Option.some Jvm.ClassFile.FieldType.byte)) ∈ lw_all := lw_g (lw_at lw_m3 197 rfl) rfl

/-! jdk/internal/util/Preconditions -/
def RJ19 : String := "jdk/internal/util/Preconditions"
abbrev cJ19_checkFromToIndex : ByteArray := prog_82_method_12_code
def yJ19_checkFromToIndex : MethodName := ⟨RJ19, "checkFromToIndex", "(IIILjava/util/function/BiFunction;)I"⟩
def dkwJ19_checkFromToIndex_0 : List UInt8 := [26, 155, 0, 13, 26, 27, 163, 0, 8, 27, 28, 164, 0, 11, 45, 26, 27, 28, 184, 0, 99, 191, 26, 172]
abbrev dktJ19_checkFromToIndex_0 : List UInt8 := dkwJ19_checkFromToIndex_0 ++ []
theorem dksJ19_checkFromToIndex_0 : cJ19_checkFromToIndex.data.toList.drop 0 = dktJ19_checkFromToIndex_0 := by decide +kernel
theorem dJ19_checkFromToIndex_0 : decode cJ19_checkFromToIndex 0 = .ok (.iload_n 0, 1) := dk_26 (dk_at dksJ19_checkFromToIndex_0 0 rfl rfl)
theorem dJ19_checkFromToIndex_1 : decode cJ19_checkFromToIndex 1 = .ok (.ifCond .lt 13, 3) := dk_155 0 13 (dk_at dksJ19_checkFromToIndex_0 1 rfl rfl)
theorem dJ19_checkFromToIndex_4 : decode cJ19_checkFromToIndex 4 = .ok (.iload_n 0, 1) := dk_26 (dk_at dksJ19_checkFromToIndex_0 4 rfl rfl)
theorem dJ19_checkFromToIndex_5 : decode cJ19_checkFromToIndex 5 = .ok (.iload_n 1, 1) := dk_27 (dk_at dksJ19_checkFromToIndex_0 5 rfl rfl)
theorem dJ19_checkFromToIndex_6 : decode cJ19_checkFromToIndex 6 = .ok (.if_icmp .gt 8, 3) := dk_163 0 8 (dk_at dksJ19_checkFromToIndex_0 6 rfl rfl)
theorem dJ19_checkFromToIndex_9 : decode cJ19_checkFromToIndex 9 = .ok (.iload_n 1, 1) := dk_27 (dk_at dksJ19_checkFromToIndex_0 9 rfl rfl)
theorem dJ19_checkFromToIndex_10 : decode cJ19_checkFromToIndex 10 = .ok (.iload_n 2, 1) := dk_28 (dk_at dksJ19_checkFromToIndex_0 10 rfl rfl)
theorem dJ19_checkFromToIndex_11 : decode cJ19_checkFromToIndex 11 = .ok (.if_icmp .le 11, 3) := dk_164 0 11 (dk_at dksJ19_checkFromToIndex_0 11 rfl rfl)
theorem dJ19_checkFromToIndex_14 : decode cJ19_checkFromToIndex 14 = .ok (.aload_n 3, 1) := dk_45 (dk_at dksJ19_checkFromToIndex_0 14 rfl rfl)
theorem dJ19_checkFromToIndex_15 : decode cJ19_checkFromToIndex 15 = .ok (.iload_n 0, 1) := dk_26 (dk_at dksJ19_checkFromToIndex_0 15 rfl rfl)
theorem dJ19_checkFromToIndex_16 : decode cJ19_checkFromToIndex 16 = .ok (.iload_n 1, 1) := dk_27 (dk_at dksJ19_checkFromToIndex_0 16 rfl rfl)
theorem dJ19_checkFromToIndex_17 : decode cJ19_checkFromToIndex 17 = .ok (.iload_n 2, 1) := dk_28 (dk_at dksJ19_checkFromToIndex_0 17 rfl rfl)
theorem dJ19_checkFromToIndex_18 : decode cJ19_checkFromToIndex 18 = .ok (.invokestatic 99, 3) := dk_184 0 99 (dk_at dksJ19_checkFromToIndex_0 18 rfl rfl)
theorem dJ19_checkFromToIndex_21 : decode cJ19_checkFromToIndex 21 = .ok (.athrow, 1) := dk_191 (dk_at dksJ19_checkFromToIndex_0 21 rfl rfl)
theorem dJ19_checkFromToIndex_22 : decode cJ19_checkFromToIndex 22 = .ok (.iload_n 0, 1) := dk_26 (dk_at dksJ19_checkFromToIndex_0 22 rfl rfl)
theorem dJ19_checkFromToIndex_23 : decode cJ19_checkFromToIndex 23 = .ok (.ireturn, 1) := dk_172 (dk_at dksJ19_checkFromToIndex_0 23 rfl rfl)
abbrev cJ19_checkFromIndexSize : ByteArray := prog_82_method_13_code
def yJ19_checkFromIndexSize : MethodName := ⟨RJ19, "checkFromIndexSize", "(IIILjava/util/function/BiFunction;)I"⟩
def dkwJ19_checkFromIndexSize_1 : List UInt8 := [172]
abbrev dktJ19_checkFromIndexSize_1 : List UInt8 := dkwJ19_checkFromIndexSize_1 ++ []
def dkwJ19_checkFromIndexSize_0 : List UInt8 := [28, 26, 128, 27, 128, 155, 0, 10, 27, 28, 26, 100, 164, 0, 11, 45, 26, 27, 28, 184, 0, 103, 191, 26]
abbrev dktJ19_checkFromIndexSize_0 : List UInt8 := dkwJ19_checkFromIndexSize_0 ++ dktJ19_checkFromIndexSize_1
theorem dksJ19_checkFromIndexSize_0 : cJ19_checkFromIndexSize.data.toList.drop 0 = dktJ19_checkFromIndexSize_0 := by decide +kernel
theorem dksJ19_checkFromIndexSize_1 : cJ19_checkFromIndexSize.data.toList.drop 24 = dktJ19_checkFromIndexSize_1 := dk_seg dksJ19_checkFromIndexSize_0 24 rfl rfl
theorem dJ19_checkFromIndexSize_0 : decode cJ19_checkFromIndexSize 0 = .ok (.iload_n 2, 1) := dk_28 (dk_at dksJ19_checkFromIndexSize_0 0 rfl rfl)
theorem dJ19_checkFromIndexSize_1 : decode cJ19_checkFromIndexSize 1 = .ok (.iload_n 0, 1) := dk_26 (dk_at dksJ19_checkFromIndexSize_0 1 rfl rfl)
theorem dJ19_checkFromIndexSize_2 : decode cJ19_checkFromIndexSize 2 = .ok (.ior, 1) := dk_128 (dk_at dksJ19_checkFromIndexSize_0 2 rfl rfl)
theorem dJ19_checkFromIndexSize_3 : decode cJ19_checkFromIndexSize 3 = .ok (.iload_n 1, 1) := dk_27 (dk_at dksJ19_checkFromIndexSize_0 3 rfl rfl)
theorem dJ19_checkFromIndexSize_4 : decode cJ19_checkFromIndexSize 4 = .ok (.ior, 1) := dk_128 (dk_at dksJ19_checkFromIndexSize_0 4 rfl rfl)
theorem dJ19_checkFromIndexSize_5 : decode cJ19_checkFromIndexSize 5 = .ok (.ifCond .lt 10, 3) := dk_155 0 10 (dk_at dksJ19_checkFromIndexSize_0 5 rfl rfl)
theorem dJ19_checkFromIndexSize_8 : decode cJ19_checkFromIndexSize 8 = .ok (.iload_n 1, 1) := dk_27 (dk_at dksJ19_checkFromIndexSize_0 8 rfl rfl)
theorem dJ19_checkFromIndexSize_9 : decode cJ19_checkFromIndexSize 9 = .ok (.iload_n 2, 1) := dk_28 (dk_at dksJ19_checkFromIndexSize_0 9 rfl rfl)
theorem dJ19_checkFromIndexSize_10 : decode cJ19_checkFromIndexSize 10 = .ok (.iload_n 0, 1) := dk_26 (dk_at dksJ19_checkFromIndexSize_0 10 rfl rfl)
theorem dJ19_checkFromIndexSize_11 : decode cJ19_checkFromIndexSize 11 = .ok (.isub, 1) := dk_100 (dk_at dksJ19_checkFromIndexSize_0 11 rfl rfl)
theorem dJ19_checkFromIndexSize_12 : decode cJ19_checkFromIndexSize 12 = .ok (.if_icmp .le 11, 3) := dk_164 0 11 (dk_at dksJ19_checkFromIndexSize_0 12 rfl rfl)
theorem dJ19_checkFromIndexSize_15 : decode cJ19_checkFromIndexSize 15 = .ok (.aload_n 3, 1) := dk_45 (dk_at dksJ19_checkFromIndexSize_0 15 rfl rfl)
theorem dJ19_checkFromIndexSize_16 : decode cJ19_checkFromIndexSize 16 = .ok (.iload_n 0, 1) := dk_26 (dk_at dksJ19_checkFromIndexSize_0 16 rfl rfl)
theorem dJ19_checkFromIndexSize_17 : decode cJ19_checkFromIndexSize 17 = .ok (.iload_n 1, 1) := dk_27 (dk_at dksJ19_checkFromIndexSize_0 17 rfl rfl)
theorem dJ19_checkFromIndexSize_18 : decode cJ19_checkFromIndexSize 18 = .ok (.iload_n 2, 1) := dk_28 (dk_at dksJ19_checkFromIndexSize_0 18 rfl rfl)
theorem dJ19_checkFromIndexSize_19 : decode cJ19_checkFromIndexSize 19 = .ok (.invokestatic 103, 3) := dk_184 0 103 (dk_at dksJ19_checkFromIndexSize_0 19 rfl rfl)
theorem dJ19_checkFromIndexSize_22 : decode cJ19_checkFromIndexSize 22 = .ok (.athrow, 1) := dk_191 (dk_at dksJ19_checkFromIndexSize_0 22 rfl rfl)
theorem dJ19_checkFromIndexSize_23 : decode cJ19_checkFromIndexSize 23 = .ok (.iload_n 0, 1) := dk_26 (dk_at dksJ19_checkFromIndexSize_0 23 rfl rfl)
theorem dJ19_checkFromIndexSize_24 : decode cJ19_checkFromIndexSize 24 = .ok (.ireturn, 1) := dk_172 (dk_at dksJ19_checkFromIndexSize_1 0 rfl rfl)
abbrev cJ19_checkIndex : ByteArray := prog_82_method_11_code
def yJ19_checkIndex : MethodName := ⟨RJ19, "checkIndex", "(IILjava/util/function/BiFunction;)I"⟩
def dkwJ19_checkIndex_0 : List UInt8 := [26, 155, 0, 8, 26, 27, 161, 0, 10, 44, 26, 27, 184, 0, 95, 191, 26, 172]
abbrev dktJ19_checkIndex_0 : List UInt8 := dkwJ19_checkIndex_0 ++ []
theorem dksJ19_checkIndex_0 : cJ19_checkIndex.data.toList.drop 0 = dktJ19_checkIndex_0 := by decide +kernel
theorem dJ19_checkIndex_0 : decode cJ19_checkIndex 0 = .ok (.iload_n 0, 1) := dk_26 (dk_at dksJ19_checkIndex_0 0 rfl rfl)
theorem dJ19_checkIndex_1 : decode cJ19_checkIndex 1 = .ok (.ifCond .lt 8, 3) := dk_155 0 8 (dk_at dksJ19_checkIndex_0 1 rfl rfl)
theorem dJ19_checkIndex_4 : decode cJ19_checkIndex 4 = .ok (.iload_n 0, 1) := dk_26 (dk_at dksJ19_checkIndex_0 4 rfl rfl)
theorem dJ19_checkIndex_5 : decode cJ19_checkIndex 5 = .ok (.iload_n 1, 1) := dk_27 (dk_at dksJ19_checkIndex_0 5 rfl rfl)
theorem dJ19_checkIndex_6 : decode cJ19_checkIndex 6 = .ok (.if_icmp .lt 10, 3) := dk_161 0 10 (dk_at dksJ19_checkIndex_0 6 rfl rfl)
theorem dJ19_checkIndex_9 : decode cJ19_checkIndex 9 = .ok (.aload_n 2, 1) := dk_44 (dk_at dksJ19_checkIndex_0 9 rfl rfl)
theorem dJ19_checkIndex_10 : decode cJ19_checkIndex 10 = .ok (.iload_n 0, 1) := dk_26 (dk_at dksJ19_checkIndex_0 10 rfl rfl)
theorem dJ19_checkIndex_11 : decode cJ19_checkIndex 11 = .ok (.iload_n 1, 1) := dk_27 (dk_at dksJ19_checkIndex_0 11 rfl rfl)
theorem dJ19_checkIndex_12 : decode cJ19_checkIndex 12 = .ok (.invokestatic 95, 3) := dk_184 0 95 (dk_at dksJ19_checkIndex_0 12 rfl rfl)
theorem dJ19_checkIndex_15 : decode cJ19_checkIndex 15 = .ok (.athrow, 1) := dk_191 (dk_at dksJ19_checkIndex_0 15 rfl rfl)
theorem dJ19_checkIndex_16 : decode cJ19_checkIndex 16 = .ok (.iload_n 0, 1) := dk_26 (dk_at dksJ19_checkIndex_0 16 rfl rfl)
theorem dJ19_checkIndex_17 : decode cJ19_checkIndex 17 = .ok (.ireturn, 1) := dk_172 (dk_at dksJ19_checkIndex_0 17 rfl rfl)
theorem q157 : (Jvm.Cond.initialized "jdk/internal/util/Preconditions") ∈ lw_all := lw_g (lw_at lw_m1 40 rfl) rfl
theorem q622 : (Jvm.Cond.laysStatic "jdk/internal/util/Preconditions" "SIOOBE_FORMATTER" "Ljava/util/function/BiFunction;") ∈ lw_tbl := lw_at lw_m3 25 rfl
theorem q624 : (Jvm.Cond.static ({ cls := "jdk/internal/util/Preconditions", name := "checkFromToIndex", desc := "(IIILjava/util/function/BiFunction;)I" } : Jvm.MethodName)) ∈ lw_all := lw_g (lw_at lw_m3 27 rfl) rfl
theorem q625 : (Jvm.Cond.code ({ cls := "jdk/internal/util/Preconditions", name := "checkFromToIndex", desc := "(IIILjava/util/function/BiFunction;)I" } : Jvm.MethodName) prog_82_method_12_code (4 : Nat) (Option.some Jvm.ClassFile.FieldType.int)) ∈ lw_all := lw_g (lw_at lw_m3 28 rfl) rfl
theorem q670 : (Jvm.Cond.static ({ cls := "jdk/internal/util/Preconditions", name := "checkFromIndexSize", desc := "(IIILjava/util/function/BiFunction;)I" } : Jvm.MethodName)) ∈ lw_all := lw_g (lw_at lw_m3 73 rfl) rfl
theorem q671 : (Jvm.Cond.code ({ cls := "jdk/internal/util/Preconditions", name := "checkFromIndexSize", desc := "(IIILjava/util/function/BiFunction;)I" } : Jvm.MethodName) prog_82_method_13_code (4 : Nat) (Option.some Jvm.ClassFile.FieldType.int)) ∈ lw_all := lw_g (lw_at lw_m3 74 rfl) rfl
theorem q828 : (Jvm.Cond.static ({ cls := "jdk/internal/util/Preconditions", name := "checkIndex", desc := "(IILjava/util/function/BiFunction;)I" } : Jvm.MethodName)) ∈ lw_all := lw_g (lw_at lw_m3 231 rfl) rfl
theorem q829 : (Jvm.Cond.code ({ cls := "jdk/internal/util/Preconditions", name := "checkIndex", desc := "(IILjava/util/function/BiFunction;)I" } : Jvm.MethodName) prog_82_method_11_code (3 : Nat) (Option.some Jvm.ClassFile.FieldType.int)) ∈ lw_all := lw_g (lw_at lw_m3 232 rfl) rfl

/-! java/util/ArrayList -/
def RJ2 : String := "java/util/ArrayList"
def TJ2 : u_T := fun k => match k with
  | 0 => ("java/util/AbstractList", "modCount", "I", false)
  | 1 => ("java/util/ArrayList", "elementData", "[Ljava/lang/Object;", false)
  | _ => ("java/util/ArrayList", "size", "I", false)
def tyJ2 : Nat → FieldType := fun k => match k with
  | 0 => .int
  | 1 => .array (.object "java/lang/Object")
  | _ => .int
abbrev wsJ20 : List Cond := u_ws RJ2 TJ2 3
theorem nmJ2 : ∀ a, a < 3 → ∀ b, b < 3 → a ≠ b → (TJ2 a).2.1 ≠ (TJ2 b).2.1 := by decide +kernel
theorem tyJ2_ok : ∀ k, k < 3 → parseFieldDescriptor (TJ2 k).2.2.1 = some (tyJ2 k) := by decide +kernel
abbrev cJ2_init : ByteArray := prog_62_method_2_code
def yJ2_init : MethodName := ⟨RJ2, "<init>", "()V"⟩
def dkwJ2_init_0 : List UInt8 := [42, 183, 0, 1, 42, 178, 0, 39, 181, 0, 9, 177]
abbrev dktJ2_init_0 : List UInt8 := dkwJ2_init_0 ++ []
theorem dksJ2_init_0 : cJ2_init.data.toList.drop 0 = dktJ2_init_0 := by decide +kernel
theorem dJ2_init_0 : decode cJ2_init 0 = .ok (.aload_n 0, 1) := dk_42 (dk_at dksJ2_init_0 0 rfl rfl)
theorem dJ2_init_1 : decode cJ2_init 1 = .ok (.invokespecial 1, 3) := dk_183 0 1 (dk_at dksJ2_init_0 1 rfl rfl)
theorem dJ2_init_4 : decode cJ2_init 4 = .ok (.aload_n 0, 1) := dk_42 (dk_at dksJ2_init_0 4 rfl rfl)
theorem dJ2_init_5 : decode cJ2_init 5 = .ok (.getstatic 39, 3) := dk_178 0 39 (dk_at dksJ2_init_0 5 rfl rfl)
theorem dJ2_init_8 : decode cJ2_init 8 = .ok (.putfield 9, 3) := dk_181 0 9 (dk_at dksJ2_init_0 8 rfl rfl)
theorem dJ2_init_11 : decode cJ2_init 11 = .ok (.return_, 1) := dk_177 (dk_at dksJ2_init_0 11 rfl rfl)
abbrev cJ2_size : ByteArray := prog_62_method_8_code
def yJ2_size : MethodName := ⟨RJ2, "size", "()I"⟩
theorem dJ2_size_0 : decode cJ2_size 0 = .ok (.aload_n 0, 1) := by decide +kernel
theorem dJ2_size_1 : decode cJ2_size 1 = .ok (.getfield 48, 3) := by decide +kernel
theorem dJ2_size_4 : decode cJ2_size 4 = .ok (.ireturn, 1) := by decide +kernel
abbrev cJ2_clear : ByteArray := prog_62_method_40_code
def yJ2_clear : MethodName := ⟨RJ2, "clear", "()V"⟩
def dkwJ2_clear_1 : List UInt8 := [181, 0, 48, 62, 29, 28, 162, 0, 13, 43, 29, 1, 83, 132, 3, 1, 167, 255, 244, 177]
abbrev dktJ2_clear_1 : List UInt8 := dkwJ2_clear_1 ++ []
def dkwJ2_clear_0 : List UInt8 := [42, 89, 180, 0, 63, 4, 96, 181, 0, 63, 42, 180, 0, 9, 76, 42, 180, 0, 48, 61, 42, 3, 90]
abbrev dktJ2_clear_0 : List UInt8 := dkwJ2_clear_0 ++ dktJ2_clear_1
theorem dksJ2_clear_0 : cJ2_clear.data.toList.drop 0 = dktJ2_clear_0 := by decide +kernel
theorem dksJ2_clear_1 : cJ2_clear.data.toList.drop 23 = dktJ2_clear_1 := dk_seg dksJ2_clear_0 23 rfl rfl
theorem dJ2_clear_0 : decode cJ2_clear 0 = .ok (.aload_n 0, 1) := dk_42 (dk_at dksJ2_clear_0 0 rfl rfl)
theorem dJ2_clear_1 : decode cJ2_clear 1 = .ok (.dup, 1) := dk_89 (dk_at dksJ2_clear_0 1 rfl rfl)
theorem dJ2_clear_2 : decode cJ2_clear 2 = .ok (.getfield 63, 3) := dk_180 0 63 (dk_at dksJ2_clear_0 2 rfl rfl)
theorem dJ2_clear_5 : decode cJ2_clear 5 = .ok (.iconst 1, 1) := dk_4 (dk_at dksJ2_clear_0 5 rfl rfl)
theorem dJ2_clear_6 : decode cJ2_clear 6 = .ok (.iadd, 1) := dk_96 (dk_at dksJ2_clear_0 6 rfl rfl)
theorem dJ2_clear_7 : decode cJ2_clear 7 = .ok (.putfield 63, 3) := dk_181 0 63 (dk_at dksJ2_clear_0 7 rfl rfl)
theorem dJ2_clear_10 : decode cJ2_clear 10 = .ok (.aload_n 0, 1) := dk_42 (dk_at dksJ2_clear_0 10 rfl rfl)
theorem dJ2_clear_11 : decode cJ2_clear 11 = .ok (.getfield 9, 3) := dk_180 0 9 (dk_at dksJ2_clear_0 11 rfl rfl)
theorem dJ2_clear_14 : decode cJ2_clear 14 = .ok (.astore_n 1, 1) := dk_76 (dk_at dksJ2_clear_0 14 rfl rfl)
theorem dJ2_clear_15 : decode cJ2_clear 15 = .ok (.aload_n 0, 1) := dk_42 (dk_at dksJ2_clear_0 15 rfl rfl)
theorem dJ2_clear_16 : decode cJ2_clear 16 = .ok (.getfield 48, 3) := dk_180 0 48 (dk_at dksJ2_clear_0 16 rfl rfl)
theorem dJ2_clear_19 : decode cJ2_clear 19 = .ok (.istore_n 2, 1) := dk_61 (dk_at dksJ2_clear_0 19 rfl rfl)
theorem dJ2_clear_20 : decode cJ2_clear 20 = .ok (.aload_n 0, 1) := dk_42 (dk_at dksJ2_clear_0 20 rfl rfl)
theorem dJ2_clear_21 : decode cJ2_clear 21 = .ok (.iconst 0, 1) := dk_3 (dk_at dksJ2_clear_0 21 rfl rfl)
theorem dJ2_clear_22 : decode cJ2_clear 22 = .ok (.dup_x1, 1) := dk_90 (dk_at dksJ2_clear_0 22 rfl rfl)
theorem dJ2_clear_23 : decode cJ2_clear 23 = .ok (.putfield 48, 3) := dk_181 0 48 (dk_at dksJ2_clear_1 0 rfl rfl)
theorem dJ2_clear_26 : decode cJ2_clear 26 = .ok (.istore_n 3, 1) := dk_62 (dk_at dksJ2_clear_1 3 rfl rfl)
theorem dJ2_clear_27 : decode cJ2_clear 27 = .ok (.iload_n 3, 1) := dk_29 (dk_at dksJ2_clear_1 4 rfl rfl)
theorem dJ2_clear_28 : decode cJ2_clear 28 = .ok (.iload_n 2, 1) := dk_28 (dk_at dksJ2_clear_1 5 rfl rfl)
theorem dJ2_clear_29 : decode cJ2_clear 29 = .ok (.if_icmp .ge 13, 3) := dk_162 0 13 (dk_at dksJ2_clear_1 6 rfl rfl)
theorem dJ2_clear_32 : decode cJ2_clear 32 = .ok (.aload_n 1, 1) := dk_43 (dk_at dksJ2_clear_1 9 rfl rfl)
theorem dJ2_clear_33 : decode cJ2_clear 33 = .ok (.iload_n 3, 1) := dk_29 (dk_at dksJ2_clear_1 10 rfl rfl)
theorem dJ2_clear_34 : decode cJ2_clear 34 = .ok (.aconst_null, 1) := dk_1 (dk_at dksJ2_clear_1 11 rfl rfl)
theorem dJ2_clear_35 : decode cJ2_clear 35 = .ok (.aastore, 1) := dk_83 (dk_at dksJ2_clear_1 12 rfl rfl)
theorem dJ2_clear_36 : decode cJ2_clear 36 = .ok (.iinc 3 1, 3) := dk_132 3 1 (dk_at dksJ2_clear_1 13 rfl rfl)
theorem dJ2_clear_39 : decode cJ2_clear 39 = .ok (.goto (-12), 3) := dk_167 255 244 (dk_at dksJ2_clear_1 16 rfl rfl)
theorem dJ2_clear_42 : decode cJ2_clear 42 = .ok (.return_, 1) := dk_177 (dk_at dksJ2_clear_1 19 rfl rfl)
abbrev cJ2_get : ByteArray := prog_62_method_20_code
def yJ2_get : MethodName := ⟨RJ2, "get", "(I)Ljava/lang/Object;"⟩
def dkwJ2_get_0 : List UInt8 := [27, 42, 180, 0, 48, 184, 0, 118, 87, 42, 27, 182, 0, 123, 176]
abbrev dktJ2_get_0 : List UInt8 := dkwJ2_get_0 ++ []
theorem dksJ2_get_0 : cJ2_get.data.toList.drop 0 = dktJ2_get_0 := by decide +kernel
theorem dJ2_get_0 : decode cJ2_get 0 = .ok (.iload_n 1, 1) := dk_27 (dk_at dksJ2_get_0 0 rfl rfl)
theorem dJ2_get_1 : decode cJ2_get 1 = .ok (.aload_n 0, 1) := dk_42 (dk_at dksJ2_get_0 1 rfl rfl)
theorem dJ2_get_2 : decode cJ2_get 2 = .ok (.getfield 48, 3) := dk_180 0 48 (dk_at dksJ2_get_0 2 rfl rfl)
theorem dJ2_get_5 : decode cJ2_get 5 = .ok (.invokestatic 118, 3) := dk_184 0 118 (dk_at dksJ2_get_0 5 rfl rfl)
theorem dJ2_get_8 : decode cJ2_get 8 = .ok (.pop, 1) := dk_87 (dk_at dksJ2_get_0 8 rfl rfl)
theorem dJ2_get_9 : decode cJ2_get 9 = .ok (.aload_n 0, 1) := dk_42 (dk_at dksJ2_get_0 9 rfl rfl)
theorem dJ2_get_10 : decode cJ2_get 10 = .ok (.iload_n 1, 1) := dk_27 (dk_at dksJ2_get_0 10 rfl rfl)
theorem dJ2_get_11 : decode cJ2_get 11 = .ok (.invokevirtual 123, 3) := dk_182 0 123 (dk_at dksJ2_get_0 11 rfl rfl)
theorem dJ2_get_14 : decode cJ2_get 14 = .ok (.areturn, 1) := dk_176 (dk_at dksJ2_get_0 14 rfl rfl)
abbrev cJ2_elementData : ByteArray := prog_62_method_18_code
def yJ2_elementData : MethodName := ⟨RJ2, "elementData", "(I)Ljava/lang/Object;"⟩
def dkwJ2_elementData_0 : List UInt8 := [42, 180, 0, 9, 27, 50, 176]
abbrev dktJ2_elementData_0 : List UInt8 := dkwJ2_elementData_0 ++ []
theorem dksJ2_elementData_0 : cJ2_elementData.data.toList.drop 0 = dktJ2_elementData_0 := by decide +kernel
theorem dJ2_elementData_0 : decode cJ2_elementData 0 = .ok (.aload_n 0, 1) := dk_42 (dk_at dksJ2_elementData_0 0 rfl rfl)
theorem dJ2_elementData_1 : decode cJ2_elementData 1 = .ok (.getfield 9, 3) := dk_180 0 9 (dk_at dksJ2_elementData_0 1 rfl rfl)
theorem dJ2_elementData_4 : decode cJ2_elementData 4 = .ok (.iload_n 1, 1) := dk_27 (dk_at dksJ2_elementData_0 4 rfl rfl)
theorem dJ2_elementData_5 : decode cJ2_elementData 5 = .ok (.aaload, 1) := dk_50 (dk_at dksJ2_elementData_0 5 rfl rfl)
theorem dJ2_elementData_6 : decode cJ2_elementData 6 = .ok (.areturn, 1) := dk_176 (dk_at dksJ2_elementData_0 6 rfl rfl)
abbrev cJ2_add : ByteArray := prog_62_method_25_code
def yJ2_add : MethodName := ⟨RJ2, "add", "(Ljava/lang/Object;)Z"⟩
def dkwJ2_add_1 : List UInt8 := [172]
abbrev dktJ2_add_1 : List UInt8 := dkwJ2_add_1 ++ []
def dkwJ2_add_0 : List UInt8 := [42, 89, 180, 0, 63, 4, 96, 181, 0, 63, 42, 43, 42, 180, 0, 9, 42, 180, 0, 48, 182, 0, 131, 4]
abbrev dktJ2_add_0 : List UInt8 := dkwJ2_add_0 ++ dktJ2_add_1
theorem dksJ2_add_0 : cJ2_add.data.toList.drop 0 = dktJ2_add_0 := by decide +kernel
theorem dksJ2_add_1 : cJ2_add.data.toList.drop 24 = dktJ2_add_1 := dk_seg dksJ2_add_0 24 rfl rfl
theorem dJ2_add_0 : decode cJ2_add 0 = .ok (.aload_n 0, 1) := dk_42 (dk_at dksJ2_add_0 0 rfl rfl)
theorem dJ2_add_1 : decode cJ2_add 1 = .ok (.dup, 1) := dk_89 (dk_at dksJ2_add_0 1 rfl rfl)
theorem dJ2_add_2 : decode cJ2_add 2 = .ok (.getfield 63, 3) := dk_180 0 63 (dk_at dksJ2_add_0 2 rfl rfl)
theorem dJ2_add_5 : decode cJ2_add 5 = .ok (.iconst 1, 1) := dk_4 (dk_at dksJ2_add_0 5 rfl rfl)
theorem dJ2_add_6 : decode cJ2_add 6 = .ok (.iadd, 1) := dk_96 (dk_at dksJ2_add_0 6 rfl rfl)
theorem dJ2_add_7 : decode cJ2_add 7 = .ok (.putfield 63, 3) := dk_181 0 63 (dk_at dksJ2_add_0 7 rfl rfl)
theorem dJ2_add_10 : decode cJ2_add 10 = .ok (.aload_n 0, 1) := dk_42 (dk_at dksJ2_add_0 10 rfl rfl)
theorem dJ2_add_11 : decode cJ2_add 11 = .ok (.aload_n 1, 1) := dk_43 (dk_at dksJ2_add_0 11 rfl rfl)
theorem dJ2_add_12 : decode cJ2_add 12 = .ok (.aload_n 0, 1) := dk_42 (dk_at dksJ2_add_0 12 rfl rfl)
theorem dJ2_add_13 : decode cJ2_add 13 = .ok (.getfield 9, 3) := dk_180 0 9 (dk_at dksJ2_add_0 13 rfl rfl)
theorem dJ2_add_16 : decode cJ2_add 16 = .ok (.aload_n 0, 1) := dk_42 (dk_at dksJ2_add_0 16 rfl rfl)
theorem dJ2_add_17 : decode cJ2_add 17 = .ok (.getfield 48, 3) := dk_180 0 48 (dk_at dksJ2_add_0 17 rfl rfl)
theorem dJ2_add_20 : decode cJ2_add 20 = .ok (.invokevirtual 131, 3) := dk_182 0 131 (dk_at dksJ2_add_0 20 rfl rfl)
theorem dJ2_add_23 : decode cJ2_add 23 = .ok (.iconst 1, 1) := dk_4 (dk_at dksJ2_add_0 23 rfl rfl)
theorem dJ2_add_24 : decode cJ2_add 24 = .ok (.ireturn, 1) := dk_172 (dk_at dksJ2_add_1 0 rfl rfl)
abbrev cJ2_add_2 : ByteArray := prog_62_method_24_code
def yJ2_add_2 : MethodName := ⟨RJ2, "add", "(Ljava/lang/Object;[Ljava/lang/Object;I)V"⟩
def dkwJ2_add_2_0 : List UInt8 := [29, 44, 190, 160, 0, 8, 42, 182, 0, 129, 77, 44, 29, 43, 83, 42, 29, 4, 96, 181, 0, 48, 177]
abbrev dktJ2_add_2_0 : List UInt8 := dkwJ2_add_2_0 ++ []
theorem dksJ2_add_2_0 : cJ2_add_2.data.toList.drop 0 = dktJ2_add_2_0 := by decide +kernel
theorem dJ2_add_2_0 : decode cJ2_add_2 0 = .ok (.iload_n 3, 1) := dk_29 (dk_at dksJ2_add_2_0 0 rfl rfl)
theorem dJ2_add_2_1 : decode cJ2_add_2 1 = .ok (.aload_n 2, 1) := dk_44 (dk_at dksJ2_add_2_0 1 rfl rfl)
theorem dJ2_add_2_2 : decode cJ2_add_2 2 = .ok (.arraylength, 1) := dk_190 (dk_at dksJ2_add_2_0 2 rfl rfl)
theorem dJ2_add_2_3 : decode cJ2_add_2 3 = .ok (.if_icmp .ne 8, 3) := dk_160 0 8 (dk_at dksJ2_add_2_0 3 rfl rfl)
theorem dJ2_add_2_6 : decode cJ2_add_2 6 = .ok (.aload_n 0, 1) := dk_42 (dk_at dksJ2_add_2_0 6 rfl rfl)
theorem dJ2_add_2_7 : decode cJ2_add_2 7 = .ok (.invokevirtual 129, 3) := dk_182 0 129 (dk_at dksJ2_add_2_0 7 rfl rfl)
theorem dJ2_add_2_10 : decode cJ2_add_2 10 = .ok (.astore_n 2, 1) := dk_77 (dk_at dksJ2_add_2_0 10 rfl rfl)
theorem dJ2_add_2_11 : decode cJ2_add_2 11 = .ok (.aload_n 2, 1) := dk_44 (dk_at dksJ2_add_2_0 11 rfl rfl)
theorem dJ2_add_2_12 : decode cJ2_add_2 12 = .ok (.iload_n 3, 1) := dk_29 (dk_at dksJ2_add_2_0 12 rfl rfl)
theorem dJ2_add_2_13 : decode cJ2_add_2 13 = .ok (.aload_n 1, 1) := dk_43 (dk_at dksJ2_add_2_0 13 rfl rfl)
theorem dJ2_add_2_14 : decode cJ2_add_2 14 = .ok (.aastore, 1) := dk_83 (dk_at dksJ2_add_2_0 14 rfl rfl)
theorem dJ2_add_2_15 : decode cJ2_add_2 15 = .ok (.aload_n 0, 1) := dk_42 (dk_at dksJ2_add_2_0 15 rfl rfl)
theorem dJ2_add_2_16 : decode cJ2_add_2 16 = .ok (.iload_n 3, 1) := dk_29 (dk_at dksJ2_add_2_0 16 rfl rfl)
theorem dJ2_add_2_17 : decode cJ2_add_2 17 = .ok (.iconst 1, 1) := dk_4 (dk_at dksJ2_add_2_0 17 rfl rfl)
theorem dJ2_add_2_18 : decode cJ2_add_2 18 = .ok (.iadd, 1) := dk_96 (dk_at dksJ2_add_2_0 18 rfl rfl)
theorem dJ2_add_2_19 : decode cJ2_add_2 19 = .ok (.putfield 48, 3) := dk_181 0 48 (dk_at dksJ2_add_2_0 19 rfl rfl)
theorem dJ2_add_2_22 : decode cJ2_add_2 22 = .ok (.return_, 1) := dk_177 (dk_at dksJ2_add_2_0 22 rfl rfl)
abbrev cJ2_grow : ByteArray := prog_62_method_7_code
def yJ2_grow : MethodName := ⟨RJ2, "grow", "()[Ljava/lang/Object;"⟩
def dkwJ2_grow_0 : List UInt8 := [42, 42, 180, 0, 48, 4, 96, 182, 0, 69, 176]
abbrev dktJ2_grow_0 : List UInt8 := dkwJ2_grow_0 ++ []
theorem dksJ2_grow_0 : cJ2_grow.data.toList.drop 0 = dktJ2_grow_0 := by decide +kernel
theorem dJ2_grow_0 : decode cJ2_grow 0 = .ok (.aload_n 0, 1) := dk_42 (dk_at dksJ2_grow_0 0 rfl rfl)
theorem dJ2_grow_1 : decode cJ2_grow 1 = .ok (.aload_n 0, 1) := dk_42 (dk_at dksJ2_grow_0 1 rfl rfl)
theorem dJ2_grow_2 : decode cJ2_grow 2 = .ok (.getfield 48, 3) := dk_180 0 48 (dk_at dksJ2_grow_0 2 rfl rfl)
theorem dJ2_grow_5 : decode cJ2_grow 5 = .ok (.iconst 1, 1) := dk_4 (dk_at dksJ2_grow_0 5 rfl rfl)
theorem dJ2_grow_6 : decode cJ2_grow 6 = .ok (.iadd, 1) := dk_96 (dk_at dksJ2_grow_0 6 rfl rfl)
theorem dJ2_grow_7 : decode cJ2_grow 7 = .ok (.invokevirtual 69, 3) := dk_182 0 69 (dk_at dksJ2_grow_0 7 rfl rfl)
theorem dJ2_grow_10 : decode cJ2_grow 10 = .ok (.areturn, 1) := dk_176 (dk_at dksJ2_grow_0 10 rfl rfl)
abbrev cJ2_grow_2 : ByteArray := prog_62_method_6_code
def yJ2_grow_2 : MethodName := ⟨RJ2, "grow", "(I)[Ljava/lang/Object;"⟩
def dkwJ2_grow_2_2 : List UInt8 := [27, 184, 0, 79, 189, 0, 7, 90, 181, 0, 9, 176]
abbrev dktJ2_grow_2_2 : List UInt8 := dkwJ2_grow_2_2 ++ []
def dkwJ2_grow_2_1 : List UInt8 := [28, 4, 122, 184, 0, 73, 62, 42, 42, 180, 0, 9, 29, 184, 0, 66, 90, 181, 0, 9, 176, 42, 16, 10]
abbrev dktJ2_grow_2_1 : List UInt8 := dkwJ2_grow_2_1 ++ dktJ2_grow_2_2
def dkwJ2_grow_2_0 : List UInt8 := [42, 180, 0, 9, 190, 61, 28, 157, 0, 13, 42, 180, 0, 9, 178, 0, 39, 165, 0, 28, 28, 27, 28, 100]
abbrev dktJ2_grow_2_0 : List UInt8 := dkwJ2_grow_2_0 ++ dktJ2_grow_2_1
theorem dksJ2_grow_2_0 : cJ2_grow_2.data.toList.drop 0 = dktJ2_grow_2_0 := by decide +kernel
theorem dksJ2_grow_2_1 : cJ2_grow_2.data.toList.drop 24 = dktJ2_grow_2_1 := dk_seg dksJ2_grow_2_0 24 rfl rfl
theorem dksJ2_grow_2_2 : cJ2_grow_2.data.toList.drop 48 = dktJ2_grow_2_2 := dk_seg dksJ2_grow_2_1 24 rfl rfl
theorem dJ2_grow_2_0 : decode cJ2_grow_2 0 = .ok (.aload_n 0, 1) := dk_42 (dk_at dksJ2_grow_2_0 0 rfl rfl)
theorem dJ2_grow_2_1 : decode cJ2_grow_2 1 = .ok (.getfield 9, 3) := dk_180 0 9 (dk_at dksJ2_grow_2_0 1 rfl rfl)
theorem dJ2_grow_2_4 : decode cJ2_grow_2 4 = .ok (.arraylength, 1) := dk_190 (dk_at dksJ2_grow_2_0 4 rfl rfl)
theorem dJ2_grow_2_5 : decode cJ2_grow_2 5 = .ok (.istore_n 2, 1) := dk_61 (dk_at dksJ2_grow_2_0 5 rfl rfl)
theorem dJ2_grow_2_6 : decode cJ2_grow_2 6 = .ok (.iload_n 2, 1) := dk_28 (dk_at dksJ2_grow_2_0 6 rfl rfl)
theorem dJ2_grow_2_7 : decode cJ2_grow_2 7 = .ok (.ifCond .gt 13, 3) := dk_157 0 13 (dk_at dksJ2_grow_2_0 7 rfl rfl)
theorem dJ2_grow_2_10 : decode cJ2_grow_2 10 = .ok (.aload_n 0, 1) := dk_42 (dk_at dksJ2_grow_2_0 10 rfl rfl)
theorem dJ2_grow_2_11 : decode cJ2_grow_2 11 = .ok (.getfield 9, 3) := dk_180 0 9 (dk_at dksJ2_grow_2_0 11 rfl rfl)
theorem dJ2_grow_2_14 : decode cJ2_grow_2 14 = .ok (.getstatic 39, 3) := dk_178 0 39 (dk_at dksJ2_grow_2_0 14 rfl rfl)
theorem dJ2_grow_2_17 : decode cJ2_grow_2 17 = .ok (.if_acmp .eq 28, 3) := dk_165 0 28 (dk_at dksJ2_grow_2_0 17 rfl rfl)
theorem dJ2_grow_2_20 : decode cJ2_grow_2 20 = .ok (.iload_n 2, 1) := dk_28 (dk_at dksJ2_grow_2_0 20 rfl rfl)
theorem dJ2_grow_2_21 : decode cJ2_grow_2 21 = .ok (.iload_n 1, 1) := dk_27 (dk_at dksJ2_grow_2_0 21 rfl rfl)
theorem dJ2_grow_2_22 : decode cJ2_grow_2 22 = .ok (.iload_n 2, 1) := dk_28 (dk_at dksJ2_grow_2_0 22 rfl rfl)
theorem dJ2_grow_2_23 : decode cJ2_grow_2 23 = .ok (.isub, 1) := dk_100 (dk_at dksJ2_grow_2_0 23 rfl rfl)
theorem dJ2_grow_2_24 : decode cJ2_grow_2 24 = .ok (.iload_n 2, 1) := dk_28 (dk_at dksJ2_grow_2_1 0 rfl rfl)
theorem dJ2_grow_2_25 : decode cJ2_grow_2 25 = .ok (.iconst 1, 1) := dk_4 (dk_at dksJ2_grow_2_1 1 rfl rfl)
theorem dJ2_grow_2_26 : decode cJ2_grow_2 26 = .ok (.ishr, 1) := dk_122 (dk_at dksJ2_grow_2_1 2 rfl rfl)
theorem dJ2_grow_2_27 : decode cJ2_grow_2 27 = .ok (.invokestatic 73, 3) := dk_184 0 73 (dk_at dksJ2_grow_2_1 3 rfl rfl)
theorem dJ2_grow_2_30 : decode cJ2_grow_2 30 = .ok (.istore_n 3, 1) := dk_62 (dk_at dksJ2_grow_2_1 6 rfl rfl)
theorem dJ2_grow_2_31 : decode cJ2_grow_2 31 = .ok (.aload_n 0, 1) := dk_42 (dk_at dksJ2_grow_2_1 7 rfl rfl)
theorem dJ2_grow_2_32 : decode cJ2_grow_2 32 = .ok (.aload_n 0, 1) := dk_42 (dk_at dksJ2_grow_2_1 8 rfl rfl)
theorem dJ2_grow_2_33 : decode cJ2_grow_2 33 = .ok (.getfield 9, 3) := dk_180 0 9 (dk_at dksJ2_grow_2_1 9 rfl rfl)
theorem dJ2_grow_2_36 : decode cJ2_grow_2 36 = .ok (.iload_n 3, 1) := dk_29 (dk_at dksJ2_grow_2_1 12 rfl rfl)
theorem dJ2_grow_2_37 : decode cJ2_grow_2 37 = .ok (.invokestatic 66, 3) := dk_184 0 66 (dk_at dksJ2_grow_2_1 13 rfl rfl)
theorem dJ2_grow_2_40 : decode cJ2_grow_2 40 = .ok (.dup_x1, 1) := dk_90 (dk_at dksJ2_grow_2_1 16 rfl rfl)
theorem dJ2_grow_2_41 : decode cJ2_grow_2 41 = .ok (.putfield 9, 3) := dk_181 0 9 (dk_at dksJ2_grow_2_1 17 rfl rfl)
theorem dJ2_grow_2_44 : decode cJ2_grow_2 44 = .ok (.areturn, 1) := dk_176 (dk_at dksJ2_grow_2_1 20 rfl rfl)
theorem dJ2_grow_2_45 : decode cJ2_grow_2 45 = .ok (.aload_n 0, 1) := dk_42 (dk_at dksJ2_grow_2_1 21 rfl rfl)
theorem dJ2_grow_2_46 : decode cJ2_grow_2 46 = .ok (.bipush 10, 2) := dk_16 10 (dk_at dksJ2_grow_2_1 22 rfl rfl)
theorem dJ2_grow_2_48 : decode cJ2_grow_2 48 = .ok (.iload_n 1, 1) := dk_27 (dk_at dksJ2_grow_2_2 0 rfl rfl)
theorem dJ2_grow_2_49 : decode cJ2_grow_2 49 = .ok (.invokestatic 79, 3) := dk_184 0 79 (dk_at dksJ2_grow_2_2 1 rfl rfl)
theorem dJ2_grow_2_52 : decode cJ2_grow_2 52 = .ok (.anewarray 7, 3) := dk_189 0 7 (dk_at dksJ2_grow_2_2 4 rfl rfl)
theorem dJ2_grow_2_55 : decode cJ2_grow_2 55 = .ok (.dup_x1, 1) := dk_90 (dk_at dksJ2_grow_2_2 7 rfl rfl)
theorem dJ2_grow_2_56 : decode cJ2_grow_2 56 = .ok (.putfield 9, 3) := dk_181 0 9 (dk_at dksJ2_grow_2_2 8 rfl rfl)
theorem dJ2_grow_2_59 : decode cJ2_grow_2 59 = .ok (.areturn, 1) := dk_176 (dk_at dksJ2_grow_2_2 11 rfl rfl)
abbrev cJ2_iterator : ByteArray := prog_62_method_55_code
def yJ2_iterator : MethodName := ⟨RJ2, "iterator", "()Ljava/util/Iterator;"⟩
def dkwJ2_iterator_0 : List UInt8 := [187, 1, 11, 89, 42, 183, 1, 13, 176]
abbrev dktJ2_iterator_0 : List UInt8 := dkwJ2_iterator_0 ++ []
theorem dksJ2_iterator_0 : cJ2_iterator.data.toList.drop 0 = dktJ2_iterator_0 := by decide +kernel
theorem dJ2_iterator_0 : decode cJ2_iterator 0 = .ok (.new 267, 3) := dk_187 1 11 (dk_at dksJ2_iterator_0 0 rfl rfl)
theorem dJ2_iterator_3 : decode cJ2_iterator 3 = .ok (.dup, 1) := dk_89 (dk_at dksJ2_iterator_0 3 rfl rfl)
theorem dJ2_iterator_4 : decode cJ2_iterator 4 = .ok (.aload_n 0, 1) := dk_42 (dk_at dksJ2_iterator_0 4 rfl rfl)
theorem dJ2_iterator_5 : decode cJ2_iterator 5 = .ok (.invokespecial 269, 3) := dk_183 1 13 (dk_at dksJ2_iterator_0 5 rfl rfl)
theorem dJ2_iterator_8 : decode cJ2_iterator 8 = .ok (.areturn, 1) := dk_176 (dk_at dksJ2_iterator_0 8 rfl rfl)
abbrev cJ2_listIterator : ByteArray := prog_62_method_53_code
def yJ2_listIterator : MethodName := ⟨RJ2, "listIterator", "(I)Ljava/util/ListIterator;"⟩
def dkwJ2_listIterator_0 : List UInt8 := [42, 27, 182, 0, 135, 187, 1, 6, 89, 42, 27, 183, 1, 8, 176]
abbrev dktJ2_listIterator_0 : List UInt8 := dkwJ2_listIterator_0 ++ []
theorem dksJ2_listIterator_0 : cJ2_listIterator.data.toList.drop 0 = dktJ2_listIterator_0 := by decide +kernel
theorem dJ2_listIterator_0 : decode cJ2_listIterator 0 = .ok (.aload_n 0, 1) := dk_42 (dk_at dksJ2_listIterator_0 0 rfl rfl)
theorem dJ2_listIterator_1 : decode cJ2_listIterator 1 = .ok (.iload_n 1, 1) := dk_27 (dk_at dksJ2_listIterator_0 1 rfl rfl)
theorem dJ2_listIterator_2 : decode cJ2_listIterator 2 = .ok (.invokevirtual 135, 3) := dk_182 0 135 (dk_at dksJ2_listIterator_0 2 rfl rfl)
theorem dJ2_listIterator_5 : decode cJ2_listIterator 5 = .ok (.new 262, 3) := dk_187 1 6 (dk_at dksJ2_listIterator_0 5 rfl rfl)
theorem dJ2_listIterator_8 : decode cJ2_listIterator 8 = .ok (.dup, 1) := dk_89 (dk_at dksJ2_listIterator_0 8 rfl rfl)
theorem dJ2_listIterator_9 : decode cJ2_listIterator 9 = .ok (.aload_n 0, 1) := dk_42 (dk_at dksJ2_listIterator_0 9 rfl rfl)
theorem dJ2_listIterator_10 : decode cJ2_listIterator 10 = .ok (.iload_n 1, 1) := dk_27 (dk_at dksJ2_listIterator_0 10 rfl rfl)
theorem dJ2_listIterator_11 : decode cJ2_listIterator 11 = .ok (.invokespecial 264, 3) := dk_183 1 8 (dk_at dksJ2_listIterator_0 11 rfl rfl)
theorem dJ2_listIterator_14 : decode cJ2_listIterator 14 = .ok (.areturn, 1) := dk_176 (dk_at dksJ2_listIterator_0 14 rfl rfl)
abbrev cJ2_rangeCheckForAdd : ByteArray := prog_62_method_45_code
def yJ2_rangeCheckForAdd : MethodName := ⟨RJ2, "rangeCheckForAdd", "(I)V"⟩
def dkwJ2_rangeCheckForAdd_1 : List UInt8 := [191, 177]
abbrev dktJ2_rangeCheckForAdd_1 : List UInt8 := dkwJ2_rangeCheckForAdd_1 ++ []
def dkwJ2_rangeCheckForAdd_0 : List UInt8 := [27, 42, 180, 0, 48, 163, 0, 7, 27, 156, 0, 16, 187, 0, 187, 89, 42, 27, 182, 0, 198, 183, 0, 193]
abbrev dktJ2_rangeCheckForAdd_0 : List UInt8 := dkwJ2_rangeCheckForAdd_0 ++ dktJ2_rangeCheckForAdd_1
theorem dksJ2_rangeCheckForAdd_0 : cJ2_rangeCheckForAdd.data.toList.drop 0 = dktJ2_rangeCheckForAdd_0 := by decide +kernel
theorem dksJ2_rangeCheckForAdd_1 : cJ2_rangeCheckForAdd.data.toList.drop 24 = dktJ2_rangeCheckForAdd_1 := dk_seg dksJ2_rangeCheckForAdd_0 24 rfl rfl
theorem dJ2_rangeCheckForAdd_0 : decode cJ2_rangeCheckForAdd 0 = .ok (.iload_n 1, 1) := dk_27 (dk_at dksJ2_rangeCheckForAdd_0 0 rfl rfl)
theorem dJ2_rangeCheckForAdd_1 : decode cJ2_rangeCheckForAdd 1 = .ok (.aload_n 0, 1) := dk_42 (dk_at dksJ2_rangeCheckForAdd_0 1 rfl rfl)
theorem dJ2_rangeCheckForAdd_2 : decode cJ2_rangeCheckForAdd 2 = .ok (.getfield 48, 3) := dk_180 0 48 (dk_at dksJ2_rangeCheckForAdd_0 2 rfl rfl)
theorem dJ2_rangeCheckForAdd_5 : decode cJ2_rangeCheckForAdd 5 = .ok (.if_icmp .gt 7, 3) := dk_163 0 7 (dk_at dksJ2_rangeCheckForAdd_0 5 rfl rfl)
theorem dJ2_rangeCheckForAdd_8 : decode cJ2_rangeCheckForAdd 8 = .ok (.iload_n 1, 1) := dk_27 (dk_at dksJ2_rangeCheckForAdd_0 8 rfl rfl)
theorem dJ2_rangeCheckForAdd_9 : decode cJ2_rangeCheckForAdd 9 = .ok (.ifCond .ge 16, 3) := dk_156 0 16 (dk_at dksJ2_rangeCheckForAdd_0 9 rfl rfl)
theorem dJ2_rangeCheckForAdd_12 : decode cJ2_rangeCheckForAdd 12 = .ok (.new 187, 3) := dk_187 0 187 (dk_at dksJ2_rangeCheckForAdd_0 12 rfl rfl)
theorem dJ2_rangeCheckForAdd_15 : decode cJ2_rangeCheckForAdd 15 = .ok (.dup, 1) := dk_89 (dk_at dksJ2_rangeCheckForAdd_0 15 rfl rfl)
theorem dJ2_rangeCheckForAdd_16 : decode cJ2_rangeCheckForAdd 16 = .ok (.aload_n 0, 1) := dk_42 (dk_at dksJ2_rangeCheckForAdd_0 16 rfl rfl)
theorem dJ2_rangeCheckForAdd_17 : decode cJ2_rangeCheckForAdd 17 = .ok (.iload_n 1, 1) := dk_27 (dk_at dksJ2_rangeCheckForAdd_0 17 rfl rfl)
theorem dJ2_rangeCheckForAdd_18 : decode cJ2_rangeCheckForAdd 18 = .ok (.invokevirtual 198, 3) := dk_182 0 198 (dk_at dksJ2_rangeCheckForAdd_0 18 rfl rfl)
theorem dJ2_rangeCheckForAdd_21 : decode cJ2_rangeCheckForAdd 21 = .ok (.invokespecial 193, 3) := dk_183 0 193 (dk_at dksJ2_rangeCheckForAdd_0 21 rfl rfl)
theorem dJ2_rangeCheckForAdd_24 : decode cJ2_rangeCheckForAdd 24 = .ok (.athrow, 1) := dk_191 (dk_at dksJ2_rangeCheckForAdd_1 0 rfl rfl)
theorem dJ2_rangeCheckForAdd_25 : decode cJ2_rangeCheckForAdd 25 = .ok (.return_, 1) := dk_177 (dk_at dksJ2_rangeCheckForAdd_1 1 rfl rfl)
abbrev cJ2_outOfBoundsMsg : ByteArray := prog_62_method_46_code
def yJ2_outOfBoundsMsg : MethodName := ⟨RJ2, "outOfBoundsMsg", "(I)Ljava/lang/String;"⟩
def dkwJ2_outOfBoundsMsg_1 : List UInt8 := [180, 0, 48, 182, 0, 29, 182, 0, 32, 176]
abbrev dktJ2_outOfBoundsMsg_1 : List UInt8 := dkwJ2_outOfBoundsMsg_1 ++ []
def dkwJ2_outOfBoundsMsg_0 : List UInt8 := [187, 0, 20, 89, 183, 0, 22, 18, 201, 182, 0, 25, 27, 182, 0, 29, 18, 203, 182, 0, 25, 42]
abbrev dktJ2_outOfBoundsMsg_0 : List UInt8 := dkwJ2_outOfBoundsMsg_0 ++ dktJ2_outOfBoundsMsg_1
theorem dksJ2_outOfBoundsMsg_0 : cJ2_outOfBoundsMsg.data.toList.drop 0 = dktJ2_outOfBoundsMsg_0 := by decide +kernel
theorem dksJ2_outOfBoundsMsg_1 : cJ2_outOfBoundsMsg.data.toList.drop 22 = dktJ2_outOfBoundsMsg_1 := dk_seg dksJ2_outOfBoundsMsg_0 22 rfl rfl
theorem dJ2_outOfBoundsMsg_0 : decode cJ2_outOfBoundsMsg 0 = .ok (.new 20, 3) := dk_187 0 20 (dk_at dksJ2_outOfBoundsMsg_0 0 rfl rfl)
theorem dJ2_outOfBoundsMsg_3 : decode cJ2_outOfBoundsMsg 3 = .ok (.dup, 1) := dk_89 (dk_at dksJ2_outOfBoundsMsg_0 3 rfl rfl)
theorem dJ2_outOfBoundsMsg_4 : decode cJ2_outOfBoundsMsg 4 = .ok (.invokespecial 22, 3) := dk_183 0 22 (dk_at dksJ2_outOfBoundsMsg_0 4 rfl rfl)
theorem dJ2_outOfBoundsMsg_7 : decode cJ2_outOfBoundsMsg 7 = .ok (.ldc 201, 2) := dk_18 201 (dk_at dksJ2_outOfBoundsMsg_0 7 rfl rfl)
theorem dJ2_outOfBoundsMsg_9 : decode cJ2_outOfBoundsMsg 9 = .ok (.invokevirtual 25, 3) := dk_182 0 25 (dk_at dksJ2_outOfBoundsMsg_0 9 rfl rfl)
theorem dJ2_outOfBoundsMsg_12 : decode cJ2_outOfBoundsMsg 12 = .ok (.iload_n 1, 1) := dk_27 (dk_at dksJ2_outOfBoundsMsg_0 12 rfl rfl)
theorem dJ2_outOfBoundsMsg_13 : decode cJ2_outOfBoundsMsg 13 = .ok (.invokevirtual 29, 3) := dk_182 0 29 (dk_at dksJ2_outOfBoundsMsg_0 13 rfl rfl)
theorem dJ2_outOfBoundsMsg_16 : decode cJ2_outOfBoundsMsg 16 = .ok (.ldc 203, 2) := dk_18 203 (dk_at dksJ2_outOfBoundsMsg_0 16 rfl rfl)
theorem dJ2_outOfBoundsMsg_18 : decode cJ2_outOfBoundsMsg 18 = .ok (.invokevirtual 25, 3) := dk_182 0 25 (dk_at dksJ2_outOfBoundsMsg_0 18 rfl rfl)
theorem dJ2_outOfBoundsMsg_21 : decode cJ2_outOfBoundsMsg 21 = .ok (.aload_n 0, 1) := dk_42 (dk_at dksJ2_outOfBoundsMsg_0 21 rfl rfl)
theorem dJ2_outOfBoundsMsg_22 : decode cJ2_outOfBoundsMsg 22 = .ok (.getfield 48, 3) := dk_180 0 48 (dk_at dksJ2_outOfBoundsMsg_1 0 rfl rfl)
theorem dJ2_outOfBoundsMsg_25 : decode cJ2_outOfBoundsMsg 25 = .ok (.invokevirtual 29, 3) := dk_182 0 29 (dk_at dksJ2_outOfBoundsMsg_1 3 rfl rfl)
theorem dJ2_outOfBoundsMsg_28 : decode cJ2_outOfBoundsMsg 28 = .ok (.invokevirtual 32, 3) := dk_182 0 32 (dk_at dksJ2_outOfBoundsMsg_1 6 rfl rfl)
theorem dJ2_outOfBoundsMsg_31 : decode cJ2_outOfBoundsMsg 31 = .ok (.areturn, 1) := dk_176 (dk_at dksJ2_outOfBoundsMsg_1 9 rfl rfl)
abbrev cJ2_add_3 : ByteArray := prog_62_method_26_code
def yJ2_add_3 : MethodName := ⟨RJ2, "add", "(ILjava/lang/Object;)V"⟩
def dkwJ2_add_3_2 : List UInt8 := [29, 27, 100, 184, 0, 112, 25, 4, 27, 44, 83, 42, 29, 4, 96, 181, 0, 48, 177]
abbrev dktJ2_add_3_2 : List UInt8 := dkwJ2_add_3_2 ++ []
def dkwJ2_add_3_1 : List UInt8 := [180, 0, 9, 89, 58, 4, 190, 160, 0, 9, 42, 182, 0, 129, 58, 4, 25, 4, 27, 25, 4, 27, 4, 96]
abbrev dktJ2_add_3_1 : List UInt8 := dkwJ2_add_3_1 ++ dktJ2_add_3_2
def dkwJ2_add_3_0 : List UInt8 := [42, 27, 182, 0, 135, 42, 89, 180, 0, 63, 4, 96, 181, 0, 63, 42, 180, 0, 48, 89, 62, 42]
abbrev dktJ2_add_3_0 : List UInt8 := dkwJ2_add_3_0 ++ dktJ2_add_3_1
theorem dksJ2_add_3_0 : cJ2_add_3.data.toList.drop 0 = dktJ2_add_3_0 := by decide +kernel
theorem dksJ2_add_3_1 : cJ2_add_3.data.toList.drop 22 = dktJ2_add_3_1 := dk_seg dksJ2_add_3_0 22 rfl rfl
theorem dksJ2_add_3_2 : cJ2_add_3.data.toList.drop 46 = dktJ2_add_3_2 := dk_seg dksJ2_add_3_1 24 rfl rfl
theorem dJ2_add_3_0 : decode cJ2_add_3 0 = .ok (.aload_n 0, 1) := dk_42 (dk_at dksJ2_add_3_0 0 rfl rfl)
theorem dJ2_add_3_1 : decode cJ2_add_3 1 = .ok (.iload_n 1, 1) := dk_27 (dk_at dksJ2_add_3_0 1 rfl rfl)
theorem dJ2_add_3_2 : decode cJ2_add_3 2 = .ok (.invokevirtual 135, 3) := dk_182 0 135 (dk_at dksJ2_add_3_0 2 rfl rfl)
theorem dJ2_add_3_5 : decode cJ2_add_3 5 = .ok (.aload_n 0, 1) := dk_42 (dk_at dksJ2_add_3_0 5 rfl rfl)
theorem dJ2_add_3_6 : decode cJ2_add_3 6 = .ok (.dup, 1) := dk_89 (dk_at dksJ2_add_3_0 6 rfl rfl)
theorem dJ2_add_3_7 : decode cJ2_add_3 7 = .ok (.getfield 63, 3) := dk_180 0 63 (dk_at dksJ2_add_3_0 7 rfl rfl)
theorem dJ2_add_3_10 : decode cJ2_add_3 10 = .ok (.iconst 1, 1) := dk_4 (dk_at dksJ2_add_3_0 10 rfl rfl)
theorem dJ2_add_3_11 : decode cJ2_add_3 11 = .ok (.iadd, 1) := dk_96 (dk_at dksJ2_add_3_0 11 rfl rfl)
theorem dJ2_add_3_12 : decode cJ2_add_3 12 = .ok (.putfield 63, 3) := dk_181 0 63 (dk_at dksJ2_add_3_0 12 rfl rfl)
theorem dJ2_add_3_15 : decode cJ2_add_3 15 = .ok (.aload_n 0, 1) := dk_42 (dk_at dksJ2_add_3_0 15 rfl rfl)
theorem dJ2_add_3_16 : decode cJ2_add_3 16 = .ok (.getfield 48, 3) := dk_180 0 48 (dk_at dksJ2_add_3_0 16 rfl rfl)
theorem dJ2_add_3_19 : decode cJ2_add_3 19 = .ok (.dup, 1) := dk_89 (dk_at dksJ2_add_3_0 19 rfl rfl)
theorem dJ2_add_3_20 : decode cJ2_add_3 20 = .ok (.istore_n 3, 1) := dk_62 (dk_at dksJ2_add_3_0 20 rfl rfl)
theorem dJ2_add_3_21 : decode cJ2_add_3 21 = .ok (.aload_n 0, 1) := dk_42 (dk_at dksJ2_add_3_0 21 rfl rfl)
theorem dJ2_add_3_22 : decode cJ2_add_3 22 = .ok (.getfield 9, 3) := dk_180 0 9 (dk_at dksJ2_add_3_1 0 rfl rfl)
theorem dJ2_add_3_25 : decode cJ2_add_3 25 = .ok (.dup, 1) := dk_89 (dk_at dksJ2_add_3_1 3 rfl rfl)
theorem dJ2_add_3_26 : decode cJ2_add_3 26 = .ok (.astore 4, 2) := dk_58 4 (dk_at dksJ2_add_3_1 4 rfl rfl)
theorem dJ2_add_3_28 : decode cJ2_add_3 28 = .ok (.arraylength, 1) := dk_190 (dk_at dksJ2_add_3_1 6 rfl rfl)
theorem dJ2_add_3_29 : decode cJ2_add_3 29 = .ok (.if_icmp .ne 9, 3) := dk_160 0 9 (dk_at dksJ2_add_3_1 7 rfl rfl)
theorem dJ2_add_3_32 : decode cJ2_add_3 32 = .ok (.aload_n 0, 1) := dk_42 (dk_at dksJ2_add_3_1 10 rfl rfl)
theorem dJ2_add_3_33 : decode cJ2_add_3 33 = .ok (.invokevirtual 129, 3) := dk_182 0 129 (dk_at dksJ2_add_3_1 11 rfl rfl)
theorem dJ2_add_3_36 : decode cJ2_add_3 36 = .ok (.astore 4, 2) := dk_58 4 (dk_at dksJ2_add_3_1 14 rfl rfl)
theorem dJ2_add_3_38 : decode cJ2_add_3 38 = .ok (.aload 4, 2) := dk_25 4 (dk_at dksJ2_add_3_1 16 rfl rfl)
theorem dJ2_add_3_40 : decode cJ2_add_3 40 = .ok (.iload_n 1, 1) := dk_27 (dk_at dksJ2_add_3_1 18 rfl rfl)
theorem dJ2_add_3_41 : decode cJ2_add_3 41 = .ok (.aload 4, 2) := dk_25 4 (dk_at dksJ2_add_3_1 19 rfl rfl)
theorem dJ2_add_3_43 : decode cJ2_add_3 43 = .ok (.iload_n 1, 1) := dk_27 (dk_at dksJ2_add_3_1 21 rfl rfl)
theorem dJ2_add_3_44 : decode cJ2_add_3 44 = .ok (.iconst 1, 1) := dk_4 (dk_at dksJ2_add_3_1 22 rfl rfl)
theorem dJ2_add_3_45 : decode cJ2_add_3 45 = .ok (.iadd, 1) := dk_96 (dk_at dksJ2_add_3_1 23 rfl rfl)
theorem dJ2_add_3_46 : decode cJ2_add_3 46 = .ok (.iload_n 3, 1) := dk_29 (dk_at dksJ2_add_3_2 0 rfl rfl)
theorem dJ2_add_3_47 : decode cJ2_add_3 47 = .ok (.iload_n 1, 1) := dk_27 (dk_at dksJ2_add_3_2 1 rfl rfl)
theorem dJ2_add_3_48 : decode cJ2_add_3 48 = .ok (.isub, 1) := dk_100 (dk_at dksJ2_add_3_2 2 rfl rfl)
theorem dJ2_add_3_49 : decode cJ2_add_3 49 = .ok (.invokestatic 112, 3) := dk_184 0 112 (dk_at dksJ2_add_3_2 3 rfl rfl)
theorem dJ2_add_3_52 : decode cJ2_add_3 52 = .ok (.aload 4, 2) := dk_25 4 (dk_at dksJ2_add_3_2 6 rfl rfl)
theorem dJ2_add_3_54 : decode cJ2_add_3 54 = .ok (.iload_n 1, 1) := dk_27 (dk_at dksJ2_add_3_2 8 rfl rfl)
theorem dJ2_add_3_55 : decode cJ2_add_3 55 = .ok (.aload_n 2, 1) := dk_44 (dk_at dksJ2_add_3_2 9 rfl rfl)
theorem dJ2_add_3_56 : decode cJ2_add_3 56 = .ok (.aastore, 1) := dk_83 (dk_at dksJ2_add_3_2 10 rfl rfl)
theorem dJ2_add_3_57 : decode cJ2_add_3 57 = .ok (.aload_n 0, 1) := dk_42 (dk_at dksJ2_add_3_2 11 rfl rfl)
theorem dJ2_add_3_58 : decode cJ2_add_3 58 = .ok (.iload_n 3, 1) := dk_29 (dk_at dksJ2_add_3_2 12 rfl rfl)
theorem dJ2_add_3_59 : decode cJ2_add_3 59 = .ok (.iconst 1, 1) := dk_4 (dk_at dksJ2_add_3_2 13 rfl rfl)
theorem dJ2_add_3_60 : decode cJ2_add_3 60 = .ok (.iadd, 1) := dk_96 (dk_at dksJ2_add_3_2 14 rfl rfl)
theorem dJ2_add_3_61 : decode cJ2_add_3 61 = .ok (.putfield 48, 3) := dk_181 0 48 (dk_at dksJ2_add_3_2 15 rfl rfl)
theorem dJ2_add_3_64 : decode cJ2_add_3 64 = .ok (.return_, 1) := dk_177 (dk_at dksJ2_add_3_2 18 rfl rfl)
theorem q121 : (Jvm.Cond.initialized "java/util/ArrayList") ∈ lw_all := lw_g (lw_at lw_m1 4 rfl) rfl
theorem q192 : (Jvm.Cond.instantiable "java/util/ArrayList" (3 : Nat)) ∈ lw_all := lw_g (lw_at lw_m1 75 rfl) rfl
theorem q194 : (Jvm.Cond.instanceMethod ({ cls := "java/util/ArrayList", name := "<init>", desc := "()V" } : Jvm.MethodName)) ∈ lw_all := lw_g (lw_at lw_m1 77 rfl) rfl
theorem q195 : (Jvm.Cond.code ({ cls := "java/util/ArrayList", name := "<init>", desc := "()V" } : Jvm.MethodName) prog_62_method_2_code (1 : Nat) (Option.none : Option Jvm.ClassFile.FieldType)) ∈ lw_all := lw_g (lw_at lw_m1 78 rfl) rfl
theorem q196 : (Jvm.Cond.methodLink "java/util/ArrayList" (1 : Nat) ({ cls := "java/util/AbstractList", name := "<init>", desc := "()V" } : Jvm.MethodName)) ∈ lw_all := lw_g (lw_at lw_m1 79 rfl) rfl
theorem q203 : (Jvm.Cond.fieldLink "java/util/ArrayList" (39 : Nat) "java/util/ArrayList" "DEFAULTCAPACITY_EMPTY_ELEMENTDATA" "[Ljava/lang/Object;") ∈ lw_all := lw_g (lw_at lw_m1 86 rfl) rfl
theorem q204 : (Jvm.Cond.laysStatic "java/util/ArrayList" "DEFAULTCAPACITY_EMPTY_ELEMENTDATA" "[Ljava/lang/Object;") ∈ lw_tbl := lw_at lw_m1 87 rfl
theorem q205 : (Jvm.Cond.fieldLink "java/util/ArrayList" (9 : Nat) "java/util/ArrayList" "elementData" "[Ljava/lang/Object;") ∈ lw_all := lw_g (lw_at lw_m1 88 rfl) rfl
theorem q209 : (Jvm.Cond.fieldLink "java/util/ArrayList" (48 : Nat) "java/util/ArrayList" "size" "I") ∈ lw_all := lw_g (lw_at lw_m1 92 rfl) rfl
theorem q214 : (Jvm.Cond.sameField "java/util/ArrayList" "java/util/AbstractList" "modCount" "I") ∈ lw_all := lw_g (lw_at lw_m1 97 rfl) rfl
theorem q219 : (Jvm.Cond.fieldLink "java/util/ArrayList" (63 : Nat) "java/util/ArrayList" "modCount" "I") ∈ lw_all := lw_g (lw_at lw_m1 102 rfl) rfl
theorem q220 : (Jvm.Cond.lays "java/util/ArrayList" "java/util/ArrayList" "elementData" "[Ljava/lang/Object;") ∈ lw_all := lw_g (lw_at lw_m1 103 rfl) rfl
theorem q221 : (Jvm.Cond.soleField "java/util/ArrayList" "elementData") ∈ lw_all := lw_g (lw_at lw_m1 104 rfl) rfl
theorem q222 : (Jvm.Cond.lays "java/util/ArrayList" "java/util/ArrayList" "size" "I") ∈ lw_all := lw_g (lw_at lw_m1 105 rfl) rfl
theorem q223 : (Jvm.Cond.soleField "java/util/ArrayList" "size") ∈ lw_all := lw_g (lw_at lw_m1 106 rfl) rfl
theorem q224 : (Jvm.Cond.lays "java/util/ArrayList" "java/util/AbstractList" "modCount" "I") ∈ lw_all := lw_g (lw_at lw_m1 107 rfl) rfl
theorem q226 : (Jvm.Cond.superclass "java/util/ArrayList" "java/util/AbstractList") ∈ lw_all := lw_g (lw_at lw_m1 109 rfl) rfl
theorem q349 : (Jvm.Cond.castable "java/util/ArrayList" "java/util/List") ∈ lw_tbl := lw_at lw_m1 232 rfl
theorem q350 : (Jvm.Cond.selects "java/util/ArrayList" ({ cls := "java/util/List", name := "size", desc := "()I" } : Jvm.MethodName) ({ cls := "java/util/ArrayList", name := "size", desc := "()I" } : Jvm.MethodName)) ∈ lw_all := lw_g (lw_at lw_m1 233 rfl) rfl
theorem q351 : (Jvm.Cond.unhidden "java/util/ArrayList" "size" "()I") ∈ lw_tbl := lw_at lw_m1 234 rfl
theorem q352 : (Jvm.Cond.instanceMethod ({ cls := "java/util/ArrayList", name := "size", desc := "()I" } : Jvm.MethodName)) ∈ lw_all := lw_g (lw_at lw_m1 235 rfl) rfl
theorem q353 : (Jvm.Cond.publicMethod ({ cls := "java/util/ArrayList", name := "size", desc := "()I" } : Jvm.MethodName)) ∈ lw_tbl := lw_at lw_m1 236 rfl
theorem q354 : (Jvm.Cond.code ({ cls := "java/util/ArrayList", name := "size", desc := "()I" } : Jvm.MethodName) prog_62_method_8_code (1 : Nat) (Option.some Jvm.ClassFile.FieldType.int)) ∈ lw_all := lw_g (lw_at lw_m1 237 rfl) rfl
theorem q365 : (Jvm.Cond.selects "java/util/ArrayList" ({ cls := "java/util/List", name := "clear", desc := "()V" } : Jvm.MethodName) ({ cls := "java/util/ArrayList", name := "clear", desc := "()V" } : Jvm.MethodName)) ∈ lw_all := lw_g (lw_at lw_m2 8 rfl) rfl
theorem q366 : (Jvm.Cond.unhidden "java/util/ArrayList" "clear" "()V") ∈ lw_tbl := lw_at lw_m2 9 rfl
theorem q367 : (Jvm.Cond.instanceMethod ({ cls := "java/util/ArrayList", name := "clear", desc := "()V" } : Jvm.MethodName)) ∈ lw_all := lw_g (lw_at lw_m2 10 rfl) rfl
theorem q368 : (Jvm.Cond.publicMethod ({ cls := "java/util/ArrayList", name := "clear", desc := "()V" } : Jvm.MethodName)) ∈ lw_tbl := lw_at lw_m2 11 rfl
theorem q369 : (Jvm.Cond.code ({ cls := "java/util/ArrayList", name := "clear", desc := "()V" } : Jvm.MethodName) prog_62_method_40_code (4 : Nat) (Option.none : Option Jvm.ClassFile.FieldType)) ∈ lw_all := lw_g (lw_at lw_m2 12 rfl) rfl
theorem q819 : (Jvm.Cond.selects "java/util/ArrayList" ({ cls := "java/util/List", name := "get", desc := "(I)Ljava/lang/Object;" } : Jvm.MethodName) ({ cls := "java/util/ArrayList", name := "get", desc := "(I)Ljava/lang/Object;" } : Jvm.MethodName)) ∈ lw_all := lw_g (lw_at lw_m3 222 rfl) rfl
theorem q820 : (Jvm.Cond.unhidden "java/util/ArrayList" "get" "(I)Ljava/lang/Object;") ∈ lw_tbl := lw_at lw_m3 223 rfl
theorem q821 : (Jvm.Cond.instanceMethod ({ cls := "java/util/ArrayList", name := "get", desc := "(I)Ljava/lang/Object;" } : Jvm.MethodName)) ∈ lw_all := lw_g (lw_at lw_m3 224 rfl) rfl
theorem q822 : (Jvm.Cond.publicMethod ({ cls := "java/util/ArrayList", name := "get", desc := "(I)Ljava/lang/Object;" } : Jvm.MethodName)) ∈ lw_tbl := lw_at lw_m3 225 rfl
theorem q823 : (Jvm.Cond.code ({ cls := "java/util/ArrayList", name := "get", desc := "(I)Ljava/lang/Object;" } : Jvm.MethodName) prog_62_method_20_code (2 : Nat) (Option.some (Jvm.ClassFile.FieldType.object "java/lang/Object"))) ∈ lw_all := lw_g (lw_at lw_m3 226 rfl) rfl
theorem q824 : (Jvm.Cond.methodLink "java/util/ArrayList" (118 : Nat) ({ cls := "java/util/Objects", name := "checkIndex", desc := "(II)I" } : Jvm.MethodName)) ∈ lw_all := lw_g (lw_at lw_m3 227 rfl) rfl
theorem q830 : (Jvm.Cond.methodLink "java/util/ArrayList" (123 : Nat) ({ cls := "java/util/ArrayList", name := "elementData", desc := "(I)Ljava/lang/Object;" } : Jvm.MethodName)) ∈ lw_all := lw_g (lw_at lw_m3 233 rfl) rfl
theorem q831 : (Jvm.Cond.instanceMethod ({ cls := "java/util/ArrayList", name := "elementData", desc := "(I)Ljava/lang/Object;" } : Jvm.MethodName)) ∈ lw_all := lw_g (lw_at lw_m3 234 rfl) rfl
theorem q832 : (Jvm.Cond.selects "java/util/ArrayList" ({ cls := "java/util/ArrayList", name := "elementData", desc := "(I)Ljava/lang/Object;" } : Jvm.MethodName) ({ cls := "java/util/ArrayList", name := "elementData", desc := "(I)Ljava/lang/Object;" } : Jvm.MethodName)) ∈ lw_all := lw_g (lw_at lw_m3 235 rfl) rfl
theorem q833 : (Jvm.Cond.code ({ cls := "java/util/ArrayList", name := "elementData", desc := "(I)Ljava/lang/Object;" } : Jvm.MethodName) prog_62_method_18_code (2 : Nat) (Option.some (Jvm.ClassFile.FieldType.object "java/lang/Object"))) ∈ lw_all := lw_g (lw_at lw_m3 236 rfl) rfl
theorem q1022 : (Jvm.Cond.selects "java/util/ArrayList" ({ cls := "java/util/List", name := "add", desc := "(Ljava/lang/Object;)Z" } : Jvm.MethodName) ({ cls := "java/util/ArrayList", name := "add", desc := "(Ljava/lang/Object;)Z" } : Jvm.MethodName)) ∈ lw_all := lw_g (lw_at lw_m4 185 rfl) rfl
theorem q1023 : (Jvm.Cond.unhidden "java/util/ArrayList" "add" "(Ljava/lang/Object;)Z") ∈ lw_tbl := lw_at lw_m4 186 rfl
theorem q1024 : (Jvm.Cond.instanceMethod ({ cls := "java/util/ArrayList", name := "add", desc := "(Ljava/lang/Object;)Z" } : Jvm.MethodName)) ∈ lw_all := lw_g (lw_at lw_m4 187 rfl) rfl
theorem q1025 : (Jvm.Cond.publicMethod ({ cls := "java/util/ArrayList", name := "add", desc := "(Ljava/lang/Object;)Z" } : Jvm.MethodName)) ∈ lw_tbl := lw_at lw_m4 188 rfl
theorem q1026 : (Jvm.Cond.code ({ cls := "java/util/ArrayList", name := "add", desc := "(Ljava/lang/Object;)Z" } : Jvm.MethodName) prog_62_method_25_code (2 : Nat) (Option.some Jvm.ClassFile.FieldType.boolean)) ∈ lw_all := lw_g (lw_at lw_m4 189 rfl) rfl
theorem q1027 : (Jvm.Cond.methodLink "java/util/ArrayList" (131 : Nat) ({ cls := "java/util/ArrayList", name := "add", desc := "(Ljava/lang/Object;[Ljava/lang/Object;I)V" } : Jvm.MethodName)) ∈ lw_all := lw_g (lw_at lw_m4 190 rfl) rfl
theorem q1028 : (Jvm.Cond.privateMethod ({ cls := "java/util/ArrayList", name := "add", desc := "(Ljava/lang/Object;[Ljava/lang/Object;I)V" } : Jvm.MethodName)) ∈ lw_tbl := lw_at lw_m4 191 rfl
theorem q1029 : (Jvm.Cond.instanceMethod ({ cls := "java/util/ArrayList", name := "add", desc := "(Ljava/lang/Object;[Ljava/lang/Object;I)V" } : Jvm.MethodName)) ∈ lw_all := lw_g (lw_at lw_m4 192 rfl) rfl
theorem q1030 : (Jvm.Cond.code ({ cls := "java/util/ArrayList", name := "add", desc := "(Ljava/lang/Object;[Ljava/lang/Object;I)V" } : Jvm.MethodName) prog_62_method_24_code (4 : Nat) (Option.none : Option Jvm.ClassFile.FieldType)) ∈ lw_all := lw_g (lw_at lw_m4 193 rfl) rfl
theorem q1031 : (Jvm.Cond.methodLink "java/util/ArrayList" (129 : Nat) ({ cls := "java/util/ArrayList", name := "grow", desc := "()[Ljava/lang/Object;" } : Jvm.MethodName)) ∈ lw_all := lw_g (lw_at lw_m4 194 rfl) rfl
theorem q1032 : (Jvm.Cond.privateMethod ({ cls := "java/util/ArrayList", name := "grow", desc := "()[Ljava/lang/Object;" } : Jvm.MethodName)) ∈ lw_tbl := lw_at lw_m4 195 rfl
theorem q1033 : (Jvm.Cond.instanceMethod ({ cls := "java/util/ArrayList", name := "grow", desc := "()[Ljava/lang/Object;" } : Jvm.MethodName)) ∈ lw_all := lw_g (lw_at lw_m4 196 rfl) rfl
theorem q1034 : (Jvm.Cond.code ({ cls := "java/util/ArrayList", name := "grow", desc := "()[Ljava/lang/Object;" } : Jvm.MethodName) prog_62_method_7_code (1 : Nat) (Option.some (Jvm.ClassFile.FieldType.array (Jvm.ClassFile.FieldType.object "java/lang/Object")))) ∈ lw_all := lw_g (lw_at lw_m4 197 rfl) rfl
theorem q1035 : (Jvm.Cond.methodLink "java/util/ArrayList" (69 : Nat) ({ cls := "java/util/ArrayList", name := "grow", desc := "(I)[Ljava/lang/Object;" } : Jvm.MethodName)) ∈ lw_all := lw_g (lw_at lw_m4 198 rfl) rfl
theorem q1036 : (Jvm.Cond.privateMethod ({ cls := "java/util/ArrayList", name := "grow", desc := "(I)[Ljava/lang/Object;" } : Jvm.MethodName)) ∈ lw_tbl := lw_at lw_m4 199 rfl
theorem q1037 : (Jvm.Cond.instanceMethod ({ cls := "java/util/ArrayList", name := "grow", desc := "(I)[Ljava/lang/Object;" } : Jvm.MethodName)) ∈ lw_all := lw_g (lw_at lw_m4 200 rfl) rfl
theorem q1038 : (Jvm.Cond.code ({ cls := "java/util/ArrayList", name := "grow", desc := "(I)[Ljava/lang/Object;" } : Jvm.MethodName) prog_62_method_6_code (4 : Nat) (Option.some (Jvm.ClassFile.FieldType.array (Jvm.ClassFile.FieldType.object "java/lang/Object")))) ∈ lw_all := lw_g (lw_at lw_m4 201 rfl) rfl
theorem q1039 : (Jvm.Cond.methodLink "java/util/ArrayList" (73 : Nat) ({ cls := "jdk/internal/util/ArraysSupport", name := "newLength", desc := "(III)I" } : Jvm.MethodName)) ∈ lw_all := lw_g (lw_at lw_m4 202 rfl) rfl
theorem q1040 : (Jvm.Cond.methodLink "java/util/ArrayList" (66 : Nat) ({ cls := "java/util/Arrays", name := "copyOf", desc := "([Ljava/lang/Object;I)[Ljava/lang/Object;" } : Jvm.MethodName)) ∈ lw_all := lw_g (lw_at lw_m4 203 rfl) rfl
theorem q1081 : (Jvm.Cond.selects "java/util/ArrayList" ({ cls := "java/lang/Object", name := "getClass", desc := "()Ljava/lang/Class;" } : Jvm.MethodName) ({ cls := "java/lang/Object", name := "getClass", desc := "()Ljava/lang/Class;" } : Jvm.MethodName)) ∈ lw_all := lw_g (lw_at lw_m5 4 rfl) rfl
theorem q1096 : (Jvm.Cond.methodLink "java/util/ArrayList" (79 : Nat) ({ cls := "java/lang/Math", name := "max", desc := "(II)I" } : Jvm.MethodName)) ∈ lw_all := lw_g (lw_at lw_m5 19 rfl) rfl
theorem q1097 : (Jvm.Cond.classLink "java/util/ArrayList" (7 : Nat) "java/lang/Object") ∈ lw_all := lw_g (lw_at lw_m5 20 rfl) rfl
theorem q1382 : (Jvm.Cond.selects "java/util/ArrayList" ({ cls := "java/util/List", name := "iterator", desc := "()Ljava/util/Iterator;" } : Jvm.MethodName) ({ cls := "java/util/ArrayList", name := "iterator", desc := "()Ljava/util/Iterator;" } : Jvm.MethodName)) ∈ lw_all := lw_g (lw_at lw_m6 65 rfl) rfl
theorem q1383 : (Jvm.Cond.unhidden "java/util/ArrayList" "iterator" "()Ljava/util/Iterator;") ∈ lw_tbl := lw_at lw_m6 66 rfl
theorem q1384 : (Jvm.Cond.instanceMethod ({ cls := "java/util/ArrayList", name := "iterator", desc := "()Ljava/util/Iterator;" } : Jvm.MethodName)) ∈ lw_all := lw_g (lw_at lw_m6 67 rfl) rfl
theorem q1385 : (Jvm.Cond.publicMethod ({ cls := "java/util/ArrayList", name := "iterator", desc := "()Ljava/util/Iterator;" } : Jvm.MethodName)) ∈ lw_tbl := lw_at lw_m6 68 rfl
theorem q1386 : (Jvm.Cond.code ({ cls := "java/util/ArrayList", name := "iterator", desc := "()Ljava/util/Iterator;" } : Jvm.MethodName) prog_62_method_55_code (1 : Nat) (Option.some (Jvm.ClassFile.FieldType.object "java/util/Iterator"))) ∈ lw_all := lw_g (lw_at lw_m6 69 rfl) rfl
theorem q1387 : (Jvm.Cond.classLink "java/util/ArrayList" (267 : Nat) "java/util/ArrayList$Itr") ∈ lw_all := lw_g (lw_at lw_m6 70 rfl) rfl
theorem q1389 : (Jvm.Cond.methodLink "java/util/ArrayList" (269 : Nat) ({ cls := "java/util/ArrayList$Itr", name := "<init>", desc := "(Ljava/util/ArrayList;)V" } : Jvm.MethodName)) ∈ lw_all := lw_g (lw_at lw_m6 72 rfl) rfl
theorem q1426 : (Jvm.Cond.selects "java/util/ArrayList" ({ cls := "java/util/AbstractList", name := "listIterator", desc := "(I)Ljava/util/ListIterator;" } : Jvm.MethodName) ({ cls := "java/util/ArrayList", name := "listIterator", desc := "(I)Ljava/util/ListIterator;" } : Jvm.MethodName)) ∈ lw_all := lw_g (lw_at lw_m6 109 rfl) rfl
theorem q1427 : (Jvm.Cond.instanceMethod ({ cls := "java/util/ArrayList", name := "listIterator", desc := "(I)Ljava/util/ListIterator;" } : Jvm.MethodName)) ∈ lw_all := lw_g (lw_at lw_m6 110 rfl) rfl
theorem q1428 : (Jvm.Cond.code ({ cls := "java/util/ArrayList", name := "listIterator", desc := "(I)Ljava/util/ListIterator;" } : Jvm.MethodName) prog_62_method_53_code (2 : Nat) (Option.some (Jvm.ClassFile.FieldType.object "java/util/ListIterator"))) ∈ lw_all := lw_g (lw_at lw_m6 111 rfl) rfl
theorem q1429 : (Jvm.Cond.methodLink "java/util/ArrayList" (135 : Nat) ({ cls := "java/util/ArrayList", name := "rangeCheckForAdd", desc := "(I)V" } : Jvm.MethodName)) ∈ lw_all := lw_g (lw_at lw_m6 112 rfl) rfl
theorem q1430 : (Jvm.Cond.privateMethod ({ cls := "java/util/ArrayList", name := "rangeCheckForAdd", desc := "(I)V" } : Jvm.MethodName)) ∈ lw_tbl := lw_at lw_m6 113 rfl
theorem q1431 : (Jvm.Cond.instanceMethod ({ cls := "java/util/ArrayList", name := "rangeCheckForAdd", desc := "(I)V" } : Jvm.MethodName)) ∈ lw_all := lw_g (lw_at lw_m6 114 rfl) rfl
theorem q1432 : (Jvm.Cond.code ({ cls := "java/util/ArrayList", name := "rangeCheckForAdd", desc := "(I)V" } : Jvm.MethodName) prog_62_method_45_code (2 : Nat) (Option.none : Option Jvm.ClassFile.FieldType)) ∈ lw_all := lw_g (lw_at lw_m6 115 rfl) rfl
theorem q1433 : (Jvm.Cond.classLink "java/util/ArrayList" (187 : Nat) "java/lang/IndexOutOfBoundsException") ∈ lw_all := lw_g (lw_at lw_m6 116 rfl) rfl
theorem q1434 : (Jvm.Cond.methodLink "java/util/ArrayList" (198 : Nat) ({ cls := "java/util/ArrayList", name := "outOfBoundsMsg", desc := "(I)Ljava/lang/String;" } : Jvm.MethodName)) ∈ lw_all := lw_g (lw_at lw_m6 117 rfl) rfl
theorem q1435 : (Jvm.Cond.privateMethod ({ cls := "java/util/ArrayList", name := "outOfBoundsMsg", desc := "(I)Ljava/lang/String;" } : Jvm.MethodName)) ∈ lw_tbl := lw_at lw_m6 118 rfl
theorem q1436 : (Jvm.Cond.instanceMethod ({ cls := "java/util/ArrayList", name := "outOfBoundsMsg", desc := "(I)Ljava/lang/String;" } : Jvm.MethodName)) ∈ lw_all := lw_g (lw_at lw_m6 119 rfl) rfl
theorem q1437 : (Jvm.Cond.code ({ cls := "java/util/ArrayList", name := "outOfBoundsMsg", desc := "(I)Ljava/lang/String;" } : Jvm.MethodName) prog_62_method_46_code (2 : Nat) (Option.some (Jvm.ClassFile.FieldType.object "java/lang/String"))) ∈ lw_all := lw_g (lw_at lw_m6 120 rfl) rfl
theorem q1438 : (Jvm.Cond.classLink "java/util/ArrayList" (20 : Nat) "java/lang/StringBuilder") ∈ lw_all := lw_g (lw_at lw_m6 121 rfl) rfl
theorem q1439 : (Jvm.Cond.methodLink "java/util/ArrayList" (22 : Nat) ({ cls := "java/lang/StringBuilder", name := "<init>", desc := "()V" } : Jvm.MethodName)) ∈ lw_all := lw_g (lw_at lw_m6 122 rfl) rfl
theorem q1440 : (Jvm.Cond.stringRef "java/util/ArrayList" (201 : Nat) "Index: ") ∈ lw_tbl := lw_at lw_m6 123 rfl
theorem q1441 : (Jvm.Cond.methodLink "java/util/ArrayList" (25 : Nat) ({ cls := "java/lang/StringBuilder", name := "append", desc := "(Ljava/lang/String;)Ljava/lang/StringBuilder;" } : Jvm.MethodName)) ∈ lw_all := lw_g (lw_at lw_m6 124 rfl) rfl
theorem q1442 : (Jvm.Cond.methodLink "java/util/ArrayList" (29 : Nat) ({ cls := "java/lang/StringBuilder", name := "append", desc := "(I)Ljava/lang/StringBuilder;" } : Jvm.MethodName)) ∈ lw_all := lw_g (lw_at lw_m6 125 rfl) rfl
theorem q1443 : (Jvm.Cond.stringRef "java/util/ArrayList" (203 : Nat) ", Size: ") ∈ lw_tbl := lw_at lw_m6 126 rfl
theorem q1444 : (Jvm.Cond.methodLink "java/util/ArrayList" (32 : Nat) ({ cls := "java/lang/StringBuilder", name := "toString", desc := "()Ljava/lang/String;" } : Jvm.MethodName)) ∈ lw_all := lw_g (lw_at lw_m6 127 rfl) rfl
theorem q1445 : (Jvm.Cond.methodLink "java/util/ArrayList" (193 : Nat) ({ cls := "java/lang/IndexOutOfBoundsException", name := "<init>", desc := "(Ljava/lang/String;)V" } : Jvm.MethodName)) ∈ lw_all := lw_g (lw_at lw_m6 128 rfl) rfl
theorem q1446 : (Jvm.Cond.classLink "java/util/ArrayList" (262 : Nat) "java/util/ArrayList$ListItr") ∈ lw_all := lw_g (lw_at lw_m6 129 rfl) rfl
theorem q1448 : (Jvm.Cond.methodLink "java/util/ArrayList" (264 : Nat) ({ cls := "java/util/ArrayList$ListItr", name := "<init>", desc := "(Ljava/util/ArrayList;I)V" } : Jvm.MethodName)) ∈ lw_all := lw_g (lw_at lw_m6 131 rfl) rfl
theorem q1508 : (Jvm.Cond.selects "java/util/ArrayList" ({ cls := "java/util/AbstractList", name := "size", desc := "()I" } : Jvm.MethodName) ({ cls := "java/util/ArrayList", name := "size", desc := "()I" } : Jvm.MethodName)) ∈ lw_all := lw_g (lw_at lw_m6 191 rfl) rfl
theorem q1548 : (Jvm.Cond.selects "java/util/ArrayList" ({ cls := "java/util/AbstractList", name := "get", desc := "(I)Ljava/lang/Object;" } : Jvm.MethodName) ({ cls := "java/util/ArrayList", name := "get", desc := "(I)Ljava/lang/Object;" } : Jvm.MethodName)) ∈ lw_all := lw_g (lw_at lw_m6 231 rfl) rfl
theorem q2423 : (Jvm.Cond.selects "java/util/ArrayList" ({ cls := "java/util/AbstractList", name := "add", desc := "(ILjava/lang/Object;)V" } : Jvm.MethodName) ({ cls := "java/util/ArrayList", name := "add", desc := "(ILjava/lang/Object;)V" } : Jvm.MethodName)) ∈ lw_all := lw_g (lw_at lw_m10 146 rfl) rfl
theorem q2424 : (Jvm.Cond.instanceMethod ({ cls := "java/util/ArrayList", name := "add", desc := "(ILjava/lang/Object;)V" } : Jvm.MethodName)) ∈ lw_all := lw_g (lw_at lw_m10 147 rfl) rfl
theorem q2425 : (Jvm.Cond.code ({ cls := "java/util/ArrayList", name := "add", desc := "(ILjava/lang/Object;)V" } : Jvm.MethodName) prog_62_method_26_code (5 : Nat) (Option.none : Option Jvm.ClassFile.FieldType)) ∈ lw_all := lw_g (lw_at lw_m10 148 rfl) rfl
theorem q2426 : (Jvm.Cond.methodLink "java/util/ArrayList" (112 : Nat) ({ cls := "java/lang/System", name := "arraycopy", desc := "(Ljava/lang/Object;ILjava/lang/Object;II)V" } : Jvm.MethodName)) ∈ lw_all := lw_g (lw_at lw_m10 149 rfl) rfl
theorem q3464 : (Jvm.Cond.selects "java/util/ArrayList" ({ cls := "java/util/ArrayList", name := "add", desc := "(ILjava/lang/Object;)V" } : Jvm.MethodName) ({ cls := "java/util/ArrayList", name := "add", desc := "(ILjava/lang/Object;)V" } : Jvm.MethodName)) ∈ lw_all := lw_g (lw_at lw_m14 227 rfl) rfl
theorem q3477 : (Jvm.Cond.castable "java/util/ArrayList" "java/lang/Object") ∈ lw_tbl := lw_at lw_m15 0 rfl
theorem in_J2 : ∀ w ∈ wsJ20, w ∈ lw_all := lw_in wsJ20 [224, 220, 222] (by decide +kernel) (by decide +kernel)

/-! java/lang/StringLatin1 -/
def RJ20 : String := "java/lang/StringLatin1"
abbrev cJ20_inflate : ByteArray := prog_48_method_50_code
def yJ20_inflate : MethodName := ⟨RJ20, "inflate", "([BI[BII)V"⟩
def dkwJ20_inflate_0 : List UInt8 := [42, 27, 44, 29, 21, 4, 184, 0, 240, 177]
abbrev dktJ20_inflate_0 : List UInt8 := dkwJ20_inflate_0 ++ []
theorem dksJ20_inflate_0 : cJ20_inflate.data.toList.drop 0 = dktJ20_inflate_0 := by decide +kernel
theorem dJ20_inflate_0 : decode cJ20_inflate 0 = .ok (.aload_n 0, 1) := dk_42 (dk_at dksJ20_inflate_0 0 rfl rfl)
theorem dJ20_inflate_1 : decode cJ20_inflate 1 = .ok (.iload_n 1, 1) := dk_27 (dk_at dksJ20_inflate_0 1 rfl rfl)
theorem dJ20_inflate_2 : decode cJ20_inflate 2 = .ok (.aload_n 2, 1) := dk_44 (dk_at dksJ20_inflate_0 2 rfl rfl)
theorem dJ20_inflate_3 : decode cJ20_inflate 3 = .ok (.iload_n 3, 1) := dk_29 (dk_at dksJ20_inflate_0 3 rfl rfl)
theorem dJ20_inflate_4 : decode cJ20_inflate 4 = .ok (.iload 4, 2) := dk_21 4 (dk_at dksJ20_inflate_0 4 rfl rfl)
theorem dJ20_inflate_6 : decode cJ20_inflate 6 = .ok (.invokestatic 240, 3) := dk_184 0 240 (dk_at dksJ20_inflate_0 6 rfl rfl)
theorem dJ20_inflate_9 : decode cJ20_inflate 9 = .ok (.return_, 1) := dk_177 (dk_at dksJ20_inflate_0 9 rfl rfl)
theorem q158 : (Jvm.Cond.initialized "java/lang/StringLatin1") ∈ lw_all := lw_g (lw_at lw_m1 41 rfl) rfl
theorem q658 : (Jvm.Cond.static ({ cls := "java/lang/StringLatin1", name := "inflate", desc := "([BI[BII)V" } : Jvm.MethodName)) ∈ lw_all := lw_g (lw_at lw_m3 61 rfl) rfl
theorem q659 : (Jvm.Cond.code ({ cls := "java/lang/StringLatin1", name := "inflate", desc := "([BI[BII)V" } : Jvm.MethodName) prog_48_method_50_code (5 : Nat) (Option.none : Option Jvm.ClassFile.FieldType)) ∈ lw_all := lw_g (lw_at lw_m3 62 rfl) rfl
theorem q660 : (Jvm.Cond.methodLink "java/lang/StringLatin1" (240 : Nat) ({ cls := "java/lang/StringUTF16", name := "inflate", desc := "([BI[BII)V" } : Jvm.MethodName)) ∈ lw_all := lw_g (lw_at lw_m3 63 rfl) rfl

/-! java/lang/Number -/
def RJ21 : String := "java/lang/Number"
abbrev cJ21_init : ByteArray := prog_44_method_1_code
def yJ21_init : MethodName := ⟨RJ21, "<init>", "()V"⟩
theorem dJ21_init_0 : decode cJ21_init 0 = .ok (.aload_n 0, 1) := by decide +kernel
theorem dJ21_init_1 : decode cJ21_init 1 = .ok (.invokespecial 1, 3) := by decide +kernel
theorem dJ21_init_4 : decode cJ21_init 4 = .ok (.return_, 1) := by decide +kernel
theorem q159 : (Jvm.Cond.initialized "java/lang/Number") ∈ lw_all := lw_g (lw_at lw_m1 42 rfl) rfl
theorem q2639 : (Jvm.Cond.instanceMethod ({ cls := "java/lang/Number", name := "<init>", desc := "()V" } : Jvm.MethodName)) ∈ lw_all := lw_g (lw_at lw_m11 122 rfl) rfl
theorem q2640 : (Jvm.Cond.code ({ cls := "java/lang/Number", name := "<init>", desc := "()V" } : Jvm.MethodName) prog_44_method_1_code (1 : Nat) (Option.none : Option Jvm.ClassFile.FieldType)) ∈ lw_all := lw_g (lw_at lw_m11 123 rfl) rfl
theorem q2641 : (Jvm.Cond.methodLink "java/lang/Number" (1 : Nat) ({ cls := "java/lang/Object", name := "<init>", desc := "()V" } : Jvm.MethodName)) ∈ lw_all := lw_g (lw_at lw_m11 124 rfl) rfl

/-! java/lang/Integer -/
def RJ22 : String := "java/lang/Integer"
def TJ22 : u_T := fun k => match k with
  | _ => ("java/lang/Integer", "value", "I", true)
def tyJ22 : Nat → FieldType := fun k => match k with
  | _ => .int
abbrev wsJ220 : List Cond := u_ws RJ22 TJ22 1
theorem nmJ22 : ∀ a, a < 1 → ∀ b, b < 1 → a ≠ b → (TJ22 a).2.1 ≠ (TJ22 b).2.1 := by decide +kernel
theorem tyJ22_ok : ∀ k, k < 1 → parseFieldDescriptor (TJ22 k).2.2.1 = some (tyJ22 k) := by decide +kernel
abbrev cJ22_stringSize : ByteArray := prog_40_method_13_code
def yJ22_stringSize : MethodName := ⟨RJ22, "stringSize", "(I)I"⟩
def dkwJ22_stringSize_1 : List UInt8 := [164, 0, 7, 29, 27, 96, 172, 16, 10, 28, 104, 61, 132, 3, 1, 167, 255, 233, 16, 10, 27, 96, 172]
abbrev dktJ22_stringSize_1 : List UInt8 := dkwJ22_stringSize_1 ++ []
def dkwJ22_stringSize_0 : List UInt8 := [4, 60, 26, 155, 0, 8, 3, 60, 26, 116, 59, 16, 246, 61, 4, 62, 29, 16, 10, 162, 0, 23, 26, 28]
abbrev dktJ22_stringSize_0 : List UInt8 := dkwJ22_stringSize_0 ++ dktJ22_stringSize_1
theorem dksJ22_stringSize_0 : cJ22_stringSize.data.toList.drop 0 = dktJ22_stringSize_0 := by decide +kernel
theorem dksJ22_stringSize_1 : cJ22_stringSize.data.toList.drop 24 = dktJ22_stringSize_1 := dk_seg dksJ22_stringSize_0 24 rfl rfl
theorem dJ22_stringSize_0 : decode cJ22_stringSize 0 = .ok (.iconst 1, 1) := dk_4 (dk_at dksJ22_stringSize_0 0 rfl rfl)
theorem dJ22_stringSize_1 : decode cJ22_stringSize 1 = .ok (.istore_n 1, 1) := dk_60 (dk_at dksJ22_stringSize_0 1 rfl rfl)
theorem dJ22_stringSize_2 : decode cJ22_stringSize 2 = .ok (.iload_n 0, 1) := dk_26 (dk_at dksJ22_stringSize_0 2 rfl rfl)
theorem dJ22_stringSize_3 : decode cJ22_stringSize 3 = .ok (.ifCond .lt 8, 3) := dk_155 0 8 (dk_at dksJ22_stringSize_0 3 rfl rfl)
theorem dJ22_stringSize_6 : decode cJ22_stringSize 6 = .ok (.iconst 0, 1) := dk_3 (dk_at dksJ22_stringSize_0 6 rfl rfl)
theorem dJ22_stringSize_7 : decode cJ22_stringSize 7 = .ok (.istore_n 1, 1) := dk_60 (dk_at dksJ22_stringSize_0 7 rfl rfl)
theorem dJ22_stringSize_8 : decode cJ22_stringSize 8 = .ok (.iload_n 0, 1) := dk_26 (dk_at dksJ22_stringSize_0 8 rfl rfl)
theorem dJ22_stringSize_9 : decode cJ22_stringSize 9 = .ok (.ineg, 1) := dk_116 (dk_at dksJ22_stringSize_0 9 rfl rfl)
theorem dJ22_stringSize_10 : decode cJ22_stringSize 10 = .ok (.istore_n 0, 1) := dk_59 (dk_at dksJ22_stringSize_0 10 rfl rfl)
theorem dJ22_stringSize_11 : decode cJ22_stringSize 11 = .ok (.bipush (-10), 2) := dk_16 246 (dk_at dksJ22_stringSize_0 11 rfl rfl)
theorem dJ22_stringSize_13 : decode cJ22_stringSize 13 = .ok (.istore_n 2, 1) := dk_61 (dk_at dksJ22_stringSize_0 13 rfl rfl)
theorem dJ22_stringSize_14 : decode cJ22_stringSize 14 = .ok (.iconst 1, 1) := dk_4 (dk_at dksJ22_stringSize_0 14 rfl rfl)
theorem dJ22_stringSize_15 : decode cJ22_stringSize 15 = .ok (.istore_n 3, 1) := dk_62 (dk_at dksJ22_stringSize_0 15 rfl rfl)
theorem dJ22_stringSize_16 : decode cJ22_stringSize 16 = .ok (.iload_n 3, 1) := dk_29 (dk_at dksJ22_stringSize_0 16 rfl rfl)
theorem dJ22_stringSize_17 : decode cJ22_stringSize 17 = .ok (.bipush 10, 2) := dk_16 10 (dk_at dksJ22_stringSize_0 17 rfl rfl)
theorem dJ22_stringSize_19 : decode cJ22_stringSize 19 = .ok (.if_icmp .ge 23, 3) := dk_162 0 23 (dk_at dksJ22_stringSize_0 19 rfl rfl)
theorem dJ22_stringSize_22 : decode cJ22_stringSize 22 = .ok (.iload_n 0, 1) := dk_26 (dk_at dksJ22_stringSize_0 22 rfl rfl)
theorem dJ22_stringSize_23 : decode cJ22_stringSize 23 = .ok (.iload_n 2, 1) := dk_28 (dk_at dksJ22_stringSize_0 23 rfl rfl)
theorem dJ22_stringSize_24 : decode cJ22_stringSize 24 = .ok (.if_icmp .le 7, 3) := dk_164 0 7 (dk_at dksJ22_stringSize_1 0 rfl rfl)
theorem dJ22_stringSize_27 : decode cJ22_stringSize 27 = .ok (.iload_n 3, 1) := dk_29 (dk_at dksJ22_stringSize_1 3 rfl rfl)
theorem dJ22_stringSize_28 : decode cJ22_stringSize 28 = .ok (.iload_n 1, 1) := dk_27 (dk_at dksJ22_stringSize_1 4 rfl rfl)
theorem dJ22_stringSize_29 : decode cJ22_stringSize 29 = .ok (.iadd, 1) := dk_96 (dk_at dksJ22_stringSize_1 5 rfl rfl)
theorem dJ22_stringSize_30 : decode cJ22_stringSize 30 = .ok (.ireturn, 1) := dk_172 (dk_at dksJ22_stringSize_1 6 rfl rfl)
theorem dJ22_stringSize_31 : decode cJ22_stringSize 31 = .ok (.bipush 10, 2) := dk_16 10 (dk_at dksJ22_stringSize_1 7 rfl rfl)
theorem dJ22_stringSize_33 : decode cJ22_stringSize 33 = .ok (.iload_n 2, 1) := dk_28 (dk_at dksJ22_stringSize_1 9 rfl rfl)
theorem dJ22_stringSize_34 : decode cJ22_stringSize 34 = .ok (.imul, 1) := dk_104 (dk_at dksJ22_stringSize_1 10 rfl rfl)
theorem dJ22_stringSize_35 : decode cJ22_stringSize 35 = .ok (.istore_n 2, 1) := dk_61 (dk_at dksJ22_stringSize_1 11 rfl rfl)
theorem dJ22_stringSize_36 : decode cJ22_stringSize 36 = .ok (.iinc 3 1, 3) := dk_132 3 1 (dk_at dksJ22_stringSize_1 12 rfl rfl)
theorem dJ22_stringSize_39 : decode cJ22_stringSize 39 = .ok (.goto (-23), 3) := dk_167 255 233 (dk_at dksJ22_stringSize_1 15 rfl rfl)
theorem dJ22_stringSize_42 : decode cJ22_stringSize 42 = .ok (.bipush 10, 2) := dk_16 10 (dk_at dksJ22_stringSize_1 18 rfl rfl)
theorem dJ22_stringSize_44 : decode cJ22_stringSize 44 = .ok (.iload_n 1, 1) := dk_27 (dk_at dksJ22_stringSize_1 20 rfl rfl)
theorem dJ22_stringSize_45 : decode cJ22_stringSize 45 = .ok (.iadd, 1) := dk_96 (dk_at dksJ22_stringSize_1 21 rfl rfl)
theorem dJ22_stringSize_46 : decode cJ22_stringSize 46 = .ok (.ireturn, 1) := dk_172 (dk_at dksJ22_stringSize_1 22 rfl rfl)
abbrev cJ22_getChars : ByteArray := prog_40_method_12_code
def yJ22_getChars : MethodName := ⟨RJ22, "getChars", "(II[B)I"⟩
def dkwJ22_getChars_5 : List UInt8 := [16, 45, 84, 21, 5, 172]
abbrev dktJ22_getChars_5 : List UInt8 := dkwJ22_getChars_5 ++ []
def dkwJ22_getChars_4 : List UInt8 := [132, 5, 255, 21, 5, 178, 0, 87, 26, 116, 51, 84, 21, 6, 153, 0, 12, 44, 132, 5, 255, 21, 5]
abbrev dktJ22_getChars_4 : List UInt8 := dkwJ22_getChars_4 ++ dktJ22_getChars_5
def dkwJ22_getChars_3 : List UInt8 := [167, 255, 209, 44, 132, 5, 255, 21, 5, 178, 0, 83, 26, 116, 51, 84, 26, 16, 247, 162, 0, 16, 44]
abbrev dktJ22_getChars_3 : List UInt8 := dkwJ22_getChars_3 ++ dktJ22_getChars_4
def dkwJ22_getChars_2 : List UInt8 := [21, 5, 178, 0, 83, 21, 4, 51, 84, 44, 132, 5, 255, 21, 5, 178, 0, 87, 21, 4, 51, 84]
abbrev dktJ22_getChars_2 : List UInt8 := dkwJ22_getChars_2 ++ dktJ22_getChars_3
def dkwJ22_getChars_1 : List UInt8 := [16, 156, 163, 0, 47, 26, 16, 100, 108, 62, 29, 16, 100, 104, 26, 100, 54, 4, 29, 59, 44, 132, 5, 255]
abbrev dktJ22_getChars_1 : List UInt8 := dkwJ22_getChars_1 ++ dktJ22_getChars_2
def dkwJ22_getChars_0 : List UInt8 := [27, 54, 5, 26, 156, 0, 7, 4, 167, 0, 4, 3, 54, 6, 21, 6, 154, 0, 6, 26, 116, 59, 26]
abbrev dktJ22_getChars_0 : List UInt8 := dkwJ22_getChars_0 ++ dktJ22_getChars_1
theorem dksJ22_getChars_0 : cJ22_getChars.data.toList.drop 0 = dktJ22_getChars_0 := by decide +kernel
theorem dksJ22_getChars_1 : cJ22_getChars.data.toList.drop 23 = dktJ22_getChars_1 := dk_seg dksJ22_getChars_0 23 rfl rfl
theorem dksJ22_getChars_2 : cJ22_getChars.data.toList.drop 47 = dktJ22_getChars_2 := dk_seg dksJ22_getChars_1 24 rfl rfl
theorem dksJ22_getChars_3 : cJ22_getChars.data.toList.drop 69 = dktJ22_getChars_3 := dk_seg dksJ22_getChars_2 22 rfl rfl
theorem dksJ22_getChars_4 : cJ22_getChars.data.toList.drop 92 = dktJ22_getChars_4 := dk_seg dksJ22_getChars_3 23 rfl rfl
theorem dksJ22_getChars_5 : cJ22_getChars.data.toList.drop 115 = dktJ22_getChars_5 := dk_seg dksJ22_getChars_4 23 rfl rfl
theorem dJ22_getChars_0 : decode cJ22_getChars 0 = .ok (.iload_n 1, 1) := dk_27 (dk_at dksJ22_getChars_0 0 rfl rfl)
theorem dJ22_getChars_1 : decode cJ22_getChars 1 = .ok (.istore 5, 2) := dk_54 5 (dk_at dksJ22_getChars_0 1 rfl rfl)
theorem dJ22_getChars_3 : decode cJ22_getChars 3 = .ok (.iload_n 0, 1) := dk_26 (dk_at dksJ22_getChars_0 3 rfl rfl)
theorem dJ22_getChars_4 : decode cJ22_getChars 4 = .ok (.ifCond .ge 7, 3) := dk_156 0 7 (dk_at dksJ22_getChars_0 4 rfl rfl)
theorem dJ22_getChars_7 : decode cJ22_getChars 7 = .ok (.iconst 1, 1) := dk_4 (dk_at dksJ22_getChars_0 7 rfl rfl)
theorem dJ22_getChars_8 : decode cJ22_getChars 8 = .ok (.goto 4, 3) := dk_167 0 4 (dk_at dksJ22_getChars_0 8 rfl rfl)
theorem dJ22_getChars_11 : decode cJ22_getChars 11 = .ok (.iconst 0, 1) := dk_3 (dk_at dksJ22_getChars_0 11 rfl rfl)
theorem dJ22_getChars_12 : decode cJ22_getChars 12 = .ok (.istore 6, 2) := dk_54 6 (dk_at dksJ22_getChars_0 12 rfl rfl)
theorem dJ22_getChars_14 : decode cJ22_getChars 14 = .ok (.iload 6, 2) := dk_21 6 (dk_at dksJ22_getChars_0 14 rfl rfl)
theorem dJ22_getChars_16 : decode cJ22_getChars 16 = .ok (.ifCond .ne 6, 3) := dk_154 0 6 (dk_at dksJ22_getChars_0 16 rfl rfl)
theorem dJ22_getChars_19 : decode cJ22_getChars 19 = .ok (.iload_n 0, 1) := dk_26 (dk_at dksJ22_getChars_0 19 rfl rfl)
theorem dJ22_getChars_20 : decode cJ22_getChars 20 = .ok (.ineg, 1) := dk_116 (dk_at dksJ22_getChars_0 20 rfl rfl)
theorem dJ22_getChars_21 : decode cJ22_getChars 21 = .ok (.istore_n 0, 1) := dk_59 (dk_at dksJ22_getChars_0 21 rfl rfl)
theorem dJ22_getChars_22 : decode cJ22_getChars 22 = .ok (.iload_n 0, 1) := dk_26 (dk_at dksJ22_getChars_0 22 rfl rfl)
theorem dJ22_getChars_23 : decode cJ22_getChars 23 = .ok (.bipush (-100), 2) := dk_16 156 (dk_at dksJ22_getChars_1 0 rfl rfl)
theorem dJ22_getChars_25 : decode cJ22_getChars 25 = .ok (.if_icmp .gt 47, 3) := dk_163 0 47 (dk_at dksJ22_getChars_1 2 rfl rfl)
theorem dJ22_getChars_28 : decode cJ22_getChars 28 = .ok (.iload_n 0, 1) := dk_26 (dk_at dksJ22_getChars_1 5 rfl rfl)
theorem dJ22_getChars_29 : decode cJ22_getChars 29 = .ok (.bipush 100, 2) := dk_16 100 (dk_at dksJ22_getChars_1 6 rfl rfl)
theorem dJ22_getChars_31 : decode cJ22_getChars 31 = .ok (.idiv, 1) := dk_108 (dk_at dksJ22_getChars_1 8 rfl rfl)
theorem dJ22_getChars_32 : decode cJ22_getChars 32 = .ok (.istore_n 3, 1) := dk_62 (dk_at dksJ22_getChars_1 9 rfl rfl)
theorem dJ22_getChars_33 : decode cJ22_getChars 33 = .ok (.iload_n 3, 1) := dk_29 (dk_at dksJ22_getChars_1 10 rfl rfl)
theorem dJ22_getChars_34 : decode cJ22_getChars 34 = .ok (.bipush 100, 2) := dk_16 100 (dk_at dksJ22_getChars_1 11 rfl rfl)
theorem dJ22_getChars_36 : decode cJ22_getChars 36 = .ok (.imul, 1) := dk_104 (dk_at dksJ22_getChars_1 13 rfl rfl)
theorem dJ22_getChars_37 : decode cJ22_getChars 37 = .ok (.iload_n 0, 1) := dk_26 (dk_at dksJ22_getChars_1 14 rfl rfl)
theorem dJ22_getChars_38 : decode cJ22_getChars 38 = .ok (.isub, 1) := dk_100 (dk_at dksJ22_getChars_1 15 rfl rfl)
theorem dJ22_getChars_39 : decode cJ22_getChars 39 = .ok (.istore 4, 2) := dk_54 4 (dk_at dksJ22_getChars_1 16 rfl rfl)
theorem dJ22_getChars_41 : decode cJ22_getChars 41 = .ok (.iload_n 3, 1) := dk_29 (dk_at dksJ22_getChars_1 18 rfl rfl)
theorem dJ22_getChars_42 : decode cJ22_getChars 42 = .ok (.istore_n 0, 1) := dk_59 (dk_at dksJ22_getChars_1 19 rfl rfl)
theorem dJ22_getChars_43 : decode cJ22_getChars 43 = .ok (.aload_n 2, 1) := dk_44 (dk_at dksJ22_getChars_1 20 rfl rfl)
theorem dJ22_getChars_44 : decode cJ22_getChars 44 = .ok (.iinc 5 (-1), 3) := dk_132 5 255 (dk_at dksJ22_getChars_1 21 rfl rfl)
theorem dJ22_getChars_47 : decode cJ22_getChars 47 = .ok (.iload 5, 2) := dk_21 5 (dk_at dksJ22_getChars_2 0 rfl rfl)
theorem dJ22_getChars_49 : decode cJ22_getChars 49 = .ok (.getstatic 83, 3) := dk_178 0 83 (dk_at dksJ22_getChars_2 2 rfl rfl)
theorem dJ22_getChars_52 : decode cJ22_getChars 52 = .ok (.iload 4, 2) := dk_21 4 (dk_at dksJ22_getChars_2 5 rfl rfl)
theorem dJ22_getChars_54 : decode cJ22_getChars 54 = .ok (.baload, 1) := dk_51 (dk_at dksJ22_getChars_2 7 rfl rfl)
theorem dJ22_getChars_55 : decode cJ22_getChars 55 = .ok (.bastore, 1) := dk_84 (dk_at dksJ22_getChars_2 8 rfl rfl)
theorem dJ22_getChars_56 : decode cJ22_getChars 56 = .ok (.aload_n 2, 1) := dk_44 (dk_at dksJ22_getChars_2 9 rfl rfl)
theorem dJ22_getChars_57 : decode cJ22_getChars 57 = .ok (.iinc 5 (-1), 3) := dk_132 5 255 (dk_at dksJ22_getChars_2 10 rfl rfl)
theorem dJ22_getChars_60 : decode cJ22_getChars 60 = .ok (.iload 5, 2) := dk_21 5 (dk_at dksJ22_getChars_2 13 rfl rfl)
theorem dJ22_getChars_62 : decode cJ22_getChars 62 = .ok (.getstatic 87, 3) := dk_178 0 87 (dk_at dksJ22_getChars_2 15 rfl rfl)
theorem dJ22_getChars_65 : decode cJ22_getChars 65 = .ok (.iload 4, 2) := dk_21 4 (dk_at dksJ22_getChars_2 18 rfl rfl)
theorem dJ22_getChars_67 : decode cJ22_getChars 67 = .ok (.baload, 1) := dk_51 (dk_at dksJ22_getChars_2 20 rfl rfl)
theorem dJ22_getChars_68 : decode cJ22_getChars 68 = .ok (.bastore, 1) := dk_84 (dk_at dksJ22_getChars_2 21 rfl rfl)
theorem dJ22_getChars_69 : decode cJ22_getChars 69 = .ok (.goto (-47), 3) := dk_167 255 209 (dk_at dksJ22_getChars_3 0 rfl rfl)
theorem dJ22_getChars_72 : decode cJ22_getChars 72 = .ok (.aload_n 2, 1) := dk_44 (dk_at dksJ22_getChars_3 3 rfl rfl)
theorem dJ22_getChars_73 : decode cJ22_getChars 73 = .ok (.iinc 5 (-1), 3) := dk_132 5 255 (dk_at dksJ22_getChars_3 4 rfl rfl)
theorem dJ22_getChars_76 : decode cJ22_getChars 76 = .ok (.iload 5, 2) := dk_21 5 (dk_at dksJ22_getChars_3 7 rfl rfl)
theorem dJ22_getChars_78 : decode cJ22_getChars 78 = .ok (.getstatic 83, 3) := dk_178 0 83 (dk_at dksJ22_getChars_3 9 rfl rfl)
theorem dJ22_getChars_81 : decode cJ22_getChars 81 = .ok (.iload_n 0, 1) := dk_26 (dk_at dksJ22_getChars_3 12 rfl rfl)
theorem dJ22_getChars_82 : decode cJ22_getChars 82 = .ok (.ineg, 1) := dk_116 (dk_at dksJ22_getChars_3 13 rfl rfl)
theorem dJ22_getChars_83 : decode cJ22_getChars 83 = .ok (.baload, 1) := dk_51 (dk_at dksJ22_getChars_3 14 rfl rfl)
theorem dJ22_getChars_84 : decode cJ22_getChars 84 = .ok (.bastore, 1) := dk_84 (dk_at dksJ22_getChars_3 15 rfl rfl)
theorem dJ22_getChars_85 : decode cJ22_getChars 85 = .ok (.iload_n 0, 1) := dk_26 (dk_at dksJ22_getChars_3 16 rfl rfl)
theorem dJ22_getChars_86 : decode cJ22_getChars 86 = .ok (.bipush (-9), 2) := dk_16 247 (dk_at dksJ22_getChars_3 17 rfl rfl)
theorem dJ22_getChars_88 : decode cJ22_getChars 88 = .ok (.if_icmp .ge 16, 3) := dk_162 0 16 (dk_at dksJ22_getChars_3 19 rfl rfl)
theorem dJ22_getChars_91 : decode cJ22_getChars 91 = .ok (.aload_n 2, 1) := dk_44 (dk_at dksJ22_getChars_3 22 rfl rfl)
theorem dJ22_getChars_92 : decode cJ22_getChars 92 = .ok (.iinc 5 (-1), 3) := dk_132 5 255 (dk_at dksJ22_getChars_4 0 rfl rfl)
theorem dJ22_getChars_95 : decode cJ22_getChars 95 = .ok (.iload 5, 2) := dk_21 5 (dk_at dksJ22_getChars_4 3 rfl rfl)
theorem dJ22_getChars_97 : decode cJ22_getChars 97 = .ok (.getstatic 87, 3) := dk_178 0 87 (dk_at dksJ22_getChars_4 5 rfl rfl)
theorem dJ22_getChars_100 : decode cJ22_getChars 100 = .ok (.iload_n 0, 1) := dk_26 (dk_at dksJ22_getChars_4 8 rfl rfl)
theorem dJ22_getChars_101 : decode cJ22_getChars 101 = .ok (.ineg, 1) := dk_116 (dk_at dksJ22_getChars_4 9 rfl rfl)
theorem dJ22_getChars_102 : decode cJ22_getChars 102 = .ok (.baload, 1) := dk_51 (dk_at dksJ22_getChars_4 10 rfl rfl)
theorem dJ22_getChars_103 : decode cJ22_getChars 103 = .ok (.bastore, 1) := dk_84 (dk_at dksJ22_getChars_4 11 rfl rfl)
theorem dJ22_getChars_104 : decode cJ22_getChars 104 = .ok (.iload 6, 2) := dk_21 6 (dk_at dksJ22_getChars_4 12 rfl rfl)
theorem dJ22_getChars_106 : decode cJ22_getChars 106 = .ok (.ifCond .eq 12, 3) := dk_153 0 12 (dk_at dksJ22_getChars_4 14 rfl rfl)
theorem dJ22_getChars_109 : decode cJ22_getChars 109 = .ok (.aload_n 2, 1) := dk_44 (dk_at dksJ22_getChars_4 17 rfl rfl)
theorem dJ22_getChars_110 : decode cJ22_getChars 110 = .ok (.iinc 5 (-1), 3) := dk_132 5 255 (dk_at dksJ22_getChars_4 18 rfl rfl)
theorem dJ22_getChars_113 : decode cJ22_getChars 113 = .ok (.iload 5, 2) := dk_21 5 (dk_at dksJ22_getChars_4 21 rfl rfl)
theorem dJ22_getChars_115 : decode cJ22_getChars 115 = .ok (.bipush 45, 2) := dk_16 45 (dk_at dksJ22_getChars_5 0 rfl rfl)
theorem dJ22_getChars_117 : decode cJ22_getChars 117 = .ok (.bastore, 1) := dk_84 (dk_at dksJ22_getChars_5 2 rfl rfl)
theorem dJ22_getChars_118 : decode cJ22_getChars 118 = .ok (.iload 5, 2) := dk_21 5 (dk_at dksJ22_getChars_5 3 rfl rfl)
theorem dJ22_getChars_120 : decode cJ22_getChars 120 = .ok (.ireturn, 1) := dk_172 (dk_at dksJ22_getChars_5 5 rfl rfl)
abbrev cJ22_valueOf : ByteArray := prog_40_method_22_code
def yJ22_valueOf : MethodName := ⟨RJ22, "valueOf", "(I)Ljava/lang/Integer;"⟩
def dkwJ22_valueOf_1 : List UInt8 := [187, 0, 1, 89, 26, 183, 0, 199, 176]
abbrev dktJ22_valueOf_1 : List UInt8 := dkwJ22_valueOf_1 ++ []
def dkwJ22_valueOf_0 : List UInt8 := [26, 16, 128, 161, 0, 20, 26, 178, 0, 191, 163, 0, 13, 178, 0, 195, 26, 17, 0, 128, 96, 50, 176]
abbrev dktJ22_valueOf_0 : List UInt8 := dkwJ22_valueOf_0 ++ dktJ22_valueOf_1
theorem dksJ22_valueOf_0 : cJ22_valueOf.data.toList.drop 0 = dktJ22_valueOf_0 := by decide +kernel
theorem dksJ22_valueOf_1 : cJ22_valueOf.data.toList.drop 23 = dktJ22_valueOf_1 := dk_seg dksJ22_valueOf_0 23 rfl rfl
theorem dJ22_valueOf_0 : decode cJ22_valueOf 0 = .ok (.iload_n 0, 1) := dk_26 (dk_at dksJ22_valueOf_0 0 rfl rfl)
theorem dJ22_valueOf_1 : decode cJ22_valueOf 1 = .ok (.bipush (-128), 2) := dk_16 128 (dk_at dksJ22_valueOf_0 1 rfl rfl)
theorem dJ22_valueOf_3 : decode cJ22_valueOf 3 = .ok (.if_icmp .lt 20, 3) := dk_161 0 20 (dk_at dksJ22_valueOf_0 3 rfl rfl)
theorem dJ22_valueOf_6 : decode cJ22_valueOf 6 = .ok (.iload_n 0, 1) := dk_26 (dk_at dksJ22_valueOf_0 6 rfl rfl)
theorem dJ22_valueOf_7 : decode cJ22_valueOf 7 = .ok (.getstatic 191, 3) := dk_178 0 191 (dk_at dksJ22_valueOf_0 7 rfl rfl)
theorem dJ22_valueOf_10 : decode cJ22_valueOf 10 = .ok (.if_icmp .gt 13, 3) := dk_163 0 13 (dk_at dksJ22_valueOf_0 10 rfl rfl)
theorem dJ22_valueOf_13 : decode cJ22_valueOf 13 = .ok (.getstatic 195, 3) := dk_178 0 195 (dk_at dksJ22_valueOf_0 13 rfl rfl)
theorem dJ22_valueOf_16 : decode cJ22_valueOf 16 = .ok (.iload_n 0, 1) := dk_26 (dk_at dksJ22_valueOf_0 16 rfl rfl)
theorem dJ22_valueOf_17 : decode cJ22_valueOf 17 = .ok (.sipush 128, 3) := dk_17 0 128 (dk_at dksJ22_valueOf_0 17 rfl rfl)
theorem dJ22_valueOf_20 : decode cJ22_valueOf 20 = .ok (.iadd, 1) := dk_96 (dk_at dksJ22_valueOf_0 20 rfl rfl)
theorem dJ22_valueOf_21 : decode cJ22_valueOf 21 = .ok (.aaload, 1) := dk_50 (dk_at dksJ22_valueOf_0 21 rfl rfl)
theorem dJ22_valueOf_22 : decode cJ22_valueOf 22 = .ok (.areturn, 1) := dk_176 (dk_at dksJ22_valueOf_0 22 rfl rfl)
theorem dJ22_valueOf_23 : decode cJ22_valueOf 23 = .ok (.new 1, 3) := dk_187 0 1 (dk_at dksJ22_valueOf_1 0 rfl rfl)
theorem dJ22_valueOf_26 : decode cJ22_valueOf 26 = .ok (.dup, 1) := dk_89 (dk_at dksJ22_valueOf_1 3 rfl rfl)
theorem dJ22_valueOf_27 : decode cJ22_valueOf 27 = .ok (.iload_n 0, 1) := dk_26 (dk_at dksJ22_valueOf_1 4 rfl rfl)
theorem dJ22_valueOf_28 : decode cJ22_valueOf 28 = .ok (.invokespecial 199, 3) := dk_183 0 199 (dk_at dksJ22_valueOf_1 5 rfl rfl)
theorem dJ22_valueOf_31 : decode cJ22_valueOf 31 = .ok (.areturn, 1) := dk_176 (dk_at dksJ22_valueOf_1 8 rfl rfl)
abbrev cJ22_init : ByteArray := prog_40_method_23_code
def yJ22_init : MethodName := ⟨RJ22, "<init>", "(I)V"⟩
def dkwJ22_init_0 : List UInt8 := [42, 183, 0, 202, 42, 27, 181, 0, 205, 177]
abbrev dktJ22_init_0 : List UInt8 := dkwJ22_init_0 ++ []
theorem dksJ22_init_0 : cJ22_init.data.toList.drop 0 = dktJ22_init_0 := by decide +kernel
theorem dJ22_init_0 : decode cJ22_init 0 = .ok (.aload_n 0, 1) := dk_42 (dk_at dksJ22_init_0 0 rfl rfl)
theorem dJ22_init_1 : decode cJ22_init 1 = .ok (.invokespecial 202, 3) := dk_183 0 202 (dk_at dksJ22_init_0 1 rfl rfl)
theorem dJ22_init_4 : decode cJ22_init 4 = .ok (.aload_n 0, 1) := dk_42 (dk_at dksJ22_init_0 4 rfl rfl)
theorem dJ22_init_5 : decode cJ22_init 5 = .ok (.iload_n 1, 1) := dk_27 (dk_at dksJ22_init_0 5 rfl rfl)
theorem dJ22_init_6 : decode cJ22_init 6 = .ok (.putfield 205, 3) := dk_181 0 205 (dk_at dksJ22_init_0 6 rfl rfl)
theorem dJ22_init_9 : decode cJ22_init 9 = .ok (.return_, 1) := dk_177 (dk_at dksJ22_init_0 9 rfl rfl)
abbrev cJ22_intValue : ByteArray := prog_40_method_27_code
def yJ22_intValue : MethodName := ⟨RJ22, "intValue", "()I"⟩
theorem dJ22_intValue_0 : decode cJ22_intValue 0 = .ok (.aload_n 0, 1) := by decide +kernel
theorem dJ22_intValue_1 : decode cJ22_intValue 1 = .ok (.getfield 205, 3) := by decide +kernel
theorem dJ22_intValue_4 : decode cJ22_intValue 4 = .ok (.ireturn, 1) := by decide +kernel
theorem q160 : (Jvm.Cond.initialized "java/lang/Integer") ∈ lw_all := lw_g (lw_at lw_m1 43 rfl) rfl
theorem q686 : (Jvm.Cond.static ({ cls := "java/lang/Integer", name := "stringSize", desc := "(I)I" } : Jvm.MethodName)) ∈ lw_all := lw_g (lw_at lw_m3 89 rfl) rfl
theorem q687 : (Jvm.Cond.code ({ cls := "java/lang/Integer", name := "stringSize", desc := "(I)I" } : Jvm.MethodName) prog_40_method_13_code (4 : Nat) (Option.some Jvm.ClassFile.FieldType.int)) ∈ lw_all := lw_g (lw_at lw_m3 90 rfl) rfl
theorem q689 : (Jvm.Cond.static ({ cls := "java/lang/Integer", name := "getChars", desc := "(II[B)I" } : Jvm.MethodName)) ∈ lw_all := lw_g (lw_at lw_m3 92 rfl) rfl
theorem q690 : (Jvm.Cond.code ({ cls := "java/lang/Integer", name := "getChars", desc := "(II[B)I" } : Jvm.MethodName) prog_40_method_12_code (7 : Nat) (Option.some Jvm.ClassFile.FieldType.int)) ∈ lw_all := lw_g (lw_at lw_m3 93 rfl) rfl
theorem q691 : (Jvm.Cond.fieldLink "java/lang/Integer" (83 : Nat) "java/lang/Integer" "DigitOnes" "[B") ∈ lw_all := lw_g (lw_at lw_m3 94 rfl) rfl
theorem q692 : (Jvm.Cond.laysStatic "java/lang/Integer" "DigitOnes" "[B") ∈ lw_tbl := lw_at lw_m3 95 rfl
theorem q693 : (Jvm.Cond.fieldLink "java/lang/Integer" (87 : Nat) "java/lang/Integer" "DigitTens" "[B") ∈ lw_all := lw_g (lw_at lw_m3 96 rfl) rfl
theorem q694 : (Jvm.Cond.laysStatic "java/lang/Integer" "DigitTens" "[B") ∈ lw_tbl := lw_at lw_m3 97 rfl
theorem q1075 : (Jvm.Cond.selects "java/lang/Integer" ({ cls := "java/lang/Object", name := "getClass", desc := "()Ljava/lang/Class;" } : Jvm.MethodName) ({ cls := "java/lang/Object", name := "getClass", desc := "()Ljava/lang/Class;" } : Jvm.MethodName)) ∈ lw_all := lw_g (lw_at lw_m4 238 rfl) rfl
theorem q2627 : (Jvm.Cond.static ({ cls := "java/lang/Integer", name := "valueOf", desc := "(I)Ljava/lang/Integer;" } : Jvm.MethodName)) ∈ lw_all := lw_g (lw_at lw_m11 110 rfl) rfl
theorem q2628 : (Jvm.Cond.code ({ cls := "java/lang/Integer", name := "valueOf", desc := "(I)Ljava/lang/Integer;" } : Jvm.MethodName) prog_40_method_22_code (1 : Nat) (Option.some (Jvm.ClassFile.FieldType.object "java/lang/Integer"))) ∈ lw_all := lw_g (lw_at lw_m11 111 rfl) rfl
theorem q2629 : (Jvm.Cond.fieldLink "java/lang/Integer" (191 : Nat) "java/lang/Integer$IntegerCache" "high" "I") ∈ lw_all := lw_g (lw_at lw_m11 112 rfl) rfl
theorem q2631 : (Jvm.Cond.fieldLink "java/lang/Integer" (195 : Nat) "java/lang/Integer$IntegerCache" "cache" "[Ljava/lang/Integer;") ∈ lw_all := lw_g (lw_at lw_m11 114 rfl) rfl
theorem q2633 : (Jvm.Cond.classLink "java/lang/Integer" (1 : Nat) "java/lang/Integer") ∈ lw_all := lw_g (lw_at lw_m11 116 rfl) rfl
theorem q2634 : (Jvm.Cond.instantiable "java/lang/Integer" (1 : Nat)) ∈ lw_all := lw_g (lw_at lw_m11 117 rfl) rfl
theorem q2635 : (Jvm.Cond.methodLink "java/lang/Integer" (199 : Nat) ({ cls := "java/lang/Integer", name := "<init>", desc := "(I)V" } : Jvm.MethodName)) ∈ lw_all := lw_g (lw_at lw_m11 118 rfl) rfl
theorem q2636 : (Jvm.Cond.instanceMethod ({ cls := "java/lang/Integer", name := "<init>", desc := "(I)V" } : Jvm.MethodName)) ∈ lw_all := lw_g (lw_at lw_m11 119 rfl) rfl
theorem q2637 : (Jvm.Cond.code ({ cls := "java/lang/Integer", name := "<init>", desc := "(I)V" } : Jvm.MethodName) prog_40_method_23_code (2 : Nat) (Option.none : Option Jvm.ClassFile.FieldType)) ∈ lw_all := lw_g (lw_at lw_m11 120 rfl) rfl
theorem q2638 : (Jvm.Cond.methodLink "java/lang/Integer" (202 : Nat) ({ cls := "java/lang/Number", name := "<init>", desc := "()V" } : Jvm.MethodName)) ∈ lw_all := lw_g (lw_at lw_m11 121 rfl) rfl
theorem q2642 : (Jvm.Cond.fieldLink "java/lang/Integer" (205 : Nat) "java/lang/Integer" "value" "I") ∈ lw_all := lw_g (lw_at lw_m11 125 rfl) rfl
theorem q2643 : (Jvm.Cond.laysFinal "java/lang/Integer" "java/lang/Integer" "value" "I") ∈ lw_all := lw_g (lw_at lw_m11 126 rfl) rfl
theorem q2644 : (Jvm.Cond.soleField "java/lang/Integer" "value") ∈ lw_all := lw_g (lw_at lw_m11 127 rfl) rfl
theorem q2645 : (Jvm.Cond.superclass "java/lang/Integer" "java/lang/Number") ∈ lw_all := lw_g (lw_at lw_m11 128 rfl) rfl
theorem q2677 : (Jvm.Cond.instanceMethod ({ cls := "java/lang/Integer", name := "intValue", desc := "()I" } : Jvm.MethodName)) ∈ lw_all := lw_g (lw_at lw_m11 160 rfl) rfl
theorem q2678 : (Jvm.Cond.selects "java/lang/Integer" ({ cls := "java/lang/Integer", name := "intValue", desc := "()I" } : Jvm.MethodName) ({ cls := "java/lang/Integer", name := "intValue", desc := "()I" } : Jvm.MethodName)) ∈ lw_all := lw_g (lw_at lw_m11 161 rfl) rfl
theorem q2679 : (Jvm.Cond.code ({ cls := "java/lang/Integer", name := "intValue", desc := "()I" } : Jvm.MethodName) prog_40_method_27_code (1 : Nat) (Option.some Jvm.ClassFile.FieldType.int)) ∈ lw_all := lw_g (lw_at lw_m11 162 rfl) rfl
theorem q3514 : (Jvm.Cond.castable "java/lang/Integer" "java/lang/Object") ∈ lw_tbl := lw_at lw_m15 37 rfl
theorem in_J22 : ∀ w ∈ wsJ220, w ∈ lw_all := lw_in wsJ220 [2643] (by decide +kernel) (by decide +kernel)

/-! java/util/Objects -/
def RJ23 : String := "java/util/Objects"
abbrev cJ23_checkIndex : ByteArray := prog_77_method_17_code
def yJ23_checkIndex : MethodName := ⟨RJ23, "checkIndex", "(II)I"⟩
def dkwJ23_checkIndex_0 : List UInt8 := [26, 27, 1, 184, 0, 105, 172]
abbrev dktJ23_checkIndex_0 : List UInt8 := dkwJ23_checkIndex_0 ++ []
theorem dksJ23_checkIndex_0 : cJ23_checkIndex.data.toList.drop 0 = dktJ23_checkIndex_0 := by decide +kernel
theorem dJ23_checkIndex_0 : decode cJ23_checkIndex 0 = .ok (.iload_n 0, 1) := dk_26 (dk_at dksJ23_checkIndex_0 0 rfl rfl)
theorem dJ23_checkIndex_1 : decode cJ23_checkIndex 1 = .ok (.iload_n 1, 1) := dk_27 (dk_at dksJ23_checkIndex_0 1 rfl rfl)
theorem dJ23_checkIndex_2 : decode cJ23_checkIndex 2 = .ok (.aconst_null, 1) := dk_1 (dk_at dksJ23_checkIndex_0 2 rfl rfl)
theorem dJ23_checkIndex_3 : decode cJ23_checkIndex 3 = .ok (.invokestatic 105, 3) := dk_184 0 105 (dk_at dksJ23_checkIndex_0 3 rfl rfl)
theorem dJ23_checkIndex_6 : decode cJ23_checkIndex 6 = .ok (.ireturn, 1) := dk_172 (dk_at dksJ23_checkIndex_0 6 rfl rfl)
theorem q161 : (Jvm.Cond.initialized "java/util/Objects") ∈ lw_all := lw_g (lw_at lw_m1 44 rfl) rfl
theorem q825 : (Jvm.Cond.static ({ cls := "java/util/Objects", name := "checkIndex", desc := "(II)I" } : Jvm.MethodName)) ∈ lw_all := lw_g (lw_at lw_m3 228 rfl) rfl
theorem q826 : (Jvm.Cond.code ({ cls := "java/util/Objects", name := "checkIndex", desc := "(II)I" } : Jvm.MethodName) prog_77_method_17_code (2 : Nat) (Option.some Jvm.ClassFile.FieldType.int)) ∈ lw_all := lw_g (lw_at lw_m3 229 rfl) rfl
theorem q827 : (Jvm.Cond.methodLink "java/util/Objects" (105 : Nat) ({ cls := "jdk/internal/util/Preconditions", name := "checkIndex", desc := "(IILjava/util/function/BiFunction;)I" } : Jvm.MethodName)) ∈ lw_all := lw_g (lw_at lw_m3 230 rfl) rfl

/-! java/lang/IndexOutOfBoundsException -/
def RJ24 : String := "java/lang/IndexOutOfBoundsException"
def TJ24 : u_T := fun k => match k with
  | 0 => ("java/lang/Throwable", "cause", "Ljava/lang/Throwable;", false)
  | 1 => ("java/lang/Throwable", "stackTrace", "[Ljava/lang/StackTraceElement;", false)
  | 2 => ("java/lang/Throwable", "suppressedExceptions", "Ljava/util/List;", false)
  | 3 => ("java/lang/Throwable", "detailMessage", "Ljava/lang/String;", false)
  | 4 => ("java/lang/Throwable", "backtrace", "Ljava/lang/Object;", false)
  | _ => ("java/lang/Throwable", "depth", "I", false)
def tyJ24 : Nat → FieldType := fun k => match k with
  | 0 => .object "java/lang/Throwable"
  | 1 => .array (.object "java/lang/StackTraceElement")
  | 2 => .object "java/util/List"
  | 3 => .object "java/lang/String"
  | 4 => .object "java/lang/Object"
  | _ => .int
abbrev wsJ240 : List Cond := u_ws RJ24 TJ24 6
theorem nmJ24 : ∀ a, a < 6 → ∀ b, b < 6 → a ≠ b → (TJ24 a).2.1 ≠ (TJ24 b).2.1 := by decide +kernel
theorem tyJ24_ok : ∀ k, k < 6 → parseFieldDescriptor (TJ24 k).2.2.1 = some (tyJ24 k) := by decide +kernel
abbrev cJ24_init : ByteArray := prog_39_method_2_code
def yJ24_init : MethodName := ⟨RJ24, "<init>", "(Ljava/lang/String;)V"⟩
def dkwJ24_init_0 : List UInt8 := [42, 43, 183, 0, 7, 177]
abbrev dktJ24_init_0 : List UInt8 := dkwJ24_init_0 ++ []
theorem dksJ24_init_0 : cJ24_init.data.toList.drop 0 = dktJ24_init_0 := by decide +kernel
theorem dJ24_init_0 : decode cJ24_init 0 = .ok (.aload_n 0, 1) := dk_42 (dk_at dksJ24_init_0 0 rfl rfl)
theorem dJ24_init_1 : decode cJ24_init 1 = .ok (.aload_n 1, 1) := dk_43 (dk_at dksJ24_init_0 1 rfl rfl)
theorem dJ24_init_2 : decode cJ24_init 2 = .ok (.invokespecial 7, 3) := dk_183 0 7 (dk_at dksJ24_init_0 2 rfl rfl)
theorem dJ24_init_5 : decode cJ24_init 5 = .ok (.return_, 1) := dk_177 (dk_at dksJ24_init_0 5 rfl rfl)
theorem q162 : (Jvm.Cond.initialized "java/lang/IndexOutOfBoundsException") ∈ lw_all := lw_g (lw_at lw_m1 45 rfl) rfl
theorem q513 : (Jvm.Cond.selects "java/lang/IndexOutOfBoundsException" ({ cls := "java/lang/Throwable", name := "fillInStackTrace", desc := "()Ljava/lang/Throwable;" } : Jvm.MethodName) ({ cls := "java/lang/Throwable", name := "fillInStackTrace", desc := "()Ljava/lang/Throwable;" } : Jvm.MethodName)) ∈ lw_all := lw_g (lw_at lw_m2 156 rfl) rfl
theorem q848 : (Jvm.Cond.instantiable "java/lang/IndexOutOfBoundsException" (6 : Nat)) ∈ lw_all := lw_g (lw_at lw_m4 11 rfl) rfl
theorem q849 : (Jvm.Cond.castable "java/lang/IndexOutOfBoundsException" "java/lang/IndexOutOfBoundsException") ∈ lw_tbl := lw_at lw_m4 12 rfl
theorem q850 : (Jvm.Cond.selects "java/lang/IndexOutOfBoundsException" ({ cls := "java/lang/Throwable", name := "fillInStackTrace", desc := "(I)Ljava/lang/Throwable;" } : Jvm.MethodName) ({ cls := "java/lang/Throwable", name := "fillInStackTrace", desc := "(I)Ljava/lang/Throwable;" } : Jvm.MethodName)) ∈ lw_all := lw_g (lw_at lw_m4 13 rfl) rfl
theorem q851 : (Jvm.Cond.lays "java/lang/IndexOutOfBoundsException" "java/lang/Throwable" "cause" "Ljava/lang/Throwable;") ∈ lw_all := lw_g (lw_at lw_m4 14 rfl) rfl
theorem q852 : (Jvm.Cond.lays "java/lang/IndexOutOfBoundsException" "java/lang/Throwable" "stackTrace" "[Ljava/lang/StackTraceElement;") ∈ lw_all := lw_g (lw_at lw_m4 15 rfl) rfl
theorem q853 : (Jvm.Cond.lays "java/lang/IndexOutOfBoundsException" "java/lang/Throwable" "suppressedExceptions" "Ljava/util/List;") ∈ lw_all := lw_g (lw_at lw_m4 16 rfl) rfl
theorem q854 : (Jvm.Cond.lays "java/lang/IndexOutOfBoundsException" "java/lang/Throwable" "detailMessage" "Ljava/lang/String;") ∈ lw_all := lw_g (lw_at lw_m4 17 rfl) rfl
theorem q855 : (Jvm.Cond.lays "java/lang/IndexOutOfBoundsException" "java/lang/Throwable" "backtrace" "Ljava/lang/Object;") ∈ lw_all := lw_g (lw_at lw_m4 18 rfl) rfl
theorem q868 : (Jvm.Cond.instanceMethod ({ cls := "java/lang/IndexOutOfBoundsException", name := "<init>", desc := "(Ljava/lang/String;)V" } : Jvm.MethodName)) ∈ lw_all := lw_g (lw_at lw_m4 31 rfl) rfl
theorem q869 : (Jvm.Cond.code ({ cls := "java/lang/IndexOutOfBoundsException", name := "<init>", desc := "(Ljava/lang/String;)V" } : Jvm.MethodName) prog_39_method_2_code (2 : Nat) (Option.none : Option Jvm.ClassFile.FieldType)) ∈ lw_all := lw_g (lw_at lw_m4 32 rfl) rfl
theorem q870 : (Jvm.Cond.methodLink "java/lang/IndexOutOfBoundsException" (7 : Nat) ({ cls := "java/lang/RuntimeException", name := "<init>", desc := "(Ljava/lang/String;)V" } : Jvm.MethodName)) ∈ lw_all := lw_g (lw_at lw_m4 33 rfl) rfl
theorem q871 : (Jvm.Cond.lays "java/lang/IndexOutOfBoundsException" "java/lang/Throwable" "depth" "I") ∈ lw_all := lw_g (lw_at lw_m4 34 rfl) rfl
theorem q872 : (Jvm.Cond.superclass "java/lang/IndexOutOfBoundsException" "java/lang/RuntimeException") ∈ lw_all := lw_g (lw_at lw_m4 35 rfl) rfl
theorem q1074 : (Jvm.Cond.selects "java/lang/IndexOutOfBoundsException" ({ cls := "java/lang/Object", name := "getClass", desc := "()Ljava/lang/Class;" } : Jvm.MethodName) ({ cls := "java/lang/Object", name := "getClass", desc := "()Ljava/lang/Class;" } : Jvm.MethodName)) ∈ lw_all := lw_g (lw_at lw_m4 237 rfl) rfl
theorem q1582 : (Jvm.Cond.selects "java/lang/IndexOutOfBoundsException" ({ cls := "java/lang/Throwable", name := "toString", desc := "()Ljava/lang/String;" } : Jvm.MethodName) ({ cls := "java/lang/Throwable", name := "toString", desc := "()Ljava/lang/String;" } : Jvm.MethodName)) ∈ lw_all := lw_g (lw_at lw_m7 25 rfl) rfl
theorem q1598 : (Jvm.Cond.selects "java/lang/IndexOutOfBoundsException" ({ cls := "java/lang/Throwable", name := "getLocalizedMessage", desc := "()Ljava/lang/String;" } : Jvm.MethodName) ({ cls := "java/lang/Throwable", name := "getLocalizedMessage", desc := "()Ljava/lang/String;" } : Jvm.MethodName)) ∈ lw_all := lw_g (lw_at lw_m7 41 rfl) rfl
theorem q1613 : (Jvm.Cond.selects "java/lang/IndexOutOfBoundsException" ({ cls := "java/lang/Throwable", name := "getMessage", desc := "()Ljava/lang/String;" } : Jvm.MethodName) ({ cls := "java/lang/Throwable", name := "getMessage", desc := "()Ljava/lang/String;" } : Jvm.MethodName)) ∈ lw_all := lw_g (lw_at lw_m7 56 rfl) rfl
theorem q2552 : (Jvm.Cond.declares ({ cls := "java/lang/IndexOutOfBoundsException", name := "<init>", desc := "()V" } : Jvm.MethodName)) ∈ lw_tbl := lw_at lw_m11 35 rfl
theorem q2553 : (Jvm.Cond.declares ({ cls := "java/lang/IndexOutOfBoundsException", name := "<init>", desc := "(Ljava/lang/String;)V" } : Jvm.MethodName)) ∈ lw_tbl := lw_at lw_m11 36 rfl
theorem q3501 : (Jvm.Cond.castable "java/lang/IndexOutOfBoundsException" "java/lang/Object") ∈ lw_tbl := lw_at lw_m15 24 rfl
theorem in_J24 : ∀ w ∈ wsJ240, w ∈ lw_all := lw_in wsJ240 [851, 852, 853, 854, 855, 871] (by decide +kernel) (by decide +kernel)

/-! java/util/NoSuchElementException -/
def RJ25 : String := "java/util/NoSuchElementException"
def TJ25 : u_T := fun k => match k with
  | 0 => ("java/lang/Throwable", "cause", "Ljava/lang/Throwable;", false)
  | 1 => ("java/lang/Throwable", "stackTrace", "[Ljava/lang/StackTraceElement;", false)
  | 2 => ("java/lang/Throwable", "suppressedExceptions", "Ljava/util/List;", false)
  | 3 => ("java/lang/Throwable", "detailMessage", "Ljava/lang/String;", false)
  | 4 => ("java/lang/Throwable", "backtrace", "Ljava/lang/Object;", false)
  | _ => ("java/lang/Throwable", "depth", "I", false)
def tyJ25 : Nat → FieldType := fun k => match k with
  | 0 => .object "java/lang/Throwable"
  | 1 => .array (.object "java/lang/StackTraceElement")
  | 2 => .object "java/util/List"
  | 3 => .object "java/lang/String"
  | 4 => .object "java/lang/Object"
  | _ => .int
abbrev wsJ250 : List Cond := u_ws RJ25 TJ25 6
theorem nmJ25 : ∀ a, a < 6 → ∀ b, b < 6 → a ≠ b → (TJ25 a).2.1 ≠ (TJ25 b).2.1 := by decide +kernel
theorem tyJ25_ok : ∀ k, k < 6 → parseFieldDescriptor (TJ25 k).2.2.1 = some (tyJ25 k) := by decide +kernel
abbrev cJ25_init : ByteArray := prog_76_method_3_code
def yJ25_init : MethodName := ⟨RJ25, "<init>", "(Ljava/lang/Throwable;)V"⟩
def dkwJ25_init_0 : List UInt8 := [42, 43, 183, 0, 10, 177]
abbrev dktJ25_init_0 : List UInt8 := dkwJ25_init_0 ++ []
theorem dksJ25_init_0 : cJ25_init.data.toList.drop 0 = dktJ25_init_0 := by decide +kernel
theorem dJ25_init_0 : decode cJ25_init 0 = .ok (.aload_n 0, 1) := dk_42 (dk_at dksJ25_init_0 0 rfl rfl)
theorem dJ25_init_1 : decode cJ25_init 1 = .ok (.aload_n 1, 1) := dk_43 (dk_at dksJ25_init_0 1 rfl rfl)
theorem dJ25_init_2 : decode cJ25_init 2 = .ok (.invokespecial 10, 3) := dk_183 0 10 (dk_at dksJ25_init_0 2 rfl rfl)
theorem dJ25_init_5 : decode cJ25_init 5 = .ok (.return_, 1) := dk_177 (dk_at dksJ25_init_0 5 rfl rfl)
abbrev cJ25_init_2 : ByteArray := prog_76_method_1_code
def yJ25_init_2 : MethodName := ⟨RJ25, "<init>", "()V"⟩
theorem dJ25_init_2_0 : decode cJ25_init_2 0 = .ok (.aload_n 0, 1) := by decide +kernel
theorem dJ25_init_2_1 : decode cJ25_init_2 1 = .ok (.invokespecial 1, 3) := by decide +kernel
theorem dJ25_init_2_4 : decode cJ25_init_2 4 = .ok (.return_, 1) := by decide +kernel
abbrev cJ25_init_3 : ByteArray := prog_76_method_4_code
def yJ25_init_3 : MethodName := ⟨RJ25, "<init>", "(Ljava/lang/String;)V"⟩
def dkwJ25_init_3_0 : List UInt8 := [42, 43, 183, 0, 13, 177]
abbrev dktJ25_init_3_0 : List UInt8 := dkwJ25_init_3_0 ++ []
theorem dksJ25_init_3_0 : cJ25_init_3.data.toList.drop 0 = dktJ25_init_3_0 := by decide +kernel
theorem dJ25_init_3_0 : decode cJ25_init_3 0 = .ok (.aload_n 0, 1) := dk_42 (dk_at dksJ25_init_3_0 0 rfl rfl)
theorem dJ25_init_3_1 : decode cJ25_init_3 1 = .ok (.aload_n 1, 1) := dk_43 (dk_at dksJ25_init_3_0 1 rfl rfl)
theorem dJ25_init_3_2 : decode cJ25_init_3 2 = .ok (.invokespecial 13, 3) := dk_183 0 13 (dk_at dksJ25_init_3_0 2 rfl rfl)
theorem dJ25_init_3_5 : decode cJ25_init_3 5 = .ok (.return_, 1) := dk_177 (dk_at dksJ25_init_3_0 5 rfl rfl)
theorem q165 : (Jvm.Cond.initialized "java/util/NoSuchElementException") ∈ lw_all := lw_g (lw_at lw_m1 48 rfl) rfl
theorem q515 : (Jvm.Cond.selects "java/util/NoSuchElementException" ({ cls := "java/lang/Throwable", name := "fillInStackTrace", desc := "()Ljava/lang/Throwable;" } : Jvm.MethodName) ({ cls := "java/lang/Throwable", name := "fillInStackTrace", desc := "()Ljava/lang/Throwable;" } : Jvm.MethodName)) ∈ lw_all := lw_g (lw_at lw_m2 158 rfl) rfl
theorem q1089 : (Jvm.Cond.selects "java/util/NoSuchElementException" ({ cls := "java/lang/Object", name := "getClass", desc := "()Ljava/lang/Class;" } : Jvm.MethodName) ({ cls := "java/lang/Object", name := "getClass", desc := "()Ljava/lang/Class;" } : Jvm.MethodName)) ∈ lw_all := lw_g (lw_at lw_m5 12 rfl) rfl
theorem q1551 : (Jvm.Cond.instantiable "java/util/NoSuchElementException" (6 : Nat)) ∈ lw_all := lw_g (lw_at lw_m6 234 rfl) rfl
theorem q1552 : (Jvm.Cond.castable "java/util/NoSuchElementException" "java/util/NoSuchElementException") ∈ lw_tbl := lw_at lw_m6 235 rfl
theorem q1553 : (Jvm.Cond.selects "java/util/NoSuchElementException" ({ cls := "java/lang/Throwable", name := "fillInStackTrace", desc := "(I)Ljava/lang/Throwable;" } : Jvm.MethodName) ({ cls := "java/lang/Throwable", name := "fillInStackTrace", desc := "(I)Ljava/lang/Throwable;" } : Jvm.MethodName)) ∈ lw_all := lw_g (lw_at lw_m6 236 rfl) rfl
theorem q1554 : (Jvm.Cond.lays "java/util/NoSuchElementException" "java/lang/Throwable" "cause" "Ljava/lang/Throwable;") ∈ lw_all := lw_g (lw_at lw_m6 237 rfl) rfl
theorem q1555 : (Jvm.Cond.lays "java/util/NoSuchElementException" "java/lang/Throwable" "stackTrace" "[Ljava/lang/StackTraceElement;") ∈ lw_all := lw_g (lw_at lw_m6 238 rfl) rfl
theorem q1556 : (Jvm.Cond.lays "java/util/NoSuchElementException" "java/lang/Throwable" "suppressedExceptions" "Ljava/util/List;") ∈ lw_all := lw_g (lw_at lw_m6 239 rfl) rfl
theorem q1557 : (Jvm.Cond.lays "java/util/NoSuchElementException" "java/lang/Throwable" "detailMessage" "Ljava/lang/String;") ∈ lw_all := lw_g (lw_at lw_m7 0 rfl) rfl
theorem q1558 : (Jvm.Cond.lays "java/util/NoSuchElementException" "java/lang/Throwable" "backtrace" "Ljava/lang/Object;") ∈ lw_all := lw_g (lw_at lw_m7 1 rfl) rfl
theorem q1560 : (Jvm.Cond.instanceMethod ({ cls := "java/util/NoSuchElementException", name := "<init>", desc := "(Ljava/lang/Throwable;)V" } : Jvm.MethodName)) ∈ lw_all := lw_g (lw_at lw_m7 3 rfl) rfl
theorem q1561 : (Jvm.Cond.code ({ cls := "java/util/NoSuchElementException", name := "<init>", desc := "(Ljava/lang/Throwable;)V" } : Jvm.MethodName) prog_76_method_3_code (2 : Nat) (Option.none : Option Jvm.ClassFile.FieldType)) ∈ lw_all := lw_g (lw_at lw_m7 4 rfl) rfl
theorem q1562 : (Jvm.Cond.methodLink "java/util/NoSuchElementException" (10 : Nat) ({ cls := "java/lang/RuntimeException", name := "<init>", desc := "(Ljava/lang/Throwable;)V" } : Jvm.MethodName)) ∈ lw_all := lw_g (lw_at lw_m7 5 rfl) rfl
theorem q1584 : (Jvm.Cond.selects "java/util/NoSuchElementException" ({ cls := "java/lang/Throwable", name := "toString", desc := "()Ljava/lang/String;" } : Jvm.MethodName) ({ cls := "java/lang/Throwable", name := "toString", desc := "()Ljava/lang/String;" } : Jvm.MethodName)) ∈ lw_all := lw_g (lw_at lw_m7 27 rfl) rfl
theorem q1600 : (Jvm.Cond.selects "java/util/NoSuchElementException" ({ cls := "java/lang/Throwable", name := "getLocalizedMessage", desc := "()Ljava/lang/String;" } : Jvm.MethodName) ({ cls := "java/lang/Throwable", name := "getLocalizedMessage", desc := "()Ljava/lang/String;" } : Jvm.MethodName)) ∈ lw_all := lw_g (lw_at lw_m7 43 rfl) rfl
theorem q1615 : (Jvm.Cond.selects "java/util/NoSuchElementException" ({ cls := "java/lang/Throwable", name := "getMessage", desc := "()Ljava/lang/String;" } : Jvm.MethodName) ({ cls := "java/lang/Throwable", name := "getMessage", desc := "()Ljava/lang/String;" } : Jvm.MethodName)) ∈ lw_all := lw_g (lw_at lw_m7 58 rfl) rfl
theorem q1622 : (Jvm.Cond.lays "java/util/NoSuchElementException" "java/lang/Throwable" "depth" "I") ∈ lw_all := lw_g (lw_at lw_m7 65 rfl) rfl
theorem q1623 : (Jvm.Cond.superclass "java/util/NoSuchElementException" "java/lang/RuntimeException") ∈ lw_all := lw_g (lw_at lw_m7 66 rfl) rfl
theorem q1631 : (Jvm.Cond.instanceMethod ({ cls := "java/util/NoSuchElementException", name := "<init>", desc := "()V" } : Jvm.MethodName)) ∈ lw_all := lw_g (lw_at lw_m7 74 rfl) rfl
theorem q1632 : (Jvm.Cond.code ({ cls := "java/util/NoSuchElementException", name := "<init>", desc := "()V" } : Jvm.MethodName) prog_76_method_1_code (1 : Nat) (Option.none : Option Jvm.ClassFile.FieldType)) ∈ lw_all := lw_g (lw_at lw_m7 75 rfl) rfl
theorem q1633 : (Jvm.Cond.methodLink "java/util/NoSuchElementException" (1 : Nat) ({ cls := "java/lang/RuntimeException", name := "<init>", desc := "()V" } : Jvm.MethodName)) ∈ lw_all := lw_g (lw_at lw_m7 76 rfl) rfl
theorem q2604 : (Jvm.Cond.instanceMethod ({ cls := "java/util/NoSuchElementException", name := "<init>", desc := "(Ljava/lang/String;)V" } : Jvm.MethodName)) ∈ lw_all := lw_g (lw_at lw_m11 87 rfl) rfl
theorem q2605 : (Jvm.Cond.code ({ cls := "java/util/NoSuchElementException", name := "<init>", desc := "(Ljava/lang/String;)V" } : Jvm.MethodName) prog_76_method_4_code (2 : Nat) (Option.none : Option Jvm.ClassFile.FieldType)) ∈ lw_all := lw_g (lw_at lw_m11 88 rfl) rfl
theorem q2606 : (Jvm.Cond.methodLink "java/util/NoSuchElementException" (13 : Nat) ({ cls := "java/lang/RuntimeException", name := "<init>", desc := "(Ljava/lang/String;)V" } : Jvm.MethodName)) ∈ lw_all := lw_g (lw_at lw_m11 89 rfl) rfl
theorem q3504 : (Jvm.Cond.castable "java/util/NoSuchElementException" "java/lang/Object") ∈ lw_tbl := lw_at lw_m15 27 rfl
theorem in_J25 : ∀ w ∈ wsJ250, w ∈ lw_all := lw_in wsJ250 [1554, 1555, 1556, 1557, 1558, 1622] (by decide +kernel) (by decide +kernel)

/-! java/util/LinkedList$ListItr -/
def RJ26 : String := "java/util/LinkedList$ListItr"
def TJ26 : u_T := fun k => match k with
  | 0 => ("java/util/LinkedList$ListItr", "lastReturned", "Ljava/util/LinkedList$Node;", false)
  | 1 => ("java/util/LinkedList$ListItr", "next", "Ljava/util/LinkedList$Node;", false)
  | 2 => ("java/util/LinkedList$ListItr", "nextIndex", "I", false)
  | 3 => ("java/util/LinkedList$ListItr", "expectedModCount", "I", false)
  | _ => ("java/util/LinkedList$ListItr", "this$0", "Ljava/util/LinkedList;", true)
def tyJ26 : Nat → FieldType := fun k => match k with
  | 0 => .object "java/util/LinkedList$Node"
  | 1 => .object "java/util/LinkedList$Node"
  | 2 => .int
  | 3 => .int
  | _ => .object "java/util/LinkedList"
abbrev wsJ260 : List Cond := u_ws RJ26 TJ26 5
theorem nmJ26 : ∀ a, a < 5 → ∀ b, b < 5 → a ≠ b → (TJ26 a).2.1 ≠ (TJ26 b).2.1 := by decide +kernel
theorem tyJ26_ok : ∀ k, k < 5 → parseFieldDescriptor (TJ26 k).2.2.1 = some (tyJ26 k) := by decide +kernel
abbrev cJ26_init : ByteArray := prog_72_method_1_code
def yJ26_init : MethodName := ⟨RJ26, "<init>", "(Ljava/util/LinkedList;I)V"⟩
def dkwJ26_init_1 : List UInt8 := [180, 0, 22, 160, 0, 7, 1, 167, 0, 8, 43, 28, 182, 0, 25, 181, 0, 29, 42, 28, 181, 0, 33, 177]
abbrev dktJ26_init_1 : List UInt8 := dkwJ26_init_1 ++ []
def dkwJ26_init_0 : List UInt8 := [42, 43, 181, 0, 1, 42, 183, 0, 7, 42, 42, 180, 0, 1, 180, 0, 13, 181, 0, 19, 42, 28, 43]
abbrev dktJ26_init_0 : List UInt8 := dkwJ26_init_0 ++ dktJ26_init_1
theorem dksJ26_init_0 : cJ26_init.data.toList.drop 0 = dktJ26_init_0 := by decide +kernel
theorem dksJ26_init_1 : cJ26_init.data.toList.drop 23 = dktJ26_init_1 := dk_seg dksJ26_init_0 23 rfl rfl
theorem dJ26_init_0 : decode cJ26_init 0 = .ok (.aload_n 0, 1) := dk_42 (dk_at dksJ26_init_0 0 rfl rfl)
theorem dJ26_init_1 : decode cJ26_init 1 = .ok (.aload_n 1, 1) := dk_43 (dk_at dksJ26_init_0 1 rfl rfl)
theorem dJ26_init_2 : decode cJ26_init 2 = .ok (.putfield 1, 3) := dk_181 0 1 (dk_at dksJ26_init_0 2 rfl rfl)
theorem dJ26_init_5 : decode cJ26_init 5 = .ok (.aload_n 0, 1) := dk_42 (dk_at dksJ26_init_0 5 rfl rfl)
theorem dJ26_init_6 : decode cJ26_init 6 = .ok (.invokespecial 7, 3) := dk_183 0 7 (dk_at dksJ26_init_0 6 rfl rfl)
theorem dJ26_init_9 : decode cJ26_init 9 = .ok (.aload_n 0, 1) := dk_42 (dk_at dksJ26_init_0 9 rfl rfl)
theorem dJ26_init_10 : decode cJ26_init 10 = .ok (.aload_n 0, 1) := dk_42 (dk_at dksJ26_init_0 10 rfl rfl)
theorem dJ26_init_11 : decode cJ26_init 11 = .ok (.getfield 1, 3) := dk_180 0 1 (dk_at dksJ26_init_0 11 rfl rfl)
theorem dJ26_init_14 : decode cJ26_init 14 = .ok (.getfield 13, 3) := dk_180 0 13 (dk_at dksJ26_init_0 14 rfl rfl)
theorem dJ26_init_17 : decode cJ26_init 17 = .ok (.putfield 19, 3) := dk_181 0 19 (dk_at dksJ26_init_0 17 rfl rfl)
theorem dJ26_init_20 : decode cJ26_init 20 = .ok (.aload_n 0, 1) := dk_42 (dk_at dksJ26_init_0 20 rfl rfl)
theorem dJ26_init_21 : decode cJ26_init 21 = .ok (.iload_n 2, 1) := dk_28 (dk_at dksJ26_init_0 21 rfl rfl)
theorem dJ26_init_22 : decode cJ26_init 22 = .ok (.aload_n 1, 1) := dk_43 (dk_at dksJ26_init_0 22 rfl rfl)
theorem dJ26_init_23 : decode cJ26_init 23 = .ok (.getfield 22, 3) := dk_180 0 22 (dk_at dksJ26_init_1 0 rfl rfl)
theorem dJ26_init_26 : decode cJ26_init 26 = .ok (.if_icmp .ne 7, 3) := dk_160 0 7 (dk_at dksJ26_init_1 3 rfl rfl)
theorem dJ26_init_29 : decode cJ26_init 29 = .ok (.aconst_null, 1) := dk_1 (dk_at dksJ26_init_1 6 rfl rfl)
theorem dJ26_init_30 : decode cJ26_init 30 = .ok (.goto 8, 3) := dk_167 0 8 (dk_at dksJ26_init_1 7 rfl rfl)
theorem dJ26_init_33 : decode cJ26_init 33 = .ok (.aload_n 1, 1) := dk_43 (dk_at dksJ26_init_1 10 rfl rfl)
theorem dJ26_init_34 : decode cJ26_init 34 = .ok (.iload_n 2, 1) := dk_28 (dk_at dksJ26_init_1 11 rfl rfl)
theorem dJ26_init_35 : decode cJ26_init 35 = .ok (.invokevirtual 25, 3) := dk_182 0 25 (dk_at dksJ26_init_1 12 rfl rfl)
theorem dJ26_init_38 : decode cJ26_init 38 = .ok (.putfield 29, 3) := dk_181 0 29 (dk_at dksJ26_init_1 15 rfl rfl)
theorem dJ26_init_41 : decode cJ26_init 41 = .ok (.aload_n 0, 1) := dk_42 (dk_at dksJ26_init_1 18 rfl rfl)
theorem dJ26_init_42 : decode cJ26_init 42 = .ok (.iload_n 2, 1) := dk_28 (dk_at dksJ26_init_1 19 rfl rfl)
theorem dJ26_init_43 : decode cJ26_init 43 = .ok (.putfield 33, 3) := dk_181 0 33 (dk_at dksJ26_init_1 20 rfl rfl)
theorem dJ26_init_46 : decode cJ26_init 46 = .ok (.return_, 1) := dk_177 (dk_at dksJ26_init_1 23 rfl rfl)
abbrev cJ26_hasNext : ByteArray := prog_72_method_2_code
def yJ26_hasNext : MethodName := ⟨RJ26, "hasNext", "()Z"⟩
def dkwJ26_hasNext_0 : List UInt8 := [42, 180, 0, 33, 42, 180, 0, 1, 180, 0, 22, 162, 0, 7, 4, 167, 0, 4, 3, 172]
abbrev dktJ26_hasNext_0 : List UInt8 := dkwJ26_hasNext_0 ++ []
theorem dksJ26_hasNext_0 : cJ26_hasNext.data.toList.drop 0 = dktJ26_hasNext_0 := by decide +kernel
theorem dJ26_hasNext_0 : decode cJ26_hasNext 0 = .ok (.aload_n 0, 1) := dk_42 (dk_at dksJ26_hasNext_0 0 rfl rfl)
theorem dJ26_hasNext_1 : decode cJ26_hasNext 1 = .ok (.getfield 33, 3) := dk_180 0 33 (dk_at dksJ26_hasNext_0 1 rfl rfl)
theorem dJ26_hasNext_4 : decode cJ26_hasNext 4 = .ok (.aload_n 0, 1) := dk_42 (dk_at dksJ26_hasNext_0 4 rfl rfl)
theorem dJ26_hasNext_5 : decode cJ26_hasNext 5 = .ok (.getfield 1, 3) := dk_180 0 1 (dk_at dksJ26_hasNext_0 5 rfl rfl)
theorem dJ26_hasNext_8 : decode cJ26_hasNext 8 = .ok (.getfield 22, 3) := dk_180 0 22 (dk_at dksJ26_hasNext_0 8 rfl rfl)
theorem dJ26_hasNext_11 : decode cJ26_hasNext 11 = .ok (.if_icmp .ge 7, 3) := dk_162 0 7 (dk_at dksJ26_hasNext_0 11 rfl rfl)
theorem dJ26_hasNext_14 : decode cJ26_hasNext 14 = .ok (.iconst 1, 1) := dk_4 (dk_at dksJ26_hasNext_0 14 rfl rfl)
theorem dJ26_hasNext_15 : decode cJ26_hasNext 15 = .ok (.goto 4, 3) := dk_167 0 4 (dk_at dksJ26_hasNext_0 15 rfl rfl)
theorem dJ26_hasNext_18 : decode cJ26_hasNext 18 = .ok (.iconst 0, 1) := dk_3 (dk_at dksJ26_hasNext_0 18 rfl rfl)
theorem dJ26_hasNext_19 : decode cJ26_hasNext 19 = .ok (.ireturn, 1) := dk_172 (dk_at dksJ26_hasNext_0 19 rfl rfl)
abbrev cJ26_next : ByteArray := prog_72_method_3_code
def yJ26_next : MethodName := ⟨RJ26, "next", "()Ljava/lang/Object;"⟩
def dkwJ26_next_2 : List UInt8 := [42, 180, 0, 46, 180, 0, 52, 176]
abbrev dktJ26_next_2 : List UInt8 := dkwJ26_next_2 ++ []
def dkwJ26_next_1 : List UInt8 := [181, 0, 46, 42, 42, 180, 0, 29, 180, 0, 49, 181, 0, 29, 42, 89, 180, 0, 33, 4, 96, 181, 0, 33]
abbrev dktJ26_next_1 : List UInt8 := dkwJ26_next_1 ++ dktJ26_next_2
def dkwJ26_next_0 : List UInt8 := [42, 182, 0, 36, 42, 182, 0, 39, 154, 0, 11, 187, 0, 43, 89, 183, 0, 45, 191, 42, 42, 180, 0, 29]
abbrev dktJ26_next_0 : List UInt8 := dkwJ26_next_0 ++ dktJ26_next_1
theorem dksJ26_next_0 : cJ26_next.data.toList.drop 0 = dktJ26_next_0 := by decide +kernel
theorem dksJ26_next_1 : cJ26_next.data.toList.drop 24 = dktJ26_next_1 := dk_seg dksJ26_next_0 24 rfl rfl
theorem dksJ26_next_2 : cJ26_next.data.toList.drop 48 = dktJ26_next_2 := dk_seg dksJ26_next_1 24 rfl rfl
theorem dJ26_next_0 : decode cJ26_next 0 = .ok (.aload_n 0, 1) := dk_42 (dk_at dksJ26_next_0 0 rfl rfl)
theorem dJ26_next_1 : decode cJ26_next 1 = .ok (.invokevirtual 36, 3) := dk_182 0 36 (dk_at dksJ26_next_0 1 rfl rfl)
theorem dJ26_next_4 : decode cJ26_next 4 = .ok (.aload_n 0, 1) := dk_42 (dk_at dksJ26_next_0 4 rfl rfl)
theorem dJ26_next_5 : decode cJ26_next 5 = .ok (.invokevirtual 39, 3) := dk_182 0 39 (dk_at dksJ26_next_0 5 rfl rfl)
theorem dJ26_next_8 : decode cJ26_next 8 = .ok (.ifCond .ne 11, 3) := dk_154 0 11 (dk_at dksJ26_next_0 8 rfl rfl)
theorem dJ26_next_11 : decode cJ26_next 11 = .ok (.new 43, 3) := dk_187 0 43 (dk_at dksJ26_next_0 11 rfl rfl)
theorem dJ26_next_14 : decode cJ26_next 14 = .ok (.dup, 1) := dk_89 (dk_at dksJ26_next_0 14 rfl rfl)
theorem dJ26_next_15 : decode cJ26_next 15 = .ok (.invokespecial 45, 3) := dk_183 0 45 (dk_at dksJ26_next_0 15 rfl rfl)
theorem dJ26_next_18 : decode cJ26_next 18 = .ok (.athrow, 1) := dk_191 (dk_at dksJ26_next_0 18 rfl rfl)
theorem dJ26_next_19 : decode cJ26_next 19 = .ok (.aload_n 0, 1) := dk_42 (dk_at dksJ26_next_0 19 rfl rfl)
theorem dJ26_next_20 : decode cJ26_next 20 = .ok (.aload_n 0, 1) := dk_42 (dk_at dksJ26_next_0 20 rfl rfl)
theorem dJ26_next_21 : decode cJ26_next 21 = .ok (.getfield 29, 3) := dk_180 0 29 (dk_at dksJ26_next_0 21 rfl rfl)
theorem dJ26_next_24 : decode cJ26_next 24 = .ok (.putfield 46, 3) := dk_181 0 46 (dk_at dksJ26_next_1 0 rfl rfl)
theorem dJ26_next_27 : decode cJ26_next 27 = .ok (.aload_n 0, 1) := dk_42 (dk_at dksJ26_next_1 3 rfl rfl)
theorem dJ26_next_28 : decode cJ26_next 28 = .ok (.aload_n 0, 1) := dk_42 (dk_at dksJ26_next_1 4 rfl rfl)
theorem dJ26_next_29 : decode cJ26_next 29 = .ok (.getfield 29, 3) := dk_180 0 29 (dk_at dksJ26_next_1 5 rfl rfl)
theorem dJ26_next_32 : decode cJ26_next 32 = .ok (.getfield 49, 3) := dk_180 0 49 (dk_at dksJ26_next_1 8 rfl rfl)
theorem dJ26_next_35 : decode cJ26_next 35 = .ok (.putfield 29, 3) := dk_181 0 29 (dk_at dksJ26_next_1 11 rfl rfl)
theorem dJ26_next_38 : decode cJ26_next 38 = .ok (.aload_n 0, 1) := dk_42 (dk_at dksJ26_next_1 14 rfl rfl)
theorem dJ26_next_39 : decode cJ26_next 39 = .ok (.dup, 1) := dk_89 (dk_at dksJ26_next_1 15 rfl rfl)
theorem dJ26_next_40 : decode cJ26_next 40 = .ok (.getfield 33, 3) := dk_180 0 33 (dk_at dksJ26_next_1 16 rfl rfl)
theorem dJ26_next_43 : decode cJ26_next 43 = .ok (.iconst 1, 1) := dk_4 (dk_at dksJ26_next_1 19 rfl rfl)
theorem dJ26_next_44 : decode cJ26_next 44 = .ok (.iadd, 1) := dk_96 (dk_at dksJ26_next_1 20 rfl rfl)
theorem dJ26_next_45 : decode cJ26_next 45 = .ok (.putfield 33, 3) := dk_181 0 33 (dk_at dksJ26_next_1 21 rfl rfl)
theorem dJ26_next_48 : decode cJ26_next 48 = .ok (.aload_n 0, 1) := dk_42 (dk_at dksJ26_next_2 0 rfl rfl)
theorem dJ26_next_49 : decode cJ26_next 49 = .ok (.getfield 46, 3) := dk_180 0 46 (dk_at dksJ26_next_2 1 rfl rfl)
theorem dJ26_next_52 : decode cJ26_next 52 = .ok (.getfield 52, 3) := dk_180 0 52 (dk_at dksJ26_next_2 4 rfl rfl)
theorem dJ26_next_55 : decode cJ26_next 55 = .ok (.areturn, 1) := dk_176 (dk_at dksJ26_next_2 7 rfl rfl)
abbrev cJ26_checkForComodification : ByteArray := prog_72_method_12_code
def yJ26_checkForComodification : MethodName := ⟨RJ26, "checkForComodification", "()V"⟩
def dkwJ26_checkForComodification_0 : List UInt8 := [42, 180, 0, 1, 180, 0, 13, 42, 180, 0, 19, 159, 0, 11, 187, 0, 91, 89, 183, 0, 93, 191, 177]
abbrev dktJ26_checkForComodification_0 : List UInt8 := dkwJ26_checkForComodification_0 ++ []
theorem dksJ26_checkForComodification_0 : cJ26_checkForComodification.data.toList.drop 0 = dktJ26_checkForComodification_0 := by decide +kernel
theorem dJ26_checkForComodification_0 : decode cJ26_checkForComodification 0 = .ok (.aload_n 0, 1) := dk_42 (dk_at dksJ26_checkForComodification_0 0 rfl rfl)
theorem dJ26_checkForComodification_1 : decode cJ26_checkForComodification 1 = .ok (.getfield 1, 3) := dk_180 0 1 (dk_at dksJ26_checkForComodification_0 1 rfl rfl)
theorem dJ26_checkForComodification_4 : decode cJ26_checkForComodification 4 = .ok (.getfield 13, 3) := dk_180 0 13 (dk_at dksJ26_checkForComodification_0 4 rfl rfl)
theorem dJ26_checkForComodification_7 : decode cJ26_checkForComodification 7 = .ok (.aload_n 0, 1) := dk_42 (dk_at dksJ26_checkForComodification_0 7 rfl rfl)
theorem dJ26_checkForComodification_8 : decode cJ26_checkForComodification 8 = .ok (.getfield 19, 3) := dk_180 0 19 (dk_at dksJ26_checkForComodification_0 8 rfl rfl)
theorem dJ26_checkForComodification_11 : decode cJ26_checkForComodification 11 = .ok (.if_icmp .eq 11, 3) := dk_159 0 11 (dk_at dksJ26_checkForComodification_0 11 rfl rfl)
theorem dJ26_checkForComodification_14 : decode cJ26_checkForComodification 14 = .ok (.new 91, 3) := dk_187 0 91 (dk_at dksJ26_checkForComodification_0 14 rfl rfl)
theorem dJ26_checkForComodification_17 : decode cJ26_checkForComodification 17 = .ok (.dup, 1) := dk_89 (dk_at dksJ26_checkForComodification_0 17 rfl rfl)
theorem dJ26_checkForComodification_18 : decode cJ26_checkForComodification 18 = .ok (.invokespecial 93, 3) := dk_183 0 93 (dk_at dksJ26_checkForComodification_0 18 rfl rfl)
theorem dJ26_checkForComodification_21 : decode cJ26_checkForComodification 21 = .ok (.athrow, 1) := dk_191 (dk_at dksJ26_checkForComodification_0 21 rfl rfl)
theorem dJ26_checkForComodification_22 : decode cJ26_checkForComodification 22 = .ok (.return_, 1) := dk_177 (dk_at dksJ26_checkForComodification_0 22 rfl rfl)
abbrev cJ26_hasPrevious : ByteArray := prog_72_method_4_code
def yJ26_hasPrevious : MethodName := ⟨RJ26, "hasPrevious", "()Z"⟩
def dkwJ26_hasPrevious_0 : List UInt8 := [42, 180, 0, 33, 158, 0, 7, 4, 167, 0, 4, 3, 172]
abbrev dktJ26_hasPrevious_0 : List UInt8 := dkwJ26_hasPrevious_0 ++ []
theorem dksJ26_hasPrevious_0 : cJ26_hasPrevious.data.toList.drop 0 = dktJ26_hasPrevious_0 := by decide +kernel
theorem dJ26_hasPrevious_0 : decode cJ26_hasPrevious 0 = .ok (.aload_n 0, 1) := dk_42 (dk_at dksJ26_hasPrevious_0 0 rfl rfl)
theorem dJ26_hasPrevious_1 : decode cJ26_hasPrevious 1 = .ok (.getfield 33, 3) := dk_180 0 33 (dk_at dksJ26_hasPrevious_0 1 rfl rfl)
theorem dJ26_hasPrevious_4 : decode cJ26_hasPrevious 4 = .ok (.ifCond .le 7, 3) := dk_158 0 7 (dk_at dksJ26_hasPrevious_0 4 rfl rfl)
theorem dJ26_hasPrevious_7 : decode cJ26_hasPrevious 7 = .ok (.iconst 1, 1) := dk_4 (dk_at dksJ26_hasPrevious_0 7 rfl rfl)
theorem dJ26_hasPrevious_8 : decode cJ26_hasPrevious 8 = .ok (.goto 4, 3) := dk_167 0 4 (dk_at dksJ26_hasPrevious_0 8 rfl rfl)
theorem dJ26_hasPrevious_11 : decode cJ26_hasPrevious 11 = .ok (.iconst 0, 1) := dk_3 (dk_at dksJ26_hasPrevious_0 11 rfl rfl)
theorem dJ26_hasPrevious_12 : decode cJ26_hasPrevious 12 = .ok (.ireturn, 1) := dk_172 (dk_at dksJ26_hasPrevious_0 12 rfl rfl)
abbrev cJ26_previous : ByteArray := prog_72_method_5_code
def yJ26_previous : MethodName := ⟨RJ26, "previous", "()Ljava/lang/Object;"⟩
def dkwJ26_previous_2 : List UInt8 := [181, 0, 29, 181, 0, 46, 42, 89, 180, 0, 33, 4, 100, 181, 0, 33, 42, 180, 0, 46, 180, 0, 52, 176]
abbrev dktJ26_previous_2 : List UInt8 := dkwJ26_previous_2 ++ []
def dkwJ26_previous_1 : List UInt8 := [180, 0, 29, 199, 0, 13, 42, 180, 0, 1, 180, 0, 59, 167, 0, 10, 42, 180, 0, 29, 180, 0, 62, 90]
abbrev dktJ26_previous_1 : List UInt8 := dkwJ26_previous_1 ++ dktJ26_previous_2
def dkwJ26_previous_0 : List UInt8 := [42, 182, 0, 36, 42, 182, 0, 56, 154, 0, 11, 187, 0, 43, 89, 183, 0, 45, 191, 42, 42, 42]
abbrev dktJ26_previous_0 : List UInt8 := dkwJ26_previous_0 ++ dktJ26_previous_1
theorem dksJ26_previous_0 : cJ26_previous.data.toList.drop 0 = dktJ26_previous_0 := by decide +kernel
theorem dksJ26_previous_1 : cJ26_previous.data.toList.drop 22 = dktJ26_previous_1 := dk_seg dksJ26_previous_0 22 rfl rfl
theorem dksJ26_previous_2 : cJ26_previous.data.toList.drop 46 = dktJ26_previous_2 := dk_seg dksJ26_previous_1 24 rfl rfl
theorem dJ26_previous_0 : decode cJ26_previous 0 = .ok (.aload_n 0, 1) := dk_42 (dk_at dksJ26_previous_0 0 rfl rfl)
theorem dJ26_previous_1 : decode cJ26_previous 1 = .ok (.invokevirtual 36, 3) := dk_182 0 36 (dk_at dksJ26_previous_0 1 rfl rfl)
theorem dJ26_previous_4 : decode cJ26_previous 4 = .ok (.aload_n 0, 1) := dk_42 (dk_at dksJ26_previous_0 4 rfl rfl)
theorem dJ26_previous_5 : decode cJ26_previous 5 = .ok (.invokevirtual 56, 3) := dk_182 0 56 (dk_at dksJ26_previous_0 5 rfl rfl)
theorem dJ26_previous_8 : decode cJ26_previous 8 = .ok (.ifCond .ne 11, 3) := dk_154 0 11 (dk_at dksJ26_previous_0 8 rfl rfl)
theorem dJ26_previous_11 : decode cJ26_previous 11 = .ok (.new 43, 3) := dk_187 0 43 (dk_at dksJ26_previous_0 11 rfl rfl)
theorem dJ26_previous_14 : decode cJ26_previous 14 = .ok (.dup, 1) := dk_89 (dk_at dksJ26_previous_0 14 rfl rfl)
theorem dJ26_previous_15 : decode cJ26_previous 15 = .ok (.invokespecial 45, 3) := dk_183 0 45 (dk_at dksJ26_previous_0 15 rfl rfl)
theorem dJ26_previous_18 : decode cJ26_previous 18 = .ok (.athrow, 1) := dk_191 (dk_at dksJ26_previous_0 18 rfl rfl)
theorem dJ26_previous_19 : decode cJ26_previous 19 = .ok (.aload_n 0, 1) := dk_42 (dk_at dksJ26_previous_0 19 rfl rfl)
theorem dJ26_previous_20 : decode cJ26_previous 20 = .ok (.aload_n 0, 1) := dk_42 (dk_at dksJ26_previous_0 20 rfl rfl)
theorem dJ26_previous_21 : decode cJ26_previous 21 = .ok (.aload_n 0, 1) := dk_42 (dk_at dksJ26_previous_0 21 rfl rfl)
theorem dJ26_previous_22 : decode cJ26_previous 22 = .ok (.getfield 29, 3) := dk_180 0 29 (dk_at dksJ26_previous_1 0 rfl rfl)
theorem dJ26_previous_25 : decode cJ26_previous 25 = .ok (.ifnonnull 13, 3) := dk_199 0 13 (dk_at dksJ26_previous_1 3 rfl rfl)
theorem dJ26_previous_28 : decode cJ26_previous 28 = .ok (.aload_n 0, 1) := dk_42 (dk_at dksJ26_previous_1 6 rfl rfl)
theorem dJ26_previous_29 : decode cJ26_previous 29 = .ok (.getfield 1, 3) := dk_180 0 1 (dk_at dksJ26_previous_1 7 rfl rfl)
theorem dJ26_previous_32 : decode cJ26_previous 32 = .ok (.getfield 59, 3) := dk_180 0 59 (dk_at dksJ26_previous_1 10 rfl rfl)
theorem dJ26_previous_35 : decode cJ26_previous 35 = .ok (.goto 10, 3) := dk_167 0 10 (dk_at dksJ26_previous_1 13 rfl rfl)
theorem dJ26_previous_38 : decode cJ26_previous 38 = .ok (.aload_n 0, 1) := dk_42 (dk_at dksJ26_previous_1 16 rfl rfl)
theorem dJ26_previous_39 : decode cJ26_previous 39 = .ok (.getfield 29, 3) := dk_180 0 29 (dk_at dksJ26_previous_1 17 rfl rfl)
theorem dJ26_previous_42 : decode cJ26_previous 42 = .ok (.getfield 62, 3) := dk_180 0 62 (dk_at dksJ26_previous_1 20 rfl rfl)
theorem dJ26_previous_45 : decode cJ26_previous 45 = .ok (.dup_x1, 1) := dk_90 (dk_at dksJ26_previous_1 23 rfl rfl)
theorem dJ26_previous_46 : decode cJ26_previous 46 = .ok (.putfield 29, 3) := dk_181 0 29 (dk_at dksJ26_previous_2 0 rfl rfl)
theorem dJ26_previous_49 : decode cJ26_previous 49 = .ok (.putfield 46, 3) := dk_181 0 46 (dk_at dksJ26_previous_2 3 rfl rfl)
theorem dJ26_previous_52 : decode cJ26_previous 52 = .ok (.aload_n 0, 1) := dk_42 (dk_at dksJ26_previous_2 6 rfl rfl)
theorem dJ26_previous_53 : decode cJ26_previous 53 = .ok (.dup, 1) := dk_89 (dk_at dksJ26_previous_2 7 rfl rfl)
theorem dJ26_previous_54 : decode cJ26_previous 54 = .ok (.getfield 33, 3) := dk_180 0 33 (dk_at dksJ26_previous_2 8 rfl rfl)
theorem dJ26_previous_57 : decode cJ26_previous 57 = .ok (.iconst 1, 1) := dk_4 (dk_at dksJ26_previous_2 11 rfl rfl)
theorem dJ26_previous_58 : decode cJ26_previous 58 = .ok (.isub, 1) := dk_100 (dk_at dksJ26_previous_2 12 rfl rfl)
theorem dJ26_previous_59 : decode cJ26_previous 59 = .ok (.putfield 33, 3) := dk_181 0 33 (dk_at dksJ26_previous_2 13 rfl rfl)
theorem dJ26_previous_62 : decode cJ26_previous 62 = .ok (.aload_n 0, 1) := dk_42 (dk_at dksJ26_previous_2 16 rfl rfl)
theorem dJ26_previous_63 : decode cJ26_previous 63 = .ok (.getfield 46, 3) := dk_180 0 46 (dk_at dksJ26_previous_2 17 rfl rfl)
theorem dJ26_previous_66 : decode cJ26_previous 66 = .ok (.getfield 52, 3) := dk_180 0 52 (dk_at dksJ26_previous_2 20 rfl rfl)
theorem dJ26_previous_69 : decode cJ26_previous 69 = .ok (.areturn, 1) := dk_176 (dk_at dksJ26_previous_2 23 rfl rfl)
abbrev cJ26_add : ByteArray := prog_72_method_10_code
def yJ26_add : MethodName := ⟨RJ26, "add", "(Ljava/lang/Object;)V"⟩
def dkwJ26_add_2 : List UInt8 := [181, 0, 33, 42, 89, 180, 0, 19, 4, 96, 181, 0, 19, 177]
abbrev dktJ26_add_2 : List UInt8 := dkwJ26_add_2 ++ []
def dkwJ26_add_1 : List UInt8 := [167, 0, 15, 42, 180, 0, 1, 43, 42, 180, 0, 29, 182, 0, 76, 42, 89, 180, 0, 33, 4, 96]
abbrev dktJ26_add_1 : List UInt8 := dkwJ26_add_1 ++ dktJ26_add_2
def dkwJ26_add_0 : List UInt8 := [42, 182, 0, 36, 42, 1, 181, 0, 46, 42, 180, 0, 29, 199, 0, 14, 42, 180, 0, 1, 43, 182, 0, 72]
abbrev dktJ26_add_0 : List UInt8 := dkwJ26_add_0 ++ dktJ26_add_1
theorem dksJ26_add_0 : cJ26_add.data.toList.drop 0 = dktJ26_add_0 := by decide +kernel
theorem dksJ26_add_1 : cJ26_add.data.toList.drop 24 = dktJ26_add_1 := dk_seg dksJ26_add_0 24 rfl rfl
theorem dksJ26_add_2 : cJ26_add.data.toList.drop 46 = dktJ26_add_2 := dk_seg dksJ26_add_1 22 rfl rfl
theorem dJ26_add_0 : decode cJ26_add 0 = .ok (.aload_n 0, 1) := dk_42 (dk_at dksJ26_add_0 0 rfl rfl)
theorem dJ26_add_1 : decode cJ26_add 1 = .ok (.invokevirtual 36, 3) := dk_182 0 36 (dk_at dksJ26_add_0 1 rfl rfl)
theorem dJ26_add_4 : decode cJ26_add 4 = .ok (.aload_n 0, 1) := dk_42 (dk_at dksJ26_add_0 4 rfl rfl)
theorem dJ26_add_5 : decode cJ26_add 5 = .ok (.aconst_null, 1) := dk_1 (dk_at dksJ26_add_0 5 rfl rfl)
theorem dJ26_add_6 : decode cJ26_add 6 = .ok (.putfield 46, 3) := dk_181 0 46 (dk_at dksJ26_add_0 6 rfl rfl)
theorem dJ26_add_9 : decode cJ26_add 9 = .ok (.aload_n 0, 1) := dk_42 (dk_at dksJ26_add_0 9 rfl rfl)
theorem dJ26_add_10 : decode cJ26_add 10 = .ok (.getfield 29, 3) := dk_180 0 29 (dk_at dksJ26_add_0 10 rfl rfl)
theorem dJ26_add_13 : decode cJ26_add 13 = .ok (.ifnonnull 14, 3) := dk_199 0 14 (dk_at dksJ26_add_0 13 rfl rfl)
theorem dJ26_add_16 : decode cJ26_add 16 = .ok (.aload_n 0, 1) := dk_42 (dk_at dksJ26_add_0 16 rfl rfl)
theorem dJ26_add_17 : decode cJ26_add 17 = .ok (.getfield 1, 3) := dk_180 0 1 (dk_at dksJ26_add_0 17 rfl rfl)
theorem dJ26_add_20 : decode cJ26_add 20 = .ok (.aload_n 1, 1) := dk_43 (dk_at dksJ26_add_0 20 rfl rfl)
theorem dJ26_add_21 : decode cJ26_add 21 = .ok (.invokevirtual 72, 3) := dk_182 0 72 (dk_at dksJ26_add_0 21 rfl rfl)
theorem dJ26_add_24 : decode cJ26_add 24 = .ok (.goto 15, 3) := dk_167 0 15 (dk_at dksJ26_add_1 0 rfl rfl)
theorem dJ26_add_27 : decode cJ26_add 27 = .ok (.aload_n 0, 1) := dk_42 (dk_at dksJ26_add_1 3 rfl rfl)
theorem dJ26_add_28 : decode cJ26_add 28 = .ok (.getfield 1, 3) := dk_180 0 1 (dk_at dksJ26_add_1 4 rfl rfl)
theorem dJ26_add_31 : decode cJ26_add 31 = .ok (.aload_n 1, 1) := dk_43 (dk_at dksJ26_add_1 7 rfl rfl)
theorem dJ26_add_32 : decode cJ26_add 32 = .ok (.aload_n 0, 1) := dk_42 (dk_at dksJ26_add_1 8 rfl rfl)
theorem dJ26_add_33 : decode cJ26_add 33 = .ok (.getfield 29, 3) := dk_180 0 29 (dk_at dksJ26_add_1 9 rfl rfl)
theorem dJ26_add_36 : decode cJ26_add 36 = .ok (.invokevirtual 76, 3) := dk_182 0 76 (dk_at dksJ26_add_1 12 rfl rfl)
theorem dJ26_add_39 : decode cJ26_add 39 = .ok (.aload_n 0, 1) := dk_42 (dk_at dksJ26_add_1 15 rfl rfl)
theorem dJ26_add_40 : decode cJ26_add 40 = .ok (.dup, 1) := dk_89 (dk_at dksJ26_add_1 16 rfl rfl)
theorem dJ26_add_41 : decode cJ26_add 41 = .ok (.getfield 33, 3) := dk_180 0 33 (dk_at dksJ26_add_1 17 rfl rfl)
theorem dJ26_add_44 : decode cJ26_add 44 = .ok (.iconst 1, 1) := dk_4 (dk_at dksJ26_add_1 20 rfl rfl)
theorem dJ26_add_45 : decode cJ26_add 45 = .ok (.iadd, 1) := dk_96 (dk_at dksJ26_add_1 21 rfl rfl)
theorem dJ26_add_46 : decode cJ26_add 46 = .ok (.putfield 33, 3) := dk_181 0 33 (dk_at dksJ26_add_2 0 rfl rfl)
theorem dJ26_add_49 : decode cJ26_add 49 = .ok (.aload_n 0, 1) := dk_42 (dk_at dksJ26_add_2 3 rfl rfl)
theorem dJ26_add_50 : decode cJ26_add 50 = .ok (.dup, 1) := dk_89 (dk_at dksJ26_add_2 4 rfl rfl)
theorem dJ26_add_51 : decode cJ26_add 51 = .ok (.getfield 19, 3) := dk_180 0 19 (dk_at dksJ26_add_2 5 rfl rfl)
theorem dJ26_add_54 : decode cJ26_add 54 = .ok (.iconst 1, 1) := dk_4 (dk_at dksJ26_add_2 8 rfl rfl)
theorem dJ26_add_55 : decode cJ26_add 55 = .ok (.iadd, 1) := dk_96 (dk_at dksJ26_add_2 9 rfl rfl)
theorem dJ26_add_56 : decode cJ26_add 56 = .ok (.putfield 19, 3) := dk_181 0 19 (dk_at dksJ26_add_2 10 rfl rfl)
theorem dJ26_add_59 : decode cJ26_add 59 = .ok (.return_, 1) := dk_177 (dk_at dksJ26_add_2 13 rfl rfl)
theorem q170 : (Jvm.Cond.initialized "java/util/LinkedList$ListItr") ∈ lw_all := lw_g (lw_at lw_m1 53 rfl) rfl
theorem q211 : (Jvm.Cond.fieldLink "java/util/LinkedList$ListItr" (13 : Nat) "java/util/LinkedList" "modCount" "I") ∈ lw_all := lw_g (lw_at lw_m1 94 rfl) rfl
theorem q243 : (Jvm.Cond.fieldLink "java/util/LinkedList$ListItr" (22 : Nat) "java/util/LinkedList" "size" "I") ∈ lw_all := lw_g (lw_at lw_m1 126 rfl) rfl
theorem q246 : (Jvm.Cond.fieldLink "java/util/LinkedList$ListItr" (59 : Nat) "java/util/LinkedList" "last" "Ljava/util/LinkedList$Node;") ∈ lw_all := lw_g (lw_at lw_m1 129 rfl) rfl
theorem q1087 : (Jvm.Cond.selects "java/util/LinkedList$ListItr" ({ cls := "java/lang/Object", name := "getClass", desc := "()Ljava/lang/Class;" } : Jvm.MethodName) ({ cls := "java/lang/Object", name := "getClass", desc := "()Ljava/lang/Class;" } : Jvm.MethodName)) ∈ lw_all := lw_g (lw_at lw_m5 10 rfl) rfl
theorem q1114 : (Jvm.Cond.fieldLink "java/util/LinkedList$ListItr" (52 : Nat) "java/util/LinkedList$Node" "item" "Ljava/lang/Object;") ∈ lw_all := lw_g (lw_at lw_m5 37 rfl) rfl
theorem q1117 : (Jvm.Cond.fieldLink "java/util/LinkedList$ListItr" (49 : Nat) "java/util/LinkedList$Node" "next" "Ljava/util/LinkedList$Node;") ∈ lw_all := lw_g (lw_at lw_m5 40 rfl) rfl
theorem q1121 : (Jvm.Cond.fieldLink "java/util/LinkedList$ListItr" (62 : Nat) "java/util/LinkedList$Node" "prev" "Ljava/util/LinkedList$Node;") ∈ lw_all := lw_g (lw_at lw_m5 44 rfl) rfl
theorem q1472 : (Jvm.Cond.instantiable "java/util/LinkedList$ListItr" (5 : Nat)) ∈ lw_all := lw_g (lw_at lw_m6 155 rfl) rfl
theorem q1474 : (Jvm.Cond.instanceMethod ({ cls := "java/util/LinkedList$ListItr", name := "<init>", desc := "(Ljava/util/LinkedList;I)V" } : Jvm.MethodName)) ∈ lw_all := lw_g (lw_at lw_m6 157 rfl) rfl
theorem q1475 : (Jvm.Cond.code ({ cls := "java/util/LinkedList$ListItr", name := "<init>", desc := "(Ljava/util/LinkedList;I)V" } : Jvm.MethodName) prog_72_method_1_code (3 : Nat) (Option.none : Option Jvm.ClassFile.FieldType)) ∈ lw_all := lw_g (lw_at lw_m6 158 rfl) rfl
theorem q1476 : (Jvm.Cond.methodLink "java/util/LinkedList$ListItr" (7 : Nat) ({ cls := "java/lang/Object", name := "<init>", desc := "()V" } : Jvm.MethodName)) ∈ lw_all := lw_g (lw_at lw_m6 159 rfl) rfl
theorem q1477 : (Jvm.Cond.methodLink "java/util/LinkedList$ListItr" (25 : Nat) ({ cls := "java/util/LinkedList", name := "node", desc := "(I)Ljava/util/LinkedList$Node;" } : Jvm.MethodName)) ∈ lw_all := lw_g (lw_at lw_m6 160 rfl) rfl
theorem q1478 : (Jvm.Cond.fieldLink "java/util/LinkedList$ListItr" (46 : Nat) "java/util/LinkedList$ListItr" "lastReturned" "Ljava/util/LinkedList$Node;") ∈ lw_all := lw_g (lw_at lw_m6 161 rfl) rfl
theorem q1479 : (Jvm.Cond.fieldLink "java/util/LinkedList$ListItr" (29 : Nat) "java/util/LinkedList$ListItr" "next" "Ljava/util/LinkedList$Node;") ∈ lw_all := lw_g (lw_at lw_m6 162 rfl) rfl
theorem q1480 : (Jvm.Cond.fieldLink "java/util/LinkedList$ListItr" (33 : Nat) "java/util/LinkedList$ListItr" "nextIndex" "I") ∈ lw_all := lw_g (lw_at lw_m6 163 rfl) rfl
theorem q1481 : (Jvm.Cond.fieldLink "java/util/LinkedList$ListItr" (19 : Nat) "java/util/LinkedList$ListItr" "expectedModCount" "I") ∈ lw_all := lw_g (lw_at lw_m6 164 rfl) rfl
theorem q1482 : (Jvm.Cond.fieldLink "java/util/LinkedList$ListItr" (1 : Nat) "java/util/LinkedList$ListItr" "this$0" "Ljava/util/LinkedList;") ∈ lw_all := lw_g (lw_at lw_m6 165 rfl) rfl
theorem q1483 : (Jvm.Cond.lays "java/util/LinkedList$ListItr" "java/util/LinkedList$ListItr" "lastReturned" "Ljava/util/LinkedList$Node;") ∈ lw_all := lw_g (lw_at lw_m6 166 rfl) rfl
theorem q1484 : (Jvm.Cond.soleField "java/util/LinkedList$ListItr" "lastReturned") ∈ lw_all := lw_g (lw_at lw_m6 167 rfl) rfl
theorem q1485 : (Jvm.Cond.lays "java/util/LinkedList$ListItr" "java/util/LinkedList$ListItr" "next" "Ljava/util/LinkedList$Node;") ∈ lw_all := lw_g (lw_at lw_m6 168 rfl) rfl
theorem q1486 : (Jvm.Cond.soleField "java/util/LinkedList$ListItr" "next") ∈ lw_all := lw_g (lw_at lw_m6 169 rfl) rfl
theorem q1487 : (Jvm.Cond.lays "java/util/LinkedList$ListItr" "java/util/LinkedList$ListItr" "nextIndex" "I") ∈ lw_all := lw_g (lw_at lw_m6 170 rfl) rfl
theorem q1488 : (Jvm.Cond.soleField "java/util/LinkedList$ListItr" "nextIndex") ∈ lw_all := lw_g (lw_at lw_m6 171 rfl) rfl
theorem q1489 : (Jvm.Cond.lays "java/util/LinkedList$ListItr" "java/util/LinkedList$ListItr" "expectedModCount" "I") ∈ lw_all := lw_g (lw_at lw_m6 172 rfl) rfl
theorem q1490 : (Jvm.Cond.soleField "java/util/LinkedList$ListItr" "expectedModCount") ∈ lw_all := lw_g (lw_at lw_m6 173 rfl) rfl
theorem q1491 : (Jvm.Cond.laysFinal "java/util/LinkedList$ListItr" "java/util/LinkedList$ListItr" "this$0" "Ljava/util/LinkedList;") ∈ lw_all := lw_g (lw_at lw_m6 174 rfl) rfl
theorem q1492 : (Jvm.Cond.soleField "java/util/LinkedList$ListItr" "this$0") ∈ lw_all := lw_g (lw_at lw_m6 175 rfl) rfl
theorem q1493 : (Jvm.Cond.superclass "java/util/LinkedList$ListItr" "java/lang/Object") ∈ lw_all := lw_g (lw_at lw_m6 176 rfl) rfl
theorem q1525 : (Jvm.Cond.castable "java/util/LinkedList$ListItr" "java/util/Iterator") ∈ lw_tbl := lw_at lw_m6 208 rfl
theorem q1526 : (Jvm.Cond.selects "java/util/LinkedList$ListItr" ({ cls := "java/util/Iterator", name := "hasNext", desc := "()Z" } : Jvm.MethodName) ({ cls := "java/util/LinkedList$ListItr", name := "hasNext", desc := "()Z" } : Jvm.MethodName)) ∈ lw_all := lw_g (lw_at lw_m6 209 rfl) rfl
theorem q1527 : (Jvm.Cond.unhidden "java/util/LinkedList$ListItr" "hasNext" "()Z") ∈ lw_tbl := lw_at lw_m6 210 rfl
theorem q1528 : (Jvm.Cond.instanceMethod ({ cls := "java/util/LinkedList$ListItr", name := "hasNext", desc := "()Z" } : Jvm.MethodName)) ∈ lw_all := lw_g (lw_at lw_m6 211 rfl) rfl
theorem q1529 : (Jvm.Cond.publicMethod ({ cls := "java/util/LinkedList$ListItr", name := "hasNext", desc := "()Z" } : Jvm.MethodName)) ∈ lw_tbl := lw_at lw_m6 212 rfl
theorem q1530 : (Jvm.Cond.code ({ cls := "java/util/LinkedList$ListItr", name := "hasNext", desc := "()Z" } : Jvm.MethodName) prog_72_method_2_code (1 : Nat) (Option.some Jvm.ClassFile.FieldType.boolean)) ∈ lw_all := lw_g (lw_at lw_m6 213 rfl) rfl
theorem q1661 : (Jvm.Cond.selects "java/util/LinkedList$ListItr" ({ cls := "java/util/Iterator", name := "next", desc := "()Ljava/lang/Object;" } : Jvm.MethodName) ({ cls := "java/util/LinkedList$ListItr", name := "next", desc := "()Ljava/lang/Object;" } : Jvm.MethodName)) ∈ lw_all := lw_g (lw_at lw_m7 104 rfl) rfl
theorem q1662 : (Jvm.Cond.unhidden "java/util/LinkedList$ListItr" "next" "()Ljava/lang/Object;") ∈ lw_tbl := lw_at lw_m7 105 rfl
theorem q1663 : (Jvm.Cond.instanceMethod ({ cls := "java/util/LinkedList$ListItr", name := "next", desc := "()Ljava/lang/Object;" } : Jvm.MethodName)) ∈ lw_all := lw_g (lw_at lw_m7 106 rfl) rfl
theorem q1664 : (Jvm.Cond.publicMethod ({ cls := "java/util/LinkedList$ListItr", name := "next", desc := "()Ljava/lang/Object;" } : Jvm.MethodName)) ∈ lw_tbl := lw_at lw_m7 107 rfl
theorem q1665 : (Jvm.Cond.code ({ cls := "java/util/LinkedList$ListItr", name := "next", desc := "()Ljava/lang/Object;" } : Jvm.MethodName) prog_72_method_3_code (1 : Nat) (Option.some (Jvm.ClassFile.FieldType.object "java/lang/Object"))) ∈ lw_all := lw_g (lw_at lw_m7 108 rfl) rfl
theorem q1666 : (Jvm.Cond.methodLink "java/util/LinkedList$ListItr" (36 : Nat) ({ cls := "java/util/LinkedList$ListItr", name := "checkForComodification", desc := "()V" } : Jvm.MethodName)) ∈ lw_all := lw_g (lw_at lw_m7 109 rfl) rfl
theorem q1667 : (Jvm.Cond.instanceMethod ({ cls := "java/util/LinkedList$ListItr", name := "checkForComodification", desc := "()V" } : Jvm.MethodName)) ∈ lw_all := lw_g (lw_at lw_m7 110 rfl) rfl
theorem q1668 : (Jvm.Cond.selects "java/util/LinkedList$ListItr" ({ cls := "java/util/LinkedList$ListItr", name := "checkForComodification", desc := "()V" } : Jvm.MethodName) ({ cls := "java/util/LinkedList$ListItr", name := "checkForComodification", desc := "()V" } : Jvm.MethodName)) ∈ lw_all := lw_g (lw_at lw_m7 111 rfl) rfl
theorem q1669 : (Jvm.Cond.code ({ cls := "java/util/LinkedList$ListItr", name := "checkForComodification", desc := "()V" } : Jvm.MethodName) prog_72_method_12_code (1 : Nat) (Option.none : Option Jvm.ClassFile.FieldType)) ∈ lw_all := lw_g (lw_at lw_m7 112 rfl) rfl
theorem q1670 : (Jvm.Cond.methodLink "java/util/LinkedList$ListItr" (39 : Nat) ({ cls := "java/util/LinkedList$ListItr", name := "hasNext", desc := "()Z" } : Jvm.MethodName)) ∈ lw_all := lw_g (lw_at lw_m7 113 rfl) rfl
theorem q1671 : (Jvm.Cond.classLink "java/util/LinkedList$ListItr" (43 : Nat) "java/util/NoSuchElementException") ∈ lw_all := lw_g (lw_at lw_m7 114 rfl) rfl
theorem q1672 : (Jvm.Cond.methodLink "java/util/LinkedList$ListItr" (45 : Nat) ({ cls := "java/util/NoSuchElementException", name := "<init>", desc := "()V" } : Jvm.MethodName)) ∈ lw_all := lw_g (lw_at lw_m7 115 rfl) rfl
theorem q2351 : (Jvm.Cond.castable "java/util/LinkedList$ListItr" "java/util/ListIterator") ∈ lw_tbl := lw_at lw_m10 74 rfl
theorem q2352 : (Jvm.Cond.selects "java/util/LinkedList$ListItr" ({ cls := "java/util/ListIterator", name := "hasPrevious", desc := "()Z" } : Jvm.MethodName) ({ cls := "java/util/LinkedList$ListItr", name := "hasPrevious", desc := "()Z" } : Jvm.MethodName)) ∈ lw_all := lw_g (lw_at lw_m10 75 rfl) rfl
theorem q2353 : (Jvm.Cond.unhidden "java/util/LinkedList$ListItr" "hasPrevious" "()Z") ∈ lw_tbl := lw_at lw_m10 76 rfl
theorem q2354 : (Jvm.Cond.instanceMethod ({ cls := "java/util/LinkedList$ListItr", name := "hasPrevious", desc := "()Z" } : Jvm.MethodName)) ∈ lw_all := lw_g (lw_at lw_m10 77 rfl) rfl
theorem q2355 : (Jvm.Cond.publicMethod ({ cls := "java/util/LinkedList$ListItr", name := "hasPrevious", desc := "()Z" } : Jvm.MethodName)) ∈ lw_tbl := lw_at lw_m10 78 rfl
theorem q2356 : (Jvm.Cond.code ({ cls := "java/util/LinkedList$ListItr", name := "hasPrevious", desc := "()Z" } : Jvm.MethodName) prog_72_method_4_code (1 : Nat) (Option.some Jvm.ClassFile.FieldType.boolean)) ∈ lw_all := lw_g (lw_at lw_m10 79 rfl) rfl
theorem q2384 : (Jvm.Cond.selects "java/util/LinkedList$ListItr" ({ cls := "java/util/ListIterator", name := "previous", desc := "()Ljava/lang/Object;" } : Jvm.MethodName) ({ cls := "java/util/LinkedList$ListItr", name := "previous", desc := "()Ljava/lang/Object;" } : Jvm.MethodName)) ∈ lw_all := lw_g (lw_at lw_m10 107 rfl) rfl
theorem q2385 : (Jvm.Cond.unhidden "java/util/LinkedList$ListItr" "previous" "()Ljava/lang/Object;") ∈ lw_tbl := lw_at lw_m10 108 rfl
theorem q2386 : (Jvm.Cond.instanceMethod ({ cls := "java/util/LinkedList$ListItr", name := "previous", desc := "()Ljava/lang/Object;" } : Jvm.MethodName)) ∈ lw_all := lw_g (lw_at lw_m10 109 rfl) rfl
theorem q2387 : (Jvm.Cond.publicMethod ({ cls := "java/util/LinkedList$ListItr", name := "previous", desc := "()Ljava/lang/Object;" } : Jvm.MethodName)) ∈ lw_tbl := lw_at lw_m10 110 rfl
theorem q2388 : (Jvm.Cond.code ({ cls := "java/util/LinkedList$ListItr", name := "previous", desc := "()Ljava/lang/Object;" } : Jvm.MethodName) prog_72_method_5_code (1 : Nat) (Option.some (Jvm.ClassFile.FieldType.object "java/lang/Object"))) ∈ lw_all := lw_g (lw_at lw_m10 111 rfl) rfl
theorem q2389 : (Jvm.Cond.methodLink "java/util/LinkedList$ListItr" (56 : Nat) ({ cls := "java/util/LinkedList$ListItr", name := "hasPrevious", desc := "()Z" } : Jvm.MethodName)) ∈ lw_all := lw_g (lw_at lw_m10 112 rfl) rfl
theorem q2396 : (Jvm.Cond.selects "java/util/LinkedList$ListItr" ({ cls := "java/util/ListIterator", name := "next", desc := "()Ljava/lang/Object;" } : Jvm.MethodName) ({ cls := "java/util/LinkedList$ListItr", name := "next", desc := "()Ljava/lang/Object;" } : Jvm.MethodName)) ∈ lw_all := lw_g (lw_at lw_m10 119 rfl) rfl
theorem q2456 : (Jvm.Cond.selects "java/util/LinkedList$ListItr" ({ cls := "java/util/ListIterator", name := "add", desc := "(Ljava/lang/Object;)V" } : Jvm.MethodName) ({ cls := "java/util/LinkedList$ListItr", name := "add", desc := "(Ljava/lang/Object;)V" } : Jvm.MethodName)) ∈ lw_all := lw_g (lw_at lw_m10 179 rfl) rfl
theorem q2457 : (Jvm.Cond.unhidden "java/util/LinkedList$ListItr" "add" "(Ljava/lang/Object;)V") ∈ lw_tbl := lw_at lw_m10 180 rfl
theorem q2458 : (Jvm.Cond.instanceMethod ({ cls := "java/util/LinkedList$ListItr", name := "add", desc := "(Ljava/lang/Object;)V" } : Jvm.MethodName)) ∈ lw_all := lw_g (lw_at lw_m10 181 rfl) rfl
theorem q2459 : (Jvm.Cond.publicMethod ({ cls := "java/util/LinkedList$ListItr", name := "add", desc := "(Ljava/lang/Object;)V" } : Jvm.MethodName)) ∈ lw_tbl := lw_at lw_m10 182 rfl
theorem q2460 : (Jvm.Cond.code ({ cls := "java/util/LinkedList$ListItr", name := "add", desc := "(Ljava/lang/Object;)V" } : Jvm.MethodName) prog_72_method_10_code (2 : Nat) (Option.none : Option Jvm.ClassFile.FieldType)) ∈ lw_all := lw_g (lw_at lw_m10 183 rfl) rfl
theorem q2461 : (Jvm.Cond.methodLink "java/util/LinkedList$ListItr" (72 : Nat) ({ cls := "java/util/LinkedList", name := "linkLast", desc := "(Ljava/lang/Object;)V" } : Jvm.MethodName)) ∈ lw_all := lw_g (lw_at lw_m10 184 rfl) rfl
theorem q2462 : (Jvm.Cond.methodLink "java/util/LinkedList$ListItr" (76 : Nat) ({ cls := "java/util/LinkedList", name := "linkBefore", desc := "(Ljava/lang/Object;Ljava/util/LinkedList$Node;)V" } : Jvm.MethodName)) ∈ lw_all := lw_g (lw_at lw_m10 185 rfl) rfl
theorem q3458 : (Jvm.Cond.selects "java/util/LinkedList$ListItr" ({ cls := "java/util/LinkedList$ListItr", name := "hasNext", desc := "()Z" } : Jvm.MethodName) ({ cls := "java/util/LinkedList$ListItr", name := "hasNext", desc := "()Z" } : Jvm.MethodName)) ∈ lw_all := lw_g (lw_at lw_m14 221 rfl) rfl
theorem q3463 : (Jvm.Cond.selects "java/util/LinkedList$ListItr" ({ cls := "java/util/LinkedList$ListItr", name := "hasPrevious", desc := "()Z" } : Jvm.MethodName) ({ cls := "java/util/LinkedList$ListItr", name := "hasPrevious", desc := "()Z" } : Jvm.MethodName)) ∈ lw_all := lw_g (lw_at lw_m14 226 rfl) rfl
theorem q3509 : (Jvm.Cond.castable "java/util/LinkedList$ListItr" "java/lang/Object") ∈ lw_tbl := lw_at lw_m15 32 rfl
theorem in_J26 : ∀ w ∈ wsJ260, w ∈ lw_all := lw_in wsJ260 [1483, 1485, 1487, 1489, 1491] (by decide +kernel) (by decide +kernel)

/-! java/util/ConcurrentModificationException -/
def RJ27 : String := "java/util/ConcurrentModificationException"
def TJ27 : u_T := fun k => match k with
  | 0 => ("java/lang/Throwable", "backtrace", "Ljava/lang/Object;", false)
  | 1 => ("java/lang/Throwable", "detailMessage", "Ljava/lang/String;", false)
  | 2 => ("java/lang/Throwable", "cause", "Ljava/lang/Throwable;", false)
  | 3 => ("java/lang/Throwable", "stackTrace", "[Ljava/lang/StackTraceElement;", false)
  | 4 => ("java/lang/Throwable", "depth", "I", false)
  | _ => ("java/lang/Throwable", "suppressedExceptions", "Ljava/util/List;", false)
def tyJ27 : Nat → FieldType := fun k => match k with
  | 0 => .object "java/lang/Object"
  | 1 => .object "java/lang/String"
  | 2 => .object "java/lang/Throwable"
  | 3 => .array (.object "java/lang/StackTraceElement")
  | 4 => .int
  | _ => .object "java/util/List"
abbrev wsJ270 : List Cond := u_ws RJ27 TJ27 6
theorem nmJ27 : ∀ a, a < 6 → ∀ b, b < 6 → a ≠ b → (TJ27 a).2.1 ≠ (TJ27 b).2.1 := by decide +kernel
theorem tyJ27_ok : ∀ k, k < 6 → parseFieldDescriptor (TJ27 k).2.2.1 = some (tyJ27 k) := by decide +kernel
abbrev cJ27_init : ByteArray := prog_68_method_1_code
def yJ27_init : MethodName := ⟨RJ27, "<init>", "()V"⟩
theorem dJ27_init_0 : decode cJ27_init 0 = .ok (.aload_n 0, 1) := by decide +kernel
theorem dJ27_init_1 : decode cJ27_init 1 = .ok (.invokespecial 1, 3) := by decide +kernel
theorem dJ27_init_4 : decode cJ27_init 4 = .ok (.return_, 1) := by decide +kernel
theorem q172 : (Jvm.Cond.initialized "java/util/ConcurrentModificationException") ∈ lw_all := lw_g (lw_at lw_m1 55 rfl) rfl
theorem q514 : (Jvm.Cond.selects "java/util/ConcurrentModificationException" ({ cls := "java/lang/Throwable", name := "fillInStackTrace", desc := "()Ljava/lang/Throwable;" } : Jvm.MethodName) ({ cls := "java/lang/Throwable", name := "fillInStackTrace", desc := "()Ljava/lang/Throwable;" } : Jvm.MethodName)) ∈ lw_all := lw_g (lw_at lw_m2 157 rfl) rfl
theorem q1085 : (Jvm.Cond.selects "java/util/ConcurrentModificationException" ({ cls := "java/lang/Object", name := "getClass", desc := "()Ljava/lang/Class;" } : Jvm.MethodName) ({ cls := "java/lang/Object", name := "getClass", desc := "()Ljava/lang/Class;" } : Jvm.MethodName)) ∈ lw_all := lw_g (lw_at lw_m5 8 rfl) rfl
theorem q1583 : (Jvm.Cond.selects "java/util/ConcurrentModificationException" ({ cls := "java/lang/Throwable", name := "toString", desc := "()Ljava/lang/String;" } : Jvm.MethodName) ({ cls := "java/lang/Throwable", name := "toString", desc := "()Ljava/lang/String;" } : Jvm.MethodName)) ∈ lw_all := lw_g (lw_at lw_m7 26 rfl) rfl
theorem q1599 : (Jvm.Cond.selects "java/util/ConcurrentModificationException" ({ cls := "java/lang/Throwable", name := "getLocalizedMessage", desc := "()Ljava/lang/String;" } : Jvm.MethodName) ({ cls := "java/lang/Throwable", name := "getLocalizedMessage", desc := "()Ljava/lang/String;" } : Jvm.MethodName)) ∈ lw_all := lw_g (lw_at lw_m7 42 rfl) rfl
theorem q1614 : (Jvm.Cond.selects "java/util/ConcurrentModificationException" ({ cls := "java/lang/Throwable", name := "getMessage", desc := "()Ljava/lang/String;" } : Jvm.MethodName) ({ cls := "java/lang/Throwable", name := "getMessage", desc := "()Ljava/lang/String;" } : Jvm.MethodName)) ∈ lw_all := lw_g (lw_at lw_m7 57 rfl) rfl
theorem q2436 : (Jvm.Cond.instantiable "java/util/ConcurrentModificationException" (6 : Nat)) ∈ lw_all := lw_g (lw_at lw_m10 159 rfl) rfl
theorem q2438 : (Jvm.Cond.instanceMethod ({ cls := "java/util/ConcurrentModificationException", name := "<init>", desc := "()V" } : Jvm.MethodName)) ∈ lw_all := lw_g (lw_at lw_m10 161 rfl) rfl
theorem q2439 : (Jvm.Cond.code ({ cls := "java/util/ConcurrentModificationException", name := "<init>", desc := "()V" } : Jvm.MethodName) prog_68_method_1_code (1 : Nat) (Option.none : Option Jvm.ClassFile.FieldType)) ∈ lw_all := lw_g (lw_at lw_m10 162 rfl) rfl
theorem q2440 : (Jvm.Cond.methodLink "java/util/ConcurrentModificationException" (1 : Nat) ({ cls := "java/lang/RuntimeException", name := "<init>", desc := "()V" } : Jvm.MethodName)) ∈ lw_all := lw_g (lw_at lw_m10 163 rfl) rfl
theorem q2441 : (Jvm.Cond.lays "java/util/ConcurrentModificationException" "java/lang/Throwable" "backtrace" "Ljava/lang/Object;") ∈ lw_all := lw_g (lw_at lw_m10 164 rfl) rfl
theorem q2442 : (Jvm.Cond.lays "java/util/ConcurrentModificationException" "java/lang/Throwable" "detailMessage" "Ljava/lang/String;") ∈ lw_all := lw_g (lw_at lw_m10 165 rfl) rfl
theorem q2443 : (Jvm.Cond.lays "java/util/ConcurrentModificationException" "java/lang/Throwable" "cause" "Ljava/lang/Throwable;") ∈ lw_all := lw_g (lw_at lw_m10 166 rfl) rfl
theorem q2444 : (Jvm.Cond.lays "java/util/ConcurrentModificationException" "java/lang/Throwable" "stackTrace" "[Ljava/lang/StackTraceElement;") ∈ lw_all := lw_g (lw_at lw_m10 167 rfl) rfl
theorem q2445 : (Jvm.Cond.lays "java/util/ConcurrentModificationException" "java/lang/Throwable" "depth" "I") ∈ lw_all := lw_g (lw_at lw_m10 168 rfl) rfl
theorem q2446 : (Jvm.Cond.lays "java/util/ConcurrentModificationException" "java/lang/Throwable" "suppressedExceptions" "Ljava/util/List;") ∈ lw_all := lw_g (lw_at lw_m10 169 rfl) rfl
theorem q2447 : (Jvm.Cond.superclass "java/util/ConcurrentModificationException" "java/lang/RuntimeException") ∈ lw_all := lw_g (lw_at lw_m10 170 rfl) rfl
theorem q3519 : (Jvm.Cond.castable "java/util/ConcurrentModificationException" "java/lang/Object") ∈ lw_tbl := lw_at lw_m15 42 rfl
theorem in_J27 : ∀ w ∈ wsJ270, w ∈ lw_all := lw_in wsJ270 [2441, 2442, 2443, 2444, 2445, 2446] (by decide +kernel) (by decide +kernel)

/-! java/util/ArrayDeque$DeqIterator -/
def RJ28 : String := "java/util/ArrayDeque$DeqIterator"
abbrev cJ28_hasNext : ByteArray := prog_60_method_2_code
def yJ28_hasNext : MethodName := ⟨RJ28, "hasNext", "()Z"⟩
def dkwJ28_hasNext_0 : List UInt8 := [42, 180, 0, 19, 158, 0, 7, 4, 167, 0, 4, 3, 172]
abbrev dktJ28_hasNext_0 : List UInt8 := dkwJ28_hasNext_0 ++ []
theorem dksJ28_hasNext_0 : cJ28_hasNext.data.toList.drop 0 = dktJ28_hasNext_0 := by decide +kernel
theorem dJ28_hasNext_0 : decode cJ28_hasNext 0 = .ok (.aload_n 0, 1) := dk_42 (dk_at dksJ28_hasNext_0 0 rfl rfl)
theorem dJ28_hasNext_1 : decode cJ28_hasNext 1 = .ok (.getfield 19, 3) := dk_180 0 19 (dk_at dksJ28_hasNext_0 1 rfl rfl)
theorem dJ28_hasNext_4 : decode cJ28_hasNext 4 = .ok (.ifCond .le 7, 3) := dk_158 0 7 (dk_at dksJ28_hasNext_0 4 rfl rfl)
theorem dJ28_hasNext_7 : decode cJ28_hasNext 7 = .ok (.iconst 1, 1) := dk_4 (dk_at dksJ28_hasNext_0 7 rfl rfl)
theorem dJ28_hasNext_8 : decode cJ28_hasNext 8 = .ok (.goto 4, 3) := dk_167 0 4 (dk_at dksJ28_hasNext_0 8 rfl rfl)
theorem dJ28_hasNext_11 : decode cJ28_hasNext 11 = .ok (.iconst 0, 1) := dk_3 (dk_at dksJ28_hasNext_0 11 rfl rfl)
theorem dJ28_hasNext_12 : decode cJ28_hasNext 12 = .ok (.ireturn, 1) := dk_172 (dk_at dksJ28_hasNext_0 12 rfl rfl)
abbrev cJ28_init : ByteArray := prog_60_method_1_code
def yJ28_init : MethodName := ⟨RJ28, "<init>", "(Ljava/util/ArrayDeque;)V"⟩
def dkwJ28_init_1 : List UInt8 := [181, 0, 23, 42, 43, 180, 0, 26, 181, 0, 29, 177]
abbrev dktJ28_init_1 : List UInt8 := dkwJ28_init_1 ++ []
def dkwJ28_init_0 : List UInt8 := [42, 43, 181, 0, 1, 42, 183, 0, 7, 42, 42, 180, 0, 1, 182, 0, 13, 181, 0, 19, 42, 2]
abbrev dktJ28_init_0 : List UInt8 := dkwJ28_init_0 ++ dktJ28_init_1
theorem dksJ28_init_0 : cJ28_init.data.toList.drop 0 = dktJ28_init_0 := by decide +kernel
theorem dksJ28_init_1 : cJ28_init.data.toList.drop 22 = dktJ28_init_1 := dk_seg dksJ28_init_0 22 rfl rfl
theorem dJ28_init_0 : decode cJ28_init 0 = .ok (.aload_n 0, 1) := dk_42 (dk_at dksJ28_init_0 0 rfl rfl)
theorem dJ28_init_1 : decode cJ28_init 1 = .ok (.aload_n 1, 1) := dk_43 (dk_at dksJ28_init_0 1 rfl rfl)
theorem dJ28_init_2 : decode cJ28_init 2 = .ok (.putfield 1, 3) := dk_181 0 1 (dk_at dksJ28_init_0 2 rfl rfl)
theorem dJ28_init_5 : decode cJ28_init 5 = .ok (.aload_n 0, 1) := dk_42 (dk_at dksJ28_init_0 5 rfl rfl)
theorem dJ28_init_6 : decode cJ28_init 6 = .ok (.invokespecial 7, 3) := dk_183 0 7 (dk_at dksJ28_init_0 6 rfl rfl)
theorem dJ28_init_9 : decode cJ28_init 9 = .ok (.aload_n 0, 1) := dk_42 (dk_at dksJ28_init_0 9 rfl rfl)
theorem dJ28_init_10 : decode cJ28_init 10 = .ok (.aload_n 0, 1) := dk_42 (dk_at dksJ28_init_0 10 rfl rfl)
theorem dJ28_init_11 : decode cJ28_init 11 = .ok (.getfield 1, 3) := dk_180 0 1 (dk_at dksJ28_init_0 11 rfl rfl)
theorem dJ28_init_14 : decode cJ28_init 14 = .ok (.invokevirtual 13, 3) := dk_182 0 13 (dk_at dksJ28_init_0 14 rfl rfl)
theorem dJ28_init_17 : decode cJ28_init 17 = .ok (.putfield 19, 3) := dk_181 0 19 (dk_at dksJ28_init_0 17 rfl rfl)
theorem dJ28_init_20 : decode cJ28_init 20 = .ok (.aload_n 0, 1) := dk_42 (dk_at dksJ28_init_0 20 rfl rfl)
theorem dJ28_init_21 : decode cJ28_init 21 = .ok (.iconst (-1), 1) := dk_2 (dk_at dksJ28_init_0 21 rfl rfl)
theorem dJ28_init_22 : decode cJ28_init 22 = .ok (.putfield 23, 3) := dk_181 0 23 (dk_at dksJ28_init_1 0 rfl rfl)
theorem dJ28_init_25 : decode cJ28_init 25 = .ok (.aload_n 0, 1) := dk_42 (dk_at dksJ28_init_1 3 rfl rfl)
theorem dJ28_init_26 : decode cJ28_init 26 = .ok (.aload_n 1, 1) := dk_43 (dk_at dksJ28_init_1 4 rfl rfl)
theorem dJ28_init_27 : decode cJ28_init 27 = .ok (.getfield 26, 3) := dk_180 0 26 (dk_at dksJ28_init_1 5 rfl rfl)
theorem dJ28_init_30 : decode cJ28_init 30 = .ok (.putfield 29, 3) := dk_181 0 29 (dk_at dksJ28_init_1 8 rfl rfl)
theorem dJ28_init_33 : decode cJ28_init 33 = .ok (.return_, 1) := dk_177 (dk_at dksJ28_init_1 11 rfl rfl)
theorem q173 : (Jvm.Cond.initialized "java/util/ArrayDeque$DeqIterator") ∈ lw_all := lw_g (lw_at lw_m1 56 rfl) rfl
theorem q266 : (Jvm.Cond.fieldLink "java/util/ArrayDeque$DeqIterator" (26 : Nat) "java/util/ArrayDeque" "head" "I") ∈ lw_all := lw_g (lw_at lw_m1 149 rfl) rfl
theorem q1513 : (Jvm.Cond.instanceMethod ({ cls := "java/util/ArrayDeque$DeqIterator", name := "hasNext", desc := "()Z" } : Jvm.MethodName)) ∈ lw_all := lw_g (lw_at lw_m6 196 rfl) rfl
theorem q1514 : (Jvm.Cond.publicMethod ({ cls := "java/util/ArrayDeque$DeqIterator", name := "hasNext", desc := "()Z" } : Jvm.MethodName)) ∈ lw_tbl := lw_at lw_m6 197 rfl
theorem q1515 : (Jvm.Cond.code ({ cls := "java/util/ArrayDeque$DeqIterator", name := "hasNext", desc := "()Z" } : Jvm.MethodName) prog_60_method_2_code (1 : Nat) (Option.some Jvm.ClassFile.FieldType.boolean)) ∈ lw_all := lw_g (lw_at lw_m6 198 rfl) rfl
theorem q2502 : (Jvm.Cond.instanceMethod ({ cls := "java/util/ArrayDeque$DeqIterator", name := "<init>", desc := "(Ljava/util/ArrayDeque;)V" } : Jvm.MethodName)) ∈ lw_all := lw_g (lw_at lw_m10 225 rfl) rfl
theorem q2503 : (Jvm.Cond.code ({ cls := "java/util/ArrayDeque$DeqIterator", name := "<init>", desc := "(Ljava/util/ArrayDeque;)V" } : Jvm.MethodName) prog_60_method_1_code (2 : Nat) (Option.none : Option Jvm.ClassFile.FieldType)) ∈ lw_all := lw_g (lw_at lw_m10 226 rfl) rfl
theorem q2504 : (Jvm.Cond.methodLink "java/util/ArrayDeque$DeqIterator" (7 : Nat) ({ cls := "java/lang/Object", name := "<init>", desc := "()V" } : Jvm.MethodName)) ∈ lw_all := lw_g (lw_at lw_m10 227 rfl) rfl
theorem q2505 : (Jvm.Cond.methodLink "java/util/ArrayDeque$DeqIterator" (13 : Nat) ({ cls := "java/util/ArrayDeque", name := "size", desc := "()I" } : Jvm.MethodName)) ∈ lw_all := lw_g (lw_at lw_m10 228 rfl) rfl
theorem q2509 : (Jvm.Cond.fieldLink "java/util/ArrayDeque$DeqIterator" (29 : Nat) "java/util/ArrayDeque$DeqIterator" "cursor" "I") ∈ lw_all := lw_g (lw_at lw_m10 232 rfl) rfl
theorem q2510 : (Jvm.Cond.fieldLink "java/util/ArrayDeque$DeqIterator" (19 : Nat) "java/util/ArrayDeque$DeqIterator" "remaining" "I") ∈ lw_all := lw_g (lw_at lw_m10 233 rfl) rfl
theorem q2513 : (Jvm.Cond.fieldLink "java/util/ArrayDeque$DeqIterator" (23 : Nat) "java/util/ArrayDeque$DeqIterator" "lastRet" "I") ∈ lw_all := lw_g (lw_at lw_m10 236 rfl) rfl
theorem q2516 : (Jvm.Cond.fieldLink "java/util/ArrayDeque$DeqIterator" (1 : Nat) "java/util/ArrayDeque$DeqIterator" "this$0" "Ljava/util/ArrayDeque;") ∈ lw_all := lw_g (lw_at lw_m10 239 rfl) rfl
theorem q2520 : (Jvm.Cond.soleField "java/util/ArrayDeque$DeqIterator" "cursor") ∈ lw_all := lw_g (lw_at lw_m11 3 rfl) rfl
theorem q2522 : (Jvm.Cond.soleField "java/util/ArrayDeque$DeqIterator" "remaining") ∈ lw_all := lw_g (lw_at lw_m11 5 rfl) rfl
theorem q2524 : (Jvm.Cond.soleField "java/util/ArrayDeque$DeqIterator" "lastRet") ∈ lw_all := lw_g (lw_at lw_m11 7 rfl) rfl
theorem q2526 : (Jvm.Cond.soleField "java/util/ArrayDeque$DeqIterator" "this$0") ∈ lw_all := lw_g (lw_at lw_m11 9 rfl) rfl

/-! java/util/ArrayDeque$DescendingIterator -/
def RJ29 : String := "java/util/ArrayDeque$DescendingIterator"
def TJ29 : u_T := fun k => match k with
  | 0 => ("java/util/ArrayDeque$DeqIterator", "cursor", "I", false)
  | 1 => ("java/util/ArrayDeque$DeqIterator", "remaining", "I", false)
  | 2 => ("java/util/ArrayDeque$DeqIterator", "lastRet", "I", false)
  | 3 => ("java/util/ArrayDeque$DeqIterator", "this$0", "Ljava/util/ArrayDeque;", true)
  | _ => ("java/util/ArrayDeque$DescendingIterator", "this$0", "Ljava/util/ArrayDeque;", true)
def tyJ29 : Nat → FieldType := fun k => match k with
  | 0 => .int
  | 1 => .int
  | 2 => .int
  | 3 => .object "java/util/ArrayDeque"
  | _ => .object "java/util/ArrayDeque"
abbrev wsJ290 : List Cond := u_ws RJ29 TJ29 5
-- two fields of one name: no nmJ29
theorem tyJ29_ok : ∀ k, k < 5 → parseFieldDescriptor (TJ29 k).2.2.1 = some (tyJ29 k) := by decide +kernel
abbrev cJ29_next : ByteArray := prog_61_method_2_code
def yJ29_next : MethodName := ⟨RJ29, "next", "()Ljava/lang/Object;"⟩
def dkwJ29_next_2 : List UInt8 := [181, 0, 27, 42, 89, 180, 0, 30, 4, 100, 181, 0, 30, 44, 176]
abbrev dktJ29_next_2 : List UInt8 := dkwJ29_next_2 ++ []
def dkwJ29_next_1 : List UInt8 := [42, 180, 0, 27, 184, 0, 38, 77, 42, 42, 42, 180, 0, 27, 90, 181, 0, 42, 43, 190, 184, 0, 23]
abbrev dktJ29_next_1 : List UInt8 := dkwJ29_next_1 ++ dktJ29_next_2
def dkwJ29_next_0 : List UInt8 := [42, 180, 0, 30, 157, 0, 11, 187, 0, 33, 89, 183, 0, 35, 191, 42, 180, 0, 1, 180, 0, 19, 76, 43]
abbrev dktJ29_next_0 : List UInt8 := dkwJ29_next_0 ++ dktJ29_next_1
theorem dksJ29_next_0 : cJ29_next.data.toList.drop 0 = dktJ29_next_0 := by decide +kernel
theorem dksJ29_next_1 : cJ29_next.data.toList.drop 24 = dktJ29_next_1 := dk_seg dksJ29_next_0 24 rfl rfl
theorem dksJ29_next_2 : cJ29_next.data.toList.drop 47 = dktJ29_next_2 := dk_seg dksJ29_next_1 23 rfl rfl
theorem dJ29_next_0 : decode cJ29_next 0 = .ok (.aload_n 0, 1) := dk_42 (dk_at dksJ29_next_0 0 rfl rfl)
theorem dJ29_next_1 : decode cJ29_next 1 = .ok (.getfield 30, 3) := dk_180 0 30 (dk_at dksJ29_next_0 1 rfl rfl)
theorem dJ29_next_4 : decode cJ29_next 4 = .ok (.ifCond .gt 11, 3) := dk_157 0 11 (dk_at dksJ29_next_0 4 rfl rfl)
theorem dJ29_next_7 : decode cJ29_next 7 = .ok (.new 33, 3) := dk_187 0 33 (dk_at dksJ29_next_0 7 rfl rfl)
theorem dJ29_next_10 : decode cJ29_next 10 = .ok (.dup, 1) := dk_89 (dk_at dksJ29_next_0 10 rfl rfl)
theorem dJ29_next_11 : decode cJ29_next 11 = .ok (.invokespecial 35, 3) := dk_183 0 35 (dk_at dksJ29_next_0 11 rfl rfl)
theorem dJ29_next_14 : decode cJ29_next 14 = .ok (.athrow, 1) := dk_191 (dk_at dksJ29_next_0 14 rfl rfl)
theorem dJ29_next_15 : decode cJ29_next 15 = .ok (.aload_n 0, 1) := dk_42 (dk_at dksJ29_next_0 15 rfl rfl)
theorem dJ29_next_16 : decode cJ29_next 16 = .ok (.getfield 1, 3) := dk_180 0 1 (dk_at dksJ29_next_0 16 rfl rfl)
theorem dJ29_next_19 : decode cJ29_next 19 = .ok (.getfield 19, 3) := dk_180 0 19 (dk_at dksJ29_next_0 19 rfl rfl)
theorem dJ29_next_22 : decode cJ29_next 22 = .ok (.astore_n 1, 1) := dk_76 (dk_at dksJ29_next_0 22 rfl rfl)
theorem dJ29_next_23 : decode cJ29_next 23 = .ok (.aload_n 1, 1) := dk_43 (dk_at dksJ29_next_0 23 rfl rfl)
theorem dJ29_next_24 : decode cJ29_next 24 = .ok (.aload_n 0, 1) := dk_42 (dk_at dksJ29_next_1 0 rfl rfl)
theorem dJ29_next_25 : decode cJ29_next 25 = .ok (.getfield 27, 3) := dk_180 0 27 (dk_at dksJ29_next_1 1 rfl rfl)
theorem dJ29_next_28 : decode cJ29_next 28 = .ok (.invokestatic 38, 3) := dk_184 0 38 (dk_at dksJ29_next_1 4 rfl rfl)
theorem dJ29_next_31 : decode cJ29_next 31 = .ok (.astore_n 2, 1) := dk_77 (dk_at dksJ29_next_1 7 rfl rfl)
theorem dJ29_next_32 : decode cJ29_next 32 = .ok (.aload_n 0, 1) := dk_42 (dk_at dksJ29_next_1 8 rfl rfl)
theorem dJ29_next_33 : decode cJ29_next 33 = .ok (.aload_n 0, 1) := dk_42 (dk_at dksJ29_next_1 9 rfl rfl)
theorem dJ29_next_34 : decode cJ29_next 34 = .ok (.aload_n 0, 1) := dk_42 (dk_at dksJ29_next_1 10 rfl rfl)
theorem dJ29_next_35 : decode cJ29_next 35 = .ok (.getfield 27, 3) := dk_180 0 27 (dk_at dksJ29_next_1 11 rfl rfl)
theorem dJ29_next_38 : decode cJ29_next 38 = .ok (.dup_x1, 1) := dk_90 (dk_at dksJ29_next_1 14 rfl rfl)
theorem dJ29_next_39 : decode cJ29_next 39 = .ok (.putfield 42, 3) := dk_181 0 42 (dk_at dksJ29_next_1 15 rfl rfl)
theorem dJ29_next_42 : decode cJ29_next 42 = .ok (.aload_n 1, 1) := dk_43 (dk_at dksJ29_next_1 18 rfl rfl)
theorem dJ29_next_43 : decode cJ29_next 43 = .ok (.arraylength, 1) := dk_190 (dk_at dksJ29_next_1 19 rfl rfl)
theorem dJ29_next_44 : decode cJ29_next 44 = .ok (.invokestatic 23, 3) := dk_184 0 23 (dk_at dksJ29_next_1 20 rfl rfl)
theorem dJ29_next_47 : decode cJ29_next 47 = .ok (.putfield 27, 3) := dk_181 0 27 (dk_at dksJ29_next_2 0 rfl rfl)
theorem dJ29_next_50 : decode cJ29_next 50 = .ok (.aload_n 0, 1) := dk_42 (dk_at dksJ29_next_2 3 rfl rfl)
theorem dJ29_next_51 : decode cJ29_next 51 = .ok (.dup, 1) := dk_89 (dk_at dksJ29_next_2 4 rfl rfl)
theorem dJ29_next_52 : decode cJ29_next 52 = .ok (.getfield 30, 3) := dk_180 0 30 (dk_at dksJ29_next_2 5 rfl rfl)
theorem dJ29_next_55 : decode cJ29_next 55 = .ok (.iconst 1, 1) := dk_4 (dk_at dksJ29_next_2 8 rfl rfl)
theorem dJ29_next_56 : decode cJ29_next 56 = .ok (.isub, 1) := dk_100 (dk_at dksJ29_next_2 9 rfl rfl)
theorem dJ29_next_57 : decode cJ29_next 57 = .ok (.putfield 30, 3) := dk_181 0 30 (dk_at dksJ29_next_2 10 rfl rfl)
theorem dJ29_next_60 : decode cJ29_next 60 = .ok (.aload_n 2, 1) := dk_44 (dk_at dksJ29_next_2 13 rfl rfl)
theorem dJ29_next_61 : decode cJ29_next 61 = .ok (.areturn, 1) := dk_176 (dk_at dksJ29_next_2 14 rfl rfl)
abbrev cJ29_init : ByteArray := prog_61_method_1_code
def yJ29_init : MethodName := ⟨RJ29, "<init>", "(Ljava/util/ArrayDeque;)V"⟩
def dkwJ29_init_1 : List UInt8 := [181, 0, 27, 177]
abbrev dktJ29_init_1 : List UInt8 := dkwJ29_init_1 ++ []
def dkwJ29_init_0 : List UInt8 := [42, 43, 181, 0, 1, 42, 43, 183, 0, 7, 42, 43, 180, 0, 13, 43, 180, 0, 19, 190, 184, 0, 23]
abbrev dktJ29_init_0 : List UInt8 := dkwJ29_init_0 ++ dktJ29_init_1
theorem dksJ29_init_0 : cJ29_init.data.toList.drop 0 = dktJ29_init_0 := by decide +kernel
theorem dksJ29_init_1 : cJ29_init.data.toList.drop 23 = dktJ29_init_1 := dk_seg dksJ29_init_0 23 rfl rfl
theorem dJ29_init_0 : decode cJ29_init 0 = .ok (.aload_n 0, 1) := dk_42 (dk_at dksJ29_init_0 0 rfl rfl)
theorem dJ29_init_1 : decode cJ29_init 1 = .ok (.aload_n 1, 1) := dk_43 (dk_at dksJ29_init_0 1 rfl rfl)
theorem dJ29_init_2 : decode cJ29_init 2 = .ok (.putfield 1, 3) := dk_181 0 1 (dk_at dksJ29_init_0 2 rfl rfl)
theorem dJ29_init_5 : decode cJ29_init 5 = .ok (.aload_n 0, 1) := dk_42 (dk_at dksJ29_init_0 5 rfl rfl)
theorem dJ29_init_6 : decode cJ29_init 6 = .ok (.aload_n 1, 1) := dk_43 (dk_at dksJ29_init_0 6 rfl rfl)
theorem dJ29_init_7 : decode cJ29_init 7 = .ok (.invokespecial 7, 3) := dk_183 0 7 (dk_at dksJ29_init_0 7 rfl rfl)
theorem dJ29_init_10 : decode cJ29_init 10 = .ok (.aload_n 0, 1) := dk_42 (dk_at dksJ29_init_0 10 rfl rfl)
theorem dJ29_init_11 : decode cJ29_init 11 = .ok (.aload_n 1, 1) := dk_43 (dk_at dksJ29_init_0 11 rfl rfl)
theorem dJ29_init_12 : decode cJ29_init 12 = .ok (.getfield 13, 3) := dk_180 0 13 (dk_at dksJ29_init_0 12 rfl rfl)
theorem dJ29_init_15 : decode cJ29_init 15 = .ok (.aload_n 1, 1) := dk_43 (dk_at dksJ29_init_0 15 rfl rfl)
theorem dJ29_init_16 : decode cJ29_init 16 = .ok (.getfield 19, 3) := dk_180 0 19 (dk_at dksJ29_init_0 16 rfl rfl)
theorem dJ29_init_19 : decode cJ29_init 19 = .ok (.arraylength, 1) := dk_190 (dk_at dksJ29_init_0 19 rfl rfl)
theorem dJ29_init_20 : decode cJ29_init 20 = .ok (.invokestatic 23, 3) := dk_184 0 23 (dk_at dksJ29_init_0 20 rfl rfl)
theorem dJ29_init_23 : decode cJ29_init 23 = .ok (.putfield 27, 3) := dk_181 0 27 (dk_at dksJ29_init_1 0 rfl rfl)
theorem dJ29_init_26 : decode cJ29_init 26 = .ok (.return_, 1) := dk_177 (dk_at dksJ29_init_1 3 rfl rfl)
theorem q174 : (Jvm.Cond.initialized "java/util/ArrayDeque$DescendingIterator") ∈ lw_all := lw_g (lw_at lw_m1 57 rfl) rfl
theorem q265 : (Jvm.Cond.fieldLink "java/util/ArrayDeque$DescendingIterator" (19 : Nat) "java/util/ArrayDeque" "elements" "[Ljava/lang/Object;") ∈ lw_all := lw_g (lw_at lw_m1 148 rfl) rfl
theorem q268 : (Jvm.Cond.fieldLink "java/util/ArrayDeque$DescendingIterator" (13 : Nat) "java/util/ArrayDeque" "tail" "I") ∈ lw_all := lw_g (lw_at lw_m1 151 rfl) rfl
theorem q1080 : (Jvm.Cond.selects "java/util/ArrayDeque$DescendingIterator" ({ cls := "java/lang/Object", name := "getClass", desc := "()Ljava/lang/Class;" } : Jvm.MethodName) ({ cls := "java/lang/Object", name := "getClass", desc := "()Ljava/lang/Class;" } : Jvm.MethodName)) ∈ lw_all := lw_g (lw_at lw_m5 3 rfl) rfl
theorem q1510 : (Jvm.Cond.castable "java/util/ArrayDeque$DescendingIterator" "java/util/Iterator") ∈ lw_tbl := lw_at lw_m6 193 rfl
theorem q1511 : (Jvm.Cond.selects "java/util/ArrayDeque$DescendingIterator" ({ cls := "java/util/Iterator", name := "hasNext", desc := "()Z" } : Jvm.MethodName) ({ cls := "java/util/ArrayDeque$DeqIterator", name := "hasNext", desc := "()Z" } : Jvm.MethodName)) ∈ lw_all := lw_g (lw_at lw_m6 194 rfl) rfl
theorem q1512 : (Jvm.Cond.unhidden "java/util/ArrayDeque$DescendingIterator" "hasNext" "()Z") ∈ lw_tbl := lw_at lw_m6 195 rfl
theorem q1624 : (Jvm.Cond.selects "java/util/ArrayDeque$DescendingIterator" ({ cls := "java/util/Iterator", name := "next", desc := "()Ljava/lang/Object;" } : Jvm.MethodName) ({ cls := "java/util/ArrayDeque$DescendingIterator", name := "next", desc := "()Ljava/lang/Object;" } : Jvm.MethodName)) ∈ lw_all := lw_g (lw_at lw_m7 67 rfl) rfl
theorem q1625 : (Jvm.Cond.unhidden "java/util/ArrayDeque$DescendingIterator" "next" "()Ljava/lang/Object;") ∈ lw_tbl := lw_at lw_m7 68 rfl
theorem q1626 : (Jvm.Cond.instanceMethod ({ cls := "java/util/ArrayDeque$DescendingIterator", name := "next", desc := "()Ljava/lang/Object;" } : Jvm.MethodName)) ∈ lw_all := lw_g (lw_at lw_m7 69 rfl) rfl
theorem q1627 : (Jvm.Cond.publicMethod ({ cls := "java/util/ArrayDeque$DescendingIterator", name := "next", desc := "()Ljava/lang/Object;" } : Jvm.MethodName)) ∈ lw_tbl := lw_at lw_m7 70 rfl
theorem q1628 : (Jvm.Cond.code ({ cls := "java/util/ArrayDeque$DescendingIterator", name := "next", desc := "()Ljava/lang/Object;" } : Jvm.MethodName) prog_61_method_2_code (3 : Nat) (Option.some (Jvm.ClassFile.FieldType.object "java/lang/Object"))) ∈ lw_all := lw_g (lw_at lw_m7 71 rfl) rfl
theorem q1629 : (Jvm.Cond.classLink "java/util/ArrayDeque$DescendingIterator" (33 : Nat) "java/util/NoSuchElementException") ∈ lw_all := lw_g (lw_at lw_m7 72 rfl) rfl
theorem q1630 : (Jvm.Cond.methodLink "java/util/ArrayDeque$DescendingIterator" (35 : Nat) ({ cls := "java/util/NoSuchElementException", name := "<init>", desc := "()V" } : Jvm.MethodName)) ∈ lw_all := lw_g (lw_at lw_m7 73 rfl) rfl
theorem q1640 : (Jvm.Cond.methodLink "java/util/ArrayDeque$DescendingIterator" (38 : Nat) ({ cls := "java/util/ArrayDeque", name := "nonNullElementAt", desc := "([Ljava/lang/Object;I)Ljava/lang/Object;" } : Jvm.MethodName)) ∈ lw_all := lw_g (lw_at lw_m7 83 rfl) rfl
theorem q1643 : (Jvm.Cond.methodLink "java/util/ArrayDeque$DescendingIterator" (23 : Nat) ({ cls := "java/util/ArrayDeque", name := "dec", desc := "(II)I" } : Jvm.MethodName)) ∈ lw_all := lw_g (lw_at lw_m7 86 rfl) rfl
theorem q2497 : (Jvm.Cond.instantiable "java/util/ArrayDeque$DescendingIterator" (5 : Nat)) ∈ lw_all := lw_g (lw_at lw_m10 220 rfl) rfl
theorem q2499 : (Jvm.Cond.instanceMethod ({ cls := "java/util/ArrayDeque$DescendingIterator", name := "<init>", desc := "(Ljava/util/ArrayDeque;)V" } : Jvm.MethodName)) ∈ lw_all := lw_g (lw_at lw_m10 222 rfl) rfl
theorem q2500 : (Jvm.Cond.code ({ cls := "java/util/ArrayDeque$DescendingIterator", name := "<init>", desc := "(Ljava/util/ArrayDeque;)V" } : Jvm.MethodName) prog_61_method_1_code (2 : Nat) (Option.none : Option Jvm.ClassFile.FieldType)) ∈ lw_all := lw_g (lw_at lw_m10 223 rfl) rfl
theorem q2501 : (Jvm.Cond.methodLink "java/util/ArrayDeque$DescendingIterator" (7 : Nat) ({ cls := "java/util/ArrayDeque$DeqIterator", name := "<init>", desc := "(Ljava/util/ArrayDeque;)V" } : Jvm.MethodName)) ∈ lw_all := lw_g (lw_at lw_m10 224 rfl) rfl
theorem q2506 : (Jvm.Cond.fieldLink "java/util/ArrayDeque$DescendingIterator" (1 : Nat) "java/util/ArrayDeque$DescendingIterator" "this$0" "Ljava/util/ArrayDeque;") ∈ lw_all := lw_g (lw_at lw_m10 229 rfl) rfl
theorem q2507 : (Jvm.Cond.fieldLink "java/util/ArrayDeque$DescendingIterator" (27 : Nat) "java/util/ArrayDeque$DescendingIterator" "cursor" "I") ∈ lw_all := lw_g (lw_at lw_m10 230 rfl) rfl
theorem q2508 : (Jvm.Cond.sameField "java/util/ArrayDeque$DescendingIterator" "java/util/ArrayDeque$DeqIterator" "cursor" "I") ∈ lw_all := lw_g (lw_at lw_m10 231 rfl) rfl
theorem q2511 : (Jvm.Cond.fieldLink "java/util/ArrayDeque$DescendingIterator" (30 : Nat) "java/util/ArrayDeque$DescendingIterator" "remaining" "I") ∈ lw_all := lw_g (lw_at lw_m10 234 rfl) rfl
theorem q2512 : (Jvm.Cond.sameField "java/util/ArrayDeque$DescendingIterator" "java/util/ArrayDeque$DeqIterator" "remaining" "I") ∈ lw_all := lw_g (lw_at lw_m10 235 rfl) rfl
theorem q2514 : (Jvm.Cond.fieldLink "java/util/ArrayDeque$DescendingIterator" (42 : Nat) "java/util/ArrayDeque$DescendingIterator" "lastRet" "I") ∈ lw_all := lw_g (lw_at lw_m10 237 rfl) rfl
theorem q2515 : (Jvm.Cond.sameField "java/util/ArrayDeque$DescendingIterator" "java/util/ArrayDeque$DeqIterator" "lastRet" "I") ∈ lw_all := lw_g (lw_at lw_m10 238 rfl) rfl
theorem q2517 : (Jvm.Cond.laysFinal "java/util/ArrayDeque$DescendingIterator" "java/util/ArrayDeque$DescendingIterator" "this$0" "Ljava/util/ArrayDeque;") ∈ lw_all := lw_g (lw_at lw_m11 0 rfl) rfl
theorem q2518 : (Jvm.Cond.soleField "java/util/ArrayDeque$DescendingIterator" "this$0") ∈ lw_all := lw_g (lw_at lw_m11 1 rfl) rfl
theorem q2519 : (Jvm.Cond.lays "java/util/ArrayDeque$DescendingIterator" "java/util/ArrayDeque$DeqIterator" "cursor" "I") ∈ lw_all := lw_g (lw_at lw_m11 2 rfl) rfl
theorem q2521 : (Jvm.Cond.lays "java/util/ArrayDeque$DescendingIterator" "java/util/ArrayDeque$DeqIterator" "remaining" "I") ∈ lw_all := lw_g (lw_at lw_m11 4 rfl) rfl
theorem q2523 : (Jvm.Cond.lays "java/util/ArrayDeque$DescendingIterator" "java/util/ArrayDeque$DeqIterator" "lastRet" "I") ∈ lw_all := lw_g (lw_at lw_m11 6 rfl) rfl
theorem q2525 : (Jvm.Cond.laysFinal "java/util/ArrayDeque$DescendingIterator" "java/util/ArrayDeque$DeqIterator" "this$0" "Ljava/util/ArrayDeque;") ∈ lw_all := lw_g (lw_at lw_m11 8 rfl) rfl
theorem q2527 : (Jvm.Cond.superclass "java/util/ArrayDeque$DescendingIterator" "java/util/ArrayDeque$DeqIterator") ∈ lw_all := lw_g (lw_at lw_m11 10 rfl) rfl
theorem q3511 : (Jvm.Cond.castable "java/util/ArrayDeque$DescendingIterator" "java/lang/Object") ∈ lw_tbl := lw_at lw_m15 34 rfl
theorem in_J29 : ∀ w ∈ wsJ290, w ∈ lw_all := lw_in wsJ290 [2519, 2521, 2523, 2525, 2517] (by decide +kernel) (by decide +kernel)

/-! java/util/AbstractSequentialList -/
def RJ3 : String := "java/util/AbstractSequentialList"
abbrev cJ3_init : ByteArray := prog_58_method_1_code
def yJ3_init : MethodName := ⟨RJ3, "<init>", "()V"⟩
theorem dJ3_init_0 : decode cJ3_init 0 = .ok (.aload_n 0, 1) := by decide +kernel
theorem dJ3_init_1 : decode cJ3_init 1 = .ok (.invokespecial 1, 3) := by decide +kernel
theorem dJ3_init_4 : decode cJ3_init 4 = .ok (.return_, 1) := by decide +kernel
abbrev cJ3_iterator : ByteArray := prog_58_method_7_code
def yJ3_iterator : MethodName := ⟨RJ3, "iterator", "()Ljava/util/Iterator;"⟩
theorem dJ3_iterator_0 : decode cJ3_iterator 0 = .ok (.aload_n 0, 1) := by decide +kernel
theorem dJ3_iterator_1 : decode cJ3_iterator 1 = .ok (.invokevirtual 65, 3) := by decide +kernel
theorem dJ3_iterator_4 : decode cJ3_iterator 4 = .ok (.areturn, 1) := by decide +kernel
theorem q123 : (Jvm.Cond.initialized "java/util/AbstractSequentialList") ∈ lw_all := lw_g (lw_at lw_m1 6 rfl) rfl
theorem q239 : (Jvm.Cond.instanceMethod ({ cls := "java/util/AbstractSequentialList", name := "<init>", desc := "()V" } : Jvm.MethodName)) ∈ lw_all := lw_g (lw_at lw_m1 122 rfl) rfl
theorem q240 : (Jvm.Cond.code ({ cls := "java/util/AbstractSequentialList", name := "<init>", desc := "()V" } : Jvm.MethodName) prog_58_method_1_code (1 : Nat) (Option.none : Option Jvm.ClassFile.FieldType)) ∈ lw_all := lw_g (lw_at lw_m1 123 rfl) rfl
theorem q241 : (Jvm.Cond.methodLink "java/util/AbstractSequentialList" (1 : Nat) ({ cls := "java/util/AbstractList", name := "<init>", desc := "()V" } : Jvm.MethodName)) ∈ lw_all := lw_g (lw_at lw_m1 124 rfl) rfl
theorem q1414 : (Jvm.Cond.instanceMethod ({ cls := "java/util/AbstractSequentialList", name := "iterator", desc := "()Ljava/util/Iterator;" } : Jvm.MethodName)) ∈ lw_all := lw_g (lw_at lw_m6 97 rfl) rfl
theorem q1415 : (Jvm.Cond.publicMethod ({ cls := "java/util/AbstractSequentialList", name := "iterator", desc := "()Ljava/util/Iterator;" } : Jvm.MethodName)) ∈ lw_tbl := lw_at lw_m6 98 rfl
theorem q1416 : (Jvm.Cond.code ({ cls := "java/util/AbstractSequentialList", name := "iterator", desc := "()Ljava/util/Iterator;" } : Jvm.MethodName) prog_58_method_7_code (1 : Nat) (Option.some (Jvm.ClassFile.FieldType.object "java/util/Iterator"))) ∈ lw_all := lw_g (lw_at lw_m6 99 rfl) rfl
theorem q1417 : (Jvm.Cond.methodLink "java/util/AbstractSequentialList" (65 : Nat) ({ cls := "java/util/AbstractSequentialList", name := "listIterator", desc := "()Ljava/util/ListIterator;" } : Jvm.MethodName)) ∈ lw_all := lw_g (lw_at lw_m6 100 rfl) rfl
theorem q1418 : (Jvm.Cond.sameMethod "java/util/AbstractSequentialList" "java/util/AbstractList" "listIterator" "()Ljava/util/ListIterator;") ∈ lw_all := lw_g (lw_at lw_m6 101 rfl) rfl

/-! java/lang/ArrayIndexOutOfBoundsException -/
def RJ30 : String := "java/lang/ArrayIndexOutOfBoundsException"
def TJ30 : u_T := fun k => match k with
  | 0 => ("java/lang/Throwable", "backtrace", "Ljava/lang/Object;", false)
  | 1 => ("java/lang/Throwable", "detailMessage", "Ljava/lang/String;", false)
  | 2 => ("java/lang/Throwable", "cause", "Ljava/lang/Throwable;", false)
  | 3 => ("java/lang/Throwable", "stackTrace", "[Ljava/lang/StackTraceElement;", false)
  | 4 => ("java/lang/Throwable", "depth", "I", false)
  | _ => ("java/lang/Throwable", "suppressedExceptions", "Ljava/util/List;", false)
def tyJ30 : Nat → FieldType := fun k => match k with
  | 0 => .object "java/lang/Object"
  | 1 => .object "java/lang/String"
  | 2 => .object "java/lang/Throwable"
  | 3 => .array (.object "java/lang/StackTraceElement")
  | 4 => .int
  | _ => .object "java/util/List"
abbrev wsJ300 : List Cond := u_ws RJ30 TJ30 6
theorem nmJ30 : ∀ a, a < 6 → ∀ b, b < 6 → a ≠ b → (TJ30 a).2.1 ≠ (TJ30 b).2.1 := by decide +kernel
theorem tyJ30_ok : ∀ k, k < 6 → parseFieldDescriptor (TJ30 k).2.2.1 = some (tyJ30 k) := by decide +kernel
abbrev cJ30_init : ByteArray := prog_32_method_2_code
def yJ30_init : MethodName := ⟨RJ30, "<init>", "(Ljava/lang/String;)V"⟩
def dkwJ30_init_0 : List UInt8 := [42, 43, 183, 0, 7, 177]
abbrev dktJ30_init_0 : List UInt8 := dkwJ30_init_0 ++ []
theorem dksJ30_init_0 : cJ30_init.data.toList.drop 0 = dktJ30_init_0 := by decide +kernel
theorem dJ30_init_0 : decode cJ30_init 0 = .ok (.aload_n 0, 1) := dk_42 (dk_at dksJ30_init_0 0 rfl rfl)
theorem dJ30_init_1 : decode cJ30_init 1 = .ok (.aload_n 1, 1) := dk_43 (dk_at dksJ30_init_0 1 rfl rfl)
theorem dJ30_init_2 : decode cJ30_init 2 = .ok (.invokespecial 7, 3) := dk_183 0 7 (dk_at dksJ30_init_0 2 rfl rfl)
theorem dJ30_init_5 : decode cJ30_init 5 = .ok (.return_, 1) := dk_177 (dk_at dksJ30_init_0 5 rfl rfl)
theorem q175 : (Jvm.Cond.initialized "java/lang/ArrayIndexOutOfBoundsException") ∈ lw_all := lw_g (lw_at lw_m1 58 rfl) rfl
theorem q510 : (Jvm.Cond.selects "java/lang/ArrayIndexOutOfBoundsException" ({ cls := "java/lang/Throwable", name := "fillInStackTrace", desc := "()Ljava/lang/Throwable;" } : Jvm.MethodName) ({ cls := "java/lang/Throwable", name := "fillInStackTrace", desc := "()Ljava/lang/Throwable;" } : Jvm.MethodName)) ∈ lw_all := lw_g (lw_at lw_m2 153 rfl) rfl
theorem q1071 : (Jvm.Cond.selects "java/lang/ArrayIndexOutOfBoundsException" ({ cls := "java/lang/Object", name := "getClass", desc := "()Ljava/lang/Class;" } : Jvm.MethodName) ({ cls := "java/lang/Object", name := "getClass", desc := "()Ljava/lang/Class;" } : Jvm.MethodName)) ∈ lw_all := lw_g (lw_at lw_m4 234 rfl) rfl
theorem q1579 : (Jvm.Cond.selects "java/lang/ArrayIndexOutOfBoundsException" ({ cls := "java/lang/Throwable", name := "toString", desc := "()Ljava/lang/String;" } : Jvm.MethodName) ({ cls := "java/lang/Throwable", name := "toString", desc := "()Ljava/lang/String;" } : Jvm.MethodName)) ∈ lw_all := lw_g (lw_at lw_m7 22 rfl) rfl
theorem q1595 : (Jvm.Cond.selects "java/lang/ArrayIndexOutOfBoundsException" ({ cls := "java/lang/Throwable", name := "getLocalizedMessage", desc := "()Ljava/lang/String;" } : Jvm.MethodName) ({ cls := "java/lang/Throwable", name := "getLocalizedMessage", desc := "()Ljava/lang/String;" } : Jvm.MethodName)) ∈ lw_all := lw_g (lw_at lw_m7 38 rfl) rfl
theorem q1610 : (Jvm.Cond.selects "java/lang/ArrayIndexOutOfBoundsException" ({ cls := "java/lang/Throwable", name := "getMessage", desc := "()Ljava/lang/String;" } : Jvm.MethodName) ({ cls := "java/lang/Throwable", name := "getMessage", desc := "()Ljava/lang/String;" } : Jvm.MethodName)) ∈ lw_all := lw_g (lw_at lw_m7 53 rfl) rfl
theorem q2540 : (Jvm.Cond.instantiable "java/lang/ArrayIndexOutOfBoundsException" (6 : Nat)) ∈ lw_all := lw_g (lw_at lw_m11 23 rfl) rfl
theorem q2541 : (Jvm.Cond.instanceMethod ({ cls := "java/lang/ArrayIndexOutOfBoundsException", name := "<init>", desc := "(Ljava/lang/String;)V" } : Jvm.MethodName)) ∈ lw_all := lw_g (lw_at lw_m11 24 rfl) rfl
theorem q2542 : (Jvm.Cond.code ({ cls := "java/lang/ArrayIndexOutOfBoundsException", name := "<init>", desc := "(Ljava/lang/String;)V" } : Jvm.MethodName) prog_32_method_2_code (2 : Nat) (Option.none : Option Jvm.ClassFile.FieldType)) ∈ lw_all := lw_g (lw_at lw_m11 25 rfl) rfl
theorem q2543 : (Jvm.Cond.methodLink "java/lang/ArrayIndexOutOfBoundsException" (7 : Nat) ({ cls := "java/lang/IndexOutOfBoundsException", name := "<init>", desc := "(Ljava/lang/String;)V" } : Jvm.MethodName)) ∈ lw_all := lw_g (lw_at lw_m11 26 rfl) rfl
theorem q2544 : (Jvm.Cond.lays "java/lang/ArrayIndexOutOfBoundsException" "java/lang/Throwable" "backtrace" "Ljava/lang/Object;") ∈ lw_all := lw_g (lw_at lw_m11 27 rfl) rfl
theorem q2545 : (Jvm.Cond.lays "java/lang/ArrayIndexOutOfBoundsException" "java/lang/Throwable" "detailMessage" "Ljava/lang/String;") ∈ lw_all := lw_g (lw_at lw_m11 28 rfl) rfl
theorem q2546 : (Jvm.Cond.lays "java/lang/ArrayIndexOutOfBoundsException" "java/lang/Throwable" "cause" "Ljava/lang/Throwable;") ∈ lw_all := lw_g (lw_at lw_m11 29 rfl) rfl
theorem q2547 : (Jvm.Cond.lays "java/lang/ArrayIndexOutOfBoundsException" "java/lang/Throwable" "stackTrace" "[Ljava/lang/StackTraceElement;") ∈ lw_all := lw_g (lw_at lw_m11 30 rfl) rfl
theorem q2548 : (Jvm.Cond.lays "java/lang/ArrayIndexOutOfBoundsException" "java/lang/Throwable" "depth" "I") ∈ lw_all := lw_g (lw_at lw_m11 31 rfl) rfl
theorem q2549 : (Jvm.Cond.lays "java/lang/ArrayIndexOutOfBoundsException" "java/lang/Throwable" "suppressedExceptions" "Ljava/util/List;") ∈ lw_all := lw_g (lw_at lw_m11 32 rfl) rfl
theorem q2550 : (Jvm.Cond.superclass "java/lang/ArrayIndexOutOfBoundsException" "java/lang/IndexOutOfBoundsException") ∈ lw_all := lw_g (lw_at lw_m11 33 rfl) rfl
theorem q2551 : (Jvm.Cond.castable "java/lang/ArrayIndexOutOfBoundsException" "java/lang/ArrayIndexOutOfBoundsException") ∈ lw_tbl := lw_at lw_m11 34 rfl
theorem q2554 : (Jvm.Cond.selects "java/lang/ArrayIndexOutOfBoundsException" ({ cls := "java/lang/Throwable", name := "fillInStackTrace", desc := "(I)Ljava/lang/Throwable;" } : Jvm.MethodName) ({ cls := "java/lang/Throwable", name := "fillInStackTrace", desc := "(I)Ljava/lang/Throwable;" } : Jvm.MethodName)) ∈ lw_all := lw_g (lw_at lw_m11 37 rfl) rfl
theorem q3466 : (Jvm.Cond.castable "java/lang/ArrayIndexOutOfBoundsException" "java/lang/IndexOutOfBoundsException") ∈ lw_tbl := lw_at lw_m14 229 rfl
theorem q3512 : (Jvm.Cond.castable "java/lang/ArrayIndexOutOfBoundsException" "java/lang/Object") ∈ lw_tbl := lw_at lw_m15 35 rfl
theorem in_J30 : ∀ w ∈ wsJ300, w ∈ lw_all := lw_in wsJ300 [2544, 2545, 2546, 2547, 2548, 2549] (by decide +kernel) (by decide +kernel)

